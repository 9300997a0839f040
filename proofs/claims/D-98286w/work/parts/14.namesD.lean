/-! BrushGlassModel -/
set_option maxRecDepth 100000
def RX19 : String := "BrushGlassModel"
def TX19 : u_T := fun k => match k with
  | 0 => ("BrushGlassModel", "thrown", "I", false)
  | 1 => ("BrushGlassModel", "trouble", "I", false)
  | 2 => ("BrushGlassModel", "where", "I", false)
  | 3 => ("BrushGlassModel", "glass", "LBrushGlassModel$Glass;", false)
  | 4 => ("BrushGlassModel", "read", "LBrushGlassModel$Glass;", false)
  | 5 => ("BrushGlassModel", "tape", "[B", true)
  | 6 => ("BrushGlassModel", "taped", "I", false)
  | 7 => ("BrushGlassModel", "size", "I", false)
  | 8 => ("BrushGlassModel", "spot", "I", false)
  | 9 => ("BrushGlassModel", "sort", "I", false)
  | 10 => ("BrushGlassModel", "place", "I", false)
  | 11 => ("BrushGlassModel", "sign", "I", false)
  | 12 => ("BrushGlassModel", "number", "I", false)
  | 13 => ("BrushGlassModel", "letters", "I", false)
  | 14 => ("BrushGlassModel", "fault", "I", false)
  | 15 => ("BrushGlassModel", "wrongAt", "I", false)
  | 16 => ("BrushGlassModel", "spelt", "[I", true)
  | 17 => ("BrushGlassModel", "word", "J", false)
  | 18 => ("BrushGlassModel", "v", "[I", true)
  | 19 => ("BrushGlassModel", "past", "[I", true)
  | 20 => ("BrushGlassModel", "kept", "[I", true)
  | 21 => ("BrushGlassModel", "acts", "I", false)
  | 22 => ("BrushGlassModel", "marks", "I", false)
  | 23 => ("BrushGlassModel", "owner", "[I", true)
  | 24 => ("BrushGlassModel", "colourOf", "[I", true)
  | 25 => ("BrushGlassModel", "bought", "[I", true)
  | 26 => ("BrushGlassModel", "away", "[I", true)
  | 27 => ("BrushGlassModel", "worn", "[I", true)
  | 28 => ("BrushGlassModel", "own", "[I", true)
  | 29 => ("BrushGlassModel", "is", "[I", true)
  | 30 => ("BrushGlassModel", "putAt", "[I", true)
  | 31 => ("BrushGlassModel", "stands", "[I", true)
  | 32 => ("BrushGlassModel", "eveningAt", "[I", true)
  | 33 => ("BrushGlassModel", "eveningIs", "[I", true)
  | 34 => ("BrushGlassModel", "eveningUse", "[I", true)
  | 35 => ("BrushGlassModel", "brushes", "I", false)
  | 36 => ("BrushGlassModel", "moreDay", "I", false)
  | 37 => ("BrushGlassModel", "moreOne", "I", false)
  | 38 => ("BrushGlassModel", "moreTwo", "I", false)
  | 39 => ("BrushGlassModel", "allHabit", "I", false)
  | 40 => ("BrushGlassModel", "allKind", "I", false)
  | 41 => ("BrushGlassModel", "given", "[I", true)
  | 42 => ("BrushGlassModel", "foundDay", "I", false)
  | 43 => ("BrushGlassModel", "foundOne", "I", false)
  | 44 => ("BrushGlassModel", "foundTwo", "I", false)
  | 45 => ("BrushGlassModel", "who", "[I", true)
  | 46 => ("BrushGlassModel", "has", "[I", true)
  | 47 => ("BrushGlassModel", "could", "[I", true)
  | 48 => ("BrushGlassModel", "surePlace", "[I", true)
  | 49 => ("BrushGlassModel", "among", "I", false)
  | 50 => ("BrushGlassModel", "chance", "[J", true)
  | _ => ("BrushGlassModel", "next", "[J", true)
def tyX19 : Nat → FieldType := fun k => match k with
  | 0 => .int
  | 1 => .int
  | 2 => .int
  | 3 => .object "BrushGlassModel$Glass"
  | 4 => .object "BrushGlassModel$Glass"
  | 5 => .array .byte
  | 6 => .int
  | 7 => .int
  | 8 => .int
  | 9 => .int
  | 10 => .int
  | 11 => .int
  | 12 => .int
  | 13 => .int
  | 14 => .int
  | 15 => .int
  | 16 => .array .int
  | 17 => .long
  | 18 => .array .int
  | 19 => .array .int
  | 20 => .array .int
  | 21 => .int
  | 22 => .int
  | 23 => .array .int
  | 24 => .array .int
  | 25 => .array .int
  | 26 => .array .int
  | 27 => .array .int
  | 28 => .array .int
  | 29 => .array .int
  | 30 => .array .int
  | 31 => .array .int
  | 32 => .array .int
  | 33 => .array .int
  | 34 => .array .int
  | 35 => .int
  | 36 => .int
  | 37 => .int
  | 38 => .int
  | 39 => .int
  | 40 => .int
  | 41 => .array .int
  | 42 => .int
  | 43 => .int
  | 44 => .int
  | 45 => .array .int
  | 46 => .array .int
  | 47 => .array .int
  | 48 => .array .int
  | 49 => .int
  | 50 => .array .long
  | _ => .array .long
abbrev wsX190 : List Cond := u_ws RX19 TX19 52
set_option maxRecDepth 100000 in
theorem nmX19 : ∀ a, a < 52 → ∀ b, b < 52 → a ≠ b → (TX19 a).2.1 ≠ (TX19 b).2.1 := by decide +kernel
set_option maxRecDepth 100000 in
theorem tyX19_ok : ∀ k, k < 52 → parseFieldDescriptor (TX19 k).2.2.1 = some (tyX19 k) := by decide +kernel
abbrev cX19_init : ByteArray := prog_24_method_1_code
def yX19_init : MethodName := ⟨RX19, "<init>", "()V"⟩
def dkwX19_init_8 : List UInt8 := [42, 16, 8, 188, 11, 181, 0, 81, 42, 16, 8, 188, 11, 181, 0, 85, 177]
abbrev dktX19_init_8 : List UInt8 := dkwX19_init_8 ++ []
def dkwX19_init_7 : List UInt8 := [42, 16, 7, 188, 10, 181, 0, 72, 42, 16, 7, 188, 10, 181, 0, 75, 42, 16, 7, 188, 10, 181, 0, 78]
abbrev dktX19_init_7 : List UInt8 := dkwX19_init_7 ++ dktX19_init_8
def dkwX19_init_6 : List UInt8 := [17, 0, 210, 188, 10, 181, 0, 63, 42, 16, 7, 188, 10, 181, 0, 66, 42, 16, 7, 188, 10, 181, 0, 69]
abbrev dktX19_init_6 : List UInt8 := dkwX19_init_6 ++ dktX19_init_7
def dkwX19_init_5 : List UInt8 := [188, 10, 181, 0, 54, 42, 17, 0, 240, 188, 10, 181, 0, 57, 42, 17, 0, 210, 188, 10, 181, 0, 60, 42]
abbrev dktX19_init_5 : List UInt8 := dkwX19_init_5 ++ dktX19_init_6
def dkwX19_init_4 : List UInt8 := [188, 10, 181, 0, 45, 42, 16, 7, 188, 10, 181, 0, 48, 42, 16, 7, 188, 10, 181, 0, 51, 42, 16, 8]
abbrev dktX19_init_4 : List UInt8 := dkwX19_init_4 ++ dktX19_init_5
def dkwX19_init_3 : List UInt8 := [188, 10, 181, 0, 36, 42, 16, 100, 188, 10, 181, 0, 39, 42, 16, 100, 188, 10, 181, 0, 42, 42, 16, 7]
abbrev dktX19_init_3 : List UInt8 := dkwX19_init_3 ++ dktX19_init_4
def dkwX19_init_2 : List UInt8 := [188, 10, 181, 0, 27, 42, 16, 100, 188, 10, 181, 0, 30, 42, 16, 100, 188, 10, 181, 0, 33, 42, 16, 100]
abbrev dktX19_init_2 : List UInt8 := dkwX19_init_2 ++ dktX19_init_3
def dkwX19_init_1 : List UInt8 := [181, 0, 17, 42, 16, 59, 188, 10, 181, 0, 21, 42, 17, 3, 176, 188, 10, 181, 0, 24, 42, 17, 0, 177]
abbrev dktX19_init_1 : List UInt8 := dkwX19_init_1 ++ dktX19_init_2
def dkwX19_init_0 : List UInt8 := [42, 183, 0, 3, 42, 2, 181, 0, 9, 42, 17, 3, 232, 188, 8, 181, 0, 13, 42, 16, 8, 188, 10]
abbrev dktX19_init_0 : List UInt8 := dkwX19_init_0 ++ dktX19_init_1
theorem dksX19_init_0 : cX19_init.data.toList.drop 0 = dktX19_init_0 := by decide +kernel
theorem dksX19_init_1 : cX19_init.data.toList.drop 23 = dktX19_init_1 := dk_seg dksX19_init_0 23 rfl rfl
theorem dksX19_init_2 : cX19_init.data.toList.drop 47 = dktX19_init_2 := dk_seg dksX19_init_1 24 rfl rfl
theorem dksX19_init_3 : cX19_init.data.toList.drop 71 = dktX19_init_3 := dk_seg dksX19_init_2 24 rfl rfl
theorem dksX19_init_4 : cX19_init.data.toList.drop 95 = dktX19_init_4 := dk_seg dksX19_init_3 24 rfl rfl
theorem dksX19_init_5 : cX19_init.data.toList.drop 119 = dktX19_init_5 := dk_seg dksX19_init_4 24 rfl rfl
theorem dksX19_init_6 : cX19_init.data.toList.drop 143 = dktX19_init_6 := dk_seg dksX19_init_5 24 rfl rfl
theorem dksX19_init_7 : cX19_init.data.toList.drop 167 = dktX19_init_7 := dk_seg dksX19_init_6 24 rfl rfl
theorem dksX19_init_8 : cX19_init.data.toList.drop 191 = dktX19_init_8 := dk_seg dksX19_init_7 24 rfl rfl
theorem dX19_init_0 : decode cX19_init 0 = .ok (.aload_n 0, 1) := dk_42 (dk_at dksX19_init_0 0 rfl rfl)
theorem dX19_init_1 : decode cX19_init 1 = .ok (.invokespecial 3, 3) := dk_183 0 3 (dk_at dksX19_init_0 1 rfl rfl)
theorem dX19_init_4 : decode cX19_init 4 = .ok (.aload_n 0, 1) := dk_42 (dk_at dksX19_init_0 4 rfl rfl)
theorem dX19_init_5 : decode cX19_init 5 = .ok (.iconst (-1), 1) := dk_2 (dk_at dksX19_init_0 5 rfl rfl)
theorem dX19_init_6 : decode cX19_init 6 = .ok (.putfield 9, 3) := dk_181 0 9 (dk_at dksX19_init_0 6 rfl rfl)
theorem dX19_init_9 : decode cX19_init 9 = .ok (.aload_n 0, 1) := dk_42 (dk_at dksX19_init_0 9 rfl rfl)
theorem dX19_init_10 : decode cX19_init 10 = .ok (.sipush 1000, 3) := dk_17 3 232 (dk_at dksX19_init_0 10 rfl rfl)
theorem dX19_init_13 : decode cX19_init 13 = .ok (.newarray .byte, 2) := dk_188_8 (dk_at dksX19_init_0 13 rfl rfl)
theorem dX19_init_15 : decode cX19_init 15 = .ok (.putfield 13, 3) := dk_181 0 13 (dk_at dksX19_init_0 15 rfl rfl)
theorem dX19_init_18 : decode cX19_init 18 = .ok (.aload_n 0, 1) := dk_42 (dk_at dksX19_init_0 18 rfl rfl)
theorem dX19_init_19 : decode cX19_init 19 = .ok (.bipush 8, 2) := dk_16 8 (dk_at dksX19_init_0 19 rfl rfl)
theorem dX19_init_21 : decode cX19_init 21 = .ok (.newarray .int, 2) := dk_188_10 (dk_at dksX19_init_0 21 rfl rfl)
theorem dX19_init_23 : decode cX19_init 23 = .ok (.putfield 17, 3) := dk_181 0 17 (dk_at dksX19_init_1 0 rfl rfl)
theorem dX19_init_26 : decode cX19_init 26 = .ok (.aload_n 0, 1) := dk_42 (dk_at dksX19_init_1 3 rfl rfl)
theorem dX19_init_27 : decode cX19_init 27 = .ok (.bipush 59, 2) := dk_16 59 (dk_at dksX19_init_1 4 rfl rfl)
theorem dX19_init_29 : decode cX19_init 29 = .ok (.newarray .int, 2) := dk_188_10 (dk_at dksX19_init_1 6 rfl rfl)
theorem dX19_init_31 : decode cX19_init 31 = .ok (.putfield 21, 3) := dk_181 0 21 (dk_at dksX19_init_1 8 rfl rfl)
theorem dX19_init_34 : decode cX19_init 34 = .ok (.aload_n 0, 1) := dk_42 (dk_at dksX19_init_1 11 rfl rfl)
theorem dX19_init_35 : decode cX19_init 35 = .ok (.sipush 944, 3) := dk_17 3 176 (dk_at dksX19_init_1 12 rfl rfl)
theorem dX19_init_38 : decode cX19_init 38 = .ok (.newarray .int, 2) := dk_188_10 (dk_at dksX19_init_1 15 rfl rfl)
theorem dX19_init_40 : decode cX19_init 40 = .ok (.putfield 24, 3) := dk_181 0 24 (dk_at dksX19_init_1 17 rfl rfl)
theorem dX19_init_43 : decode cX19_init 43 = .ok (.aload_n 0, 1) := dk_42 (dk_at dksX19_init_1 20 rfl rfl)
theorem dX19_init_44 : decode cX19_init 44 = .ok (.sipush 177, 3) := dk_17 0 177 (dk_at dksX19_init_1 21 rfl rfl)
theorem dX19_init_47 : decode cX19_init 47 = .ok (.newarray .int, 2) := dk_188_10 (dk_at dksX19_init_2 0 rfl rfl)
theorem dX19_init_49 : decode cX19_init 49 = .ok (.putfield 27, 3) := dk_181 0 27 (dk_at dksX19_init_2 2 rfl rfl)
theorem dX19_init_52 : decode cX19_init 52 = .ok (.aload_n 0, 1) := dk_42 (dk_at dksX19_init_2 5 rfl rfl)
theorem dX19_init_53 : decode cX19_init 53 = .ok (.bipush 100, 2) := dk_16 100 (dk_at dksX19_init_2 6 rfl rfl)
theorem dX19_init_55 : decode cX19_init 55 = .ok (.newarray .int, 2) := dk_188_10 (dk_at dksX19_init_2 8 rfl rfl)
theorem dX19_init_57 : decode cX19_init 57 = .ok (.putfield 30, 3) := dk_181 0 30 (dk_at dksX19_init_2 10 rfl rfl)
theorem dX19_init_60 : decode cX19_init 60 = .ok (.aload_n 0, 1) := dk_42 (dk_at dksX19_init_2 13 rfl rfl)
theorem dX19_init_61 : decode cX19_init 61 = .ok (.bipush 100, 2) := dk_16 100 (dk_at dksX19_init_2 14 rfl rfl)
theorem dX19_init_63 : decode cX19_init 63 = .ok (.newarray .int, 2) := dk_188_10 (dk_at dksX19_init_2 16 rfl rfl)
theorem dX19_init_65 : decode cX19_init 65 = .ok (.putfield 33, 3) := dk_181 0 33 (dk_at dksX19_init_2 18 rfl rfl)
theorem dX19_init_68 : decode cX19_init 68 = .ok (.aload_n 0, 1) := dk_42 (dk_at dksX19_init_2 21 rfl rfl)
theorem dX19_init_69 : decode cX19_init 69 = .ok (.bipush 100, 2) := dk_16 100 (dk_at dksX19_init_2 22 rfl rfl)
theorem dX19_init_71 : decode cX19_init 71 = .ok (.newarray .int, 2) := dk_188_10 (dk_at dksX19_init_3 0 rfl rfl)
theorem dX19_init_73 : decode cX19_init 73 = .ok (.putfield 36, 3) := dk_181 0 36 (dk_at dksX19_init_3 2 rfl rfl)
theorem dX19_init_76 : decode cX19_init 76 = .ok (.aload_n 0, 1) := dk_42 (dk_at dksX19_init_3 5 rfl rfl)
theorem dX19_init_77 : decode cX19_init 77 = .ok (.bipush 100, 2) := dk_16 100 (dk_at dksX19_init_3 6 rfl rfl)
theorem dX19_init_79 : decode cX19_init 79 = .ok (.newarray .int, 2) := dk_188_10 (dk_at dksX19_init_3 8 rfl rfl)
theorem dX19_init_81 : decode cX19_init 81 = .ok (.putfield 39, 3) := dk_181 0 39 (dk_at dksX19_init_3 10 rfl rfl)
theorem dX19_init_84 : decode cX19_init 84 = .ok (.aload_n 0, 1) := dk_42 (dk_at dksX19_init_3 13 rfl rfl)
theorem dX19_init_85 : decode cX19_init 85 = .ok (.bipush 100, 2) := dk_16 100 (dk_at dksX19_init_3 14 rfl rfl)
theorem dX19_init_87 : decode cX19_init 87 = .ok (.newarray .int, 2) := dk_188_10 (dk_at dksX19_init_3 16 rfl rfl)
theorem dX19_init_89 : decode cX19_init 89 = .ok (.putfield 42, 3) := dk_181 0 42 (dk_at dksX19_init_3 18 rfl rfl)
theorem dX19_init_92 : decode cX19_init 92 = .ok (.aload_n 0, 1) := dk_42 (dk_at dksX19_init_3 21 rfl rfl)
theorem dX19_init_93 : decode cX19_init 93 = .ok (.bipush 7, 2) := dk_16 7 (dk_at dksX19_init_3 22 rfl rfl)
theorem dX19_init_95 : decode cX19_init 95 = .ok (.newarray .int, 2) := dk_188_10 (dk_at dksX19_init_4 0 rfl rfl)
theorem dX19_init_97 : decode cX19_init 97 = .ok (.putfield 45, 3) := dk_181 0 45 (dk_at dksX19_init_4 2 rfl rfl)
theorem dX19_init_100 : decode cX19_init 100 = .ok (.aload_n 0, 1) := dk_42 (dk_at dksX19_init_4 5 rfl rfl)
theorem dX19_init_101 : decode cX19_init 101 = .ok (.bipush 7, 2) := dk_16 7 (dk_at dksX19_init_4 6 rfl rfl)
theorem dX19_init_103 : decode cX19_init 103 = .ok (.newarray .int, 2) := dk_188_10 (dk_at dksX19_init_4 8 rfl rfl)
theorem dX19_init_105 : decode cX19_init 105 = .ok (.putfield 48, 3) := dk_181 0 48 (dk_at dksX19_init_4 10 rfl rfl)
theorem dX19_init_108 : decode cX19_init 108 = .ok (.aload_n 0, 1) := dk_42 (dk_at dksX19_init_4 13 rfl rfl)
theorem dX19_init_109 : decode cX19_init 109 = .ok (.bipush 7, 2) := dk_16 7 (dk_at dksX19_init_4 14 rfl rfl)
theorem dX19_init_111 : decode cX19_init 111 = .ok (.newarray .int, 2) := dk_188_10 (dk_at dksX19_init_4 16 rfl rfl)
theorem dX19_init_113 : decode cX19_init 113 = .ok (.putfield 51, 3) := dk_181 0 51 (dk_at dksX19_init_4 18 rfl rfl)
theorem dX19_init_116 : decode cX19_init 116 = .ok (.aload_n 0, 1) := dk_42 (dk_at dksX19_init_4 21 rfl rfl)
theorem dX19_init_117 : decode cX19_init 117 = .ok (.bipush 8, 2) := dk_16 8 (dk_at dksX19_init_4 22 rfl rfl)
theorem dX19_init_119 : decode cX19_init 119 = .ok (.newarray .int, 2) := dk_188_10 (dk_at dksX19_init_5 0 rfl rfl)
theorem dX19_init_121 : decode cX19_init 121 = .ok (.putfield 54, 3) := dk_181 0 54 (dk_at dksX19_init_5 2 rfl rfl)
theorem dX19_init_124 : decode cX19_init 124 = .ok (.aload_n 0, 1) := dk_42 (dk_at dksX19_init_5 5 rfl rfl)
theorem dX19_init_125 : decode cX19_init 125 = .ok (.sipush 240, 3) := dk_17 0 240 (dk_at dksX19_init_5 6 rfl rfl)
theorem dX19_init_128 : decode cX19_init 128 = .ok (.newarray .int, 2) := dk_188_10 (dk_at dksX19_init_5 9 rfl rfl)
theorem dX19_init_130 : decode cX19_init 130 = .ok (.putfield 57, 3) := dk_181 0 57 (dk_at dksX19_init_5 11 rfl rfl)
theorem dX19_init_133 : decode cX19_init 133 = .ok (.aload_n 0, 1) := dk_42 (dk_at dksX19_init_5 14 rfl rfl)
theorem dX19_init_134 : decode cX19_init 134 = .ok (.sipush 210, 3) := dk_17 0 210 (dk_at dksX19_init_5 15 rfl rfl)
theorem dX19_init_137 : decode cX19_init 137 = .ok (.newarray .int, 2) := dk_188_10 (dk_at dksX19_init_5 18 rfl rfl)
theorem dX19_init_139 : decode cX19_init 139 = .ok (.putfield 60, 3) := dk_181 0 60 (dk_at dksX19_init_5 20 rfl rfl)
theorem dX19_init_142 : decode cX19_init 142 = .ok (.aload_n 0, 1) := dk_42 (dk_at dksX19_init_5 23 rfl rfl)
theorem dX19_init_143 : decode cX19_init 143 = .ok (.sipush 210, 3) := dk_17 0 210 (dk_at dksX19_init_6 0 rfl rfl)
theorem dX19_init_146 : decode cX19_init 146 = .ok (.newarray .int, 2) := dk_188_10 (dk_at dksX19_init_6 3 rfl rfl)
theorem dX19_init_148 : decode cX19_init 148 = .ok (.putfield 63, 3) := dk_181 0 63 (dk_at dksX19_init_6 5 rfl rfl)
theorem dX19_init_151 : decode cX19_init 151 = .ok (.aload_n 0, 1) := dk_42 (dk_at dksX19_init_6 8 rfl rfl)
theorem dX19_init_152 : decode cX19_init 152 = .ok (.bipush 7, 2) := dk_16 7 (dk_at dksX19_init_6 9 rfl rfl)
theorem dX19_init_154 : decode cX19_init 154 = .ok (.newarray .int, 2) := dk_188_10 (dk_at dksX19_init_6 11 rfl rfl)
theorem dX19_init_156 : decode cX19_init 156 = .ok (.putfield 66, 3) := dk_181 0 66 (dk_at dksX19_init_6 13 rfl rfl)
theorem dX19_init_159 : decode cX19_init 159 = .ok (.aload_n 0, 1) := dk_42 (dk_at dksX19_init_6 16 rfl rfl)
theorem dX19_init_160 : decode cX19_init 160 = .ok (.bipush 7, 2) := dk_16 7 (dk_at dksX19_init_6 17 rfl rfl)
theorem dX19_init_162 : decode cX19_init 162 = .ok (.newarray .int, 2) := dk_188_10 (dk_at dksX19_init_6 19 rfl rfl)
theorem dX19_init_164 : decode cX19_init 164 = .ok (.putfield 69, 3) := dk_181 0 69 (dk_at dksX19_init_6 21 rfl rfl)
theorem dX19_init_167 : decode cX19_init 167 = .ok (.aload_n 0, 1) := dk_42 (dk_at dksX19_init_7 0 rfl rfl)
theorem dX19_init_168 : decode cX19_init 168 = .ok (.bipush 7, 2) := dk_16 7 (dk_at dksX19_init_7 1 rfl rfl)
theorem dX19_init_170 : decode cX19_init 170 = .ok (.newarray .int, 2) := dk_188_10 (dk_at dksX19_init_7 3 rfl rfl)
theorem dX19_init_172 : decode cX19_init 172 = .ok (.putfield 72, 3) := dk_181 0 72 (dk_at dksX19_init_7 5 rfl rfl)
theorem dX19_init_175 : decode cX19_init 175 = .ok (.aload_n 0, 1) := dk_42 (dk_at dksX19_init_7 8 rfl rfl)
theorem dX19_init_176 : decode cX19_init 176 = .ok (.bipush 7, 2) := dk_16 7 (dk_at dksX19_init_7 9 rfl rfl)
theorem dX19_init_178 : decode cX19_init 178 = .ok (.newarray .int, 2) := dk_188_10 (dk_at dksX19_init_7 11 rfl rfl)
theorem dX19_init_180 : decode cX19_init 180 = .ok (.putfield 75, 3) := dk_181 0 75 (dk_at dksX19_init_7 13 rfl rfl)
theorem dX19_init_183 : decode cX19_init 183 = .ok (.aload_n 0, 1) := dk_42 (dk_at dksX19_init_7 16 rfl rfl)
theorem dX19_init_184 : decode cX19_init 184 = .ok (.bipush 7, 2) := dk_16 7 (dk_at dksX19_init_7 17 rfl rfl)
theorem dX19_init_186 : decode cX19_init 186 = .ok (.newarray .int, 2) := dk_188_10 (dk_at dksX19_init_7 19 rfl rfl)
theorem dX19_init_188 : decode cX19_init 188 = .ok (.putfield 78, 3) := dk_181 0 78 (dk_at dksX19_init_7 21 rfl rfl)
theorem dX19_init_191 : decode cX19_init 191 = .ok (.aload_n 0, 1) := dk_42 (dk_at dksX19_init_8 0 rfl rfl)
theorem dX19_init_192 : decode cX19_init 192 = .ok (.bipush 8, 2) := dk_16 8 (dk_at dksX19_init_8 1 rfl rfl)
theorem dX19_init_194 : decode cX19_init 194 = .ok (.newarray .long, 2) := dk_188_11 (dk_at dksX19_init_8 3 rfl rfl)
theorem dX19_init_196 : decode cX19_init 196 = .ok (.putfield 81, 3) := dk_181 0 81 (dk_at dksX19_init_8 5 rfl rfl)
theorem dX19_init_199 : decode cX19_init 199 = .ok (.aload_n 0, 1) := dk_42 (dk_at dksX19_init_8 8 rfl rfl)
theorem dX19_init_200 : decode cX19_init 200 = .ok (.bipush 8, 2) := dk_16 8 (dk_at dksX19_init_8 9 rfl rfl)
theorem dX19_init_202 : decode cX19_init 202 = .ok (.newarray .long, 2) := dk_188_11 (dk_at dksX19_init_8 11 rfl rfl)
theorem dX19_init_204 : decode cX19_init 204 = .ok (.putfield 85, 3) := dk_181 0 85 (dk_at dksX19_init_8 13 rfl rfl)
theorem dX19_init_207 : decode cX19_init 207 = .ok (.return_, 1) := dk_177 (dk_at dksX19_init_8 16 rfl rfl)
abbrev cX19_thrown : ByteArray := prog_24_method_2_code
def yX19_thrown : MethodName := ⟨RX19, "thrown", "()I"⟩
theorem dX19_thrown_0 : decode cX19_thrown 0 = .ok (.aload_n 0, 1) := by decide +kernel
theorem dX19_thrown_1 : decode cX19_thrown 1 = .ok (.getfield 88, 3) := by decide +kernel
theorem dX19_thrown_4 : decode cX19_thrown 4 = .ok (.ireturn, 1) := by decide +kernel
abbrev cX19_feed : ByteArray := prog_24_method_34_code
def yX19_feed : MethodName := ⟨RX19, "feed", "(IIIII)I"⟩
def dkwX19_feed_5 : List UInt8 := [180, 1, 100, 172]
abbrev dktX19_feed_5 : List UInt8 := dkwX19_feed_5 ++ []
def dkwX19_feed_4 : List UInt8 := [112, 104, 100, 122, 145, 84, 42, 89, 180, 1, 100, 4, 96, 181, 1, 100, 132, 6, 1, 167, 255, 165, 42]
abbrev dktX19_feed_4 : List UInt8 := dkwX19_feed_4 ++ dktX19_feed_5
def dkwX19_feed_3 : List UInt8 := [167, 0, 5, 21, 5, 54, 7, 42, 180, 0, 13, 42, 180, 1, 100, 21, 7, 16, 24, 16, 8, 21, 6, 7]
abbrev dktX19_feed_3 : List UInt8 := dkwX19_feed_3 ++ dktX19_feed_4
def dkwX19_feed_2 : List UInt8 := [28, 167, 0, 28, 21, 6, 16, 12, 162, 0, 7, 29, 167, 0, 17, 21, 6, 16, 16, 162, 0, 8, 21, 4]
abbrev dktX19_feed_2 : List UInt8 := dkwX19_feed_2 ++ dktX19_feed_3
def dkwX19_feed_1 : List UInt8 := [21, 6, 16, 20, 162, 0, 90, 21, 6, 7, 162, 0, 7, 27, 167, 0, 39, 21, 6, 16, 8, 162, 0, 7]
abbrev dktX19_feed_1 : List UInt8 := dkwX19_feed_1 ++ dktX19_feed_2
def dkwX19_feed_0 : List UInt8 := [42, 3, 181, 0, 88, 42, 180, 1, 100, 16, 20, 96, 17, 3, 232, 164, 0, 5, 2, 172, 3, 54, 6]
abbrev dktX19_feed_0 : List UInt8 := dkwX19_feed_0 ++ dktX19_feed_1
theorem dksX19_feed_0 : cX19_feed.data.toList.drop 0 = dktX19_feed_0 := by decide +kernel
theorem dksX19_feed_1 : cX19_feed.data.toList.drop 23 = dktX19_feed_1 := dk_seg dksX19_feed_0 23 rfl rfl
theorem dksX19_feed_2 : cX19_feed.data.toList.drop 47 = dktX19_feed_2 := dk_seg dksX19_feed_1 24 rfl rfl
theorem dksX19_feed_3 : cX19_feed.data.toList.drop 71 = dktX19_feed_3 := dk_seg dksX19_feed_2 24 rfl rfl
theorem dksX19_feed_4 : cX19_feed.data.toList.drop 95 = dktX19_feed_4 := dk_seg dksX19_feed_3 24 rfl rfl
theorem dksX19_feed_5 : cX19_feed.data.toList.drop 118 = dktX19_feed_5 := dk_seg dksX19_feed_4 23 rfl rfl
theorem dX19_feed_0 : decode cX19_feed 0 = .ok (.aload_n 0, 1) := dk_42 (dk_at dksX19_feed_0 0 rfl rfl)
theorem dX19_feed_1 : decode cX19_feed 1 = .ok (.iconst 0, 1) := dk_3 (dk_at dksX19_feed_0 1 rfl rfl)
theorem dX19_feed_2 : decode cX19_feed 2 = .ok (.putfield 88, 3) := dk_181 0 88 (dk_at dksX19_feed_0 2 rfl rfl)
theorem dX19_feed_5 : decode cX19_feed 5 = .ok (.aload_n 0, 1) := dk_42 (dk_at dksX19_feed_0 5 rfl rfl)
theorem dX19_feed_6 : decode cX19_feed 6 = .ok (.getfield 356, 3) := dk_180 1 100 (dk_at dksX19_feed_0 6 rfl rfl)
theorem dX19_feed_9 : decode cX19_feed 9 = .ok (.bipush 20, 2) := dk_16 20 (dk_at dksX19_feed_0 9 rfl rfl)
theorem dX19_feed_11 : decode cX19_feed 11 = .ok (.iadd, 1) := dk_96 (dk_at dksX19_feed_0 11 rfl rfl)
theorem dX19_feed_12 : decode cX19_feed 12 = .ok (.sipush 1000, 3) := dk_17 3 232 (dk_at dksX19_feed_0 12 rfl rfl)
theorem dX19_feed_15 : decode cX19_feed 15 = .ok (.if_icmp .le 5, 3) := dk_164 0 5 (dk_at dksX19_feed_0 15 rfl rfl)
theorem dX19_feed_18 : decode cX19_feed 18 = .ok (.iconst (-1), 1) := dk_2 (dk_at dksX19_feed_0 18 rfl rfl)
theorem dX19_feed_19 : decode cX19_feed 19 = .ok (.ireturn, 1) := dk_172 (dk_at dksX19_feed_0 19 rfl rfl)
theorem dX19_feed_20 : decode cX19_feed 20 = .ok (.iconst 0, 1) := dk_3 (dk_at dksX19_feed_0 20 rfl rfl)
theorem dX19_feed_21 : decode cX19_feed 21 = .ok (.istore 6, 2) := dk_54 6 (dk_at dksX19_feed_0 21 rfl rfl)
theorem dX19_feed_23 : decode cX19_feed 23 = .ok (.iload 6, 2) := dk_21 6 (dk_at dksX19_feed_1 0 rfl rfl)
theorem dX19_feed_25 : decode cX19_feed 25 = .ok (.bipush 20, 2) := dk_16 20 (dk_at dksX19_feed_1 2 rfl rfl)
theorem dX19_feed_27 : decode cX19_feed 27 = .ok (.if_icmp .ge 90, 3) := dk_162 0 90 (dk_at dksX19_feed_1 4 rfl rfl)
theorem dX19_feed_30 : decode cX19_feed 30 = .ok (.iload 6, 2) := dk_21 6 (dk_at dksX19_feed_1 7 rfl rfl)
theorem dX19_feed_32 : decode cX19_feed 32 = .ok (.iconst 4, 1) := dk_7 (dk_at dksX19_feed_1 9 rfl rfl)
theorem dX19_feed_33 : decode cX19_feed 33 = .ok (.if_icmp .ge 7, 3) := dk_162 0 7 (dk_at dksX19_feed_1 10 rfl rfl)
theorem dX19_feed_36 : decode cX19_feed 36 = .ok (.iload_n 1, 1) := dk_27 (dk_at dksX19_feed_1 13 rfl rfl)
theorem dX19_feed_37 : decode cX19_feed 37 = .ok (.goto 39, 3) := dk_167 0 39 (dk_at dksX19_feed_1 14 rfl rfl)
theorem dX19_feed_40 : decode cX19_feed 40 = .ok (.iload 6, 2) := dk_21 6 (dk_at dksX19_feed_1 17 rfl rfl)
theorem dX19_feed_42 : decode cX19_feed 42 = .ok (.bipush 8, 2) := dk_16 8 (dk_at dksX19_feed_1 19 rfl rfl)
theorem dX19_feed_44 : decode cX19_feed 44 = .ok (.if_icmp .ge 7, 3) := dk_162 0 7 (dk_at dksX19_feed_1 21 rfl rfl)
theorem dX19_feed_47 : decode cX19_feed 47 = .ok (.iload_n 2, 1) := dk_28 (dk_at dksX19_feed_2 0 rfl rfl)
theorem dX19_feed_48 : decode cX19_feed 48 = .ok (.goto 28, 3) := dk_167 0 28 (dk_at dksX19_feed_2 1 rfl rfl)
theorem dX19_feed_51 : decode cX19_feed 51 = .ok (.iload 6, 2) := dk_21 6 (dk_at dksX19_feed_2 4 rfl rfl)
theorem dX19_feed_53 : decode cX19_feed 53 = .ok (.bipush 12, 2) := dk_16 12 (dk_at dksX19_feed_2 6 rfl rfl)
theorem dX19_feed_55 : decode cX19_feed 55 = .ok (.if_icmp .ge 7, 3) := dk_162 0 7 (dk_at dksX19_feed_2 8 rfl rfl)
theorem dX19_feed_58 : decode cX19_feed 58 = .ok (.iload_n 3, 1) := dk_29 (dk_at dksX19_feed_2 11 rfl rfl)
theorem dX19_feed_59 : decode cX19_feed 59 = .ok (.goto 17, 3) := dk_167 0 17 (dk_at dksX19_feed_2 12 rfl rfl)
theorem dX19_feed_62 : decode cX19_feed 62 = .ok (.iload 6, 2) := dk_21 6 (dk_at dksX19_feed_2 15 rfl rfl)
theorem dX19_feed_64 : decode cX19_feed 64 = .ok (.bipush 16, 2) := dk_16 16 (dk_at dksX19_feed_2 17 rfl rfl)
theorem dX19_feed_66 : decode cX19_feed 66 = .ok (.if_icmp .ge 8, 3) := dk_162 0 8 (dk_at dksX19_feed_2 19 rfl rfl)
theorem dX19_feed_69 : decode cX19_feed 69 = .ok (.iload 4, 2) := dk_21 4 (dk_at dksX19_feed_2 22 rfl rfl)
theorem dX19_feed_71 : decode cX19_feed 71 = .ok (.goto 5, 3) := dk_167 0 5 (dk_at dksX19_feed_3 0 rfl rfl)
theorem dX19_feed_74 : decode cX19_feed 74 = .ok (.iload 5, 2) := dk_21 5 (dk_at dksX19_feed_3 3 rfl rfl)
theorem dX19_feed_76 : decode cX19_feed 76 = .ok (.istore 7, 2) := dk_54 7 (dk_at dksX19_feed_3 5 rfl rfl)
theorem dX19_feed_78 : decode cX19_feed 78 = .ok (.aload_n 0, 1) := dk_42 (dk_at dksX19_feed_3 7 rfl rfl)
theorem dX19_feed_79 : decode cX19_feed 79 = .ok (.getfield 13, 3) := dk_180 0 13 (dk_at dksX19_feed_3 8 rfl rfl)
theorem dX19_feed_82 : decode cX19_feed 82 = .ok (.aload_n 0, 1) := dk_42 (dk_at dksX19_feed_3 11 rfl rfl)
theorem dX19_feed_83 : decode cX19_feed 83 = .ok (.getfield 356, 3) := dk_180 1 100 (dk_at dksX19_feed_3 12 rfl rfl)
theorem dX19_feed_86 : decode cX19_feed 86 = .ok (.iload 7, 2) := dk_21 7 (dk_at dksX19_feed_3 15 rfl rfl)
theorem dX19_feed_88 : decode cX19_feed 88 = .ok (.bipush 24, 2) := dk_16 24 (dk_at dksX19_feed_3 17 rfl rfl)
theorem dX19_feed_90 : decode cX19_feed 90 = .ok (.bipush 8, 2) := dk_16 8 (dk_at dksX19_feed_3 19 rfl rfl)
theorem dX19_feed_92 : decode cX19_feed 92 = .ok (.iload 6, 2) := dk_21 6 (dk_at dksX19_feed_3 21 rfl rfl)
theorem dX19_feed_94 : decode cX19_feed 94 = .ok (.iconst 4, 1) := dk_7 (dk_at dksX19_feed_3 23 rfl rfl)
theorem dX19_feed_95 : decode cX19_feed 95 = .ok (.irem, 1) := dk_112 (dk_at dksX19_feed_4 0 rfl rfl)
theorem dX19_feed_96 : decode cX19_feed 96 = .ok (.imul, 1) := dk_104 (dk_at dksX19_feed_4 1 rfl rfl)
theorem dX19_feed_97 : decode cX19_feed 97 = .ok (.isub, 1) := dk_100 (dk_at dksX19_feed_4 2 rfl rfl)
theorem dX19_feed_98 : decode cX19_feed 98 = .ok (.ishr, 1) := dk_122 (dk_at dksX19_feed_4 3 rfl rfl)
theorem dX19_feed_99 : decode cX19_feed 99 = .ok (.i2b, 1) := dk_145 (dk_at dksX19_feed_4 4 rfl rfl)
theorem dX19_feed_100 : decode cX19_feed 100 = .ok (.bastore, 1) := dk_84 (dk_at dksX19_feed_4 5 rfl rfl)
theorem dX19_feed_101 : decode cX19_feed 101 = .ok (.aload_n 0, 1) := dk_42 (dk_at dksX19_feed_4 6 rfl rfl)
theorem dX19_feed_102 : decode cX19_feed 102 = .ok (.dup, 1) := dk_89 (dk_at dksX19_feed_4 7 rfl rfl)
theorem dX19_feed_103 : decode cX19_feed 103 = .ok (.getfield 356, 3) := dk_180 1 100 (dk_at dksX19_feed_4 8 rfl rfl)
theorem dX19_feed_106 : decode cX19_feed 106 = .ok (.iconst 1, 1) := dk_4 (dk_at dksX19_feed_4 11 rfl rfl)
theorem dX19_feed_107 : decode cX19_feed 107 = .ok (.iadd, 1) := dk_96 (dk_at dksX19_feed_4 12 rfl rfl)
theorem dX19_feed_108 : decode cX19_feed 108 = .ok (.putfield 356, 3) := dk_181 1 100 (dk_at dksX19_feed_4 13 rfl rfl)
theorem dX19_feed_111 : decode cX19_feed 111 = .ok (.iinc 6 1, 3) := dk_132 6 1 (dk_at dksX19_feed_4 16 rfl rfl)
theorem dX19_feed_114 : decode cX19_feed 114 = .ok (.goto (-91), 3) := dk_167 255 165 (dk_at dksX19_feed_4 19 rfl rfl)
theorem dX19_feed_117 : decode cX19_feed 117 = .ok (.aload_n 0, 1) := dk_42 (dk_at dksX19_feed_4 22 rfl rfl)
theorem dX19_feed_118 : decode cX19_feed 118 = .ok (.getfield 356, 3) := dk_180 1 100 (dk_at dksX19_feed_5 0 rfl rfl)
theorem dX19_feed_121 : decode cX19_feed 121 = .ok (.ireturn, 1) := dk_172 (dk_at dksX19_feed_5 3 rfl rfl)
abbrev cX19_glass : ByteArray := prog_24_method_35_code
def yX19_glass : MethodName := ⟨RX19, "glass", "(I)I"⟩
def dkwX19_glass_8 : List UInt8 := [181, 1, 109, 42, 3, 181, 1, 112, 42, 42, 180, 1, 107, 180, 0, 219, 182, 0, 98, 172]
abbrev dktX19_glass_8 : List UInt8 := dkwX19_glass_8 ++ []
def dkwX19_glass_7 : List UInt8 := [16, 14, 28, 96, 42, 180, 1, 107, 180, 1, 46, 28, 46, 79, 132, 2, 1, 167, 255, 194, 42, 3]
abbrev dktX19_glass_7 : List UInt8 := dkwX19_glass_7 ++ dktX19_glass_8
def dkwX19_glass_6 : List UInt8 := [79, 42, 180, 0, 21, 16, 7, 28, 96, 42, 180, 1, 107, 180, 1, 40, 28, 46, 79, 42, 180, 0, 21]
abbrev dktX19_glass_6 : List UInt8 := dkwX19_glass_6 ++ dktX19_glass_7
def dkwX19_glass_5 : List UInt8 := [3, 61, 28, 16, 7, 162, 0, 62, 42, 180, 0, 21, 3, 28, 96, 42, 180, 1, 107, 180, 1, 37, 28, 46]
abbrev dktX19_glass_5 : List UInt8 := dkwX19_glass_5 ++ dktX19_glass_6
def dkwX19_glass_4 : List UInt8 := [181, 1, 107, 3, 61, 28, 16, 59, 162, 0, 16, 42, 180, 0, 21, 28, 3, 79, 132, 2, 1, 167, 255, 240]
abbrev dktX19_glass_4 : List UInt8 := dkwX19_glass_4 ++ dktX19_glass_5
def dkwX19_glass_3 : List UInt8 := [158, 0, 18, 42, 7, 181, 0, 91, 42, 42, 180, 0, 151, 181, 0, 9, 2, 172, 42, 42, 180, 0, 196]
abbrev dktX19_glass_3 : List UInt8 := dkwX19_glass_3 ++ dktX19_glass_4
def dkwX19_glass_2 : List UInt8 := [183, 1, 103, 181, 0, 196, 42, 3, 181, 0, 116, 42, 182, 0, 158, 42, 182, 1, 104, 42, 180, 0, 148]
abbrev dktX19_glass_2 : List UInt8 := dkwX19_glass_2 ++ dktX19_glass_3
def dkwX19_glass_1 : List UInt8 := [27, 181, 0, 101, 42, 3, 181, 1, 100, 42, 3, 181, 0, 119, 42, 3, 181, 0, 148, 42, 187, 0, 201, 89]
abbrev dktX19_glass_1 : List UInt8 := dkwX19_glass_1 ++ dktX19_glass_2
def dkwX19_glass_0 : List UInt8 := [42, 3, 181, 0, 88, 27, 155, 0, 11, 27, 42, 180, 1, 100, 164, 0, 9, 42, 5, 182, 0, 94, 172, 42]
abbrev dktX19_glass_0 : List UInt8 := dkwX19_glass_0 ++ dktX19_glass_1
theorem dksX19_glass_0 : cX19_glass.data.toList.drop 0 = dktX19_glass_0 := by decide +kernel
theorem dksX19_glass_1 : cX19_glass.data.toList.drop 24 = dktX19_glass_1 := dk_seg dksX19_glass_0 24 rfl rfl
theorem dksX19_glass_2 : cX19_glass.data.toList.drop 48 = dktX19_glass_2 := dk_seg dksX19_glass_1 24 rfl rfl
theorem dksX19_glass_3 : cX19_glass.data.toList.drop 71 = dktX19_glass_3 := dk_seg dksX19_glass_2 23 rfl rfl
theorem dksX19_glass_4 : cX19_glass.data.toList.drop 94 = dktX19_glass_4 := dk_seg dksX19_glass_3 23 rfl rfl
theorem dksX19_glass_5 : cX19_glass.data.toList.drop 118 = dktX19_glass_5 := dk_seg dksX19_glass_4 24 rfl rfl
theorem dksX19_glass_6 : cX19_glass.data.toList.drop 142 = dktX19_glass_6 := dk_seg dksX19_glass_5 24 rfl rfl
theorem dksX19_glass_7 : cX19_glass.data.toList.drop 165 = dktX19_glass_7 := dk_seg dksX19_glass_6 23 rfl rfl
theorem dksX19_glass_8 : cX19_glass.data.toList.drop 187 = dktX19_glass_8 := dk_seg dksX19_glass_7 22 rfl rfl
theorem dX19_glass_0 : decode cX19_glass 0 = .ok (.aload_n 0, 1) := dk_42 (dk_at dksX19_glass_0 0 rfl rfl)
theorem dX19_glass_1 : decode cX19_glass 1 = .ok (.iconst 0, 1) := dk_3 (dk_at dksX19_glass_0 1 rfl rfl)
theorem dX19_glass_2 : decode cX19_glass 2 = .ok (.putfield 88, 3) := dk_181 0 88 (dk_at dksX19_glass_0 2 rfl rfl)
theorem dX19_glass_5 : decode cX19_glass 5 = .ok (.iload_n 1, 1) := dk_27 (dk_at dksX19_glass_0 5 rfl rfl)
theorem dX19_glass_6 : decode cX19_glass 6 = .ok (.ifCond .lt 11, 3) := dk_155 0 11 (dk_at dksX19_glass_0 6 rfl rfl)
theorem dX19_glass_9 : decode cX19_glass 9 = .ok (.iload_n 1, 1) := dk_27 (dk_at dksX19_glass_0 9 rfl rfl)
theorem dX19_glass_10 : decode cX19_glass 10 = .ok (.aload_n 0, 1) := dk_42 (dk_at dksX19_glass_0 10 rfl rfl)
theorem dX19_glass_11 : decode cX19_glass 11 = .ok (.getfield 356, 3) := dk_180 1 100 (dk_at dksX19_glass_0 11 rfl rfl)
theorem dX19_glass_14 : decode cX19_glass 14 = .ok (.if_icmp .le 9, 3) := dk_164 0 9 (dk_at dksX19_glass_0 14 rfl rfl)
theorem dX19_glass_17 : decode cX19_glass 17 = .ok (.aload_n 0, 1) := dk_42 (dk_at dksX19_glass_0 17 rfl rfl)
theorem dX19_glass_18 : decode cX19_glass 18 = .ok (.iconst 2, 1) := dk_5 (dk_at dksX19_glass_0 18 rfl rfl)
theorem dX19_glass_19 : decode cX19_glass 19 = .ok (.invokevirtual 94, 3) := dk_182 0 94 (dk_at dksX19_glass_0 19 rfl rfl)
theorem dX19_glass_22 : decode cX19_glass 22 = .ok (.ireturn, 1) := dk_172 (dk_at dksX19_glass_0 22 rfl rfl)
theorem dX19_glass_23 : decode cX19_glass 23 = .ok (.aload_n 0, 1) := dk_42 (dk_at dksX19_glass_0 23 rfl rfl)
theorem dX19_glass_24 : decode cX19_glass 24 = .ok (.iload_n 1, 1) := dk_27 (dk_at dksX19_glass_1 0 rfl rfl)
theorem dX19_glass_25 : decode cX19_glass 25 = .ok (.putfield 101, 3) := dk_181 0 101 (dk_at dksX19_glass_1 1 rfl rfl)
theorem dX19_glass_28 : decode cX19_glass 28 = .ok (.aload_n 0, 1) := dk_42 (dk_at dksX19_glass_1 4 rfl rfl)
theorem dX19_glass_29 : decode cX19_glass 29 = .ok (.iconst 0, 1) := dk_3 (dk_at dksX19_glass_1 5 rfl rfl)
theorem dX19_glass_30 : decode cX19_glass 30 = .ok (.putfield 356, 3) := dk_181 1 100 (dk_at dksX19_glass_1 6 rfl rfl)
theorem dX19_glass_33 : decode cX19_glass 33 = .ok (.aload_n 0, 1) := dk_42 (dk_at dksX19_glass_1 9 rfl rfl)
theorem dX19_glass_34 : decode cX19_glass 34 = .ok (.iconst 0, 1) := dk_3 (dk_at dksX19_glass_1 10 rfl rfl)
theorem dX19_glass_35 : decode cX19_glass 35 = .ok (.putfield 119, 3) := dk_181 0 119 (dk_at dksX19_glass_1 11 rfl rfl)
theorem dX19_glass_38 : decode cX19_glass 38 = .ok (.aload_n 0, 1) := dk_42 (dk_at dksX19_glass_1 14 rfl rfl)
theorem dX19_glass_39 : decode cX19_glass 39 = .ok (.iconst 0, 1) := dk_3 (dk_at dksX19_glass_1 15 rfl rfl)
theorem dX19_glass_40 : decode cX19_glass 40 = .ok (.putfield 148, 3) := dk_181 0 148 (dk_at dksX19_glass_1 16 rfl rfl)
theorem dX19_glass_43 : decode cX19_glass 43 = .ok (.aload_n 0, 1) := dk_42 (dk_at dksX19_glass_1 19 rfl rfl)
theorem dX19_glass_44 : decode cX19_glass 44 = .ok (.new 201, 3) := dk_187 0 201 (dk_at dksX19_glass_1 20 rfl rfl)
theorem dX19_glass_47 : decode cX19_glass 47 = .ok (.dup, 1) := dk_89 (dk_at dksX19_glass_1 23 rfl rfl)
theorem dX19_glass_48 : decode cX19_glass 48 = .ok (.invokespecial 359, 3) := dk_183 1 103 (dk_at dksX19_glass_2 0 rfl rfl)
theorem dX19_glass_51 : decode cX19_glass 51 = .ok (.putfield 196, 3) := dk_181 0 196 (dk_at dksX19_glass_2 3 rfl rfl)
theorem dX19_glass_54 : decode cX19_glass 54 = .ok (.aload_n 0, 1) := dk_42 (dk_at dksX19_glass_2 6 rfl rfl)
theorem dX19_glass_55 : decode cX19_glass 55 = .ok (.iconst 0, 1) := dk_3 (dk_at dksX19_glass_2 7 rfl rfl)
theorem dX19_glass_56 : decode cX19_glass 56 = .ok (.putfield 116, 3) := dk_181 0 116 (dk_at dksX19_glass_2 8 rfl rfl)
theorem dX19_glass_59 : decode cX19_glass 59 = .ok (.aload_n 0, 1) := dk_42 (dk_at dksX19_glass_2 11 rfl rfl)
theorem dX19_glass_60 : decode cX19_glass 60 = .ok (.invokevirtual 158, 3) := dk_182 0 158 (dk_at dksX19_glass_2 12 rfl rfl)
theorem dX19_glass_63 : decode cX19_glass 63 = .ok (.aload_n 0, 1) := dk_42 (dk_at dksX19_glass_2 15 rfl rfl)
theorem dX19_glass_64 : decode cX19_glass 64 = .ok (.invokevirtual 360, 3) := dk_182 1 104 (dk_at dksX19_glass_2 16 rfl rfl)
theorem dX19_glass_67 : decode cX19_glass 67 = .ok (.aload_n 0, 1) := dk_42 (dk_at dksX19_glass_2 19 rfl rfl)
theorem dX19_glass_68 : decode cX19_glass 68 = .ok (.getfield 148, 3) := dk_180 0 148 (dk_at dksX19_glass_2 20 rfl rfl)
theorem dX19_glass_71 : decode cX19_glass 71 = .ok (.ifCond .le 18, 3) := dk_158 0 18 (dk_at dksX19_glass_3 0 rfl rfl)
theorem dX19_glass_74 : decode cX19_glass 74 = .ok (.aload_n 0, 1) := dk_42 (dk_at dksX19_glass_3 3 rfl rfl)
theorem dX19_glass_75 : decode cX19_glass 75 = .ok (.iconst 4, 1) := dk_7 (dk_at dksX19_glass_3 4 rfl rfl)
theorem dX19_glass_76 : decode cX19_glass 76 = .ok (.putfield 91, 3) := dk_181 0 91 (dk_at dksX19_glass_3 5 rfl rfl)
theorem dX19_glass_79 : decode cX19_glass 79 = .ok (.aload_n 0, 1) := dk_42 (dk_at dksX19_glass_3 8 rfl rfl)
theorem dX19_glass_80 : decode cX19_glass 80 = .ok (.aload_n 0, 1) := dk_42 (dk_at dksX19_glass_3 9 rfl rfl)
theorem dX19_glass_81 : decode cX19_glass 81 = .ok (.getfield 151, 3) := dk_180 0 151 (dk_at dksX19_glass_3 10 rfl rfl)
theorem dX19_glass_84 : decode cX19_glass 84 = .ok (.putfield 9, 3) := dk_181 0 9 (dk_at dksX19_glass_3 13 rfl rfl)
theorem dX19_glass_87 : decode cX19_glass 87 = .ok (.iconst (-1), 1) := dk_2 (dk_at dksX19_glass_3 16 rfl rfl)
theorem dX19_glass_88 : decode cX19_glass 88 = .ok (.ireturn, 1) := dk_172 (dk_at dksX19_glass_3 17 rfl rfl)
theorem dX19_glass_89 : decode cX19_glass 89 = .ok (.aload_n 0, 1) := dk_42 (dk_at dksX19_glass_3 18 rfl rfl)
theorem dX19_glass_90 : decode cX19_glass 90 = .ok (.aload_n 0, 1) := dk_42 (dk_at dksX19_glass_3 19 rfl rfl)
theorem dX19_glass_91 : decode cX19_glass 91 = .ok (.getfield 196, 3) := dk_180 0 196 (dk_at dksX19_glass_3 20 rfl rfl)
theorem dX19_glass_94 : decode cX19_glass 94 = .ok (.putfield 363, 3) := dk_181 1 107 (dk_at dksX19_glass_4 0 rfl rfl)
theorem dX19_glass_97 : decode cX19_glass 97 = .ok (.iconst 0, 1) := dk_3 (dk_at dksX19_glass_4 3 rfl rfl)
theorem dX19_glass_98 : decode cX19_glass 98 = .ok (.istore_n 2, 1) := dk_61 (dk_at dksX19_glass_4 4 rfl rfl)
theorem dX19_glass_99 : decode cX19_glass 99 = .ok (.iload_n 2, 1) := dk_28 (dk_at dksX19_glass_4 5 rfl rfl)
theorem dX19_glass_100 : decode cX19_glass 100 = .ok (.bipush 59, 2) := dk_16 59 (dk_at dksX19_glass_4 6 rfl rfl)
theorem dX19_glass_102 : decode cX19_glass 102 = .ok (.if_icmp .ge 16, 3) := dk_162 0 16 (dk_at dksX19_glass_4 8 rfl rfl)
theorem dX19_glass_105 : decode cX19_glass 105 = .ok (.aload_n 0, 1) := dk_42 (dk_at dksX19_glass_4 11 rfl rfl)
theorem dX19_glass_106 : decode cX19_glass 106 = .ok (.getfield 21, 3) := dk_180 0 21 (dk_at dksX19_glass_4 12 rfl rfl)
theorem dX19_glass_109 : decode cX19_glass 109 = .ok (.iload_n 2, 1) := dk_28 (dk_at dksX19_glass_4 15 rfl rfl)
theorem dX19_glass_110 : decode cX19_glass 110 = .ok (.iconst 0, 1) := dk_3 (dk_at dksX19_glass_4 16 rfl rfl)
theorem dX19_glass_111 : decode cX19_glass 111 = .ok (.iastore, 1) := dk_79 (dk_at dksX19_glass_4 17 rfl rfl)
theorem dX19_glass_112 : decode cX19_glass 112 = .ok (.iinc 2 1, 3) := dk_132 2 1 (dk_at dksX19_glass_4 18 rfl rfl)
theorem dX19_glass_115 : decode cX19_glass 115 = .ok (.goto (-16), 3) := dk_167 255 240 (dk_at dksX19_glass_4 21 rfl rfl)
theorem dX19_glass_118 : decode cX19_glass 118 = .ok (.iconst 0, 1) := dk_3 (dk_at dksX19_glass_5 0 rfl rfl)
theorem dX19_glass_119 : decode cX19_glass 119 = .ok (.istore_n 2, 1) := dk_61 (dk_at dksX19_glass_5 1 rfl rfl)
theorem dX19_glass_120 : decode cX19_glass 120 = .ok (.iload_n 2, 1) := dk_28 (dk_at dksX19_glass_5 2 rfl rfl)
theorem dX19_glass_121 : decode cX19_glass 121 = .ok (.bipush 7, 2) := dk_16 7 (dk_at dksX19_glass_5 3 rfl rfl)
theorem dX19_glass_123 : decode cX19_glass 123 = .ok (.if_icmp .ge 62, 3) := dk_162 0 62 (dk_at dksX19_glass_5 5 rfl rfl)
theorem dX19_glass_126 : decode cX19_glass 126 = .ok (.aload_n 0, 1) := dk_42 (dk_at dksX19_glass_5 8 rfl rfl)
theorem dX19_glass_127 : decode cX19_glass 127 = .ok (.getfield 21, 3) := dk_180 0 21 (dk_at dksX19_glass_5 9 rfl rfl)
theorem dX19_glass_130 : decode cX19_glass 130 = .ok (.iconst 0, 1) := dk_3 (dk_at dksX19_glass_5 12 rfl rfl)
theorem dX19_glass_131 : decode cX19_glass 131 = .ok (.iload_n 2, 1) := dk_28 (dk_at dksX19_glass_5 13 rfl rfl)
theorem dX19_glass_132 : decode cX19_glass 132 = .ok (.iadd, 1) := dk_96 (dk_at dksX19_glass_5 14 rfl rfl)
theorem dX19_glass_133 : decode cX19_glass 133 = .ok (.aload_n 0, 1) := dk_42 (dk_at dksX19_glass_5 15 rfl rfl)
theorem dX19_glass_134 : decode cX19_glass 134 = .ok (.getfield 363, 3) := dk_180 1 107 (dk_at dksX19_glass_5 16 rfl rfl)
theorem dX19_glass_137 : decode cX19_glass 137 = .ok (.getfield 293, 3) := dk_180 1 37 (dk_at dksX19_glass_5 19 rfl rfl)
theorem dX19_glass_140 : decode cX19_glass 140 = .ok (.iload_n 2, 1) := dk_28 (dk_at dksX19_glass_5 22 rfl rfl)
theorem dX19_glass_141 : decode cX19_glass 141 = .ok (.iaload, 1) := dk_46 (dk_at dksX19_glass_5 23 rfl rfl)
theorem dX19_glass_142 : decode cX19_glass 142 = .ok (.iastore, 1) := dk_79 (dk_at dksX19_glass_6 0 rfl rfl)
theorem dX19_glass_143 : decode cX19_glass 143 = .ok (.aload_n 0, 1) := dk_42 (dk_at dksX19_glass_6 1 rfl rfl)
theorem dX19_glass_144 : decode cX19_glass 144 = .ok (.getfield 21, 3) := dk_180 0 21 (dk_at dksX19_glass_6 2 rfl rfl)
theorem dX19_glass_147 : decode cX19_glass 147 = .ok (.bipush 7, 2) := dk_16 7 (dk_at dksX19_glass_6 5 rfl rfl)
theorem dX19_glass_149 : decode cX19_glass 149 = .ok (.iload_n 2, 1) := dk_28 (dk_at dksX19_glass_6 7 rfl rfl)
theorem dX19_glass_150 : decode cX19_glass 150 = .ok (.iadd, 1) := dk_96 (dk_at dksX19_glass_6 8 rfl rfl)
theorem dX19_glass_151 : decode cX19_glass 151 = .ok (.aload_n 0, 1) := dk_42 (dk_at dksX19_glass_6 9 rfl rfl)
theorem dX19_glass_152 : decode cX19_glass 152 = .ok (.getfield 363, 3) := dk_180 1 107 (dk_at dksX19_glass_6 10 rfl rfl)
theorem dX19_glass_155 : decode cX19_glass 155 = .ok (.getfield 296, 3) := dk_180 1 40 (dk_at dksX19_glass_6 13 rfl rfl)
theorem dX19_glass_158 : decode cX19_glass 158 = .ok (.iload_n 2, 1) := dk_28 (dk_at dksX19_glass_6 16 rfl rfl)
theorem dX19_glass_159 : decode cX19_glass 159 = .ok (.iaload, 1) := dk_46 (dk_at dksX19_glass_6 17 rfl rfl)
theorem dX19_glass_160 : decode cX19_glass 160 = .ok (.iastore, 1) := dk_79 (dk_at dksX19_glass_6 18 rfl rfl)
theorem dX19_glass_161 : decode cX19_glass 161 = .ok (.aload_n 0, 1) := dk_42 (dk_at dksX19_glass_6 19 rfl rfl)
theorem dX19_glass_162 : decode cX19_glass 162 = .ok (.getfield 21, 3) := dk_180 0 21 (dk_at dksX19_glass_6 20 rfl rfl)
theorem dX19_glass_165 : decode cX19_glass 165 = .ok (.bipush 14, 2) := dk_16 14 (dk_at dksX19_glass_7 0 rfl rfl)
theorem dX19_glass_167 : decode cX19_glass 167 = .ok (.iload_n 2, 1) := dk_28 (dk_at dksX19_glass_7 2 rfl rfl)
theorem dX19_glass_168 : decode cX19_glass 168 = .ok (.iadd, 1) := dk_96 (dk_at dksX19_glass_7 3 rfl rfl)
theorem dX19_glass_169 : decode cX19_glass 169 = .ok (.aload_n 0, 1) := dk_42 (dk_at dksX19_glass_7 4 rfl rfl)
theorem dX19_glass_170 : decode cX19_glass 170 = .ok (.getfield 363, 3) := dk_180 1 107 (dk_at dksX19_glass_7 5 rfl rfl)
theorem dX19_glass_173 : decode cX19_glass 173 = .ok (.getfield 302, 3) := dk_180 1 46 (dk_at dksX19_glass_7 8 rfl rfl)
theorem dX19_glass_176 : decode cX19_glass 176 = .ok (.iload_n 2, 1) := dk_28 (dk_at dksX19_glass_7 11 rfl rfl)
theorem dX19_glass_177 : decode cX19_glass 177 = .ok (.iaload, 1) := dk_46 (dk_at dksX19_glass_7 12 rfl rfl)
theorem dX19_glass_178 : decode cX19_glass 178 = .ok (.iastore, 1) := dk_79 (dk_at dksX19_glass_7 13 rfl rfl)
theorem dX19_glass_179 : decode cX19_glass 179 = .ok (.iinc 2 1, 3) := dk_132 2 1 (dk_at dksX19_glass_7 14 rfl rfl)
theorem dX19_glass_182 : decode cX19_glass 182 = .ok (.goto (-62), 3) := dk_167 255 194 (dk_at dksX19_glass_7 17 rfl rfl)
theorem dX19_glass_185 : decode cX19_glass 185 = .ok (.aload_n 0, 1) := dk_42 (dk_at dksX19_glass_7 20 rfl rfl)
theorem dX19_glass_186 : decode cX19_glass 186 = .ok (.iconst 0, 1) := dk_3 (dk_at dksX19_glass_7 21 rfl rfl)
theorem dX19_glass_187 : decode cX19_glass 187 = .ok (.putfield 365, 3) := dk_181 1 109 (dk_at dksX19_glass_8 0 rfl rfl)
theorem dX19_glass_190 : decode cX19_glass 190 = .ok (.aload_n 0, 1) := dk_42 (dk_at dksX19_glass_8 3 rfl rfl)
theorem dX19_glass_191 : decode cX19_glass 191 = .ok (.iconst 0, 1) := dk_3 (dk_at dksX19_glass_8 4 rfl rfl)
theorem dX19_glass_192 : decode cX19_glass 192 = .ok (.putfield 368, 3) := dk_181 1 112 (dk_at dksX19_glass_8 5 rfl rfl)
theorem dX19_glass_195 : decode cX19_glass 195 = .ok (.aload_n 0, 1) := dk_42 (dk_at dksX19_glass_8 8 rfl rfl)
theorem dX19_glass_196 : decode cX19_glass 196 = .ok (.aload_n 0, 1) := dk_42 (dk_at dksX19_glass_8 9 rfl rfl)
theorem dX19_glass_197 : decode cX19_glass 197 = .ok (.getfield 363, 3) := dk_180 1 107 (dk_at dksX19_glass_8 10 rfl rfl)
theorem dX19_glass_200 : decode cX19_glass 200 = .ok (.getfield 219, 3) := dk_180 0 219 (dk_at dksX19_glass_8 13 rfl rfl)
theorem dX19_glass_203 : decode cX19_glass 203 = .ok (.invokevirtual 98, 3) := dk_182 0 98 (dk_at dksX19_glass_8 16 rfl rfl)
theorem dX19_glass_206 : decode cX19_glass 206 = .ok (.ireturn, 1) := dk_172 (dk_at dksX19_glass_8 19 rfl rfl)
abbrev cX19_refused : ByteArray := prog_24_method_3_code
def yX19_refused : MethodName := ⟨RX19, "refused", "(I)I"⟩
def dkwX19_refused_0 : List UInt8 := [42, 27, 181, 0, 91, 42, 2, 181, 0, 9, 2, 172]
abbrev dktX19_refused_0 : List UInt8 := dkwX19_refused_0 ++ []
theorem dksX19_refused_0 : cX19_refused.data.toList.drop 0 = dktX19_refused_0 := by decide +kernel
theorem dX19_refused_0 : decode cX19_refused 0 = .ok (.aload_n 0, 1) := dk_42 (dk_at dksX19_refused_0 0 rfl rfl)
theorem dX19_refused_1 : decode cX19_refused 1 = .ok (.iload_n 1, 1) := dk_27 (dk_at dksX19_refused_0 1 rfl rfl)
theorem dX19_refused_2 : decode cX19_refused 2 = .ok (.putfield 91, 3) := dk_181 0 91 (dk_at dksX19_refused_0 2 rfl rfl)
theorem dX19_refused_5 : decode cX19_refused 5 = .ok (.aload_n 0, 1) := dk_42 (dk_at dksX19_refused_0 5 rfl rfl)
theorem dX19_refused_6 : decode cX19_refused 6 = .ok (.iconst (-1), 1) := dk_2 (dk_at dksX19_refused_0 6 rfl rfl)
theorem dX19_refused_7 : decode cX19_refused 7 = .ok (.putfield 9, 3) := dk_181 0 9 (dk_at dksX19_refused_0 7 rfl rfl)
theorem dX19_refused_10 : decode cX19_refused 10 = .ok (.iconst (-1), 1) := dk_2 (dk_at dksX19_refused_0 10 rfl rfl)
theorem dX19_refused_11 : decode cX19_refused 11 = .ok (.ireturn, 1) := dk_172 (dk_at dksX19_refused_0 11 rfl rfl)
abbrev cX19_goesOn : ByteArray := prog_24_method_14_code
def yX19_goesOn : MethodName := ⟨RX19, "goesOn", "()V"⟩
def dkwX19_goesOn_12 : List UInt8 := [181, 0, 116, 42, 27, 181, 0, 128, 42, 89, 180, 0, 119, 4, 96, 181, 0, 119, 177]
abbrev dktX19_goesOn_12 : List UInt8 := dkwX19_goesOn_12 ++ []
def dkwX19_goesOn_11 : List UInt8 := [42, 6, 181, 0, 116, 167, 0, 35, 27, 16, 59, 159, 0, 9, 27, 16, 44, 160, 0, 23, 42, 7]
abbrev dktX19_goesOn_11 : List UInt8 := dkwX19_goesOn_11 ++ dktX19_goesOn_12
def dkwX19_goesOn_10 : List UInt8 := [181, 0, 145, 132, 2, 1, 42, 89, 180, 0, 119, 4, 96, 181, 0, 119, 167, 255, 201, 28, 6, 163, 0, 43]
abbrev dktX19_goesOn_10 : List UInt8 := dkwX19_goesOn_10 ++ dktX19_goesOn_11
def dkwX19_goesOn_9 : List UInt8 := [162, 0, 26, 42, 16, 10, 42, 180, 0, 145, 104, 42, 42, 180, 0, 119, 182, 0, 122, 96, 16, 48, 100]
abbrev dktX19_goesOn_9 : List UInt8 := dkwX19_goesOn_9 ++ dktX19_goesOn_10
def dkwX19_goesOn_8 : List UInt8 := [153, 0, 79, 42, 3, 181, 0, 145, 42, 42, 180, 0, 119, 182, 0, 122, 184, 0, 142, 153, 0, 47, 28, 6]
abbrev dktX19_goesOn_8 : List UInt8 := dkwX19_goesOn_8 ++ dktX19_goesOn_9
def dkwX19_goesOn_7 : List UInt8 := [42, 28, 181, 0, 139, 28, 16, 8, 163, 0, 126, 42, 5, 181, 0, 116, 167, 0, 118, 27, 184, 0, 142]
abbrev dktX19_goesOn_7 : List UInt8 := dkwX19_goesOn_7 ++ dktX19_goesOn_8
def dkwX19_goesOn_6 : List UInt8 := [100, 4, 96, 133, 97, 181, 0, 135, 132, 2, 1, 42, 89, 180, 0, 119, 4, 96, 181, 0, 119, 167, 255, 184]
abbrev dktX19_goesOn_6 : List UInt8 := dkwX19_goesOn_6 ++ dktX19_goesOn_7
def dkwX19_goesOn_5 : List UInt8 := [180, 0, 119, 182, 0, 122, 79, 42, 20, 0, 110, 42, 180, 0, 135, 105, 42, 180, 0, 17, 28, 46, 16, 97]
abbrev dktX19_goesOn_5 : List UInt8 := dkwX19_goesOn_5 ++ dktX19_goesOn_6
def dkwX19_goesOn_4 : List UInt8 := [182, 0, 122, 184, 0, 131, 153, 0, 64, 28, 16, 8, 162, 0, 42, 42, 180, 0, 17, 28, 42, 42]
abbrev dktX19_goesOn_4 : List UInt8 := dkwX19_goesOn_4 ++ dktX19_goesOn_5
def dkwX19_goesOn_3 : List UInt8 := [181, 0, 116, 167, 0, 224, 27, 184, 0, 131, 153, 0, 102, 42, 9, 181, 0, 135, 42, 42, 180, 0, 119]
abbrev dktX19_goesOn_3 : List UInt8 := dkwX19_goesOn_3 ++ dktX19_goesOn_4
def dkwX19_goesOn_2 : List UInt8 := [42, 3, 181, 0, 128, 42, 42, 180, 0, 119, 182, 0, 122, 60, 3, 61, 27, 2, 160, 0, 11, 42, 4]
abbrev dktX19_goesOn_2 : List UInt8 := dkwX19_goesOn_2 ++ dktX19_goesOn_3
def dkwX19_goesOn_1 : List UInt8 := [180, 0, 119, 4, 96, 181, 0, 119, 167, 255, 233, 42, 42, 180, 0, 119, 181, 0, 125, 42, 3, 181, 0, 116]
abbrev dktX19_goesOn_1 : List UInt8 := dkwX19_goesOn_1 ++ dktX19_goesOn_2
def dkwX19_goesOn_0 : List UInt8 := [42, 180, 0, 116, 8, 160, 0, 4, 177, 42, 42, 180, 0, 119, 182, 0, 122, 16, 32, 160, 0, 16, 42, 89]
abbrev dktX19_goesOn_0 : List UInt8 := dkwX19_goesOn_0 ++ dktX19_goesOn_1
theorem dksX19_goesOn_0 : cX19_goesOn.data.toList.drop 0 = dktX19_goesOn_0 := by decide +kernel
theorem dksX19_goesOn_1 : cX19_goesOn.data.toList.drop 24 = dktX19_goesOn_1 := dk_seg dksX19_goesOn_0 24 rfl rfl
theorem dksX19_goesOn_2 : cX19_goesOn.data.toList.drop 48 = dktX19_goesOn_2 := dk_seg dksX19_goesOn_1 24 rfl rfl
theorem dksX19_goesOn_3 : cX19_goesOn.data.toList.drop 71 = dktX19_goesOn_3 := dk_seg dksX19_goesOn_2 23 rfl rfl
theorem dksX19_goesOn_4 : cX19_goesOn.data.toList.drop 94 = dktX19_goesOn_4 := dk_seg dksX19_goesOn_3 23 rfl rfl
theorem dksX19_goesOn_5 : cX19_goesOn.data.toList.drop 116 = dktX19_goesOn_5 := dk_seg dksX19_goesOn_4 22 rfl rfl
theorem dksX19_goesOn_6 : cX19_goesOn.data.toList.drop 140 = dktX19_goesOn_6 := dk_seg dksX19_goesOn_5 24 rfl rfl
theorem dksX19_goesOn_7 : cX19_goesOn.data.toList.drop 164 = dktX19_goesOn_7 := dk_seg dksX19_goesOn_6 24 rfl rfl
theorem dksX19_goesOn_8 : cX19_goesOn.data.toList.drop 187 = dktX19_goesOn_8 := dk_seg dksX19_goesOn_7 23 rfl rfl
theorem dksX19_goesOn_9 : cX19_goesOn.data.toList.drop 211 = dktX19_goesOn_9 := dk_seg dksX19_goesOn_8 24 rfl rfl
theorem dksX19_goesOn_10 : cX19_goesOn.data.toList.drop 234 = dktX19_goesOn_10 := dk_seg dksX19_goesOn_9 23 rfl rfl
theorem dksX19_goesOn_11 : cX19_goesOn.data.toList.drop 258 = dktX19_goesOn_11 := dk_seg dksX19_goesOn_10 24 rfl rfl
theorem dksX19_goesOn_12 : cX19_goesOn.data.toList.drop 280 = dktX19_goesOn_12 := dk_seg dksX19_goesOn_11 22 rfl rfl
theorem dX19_goesOn_0 : decode cX19_goesOn 0 = .ok (.aload_n 0, 1) := dk_42 (dk_at dksX19_goesOn_0 0 rfl rfl)
theorem dX19_goesOn_1 : decode cX19_goesOn 1 = .ok (.getfield 116, 3) := dk_180 0 116 (dk_at dksX19_goesOn_0 1 rfl rfl)
theorem dX19_goesOn_4 : decode cX19_goesOn 4 = .ok (.iconst 5, 1) := dk_8 (dk_at dksX19_goesOn_0 4 rfl rfl)
theorem dX19_goesOn_5 : decode cX19_goesOn 5 = .ok (.if_icmp .ne 4, 3) := dk_160 0 4 (dk_at dksX19_goesOn_0 5 rfl rfl)
theorem dX19_goesOn_8 : decode cX19_goesOn 8 = .ok (.return_, 1) := dk_177 (dk_at dksX19_goesOn_0 8 rfl rfl)
theorem dX19_goesOn_9 : decode cX19_goesOn 9 = .ok (.aload_n 0, 1) := dk_42 (dk_at dksX19_goesOn_0 9 rfl rfl)
theorem dX19_goesOn_10 : decode cX19_goesOn 10 = .ok (.aload_n 0, 1) := dk_42 (dk_at dksX19_goesOn_0 10 rfl rfl)
theorem dX19_goesOn_11 : decode cX19_goesOn 11 = .ok (.getfield 119, 3) := dk_180 0 119 (dk_at dksX19_goesOn_0 11 rfl rfl)
theorem dX19_goesOn_14 : decode cX19_goesOn 14 = .ok (.invokevirtual 122, 3) := dk_182 0 122 (dk_at dksX19_goesOn_0 14 rfl rfl)
theorem dX19_goesOn_17 : decode cX19_goesOn 17 = .ok (.bipush 32, 2) := dk_16 32 (dk_at dksX19_goesOn_0 17 rfl rfl)
theorem dX19_goesOn_19 : decode cX19_goesOn 19 = .ok (.if_icmp .ne 16, 3) := dk_160 0 16 (dk_at dksX19_goesOn_0 19 rfl rfl)
theorem dX19_goesOn_22 : decode cX19_goesOn 22 = .ok (.aload_n 0, 1) := dk_42 (dk_at dksX19_goesOn_0 22 rfl rfl)
theorem dX19_goesOn_23 : decode cX19_goesOn 23 = .ok (.dup, 1) := dk_89 (dk_at dksX19_goesOn_0 23 rfl rfl)
theorem dX19_goesOn_24 : decode cX19_goesOn 24 = .ok (.getfield 119, 3) := dk_180 0 119 (dk_at dksX19_goesOn_1 0 rfl rfl)
theorem dX19_goesOn_27 : decode cX19_goesOn 27 = .ok (.iconst 1, 1) := dk_4 (dk_at dksX19_goesOn_1 3 rfl rfl)
theorem dX19_goesOn_28 : decode cX19_goesOn 28 = .ok (.iadd, 1) := dk_96 (dk_at dksX19_goesOn_1 4 rfl rfl)
theorem dX19_goesOn_29 : decode cX19_goesOn 29 = .ok (.putfield 119, 3) := dk_181 0 119 (dk_at dksX19_goesOn_1 5 rfl rfl)
theorem dX19_goesOn_32 : decode cX19_goesOn 32 = .ok (.goto (-23), 3) := dk_167 255 233 (dk_at dksX19_goesOn_1 8 rfl rfl)
theorem dX19_goesOn_35 : decode cX19_goesOn 35 = .ok (.aload_n 0, 1) := dk_42 (dk_at dksX19_goesOn_1 11 rfl rfl)
theorem dX19_goesOn_36 : decode cX19_goesOn 36 = .ok (.aload_n 0, 1) := dk_42 (dk_at dksX19_goesOn_1 12 rfl rfl)
theorem dX19_goesOn_37 : decode cX19_goesOn 37 = .ok (.getfield 119, 3) := dk_180 0 119 (dk_at dksX19_goesOn_1 13 rfl rfl)
theorem dX19_goesOn_40 : decode cX19_goesOn 40 = .ok (.putfield 125, 3) := dk_181 0 125 (dk_at dksX19_goesOn_1 16 rfl rfl)
theorem dX19_goesOn_43 : decode cX19_goesOn 43 = .ok (.aload_n 0, 1) := dk_42 (dk_at dksX19_goesOn_1 19 rfl rfl)
theorem dX19_goesOn_44 : decode cX19_goesOn 44 = .ok (.iconst 0, 1) := dk_3 (dk_at dksX19_goesOn_1 20 rfl rfl)
theorem dX19_goesOn_45 : decode cX19_goesOn 45 = .ok (.putfield 116, 3) := dk_181 0 116 (dk_at dksX19_goesOn_1 21 rfl rfl)
theorem dX19_goesOn_48 : decode cX19_goesOn 48 = .ok (.aload_n 0, 1) := dk_42 (dk_at dksX19_goesOn_2 0 rfl rfl)
theorem dX19_goesOn_49 : decode cX19_goesOn 49 = .ok (.iconst 0, 1) := dk_3 (dk_at dksX19_goesOn_2 1 rfl rfl)
theorem dX19_goesOn_50 : decode cX19_goesOn 50 = .ok (.putfield 128, 3) := dk_181 0 128 (dk_at dksX19_goesOn_2 2 rfl rfl)
theorem dX19_goesOn_53 : decode cX19_goesOn 53 = .ok (.aload_n 0, 1) := dk_42 (dk_at dksX19_goesOn_2 5 rfl rfl)
theorem dX19_goesOn_54 : decode cX19_goesOn 54 = .ok (.aload_n 0, 1) := dk_42 (dk_at dksX19_goesOn_2 6 rfl rfl)
theorem dX19_goesOn_55 : decode cX19_goesOn 55 = .ok (.getfield 119, 3) := dk_180 0 119 (dk_at dksX19_goesOn_2 7 rfl rfl)
theorem dX19_goesOn_58 : decode cX19_goesOn 58 = .ok (.invokevirtual 122, 3) := dk_182 0 122 (dk_at dksX19_goesOn_2 10 rfl rfl)
theorem dX19_goesOn_61 : decode cX19_goesOn 61 = .ok (.istore_n 1, 1) := dk_60 (dk_at dksX19_goesOn_2 13 rfl rfl)
theorem dX19_goesOn_62 : decode cX19_goesOn 62 = .ok (.iconst 0, 1) := dk_3 (dk_at dksX19_goesOn_2 14 rfl rfl)
theorem dX19_goesOn_63 : decode cX19_goesOn 63 = .ok (.istore_n 2, 1) := dk_61 (dk_at dksX19_goesOn_2 15 rfl rfl)
theorem dX19_goesOn_64 : decode cX19_goesOn 64 = .ok (.iload_n 1, 1) := dk_27 (dk_at dksX19_goesOn_2 16 rfl rfl)
theorem dX19_goesOn_65 : decode cX19_goesOn 65 = .ok (.iconst (-1), 1) := dk_2 (dk_at dksX19_goesOn_2 17 rfl rfl)
theorem dX19_goesOn_66 : decode cX19_goesOn 66 = .ok (.if_icmp .ne 11, 3) := dk_160 0 11 (dk_at dksX19_goesOn_2 18 rfl rfl)
theorem dX19_goesOn_69 : decode cX19_goesOn 69 = .ok (.aload_n 0, 1) := dk_42 (dk_at dksX19_goesOn_2 21 rfl rfl)
theorem dX19_goesOn_70 : decode cX19_goesOn 70 = .ok (.iconst 1, 1) := dk_4 (dk_at dksX19_goesOn_2 22 rfl rfl)
theorem dX19_goesOn_71 : decode cX19_goesOn 71 = .ok (.putfield 116, 3) := dk_181 0 116 (dk_at dksX19_goesOn_3 0 rfl rfl)
theorem dX19_goesOn_74 : decode cX19_goesOn 74 = .ok (.goto 224, 3) := dk_167 0 224 (dk_at dksX19_goesOn_3 3 rfl rfl)
theorem dX19_goesOn_77 : decode cX19_goesOn 77 = .ok (.iload_n 1, 1) := dk_27 (dk_at dksX19_goesOn_3 6 rfl rfl)
theorem dX19_goesOn_78 : decode cX19_goesOn 78 = .ok (.invokestatic 131, 3) := dk_184 0 131 (dk_at dksX19_goesOn_3 7 rfl rfl)
theorem dX19_goesOn_81 : decode cX19_goesOn 81 = .ok (.ifCond .eq 102, 3) := dk_153 0 102 (dk_at dksX19_goesOn_3 10 rfl rfl)
theorem dX19_goesOn_84 : decode cX19_goesOn 84 = .ok (.aload_n 0, 1) := dk_42 (dk_at dksX19_goesOn_3 13 rfl rfl)
theorem dX19_goesOn_85 : decode cX19_goesOn 85 = .ok (.lconst 0, 1) := dk_9 (dk_at dksX19_goesOn_3 14 rfl rfl)
theorem dX19_goesOn_86 : decode cX19_goesOn 86 = .ok (.putfield 135, 3) := dk_181 0 135 (dk_at dksX19_goesOn_3 15 rfl rfl)
theorem dX19_goesOn_89 : decode cX19_goesOn 89 = .ok (.aload_n 0, 1) := dk_42 (dk_at dksX19_goesOn_3 18 rfl rfl)
theorem dX19_goesOn_90 : decode cX19_goesOn 90 = .ok (.aload_n 0, 1) := dk_42 (dk_at dksX19_goesOn_3 19 rfl rfl)
theorem dX19_goesOn_91 : decode cX19_goesOn 91 = .ok (.getfield 119, 3) := dk_180 0 119 (dk_at dksX19_goesOn_3 20 rfl rfl)
theorem dX19_goesOn_94 : decode cX19_goesOn 94 = .ok (.invokevirtual 122, 3) := dk_182 0 122 (dk_at dksX19_goesOn_4 0 rfl rfl)
theorem dX19_goesOn_97 : decode cX19_goesOn 97 = .ok (.invokestatic 131, 3) := dk_184 0 131 (dk_at dksX19_goesOn_4 3 rfl rfl)
theorem dX19_goesOn_100 : decode cX19_goesOn 100 = .ok (.ifCond .eq 64, 3) := dk_153 0 64 (dk_at dksX19_goesOn_4 6 rfl rfl)
theorem dX19_goesOn_103 : decode cX19_goesOn 103 = .ok (.iload_n 2, 1) := dk_28 (dk_at dksX19_goesOn_4 9 rfl rfl)
theorem dX19_goesOn_104 : decode cX19_goesOn 104 = .ok (.bipush 8, 2) := dk_16 8 (dk_at dksX19_goesOn_4 10 rfl rfl)
theorem dX19_goesOn_106 : decode cX19_goesOn 106 = .ok (.if_icmp .ge 42, 3) := dk_162 0 42 (dk_at dksX19_goesOn_4 12 rfl rfl)
theorem dX19_goesOn_109 : decode cX19_goesOn 109 = .ok (.aload_n 0, 1) := dk_42 (dk_at dksX19_goesOn_4 15 rfl rfl)
theorem dX19_goesOn_110 : decode cX19_goesOn 110 = .ok (.getfield 17, 3) := dk_180 0 17 (dk_at dksX19_goesOn_4 16 rfl rfl)
theorem dX19_goesOn_113 : decode cX19_goesOn 113 = .ok (.iload_n 2, 1) := dk_28 (dk_at dksX19_goesOn_4 19 rfl rfl)
theorem dX19_goesOn_114 : decode cX19_goesOn 114 = .ok (.aload_n 0, 1) := dk_42 (dk_at dksX19_goesOn_4 20 rfl rfl)
theorem dX19_goesOn_115 : decode cX19_goesOn 115 = .ok (.aload_n 0, 1) := dk_42 (dk_at dksX19_goesOn_4 21 rfl rfl)
theorem dX19_goesOn_116 : decode cX19_goesOn 116 = .ok (.getfield 119, 3) := dk_180 0 119 (dk_at dksX19_goesOn_5 0 rfl rfl)
theorem dX19_goesOn_119 : decode cX19_goesOn 119 = .ok (.invokevirtual 122, 3) := dk_182 0 122 (dk_at dksX19_goesOn_5 3 rfl rfl)
theorem dX19_goesOn_122 : decode cX19_goesOn 122 = .ok (.iastore, 1) := dk_79 (dk_at dksX19_goesOn_5 6 rfl rfl)
theorem dX19_goesOn_123 : decode cX19_goesOn 123 = .ok (.aload_n 0, 1) := dk_42 (dk_at dksX19_goesOn_5 7 rfl rfl)
theorem dX19_goesOn_124 : decode cX19_goesOn 124 = .ok (.ldc2_w 110, 3) := dk_20 0 110 (dk_at dksX19_goesOn_5 8 rfl rfl)
theorem dX19_goesOn_127 : decode cX19_goesOn 127 = .ok (.aload_n 0, 1) := dk_42 (dk_at dksX19_goesOn_5 11 rfl rfl)
theorem dX19_goesOn_128 : decode cX19_goesOn 128 = .ok (.getfield 135, 3) := dk_180 0 135 (dk_at dksX19_goesOn_5 12 rfl rfl)
theorem dX19_goesOn_131 : decode cX19_goesOn 131 = .ok (.lmul, 1) := dk_105 (dk_at dksX19_goesOn_5 15 rfl rfl)
theorem dX19_goesOn_132 : decode cX19_goesOn 132 = .ok (.aload_n 0, 1) := dk_42 (dk_at dksX19_goesOn_5 16 rfl rfl)
theorem dX19_goesOn_133 : decode cX19_goesOn 133 = .ok (.getfield 17, 3) := dk_180 0 17 (dk_at dksX19_goesOn_5 17 rfl rfl)
theorem dX19_goesOn_136 : decode cX19_goesOn 136 = .ok (.iload_n 2, 1) := dk_28 (dk_at dksX19_goesOn_5 20 rfl rfl)
theorem dX19_goesOn_137 : decode cX19_goesOn 137 = .ok (.iaload, 1) := dk_46 (dk_at dksX19_goesOn_5 21 rfl rfl)
theorem dX19_goesOn_138 : decode cX19_goesOn 138 = .ok (.bipush 97, 2) := dk_16 97 (dk_at dksX19_goesOn_5 22 rfl rfl)
theorem dX19_goesOn_140 : decode cX19_goesOn 140 = .ok (.isub, 1) := dk_100 (dk_at dksX19_goesOn_6 0 rfl rfl)
theorem dX19_goesOn_141 : decode cX19_goesOn 141 = .ok (.iconst 1, 1) := dk_4 (dk_at dksX19_goesOn_6 1 rfl rfl)
theorem dX19_goesOn_142 : decode cX19_goesOn 142 = .ok (.iadd, 1) := dk_96 (dk_at dksX19_goesOn_6 2 rfl rfl)
theorem dX19_goesOn_143 : decode cX19_goesOn 143 = .ok (.i2l, 1) := dk_133 (dk_at dksX19_goesOn_6 3 rfl rfl)
theorem dX19_goesOn_144 : decode cX19_goesOn 144 = .ok (.ladd, 1) := dk_97 (dk_at dksX19_goesOn_6 4 rfl rfl)
theorem dX19_goesOn_145 : decode cX19_goesOn 145 = .ok (.putfield 135, 3) := dk_181 0 135 (dk_at dksX19_goesOn_6 5 rfl rfl)
theorem dX19_goesOn_148 : decode cX19_goesOn 148 = .ok (.iinc 2 1, 3) := dk_132 2 1 (dk_at dksX19_goesOn_6 8 rfl rfl)
theorem dX19_goesOn_151 : decode cX19_goesOn 151 = .ok (.aload_n 0, 1) := dk_42 (dk_at dksX19_goesOn_6 11 rfl rfl)
theorem dX19_goesOn_152 : decode cX19_goesOn 152 = .ok (.dup, 1) := dk_89 (dk_at dksX19_goesOn_6 12 rfl rfl)
theorem dX19_goesOn_153 : decode cX19_goesOn 153 = .ok (.getfield 119, 3) := dk_180 0 119 (dk_at dksX19_goesOn_6 13 rfl rfl)
theorem dX19_goesOn_156 : decode cX19_goesOn 156 = .ok (.iconst 1, 1) := dk_4 (dk_at dksX19_goesOn_6 16 rfl rfl)
theorem dX19_goesOn_157 : decode cX19_goesOn 157 = .ok (.iadd, 1) := dk_96 (dk_at dksX19_goesOn_6 17 rfl rfl)
theorem dX19_goesOn_158 : decode cX19_goesOn 158 = .ok (.putfield 119, 3) := dk_181 0 119 (dk_at dksX19_goesOn_6 18 rfl rfl)
theorem dX19_goesOn_161 : decode cX19_goesOn 161 = .ok (.goto (-72), 3) := dk_167 255 184 (dk_at dksX19_goesOn_6 21 rfl rfl)
theorem dX19_goesOn_164 : decode cX19_goesOn 164 = .ok (.aload_n 0, 1) := dk_42 (dk_at dksX19_goesOn_7 0 rfl rfl)
theorem dX19_goesOn_165 : decode cX19_goesOn 165 = .ok (.iload_n 2, 1) := dk_28 (dk_at dksX19_goesOn_7 1 rfl rfl)
theorem dX19_goesOn_166 : decode cX19_goesOn 166 = .ok (.putfield 139, 3) := dk_181 0 139 (dk_at dksX19_goesOn_7 2 rfl rfl)
theorem dX19_goesOn_169 : decode cX19_goesOn 169 = .ok (.iload_n 2, 1) := dk_28 (dk_at dksX19_goesOn_7 5 rfl rfl)
theorem dX19_goesOn_170 : decode cX19_goesOn 170 = .ok (.bipush 8, 2) := dk_16 8 (dk_at dksX19_goesOn_7 6 rfl rfl)
theorem dX19_goesOn_172 : decode cX19_goesOn 172 = .ok (.if_icmp .gt 126, 3) := dk_163 0 126 (dk_at dksX19_goesOn_7 8 rfl rfl)
theorem dX19_goesOn_175 : decode cX19_goesOn 175 = .ok (.aload_n 0, 1) := dk_42 (dk_at dksX19_goesOn_7 11 rfl rfl)
theorem dX19_goesOn_176 : decode cX19_goesOn 176 = .ok (.iconst 2, 1) := dk_5 (dk_at dksX19_goesOn_7 12 rfl rfl)
theorem dX19_goesOn_177 : decode cX19_goesOn 177 = .ok (.putfield 116, 3) := dk_181 0 116 (dk_at dksX19_goesOn_7 13 rfl rfl)
theorem dX19_goesOn_180 : decode cX19_goesOn 180 = .ok (.goto 118, 3) := dk_167 0 118 (dk_at dksX19_goesOn_7 16 rfl rfl)
theorem dX19_goesOn_183 : decode cX19_goesOn 183 = .ok (.iload_n 1, 1) := dk_27 (dk_at dksX19_goesOn_7 19 rfl rfl)
theorem dX19_goesOn_184 : decode cX19_goesOn 184 = .ok (.invokestatic 142, 3) := dk_184 0 142 (dk_at dksX19_goesOn_7 20 rfl rfl)
theorem dX19_goesOn_187 : decode cX19_goesOn 187 = .ok (.ifCond .eq 79, 3) := dk_153 0 79 (dk_at dksX19_goesOn_8 0 rfl rfl)
theorem dX19_goesOn_190 : decode cX19_goesOn 190 = .ok (.aload_n 0, 1) := dk_42 (dk_at dksX19_goesOn_8 3 rfl rfl)
theorem dX19_goesOn_191 : decode cX19_goesOn 191 = .ok (.iconst 0, 1) := dk_3 (dk_at dksX19_goesOn_8 4 rfl rfl)
theorem dX19_goesOn_192 : decode cX19_goesOn 192 = .ok (.putfield 145, 3) := dk_181 0 145 (dk_at dksX19_goesOn_8 5 rfl rfl)
theorem dX19_goesOn_195 : decode cX19_goesOn 195 = .ok (.aload_n 0, 1) := dk_42 (dk_at dksX19_goesOn_8 8 rfl rfl)
theorem dX19_goesOn_196 : decode cX19_goesOn 196 = .ok (.aload_n 0, 1) := dk_42 (dk_at dksX19_goesOn_8 9 rfl rfl)
theorem dX19_goesOn_197 : decode cX19_goesOn 197 = .ok (.getfield 119, 3) := dk_180 0 119 (dk_at dksX19_goesOn_8 10 rfl rfl)
theorem dX19_goesOn_200 : decode cX19_goesOn 200 = .ok (.invokevirtual 122, 3) := dk_182 0 122 (dk_at dksX19_goesOn_8 13 rfl rfl)
theorem dX19_goesOn_203 : decode cX19_goesOn 203 = .ok (.invokestatic 142, 3) := dk_184 0 142 (dk_at dksX19_goesOn_8 16 rfl rfl)
theorem dX19_goesOn_206 : decode cX19_goesOn 206 = .ok (.ifCond .eq 47, 3) := dk_153 0 47 (dk_at dksX19_goesOn_8 19 rfl rfl)
theorem dX19_goesOn_209 : decode cX19_goesOn 209 = .ok (.iload_n 2, 1) := dk_28 (dk_at dksX19_goesOn_8 22 rfl rfl)
theorem dX19_goesOn_210 : decode cX19_goesOn 210 = .ok (.iconst 3, 1) := dk_6 (dk_at dksX19_goesOn_8 23 rfl rfl)
theorem dX19_goesOn_211 : decode cX19_goesOn 211 = .ok (.if_icmp .ge 26, 3) := dk_162 0 26 (dk_at dksX19_goesOn_9 0 rfl rfl)
theorem dX19_goesOn_214 : decode cX19_goesOn 214 = .ok (.aload_n 0, 1) := dk_42 (dk_at dksX19_goesOn_9 3 rfl rfl)
theorem dX19_goesOn_215 : decode cX19_goesOn 215 = .ok (.bipush 10, 2) := dk_16 10 (dk_at dksX19_goesOn_9 4 rfl rfl)
theorem dX19_goesOn_217 : decode cX19_goesOn 217 = .ok (.aload_n 0, 1) := dk_42 (dk_at dksX19_goesOn_9 6 rfl rfl)
theorem dX19_goesOn_218 : decode cX19_goesOn 218 = .ok (.getfield 145, 3) := dk_180 0 145 (dk_at dksX19_goesOn_9 7 rfl rfl)
theorem dX19_goesOn_221 : decode cX19_goesOn 221 = .ok (.imul, 1) := dk_104 (dk_at dksX19_goesOn_9 10 rfl rfl)
theorem dX19_goesOn_222 : decode cX19_goesOn 222 = .ok (.aload_n 0, 1) := dk_42 (dk_at dksX19_goesOn_9 11 rfl rfl)
theorem dX19_goesOn_223 : decode cX19_goesOn 223 = .ok (.aload_n 0, 1) := dk_42 (dk_at dksX19_goesOn_9 12 rfl rfl)
theorem dX19_goesOn_224 : decode cX19_goesOn 224 = .ok (.getfield 119, 3) := dk_180 0 119 (dk_at dksX19_goesOn_9 13 rfl rfl)
theorem dX19_goesOn_227 : decode cX19_goesOn 227 = .ok (.invokevirtual 122, 3) := dk_182 0 122 (dk_at dksX19_goesOn_9 16 rfl rfl)
theorem dX19_goesOn_230 : decode cX19_goesOn 230 = .ok (.iadd, 1) := dk_96 (dk_at dksX19_goesOn_9 19 rfl rfl)
theorem dX19_goesOn_231 : decode cX19_goesOn 231 = .ok (.bipush 48, 2) := dk_16 48 (dk_at dksX19_goesOn_9 20 rfl rfl)
theorem dX19_goesOn_233 : decode cX19_goesOn 233 = .ok (.isub, 1) := dk_100 (dk_at dksX19_goesOn_9 22 rfl rfl)
theorem dX19_goesOn_234 : decode cX19_goesOn 234 = .ok (.putfield 145, 3) := dk_181 0 145 (dk_at dksX19_goesOn_10 0 rfl rfl)
theorem dX19_goesOn_237 : decode cX19_goesOn 237 = .ok (.iinc 2 1, 3) := dk_132 2 1 (dk_at dksX19_goesOn_10 3 rfl rfl)
theorem dX19_goesOn_240 : decode cX19_goesOn 240 = .ok (.aload_n 0, 1) := dk_42 (dk_at dksX19_goesOn_10 6 rfl rfl)
theorem dX19_goesOn_241 : decode cX19_goesOn 241 = .ok (.dup, 1) := dk_89 (dk_at dksX19_goesOn_10 7 rfl rfl)
theorem dX19_goesOn_242 : decode cX19_goesOn 242 = .ok (.getfield 119, 3) := dk_180 0 119 (dk_at dksX19_goesOn_10 8 rfl rfl)
theorem dX19_goesOn_245 : decode cX19_goesOn 245 = .ok (.iconst 1, 1) := dk_4 (dk_at dksX19_goesOn_10 11 rfl rfl)
theorem dX19_goesOn_246 : decode cX19_goesOn 246 = .ok (.iadd, 1) := dk_96 (dk_at dksX19_goesOn_10 12 rfl rfl)
theorem dX19_goesOn_247 : decode cX19_goesOn 247 = .ok (.putfield 119, 3) := dk_181 0 119 (dk_at dksX19_goesOn_10 13 rfl rfl)
theorem dX19_goesOn_250 : decode cX19_goesOn 250 = .ok (.goto (-55), 3) := dk_167 255 201 (dk_at dksX19_goesOn_10 16 rfl rfl)
theorem dX19_goesOn_253 : decode cX19_goesOn 253 = .ok (.iload_n 2, 1) := dk_28 (dk_at dksX19_goesOn_10 19 rfl rfl)
theorem dX19_goesOn_254 : decode cX19_goesOn 254 = .ok (.iconst 3, 1) := dk_6 (dk_at dksX19_goesOn_10 20 rfl rfl)
theorem dX19_goesOn_255 : decode cX19_goesOn 255 = .ok (.if_icmp .gt 43, 3) := dk_163 0 43 (dk_at dksX19_goesOn_10 21 rfl rfl)
theorem dX19_goesOn_258 : decode cX19_goesOn 258 = .ok (.aload_n 0, 1) := dk_42 (dk_at dksX19_goesOn_11 0 rfl rfl)
theorem dX19_goesOn_259 : decode cX19_goesOn 259 = .ok (.iconst 3, 1) := dk_6 (dk_at dksX19_goesOn_11 1 rfl rfl)
theorem dX19_goesOn_260 : decode cX19_goesOn 260 = .ok (.putfield 116, 3) := dk_181 0 116 (dk_at dksX19_goesOn_11 2 rfl rfl)
theorem dX19_goesOn_263 : decode cX19_goesOn 263 = .ok (.goto 35, 3) := dk_167 0 35 (dk_at dksX19_goesOn_11 5 rfl rfl)
theorem dX19_goesOn_266 : decode cX19_goesOn 266 = .ok (.iload_n 1, 1) := dk_27 (dk_at dksX19_goesOn_11 8 rfl rfl)
theorem dX19_goesOn_267 : decode cX19_goesOn 267 = .ok (.bipush 59, 2) := dk_16 59 (dk_at dksX19_goesOn_11 9 rfl rfl)
theorem dX19_goesOn_269 : decode cX19_goesOn 269 = .ok (.if_icmp .eq 9, 3) := dk_159 0 9 (dk_at dksX19_goesOn_11 11 rfl rfl)
theorem dX19_goesOn_272 : decode cX19_goesOn 272 = .ok (.iload_n 1, 1) := dk_27 (dk_at dksX19_goesOn_11 14 rfl rfl)
theorem dX19_goesOn_273 : decode cX19_goesOn 273 = .ok (.bipush 44, 2) := dk_16 44 (dk_at dksX19_goesOn_11 15 rfl rfl)
theorem dX19_goesOn_275 : decode cX19_goesOn 275 = .ok (.if_icmp .ne 23, 3) := dk_160 0 23 (dk_at dksX19_goesOn_11 17 rfl rfl)
theorem dX19_goesOn_278 : decode cX19_goesOn 278 = .ok (.aload_n 0, 1) := dk_42 (dk_at dksX19_goesOn_11 20 rfl rfl)
theorem dX19_goesOn_279 : decode cX19_goesOn 279 = .ok (.iconst 4, 1) := dk_7 (dk_at dksX19_goesOn_11 21 rfl rfl)
theorem dX19_goesOn_280 : decode cX19_goesOn 280 = .ok (.putfield 116, 3) := dk_181 0 116 (dk_at dksX19_goesOn_12 0 rfl rfl)
theorem dX19_goesOn_283 : decode cX19_goesOn 283 = .ok (.aload_n 0, 1) := dk_42 (dk_at dksX19_goesOn_12 3 rfl rfl)
theorem dX19_goesOn_284 : decode cX19_goesOn 284 = .ok (.iload_n 1, 1) := dk_27 (dk_at dksX19_goesOn_12 4 rfl rfl)
theorem dX19_goesOn_285 : decode cX19_goesOn 285 = .ok (.putfield 128, 3) := dk_181 0 128 (dk_at dksX19_goesOn_12 5 rfl rfl)
theorem dX19_goesOn_288 : decode cX19_goesOn 288 = .ok (.aload_n 0, 1) := dk_42 (dk_at dksX19_goesOn_12 8 rfl rfl)
theorem dX19_goesOn_289 : decode cX19_goesOn 289 = .ok (.dup, 1) := dk_89 (dk_at dksX19_goesOn_12 9 rfl rfl)
theorem dX19_goesOn_290 : decode cX19_goesOn 290 = .ok (.getfield 119, 3) := dk_180 0 119 (dk_at dksX19_goesOn_12 10 rfl rfl)
theorem dX19_goesOn_293 : decode cX19_goesOn 293 = .ok (.iconst 1, 1) := dk_4 (dk_at dksX19_goesOn_12 13 rfl rfl)
theorem dX19_goesOn_294 : decode cX19_goesOn 294 = .ok (.iadd, 1) := dk_96 (dk_at dksX19_goesOn_12 14 rfl rfl)
theorem dX19_goesOn_295 : decode cX19_goesOn 295 = .ok (.putfield 119, 3) := dk_181 0 119 (dk_at dksX19_goesOn_12 15 rfl rfl)
theorem dX19_goesOn_298 : decode cX19_goesOn 298 = .ok (.return_, 1) := dk_177 (dk_at dksX19_goesOn_12 18 rfl rfl)
abbrev cX19_byteAt : ByteArray := prog_24_method_10_code
def yX19_byteAt : MethodName := ⟨RX19, "byteAt", "(I)I"⟩
def dkwX19_byteAt_0 : List UInt8 := [27, 42, 180, 0, 101, 162, 0, 16, 42, 180, 0, 13, 27, 51, 17, 0, 255, 126, 167, 0, 4, 2, 172]
abbrev dktX19_byteAt_0 : List UInt8 := dkwX19_byteAt_0 ++ []
theorem dksX19_byteAt_0 : cX19_byteAt.data.toList.drop 0 = dktX19_byteAt_0 := by decide +kernel
theorem dX19_byteAt_0 : decode cX19_byteAt 0 = .ok (.iload_n 1, 1) := dk_27 (dk_at dksX19_byteAt_0 0 rfl rfl)
theorem dX19_byteAt_1 : decode cX19_byteAt 1 = .ok (.aload_n 0, 1) := dk_42 (dk_at dksX19_byteAt_0 1 rfl rfl)
theorem dX19_byteAt_2 : decode cX19_byteAt 2 = .ok (.getfield 101, 3) := dk_180 0 101 (dk_at dksX19_byteAt_0 2 rfl rfl)
theorem dX19_byteAt_5 : decode cX19_byteAt 5 = .ok (.if_icmp .ge 16, 3) := dk_162 0 16 (dk_at dksX19_byteAt_0 5 rfl rfl)
theorem dX19_byteAt_8 : decode cX19_byteAt 8 = .ok (.aload_n 0, 1) := dk_42 (dk_at dksX19_byteAt_0 8 rfl rfl)
theorem dX19_byteAt_9 : decode cX19_byteAt 9 = .ok (.getfield 13, 3) := dk_180 0 13 (dk_at dksX19_byteAt_0 9 rfl rfl)
theorem dX19_byteAt_12 : decode cX19_byteAt 12 = .ok (.iload_n 1, 1) := dk_27 (dk_at dksX19_byteAt_0 12 rfl rfl)
theorem dX19_byteAt_13 : decode cX19_byteAt 13 = .ok (.baload, 1) := dk_51 (dk_at dksX19_byteAt_0 13 rfl rfl)
theorem dX19_byteAt_14 : decode cX19_byteAt 14 = .ok (.sipush 255, 3) := dk_17 0 255 (dk_at dksX19_byteAt_0 14 rfl rfl)
theorem dX19_byteAt_17 : decode cX19_byteAt 17 = .ok (.iand, 1) := dk_126 (dk_at dksX19_byteAt_0 17 rfl rfl)
theorem dX19_byteAt_18 : decode cX19_byteAt 18 = .ok (.goto 4, 3) := dk_167 0 4 (dk_at dksX19_byteAt_0 18 rfl rfl)
theorem dX19_byteAt_21 : decode cX19_byteAt 21 = .ok (.iconst (-1), 1) := dk_2 (dk_at dksX19_byteAt_0 21 rfl rfl)
theorem dX19_byteAt_22 : decode cX19_byteAt 22 = .ok (.ireturn, 1) := dk_172 (dk_at dksX19_byteAt_0 22 rfl rfl)
abbrev cX19_isLetter : ByteArray := prog_24_method_11_code
def yX19_isLetter : MethodName := ⟨RX19, "isLetter", "(I)Z"⟩
def dkwX19_isLetter_0 : List UInt8 := [26, 16, 97, 161, 0, 13, 26, 16, 122, 163, 0, 7, 4, 167, 0, 4, 3, 172]
abbrev dktX19_isLetter_0 : List UInt8 := dkwX19_isLetter_0 ++ []
theorem dksX19_isLetter_0 : cX19_isLetter.data.toList.drop 0 = dktX19_isLetter_0 := by decide +kernel
theorem dX19_isLetter_0 : decode cX19_isLetter 0 = .ok (.iload_n 0, 1) := dk_26 (dk_at dksX19_isLetter_0 0 rfl rfl)
theorem dX19_isLetter_1 : decode cX19_isLetter 1 = .ok (.bipush 97, 2) := dk_16 97 (dk_at dksX19_isLetter_0 1 rfl rfl)
theorem dX19_isLetter_3 : decode cX19_isLetter 3 = .ok (.if_icmp .lt 13, 3) := dk_161 0 13 (dk_at dksX19_isLetter_0 3 rfl rfl)
theorem dX19_isLetter_6 : decode cX19_isLetter 6 = .ok (.iload_n 0, 1) := dk_26 (dk_at dksX19_isLetter_0 6 rfl rfl)
theorem dX19_isLetter_7 : decode cX19_isLetter 7 = .ok (.bipush 122, 2) := dk_16 122 (dk_at dksX19_isLetter_0 7 rfl rfl)
theorem dX19_isLetter_9 : decode cX19_isLetter 9 = .ok (.if_icmp .gt 7, 3) := dk_163 0 7 (dk_at dksX19_isLetter_0 9 rfl rfl)
theorem dX19_isLetter_12 : decode cX19_isLetter 12 = .ok (.iconst 1, 1) := dk_4 (dk_at dksX19_isLetter_0 12 rfl rfl)
theorem dX19_isLetter_13 : decode cX19_isLetter 13 = .ok (.goto 4, 3) := dk_167 0 4 (dk_at dksX19_isLetter_0 13 rfl rfl)
theorem dX19_isLetter_16 : decode cX19_isLetter 16 = .ok (.iconst 0, 1) := dk_3 (dk_at dksX19_isLetter_0 16 rfl rfl)
theorem dX19_isLetter_17 : decode cX19_isLetter 17 = .ok (.ireturn, 1) := dk_172 (dk_at dksX19_isLetter_0 17 rfl rfl)
abbrev cX19_isDigit : ByteArray := prog_24_method_12_code
def yX19_isDigit : MethodName := ⟨RX19, "isDigit", "(I)Z"⟩
def dkwX19_isDigit_0 : List UInt8 := [26, 16, 48, 161, 0, 13, 26, 16, 57, 163, 0, 7, 4, 167, 0, 4, 3, 172]
abbrev dktX19_isDigit_0 : List UInt8 := dkwX19_isDigit_0 ++ []
theorem dksX19_isDigit_0 : cX19_isDigit.data.toList.drop 0 = dktX19_isDigit_0 := by decide +kernel
theorem dX19_isDigit_0 : decode cX19_isDigit 0 = .ok (.iload_n 0, 1) := dk_26 (dk_at dksX19_isDigit_0 0 rfl rfl)
theorem dX19_isDigit_1 : decode cX19_isDigit 1 = .ok (.bipush 48, 2) := dk_16 48 (dk_at dksX19_isDigit_0 1 rfl rfl)
theorem dX19_isDigit_3 : decode cX19_isDigit 3 = .ok (.if_icmp .lt 13, 3) := dk_161 0 13 (dk_at dksX19_isDigit_0 3 rfl rfl)
theorem dX19_isDigit_6 : decode cX19_isDigit 6 = .ok (.iload_n 0, 1) := dk_26 (dk_at dksX19_isDigit_0 6 rfl rfl)
theorem dX19_isDigit_7 : decode cX19_isDigit 7 = .ok (.bipush 57, 2) := dk_16 57 (dk_at dksX19_isDigit_0 7 rfl rfl)
theorem dX19_isDigit_9 : decode cX19_isDigit 9 = .ok (.if_icmp .gt 7, 3) := dk_163 0 7 (dk_at dksX19_isDigit_0 9 rfl rfl)
theorem dX19_isDigit_12 : decode cX19_isDigit 12 = .ok (.iconst 1, 1) := dk_4 (dk_at dksX19_isDigit_0 12 rfl rfl)
theorem dX19_isDigit_13 : decode cX19_isDigit 13 = .ok (.goto 4, 3) := dk_167 0 4 (dk_at dksX19_isDigit_0 13 rfl rfl)
theorem dX19_isDigit_16 : decode cX19_isDigit 16 = .ok (.iconst 0, 1) := dk_3 (dk_at dksX19_isDigit_0 16 rfl rfl)
theorem dX19_isDigit_17 : decode cX19_isDigit 17 = .ok (.ireturn, 1) := dk_172 (dk_at dksX19_isDigit_0 17 rfl rfl)
abbrev cX19_readAll : ByteArray := prog_24_method_26_code
def yX19_readAll : MethodName := ⟨RX19, "readAll", "()V"⟩
def dkwX19_readAll_2 : List UInt8 := [177]
abbrev dktX19_readAll_2 : List UInt8 := dkwX19_readAll_2 ++ []
def dkwX19_readAll_1 : List UInt8 := [159, 0, 8, 42, 4, 182, 0, 165, 42, 180, 0, 196, 180, 0, 219, 154, 0, 9, 42, 16, 6, 182, 0, 165]
abbrev dktX19_readAll_1 : List UInt8 := dkwX19_readAll_1 ++ dktX19_readAll_2
def dkwX19_readAll_0 : List UInt8 := [4, 60, 27, 153, 0, 15, 42, 182, 0, 213, 42, 182, 0, 216, 60, 167, 255, 243, 42, 180, 0, 116, 4]
abbrev dktX19_readAll_0 : List UInt8 := dkwX19_readAll_0 ++ dktX19_readAll_1
theorem dksX19_readAll_0 : cX19_readAll.data.toList.drop 0 = dktX19_readAll_0 := by decide +kernel
theorem dksX19_readAll_1 : cX19_readAll.data.toList.drop 23 = dktX19_readAll_1 := dk_seg dksX19_readAll_0 23 rfl rfl
theorem dksX19_readAll_2 : cX19_readAll.data.toList.drop 47 = dktX19_readAll_2 := dk_seg dksX19_readAll_1 24 rfl rfl
theorem dX19_readAll_0 : decode cX19_readAll 0 = .ok (.iconst 1, 1) := dk_4 (dk_at dksX19_readAll_0 0 rfl rfl)
theorem dX19_readAll_1 : decode cX19_readAll 1 = .ok (.istore_n 1, 1) := dk_60 (dk_at dksX19_readAll_0 1 rfl rfl)
theorem dX19_readAll_2 : decode cX19_readAll 2 = .ok (.iload_n 1, 1) := dk_27 (dk_at dksX19_readAll_0 2 rfl rfl)
theorem dX19_readAll_3 : decode cX19_readAll 3 = .ok (.ifCond .eq 15, 3) := dk_153 0 15 (dk_at dksX19_readAll_0 3 rfl rfl)
theorem dX19_readAll_6 : decode cX19_readAll 6 = .ok (.aload_n 0, 1) := dk_42 (dk_at dksX19_readAll_0 6 rfl rfl)
theorem dX19_readAll_7 : decode cX19_readAll 7 = .ok (.invokevirtual 213, 3) := dk_182 0 213 (dk_at dksX19_readAll_0 7 rfl rfl)
theorem dX19_readAll_10 : decode cX19_readAll 10 = .ok (.aload_n 0, 1) := dk_42 (dk_at dksX19_readAll_0 10 rfl rfl)
theorem dX19_readAll_11 : decode cX19_readAll 11 = .ok (.invokevirtual 216, 3) := dk_182 0 216 (dk_at dksX19_readAll_0 11 rfl rfl)
theorem dX19_readAll_14 : decode cX19_readAll 14 = .ok (.istore_n 1, 1) := dk_60 (dk_at dksX19_readAll_0 14 rfl rfl)
theorem dX19_readAll_15 : decode cX19_readAll 15 = .ok (.goto (-13), 3) := dk_167 255 243 (dk_at dksX19_readAll_0 15 rfl rfl)
theorem dX19_readAll_18 : decode cX19_readAll 18 = .ok (.aload_n 0, 1) := dk_42 (dk_at dksX19_readAll_0 18 rfl rfl)
theorem dX19_readAll_19 : decode cX19_readAll 19 = .ok (.getfield 116, 3) := dk_180 0 116 (dk_at dksX19_readAll_0 19 rfl rfl)
theorem dX19_readAll_22 : decode cX19_readAll 22 = .ok (.iconst 1, 1) := dk_4 (dk_at dksX19_readAll_0 22 rfl rfl)
theorem dX19_readAll_23 : decode cX19_readAll 23 = .ok (.if_icmp .eq 8, 3) := dk_159 0 8 (dk_at dksX19_readAll_1 0 rfl rfl)
theorem dX19_readAll_26 : decode cX19_readAll 26 = .ok (.aload_n 0, 1) := dk_42 (dk_at dksX19_readAll_1 3 rfl rfl)
theorem dX19_readAll_27 : decode cX19_readAll 27 = .ok (.iconst 1, 1) := dk_4 (dk_at dksX19_readAll_1 4 rfl rfl)
theorem dX19_readAll_28 : decode cX19_readAll 28 = .ok (.invokevirtual 165, 3) := dk_182 0 165 (dk_at dksX19_readAll_1 5 rfl rfl)
theorem dX19_readAll_31 : decode cX19_readAll 31 = .ok (.aload_n 0, 1) := dk_42 (dk_at dksX19_readAll_1 8 rfl rfl)
theorem dX19_readAll_32 : decode cX19_readAll 32 = .ok (.getfield 196, 3) := dk_180 0 196 (dk_at dksX19_readAll_1 9 rfl rfl)
theorem dX19_readAll_35 : decode cX19_readAll 35 = .ok (.getfield 219, 3) := dk_180 0 219 (dk_at dksX19_readAll_1 12 rfl rfl)
theorem dX19_readAll_38 : decode cX19_readAll 38 = .ok (.ifCond .ne 9, 3) := dk_154 0 9 (dk_at dksX19_readAll_1 15 rfl rfl)
theorem dX19_readAll_41 : decode cX19_readAll 41 = .ok (.aload_n 0, 1) := dk_42 (dk_at dksX19_readAll_1 18 rfl rfl)
theorem dX19_readAll_42 : decode cX19_readAll 42 = .ok (.bipush 6, 2) := dk_16 6 (dk_at dksX19_readAll_1 19 rfl rfl)
theorem dX19_readAll_44 : decode cX19_readAll 44 = .ok (.invokevirtual 165, 3) := dk_182 0 165 (dk_at dksX19_readAll_1 21 rfl rfl)
theorem dX19_readAll_47 : decode cX19_readAll 47 = .ok (.return_, 1) := dk_177 (dk_at dksX19_readAll_2 0 rfl rfl)
abbrev cX19_readLine : ByteArray := prog_24_method_27_code
def yX19_readLine : MethodName := ⟨RX19, "readLine", "()V"⟩
def dkwX19_readLine_4 : List UInt8 := [182, 0, 237, 167, 0, 8, 42, 4, 182, 0, 165, 177]
abbrev dktX19_readLine_4 : List UInt8 := dkwX19_readLine_4 ++ []
def dkwX19_readLine_3 : List UInt8 := [182, 0, 161, 153, 0, 10, 42, 182, 0, 234, 167, 0, 24, 42, 18, 194, 182, 0, 161, 153, 0, 10, 42]
abbrev dktX19_readLine_3 : List UInt8 := dkwX19_readLine_3 ++ dktX19_readLine_4
def dkwX19_readLine_2 : List UInt8 := [167, 0, 56, 42, 18, 190, 182, 0, 161, 153, 0, 10, 42, 182, 0, 231, 167, 0, 40, 42, 18, 192]
abbrev dktX19_readLine_2 : List UInt8 := dkwX19_readLine_2 ++ dktX19_readLine_3
def dkwX19_readLine_1 : List UInt8 := [153, 0, 10, 42, 182, 0, 225, 167, 0, 72, 42, 18, 188, 182, 0, 161, 153, 0, 10, 42, 182, 0, 228]
abbrev dktX19_readLine_1 : List UInt8 := dkwX19_readLine_1 ++ dktX19_readLine_2
def dkwX19_readLine_0 : List UInt8 := [42, 18, 184, 182, 0, 161, 153, 0, 10, 42, 182, 0, 222, 167, 0, 88, 42, 18, 186, 182, 0, 161]
abbrev dktX19_readLine_0 : List UInt8 := dkwX19_readLine_0 ++ dktX19_readLine_1
theorem dksX19_readLine_0 : cX19_readLine.data.toList.drop 0 = dktX19_readLine_0 := by decide +kernel
theorem dksX19_readLine_1 : cX19_readLine.data.toList.drop 22 = dktX19_readLine_1 := dk_seg dksX19_readLine_0 22 rfl rfl
theorem dksX19_readLine_2 : cX19_readLine.data.toList.drop 45 = dktX19_readLine_2 := dk_seg dksX19_readLine_1 23 rfl rfl
theorem dksX19_readLine_3 : cX19_readLine.data.toList.drop 67 = dktX19_readLine_3 := dk_seg dksX19_readLine_2 22 rfl rfl
theorem dksX19_readLine_4 : cX19_readLine.data.toList.drop 90 = dktX19_readLine_4 := dk_seg dksX19_readLine_3 23 rfl rfl
theorem dX19_readLine_0 : decode cX19_readLine 0 = .ok (.aload_n 0, 1) := dk_42 (dk_at dksX19_readLine_0 0 rfl rfl)
theorem dX19_readLine_1 : decode cX19_readLine 1 = .ok (.ldc 184, 2) := dk_18 184 (dk_at dksX19_readLine_0 1 rfl rfl)
theorem dX19_readLine_3 : decode cX19_readLine 3 = .ok (.invokevirtual 161, 3) := dk_182 0 161 (dk_at dksX19_readLine_0 3 rfl rfl)
theorem dX19_readLine_6 : decode cX19_readLine 6 = .ok (.ifCond .eq 10, 3) := dk_153 0 10 (dk_at dksX19_readLine_0 6 rfl rfl)
theorem dX19_readLine_9 : decode cX19_readLine 9 = .ok (.aload_n 0, 1) := dk_42 (dk_at dksX19_readLine_0 9 rfl rfl)
theorem dX19_readLine_10 : decode cX19_readLine 10 = .ok (.invokevirtual 222, 3) := dk_182 0 222 (dk_at dksX19_readLine_0 10 rfl rfl)
theorem dX19_readLine_13 : decode cX19_readLine 13 = .ok (.goto 88, 3) := dk_167 0 88 (dk_at dksX19_readLine_0 13 rfl rfl)
theorem dX19_readLine_16 : decode cX19_readLine 16 = .ok (.aload_n 0, 1) := dk_42 (dk_at dksX19_readLine_0 16 rfl rfl)
theorem dX19_readLine_17 : decode cX19_readLine 17 = .ok (.ldc 186, 2) := dk_18 186 (dk_at dksX19_readLine_0 17 rfl rfl)
theorem dX19_readLine_19 : decode cX19_readLine 19 = .ok (.invokevirtual 161, 3) := dk_182 0 161 (dk_at dksX19_readLine_0 19 rfl rfl)
theorem dX19_readLine_22 : decode cX19_readLine 22 = .ok (.ifCond .eq 10, 3) := dk_153 0 10 (dk_at dksX19_readLine_1 0 rfl rfl)
theorem dX19_readLine_25 : decode cX19_readLine 25 = .ok (.aload_n 0, 1) := dk_42 (dk_at dksX19_readLine_1 3 rfl rfl)
theorem dX19_readLine_26 : decode cX19_readLine 26 = .ok (.invokevirtual 225, 3) := dk_182 0 225 (dk_at dksX19_readLine_1 4 rfl rfl)
theorem dX19_readLine_29 : decode cX19_readLine 29 = .ok (.goto 72, 3) := dk_167 0 72 (dk_at dksX19_readLine_1 7 rfl rfl)
theorem dX19_readLine_32 : decode cX19_readLine 32 = .ok (.aload_n 0, 1) := dk_42 (dk_at dksX19_readLine_1 10 rfl rfl)
theorem dX19_readLine_33 : decode cX19_readLine 33 = .ok (.ldc 188, 2) := dk_18 188 (dk_at dksX19_readLine_1 11 rfl rfl)
theorem dX19_readLine_35 : decode cX19_readLine 35 = .ok (.invokevirtual 161, 3) := dk_182 0 161 (dk_at dksX19_readLine_1 13 rfl rfl)
theorem dX19_readLine_38 : decode cX19_readLine 38 = .ok (.ifCond .eq 10, 3) := dk_153 0 10 (dk_at dksX19_readLine_1 16 rfl rfl)
theorem dX19_readLine_41 : decode cX19_readLine 41 = .ok (.aload_n 0, 1) := dk_42 (dk_at dksX19_readLine_1 19 rfl rfl)
theorem dX19_readLine_42 : decode cX19_readLine 42 = .ok (.invokevirtual 228, 3) := dk_182 0 228 (dk_at dksX19_readLine_1 20 rfl rfl)
theorem dX19_readLine_45 : decode cX19_readLine 45 = .ok (.goto 56, 3) := dk_167 0 56 (dk_at dksX19_readLine_2 0 rfl rfl)
theorem dX19_readLine_48 : decode cX19_readLine 48 = .ok (.aload_n 0, 1) := dk_42 (dk_at dksX19_readLine_2 3 rfl rfl)
theorem dX19_readLine_49 : decode cX19_readLine 49 = .ok (.ldc 190, 2) := dk_18 190 (dk_at dksX19_readLine_2 4 rfl rfl)
theorem dX19_readLine_51 : decode cX19_readLine 51 = .ok (.invokevirtual 161, 3) := dk_182 0 161 (dk_at dksX19_readLine_2 6 rfl rfl)
theorem dX19_readLine_54 : decode cX19_readLine 54 = .ok (.ifCond .eq 10, 3) := dk_153 0 10 (dk_at dksX19_readLine_2 9 rfl rfl)
theorem dX19_readLine_57 : decode cX19_readLine 57 = .ok (.aload_n 0, 1) := dk_42 (dk_at dksX19_readLine_2 12 rfl rfl)
theorem dX19_readLine_58 : decode cX19_readLine 58 = .ok (.invokevirtual 231, 3) := dk_182 0 231 (dk_at dksX19_readLine_2 13 rfl rfl)
theorem dX19_readLine_61 : decode cX19_readLine 61 = .ok (.goto 40, 3) := dk_167 0 40 (dk_at dksX19_readLine_2 16 rfl rfl)
theorem dX19_readLine_64 : decode cX19_readLine 64 = .ok (.aload_n 0, 1) := dk_42 (dk_at dksX19_readLine_2 19 rfl rfl)
theorem dX19_readLine_65 : decode cX19_readLine 65 = .ok (.ldc 192, 2) := dk_18 192 (dk_at dksX19_readLine_2 20 rfl rfl)
theorem dX19_readLine_67 : decode cX19_readLine 67 = .ok (.invokevirtual 161, 3) := dk_182 0 161 (dk_at dksX19_readLine_3 0 rfl rfl)
theorem dX19_readLine_70 : decode cX19_readLine 70 = .ok (.ifCond .eq 10, 3) := dk_153 0 10 (dk_at dksX19_readLine_3 3 rfl rfl)
theorem dX19_readLine_73 : decode cX19_readLine 73 = .ok (.aload_n 0, 1) := dk_42 (dk_at dksX19_readLine_3 6 rfl rfl)
theorem dX19_readLine_74 : decode cX19_readLine 74 = .ok (.invokevirtual 234, 3) := dk_182 0 234 (dk_at dksX19_readLine_3 7 rfl rfl)
theorem dX19_readLine_77 : decode cX19_readLine 77 = .ok (.goto 24, 3) := dk_167 0 24 (dk_at dksX19_readLine_3 10 rfl rfl)
theorem dX19_readLine_80 : decode cX19_readLine 80 = .ok (.aload_n 0, 1) := dk_42 (dk_at dksX19_readLine_3 13 rfl rfl)
theorem dX19_readLine_81 : decode cX19_readLine 81 = .ok (.ldc 194, 2) := dk_18 194 (dk_at dksX19_readLine_3 14 rfl rfl)
theorem dX19_readLine_83 : decode cX19_readLine 83 = .ok (.invokevirtual 161, 3) := dk_182 0 161 (dk_at dksX19_readLine_3 16 rfl rfl)
theorem dX19_readLine_86 : decode cX19_readLine 86 = .ok (.ifCond .eq 10, 3) := dk_153 0 10 (dk_at dksX19_readLine_3 19 rfl rfl)
theorem dX19_readLine_89 : decode cX19_readLine 89 = .ok (.aload_n 0, 1) := dk_42 (dk_at dksX19_readLine_3 22 rfl rfl)
theorem dX19_readLine_90 : decode cX19_readLine 90 = .ok (.invokevirtual 237, 3) := dk_182 0 237 (dk_at dksX19_readLine_4 0 rfl rfl)
theorem dX19_readLine_93 : decode cX19_readLine 93 = .ok (.goto 8, 3) := dk_167 0 8 (dk_at dksX19_readLine_4 3 rfl rfl)
theorem dX19_readLine_96 : decode cX19_readLine 96 = .ok (.aload_n 0, 1) := dk_42 (dk_at dksX19_readLine_4 6 rfl rfl)
theorem dX19_readLine_97 : decode cX19_readLine 97 = .ok (.iconst 1, 1) := dk_4 (dk_at dksX19_readLine_4 7 rfl rfl)
theorem dX19_readLine_98 : decode cX19_readLine 98 = .ok (.invokevirtual 165, 3) := dk_182 0 165 (dk_at dksX19_readLine_4 8 rfl rfl)
theorem dX19_readLine_101 : decode cX19_readLine 101 = .ok (.return_, 1) := dk_177 (dk_at dksX19_readLine_4 11 rfl rfl)
abbrev cX19_isWord : ByteArray := prog_24_method_16_code
def yX19_isWord : MethodName := ⟨RX19, "isWord", "(Ljava/lang/String;)Z"⟩
def dkwX19_isWord_1 : List UInt8 := [3, 172]
abbrev dktX19_isWord_1 : List UInt8 := dkwX19_isWord_1 ++ []
def dkwX19_isWord_0 : List UInt8 := [42, 180, 0, 116, 5, 160, 0, 19, 42, 180, 0, 135, 43, 184, 0, 154, 148, 154, 0, 7, 4, 167, 0, 4]
abbrev dktX19_isWord_0 : List UInt8 := dkwX19_isWord_0 ++ dktX19_isWord_1
theorem dksX19_isWord_0 : cX19_isWord.data.toList.drop 0 = dktX19_isWord_0 := by decide +kernel
theorem dksX19_isWord_1 : cX19_isWord.data.toList.drop 24 = dktX19_isWord_1 := dk_seg dksX19_isWord_0 24 rfl rfl
theorem dX19_isWord_0 : decode cX19_isWord 0 = .ok (.aload_n 0, 1) := dk_42 (dk_at dksX19_isWord_0 0 rfl rfl)
theorem dX19_isWord_1 : decode cX19_isWord 1 = .ok (.getfield 116, 3) := dk_180 0 116 (dk_at dksX19_isWord_0 1 rfl rfl)
theorem dX19_isWord_4 : decode cX19_isWord 4 = .ok (.iconst 2, 1) := dk_5 (dk_at dksX19_isWord_0 4 rfl rfl)
theorem dX19_isWord_5 : decode cX19_isWord 5 = .ok (.if_icmp .ne 19, 3) := dk_160 0 19 (dk_at dksX19_isWord_0 5 rfl rfl)
theorem dX19_isWord_8 : decode cX19_isWord 8 = .ok (.aload_n 0, 1) := dk_42 (dk_at dksX19_isWord_0 8 rfl rfl)
theorem dX19_isWord_9 : decode cX19_isWord 9 = .ok (.getfield 135, 3) := dk_180 0 135 (dk_at dksX19_isWord_0 9 rfl rfl)
theorem dX19_isWord_12 : decode cX19_isWord 12 = .ok (.aload_n 1, 1) := dk_43 (dk_at dksX19_isWord_0 12 rfl rfl)
theorem dX19_isWord_13 : decode cX19_isWord 13 = .ok (.invokestatic 154, 3) := dk_184 0 154 (dk_at dksX19_isWord_0 13 rfl rfl)
theorem dX19_isWord_16 : decode cX19_isWord 16 = .ok (.lcmp, 1) := dk_148 (dk_at dksX19_isWord_0 16 rfl rfl)
theorem dX19_isWord_17 : decode cX19_isWord 17 = .ok (.ifCond .ne 7, 3) := dk_154 0 7 (dk_at dksX19_isWord_0 17 rfl rfl)
theorem dX19_isWord_20 : decode cX19_isWord 20 = .ok (.iconst 1, 1) := dk_4 (dk_at dksX19_isWord_0 20 rfl rfl)
theorem dX19_isWord_21 : decode cX19_isWord 21 = .ok (.goto 4, 3) := dk_167 0 4 (dk_at dksX19_isWord_0 21 rfl rfl)
theorem dX19_isWord_24 : decode cX19_isWord 24 = .ok (.iconst 0, 1) := dk_3 (dk_at dksX19_isWord_1 0 rfl rfl)
theorem dX19_isWord_25 : decode cX19_isWord 25 = .ok (.ireturn, 1) := dk_172 (dk_at dksX19_isWord_1 1 rfl rfl)
abbrev cX19_wordOf : ByteArray := prog_24_method_13_code
def yX19_wordOf : MethodName := ⟨RX19, "wordOf", "(Ljava/lang/String;)J"⟩
def dkwX19_wordOf_1 : List UInt8 := [100, 4, 96, 133, 97, 64, 132, 3, 1, 167, 255, 227, 31, 173]
abbrev dktX19_wordOf_1 : List UInt8 := dkwX19_wordOf_1 ++ []
def dkwX19_wordOf_0 : List UInt8 := [9, 64, 3, 62, 29, 42, 182, 0, 104, 162, 0, 27, 20, 0, 110, 31, 105, 42, 29, 182, 0, 112, 16, 97]
abbrev dktX19_wordOf_0 : List UInt8 := dkwX19_wordOf_0 ++ dktX19_wordOf_1
theorem dksX19_wordOf_0 : cX19_wordOf.data.toList.drop 0 = dktX19_wordOf_0 := by decide +kernel
theorem dksX19_wordOf_1 : cX19_wordOf.data.toList.drop 24 = dktX19_wordOf_1 := dk_seg dksX19_wordOf_0 24 rfl rfl
theorem dX19_wordOf_0 : decode cX19_wordOf 0 = .ok (.lconst 0, 1) := dk_9 (dk_at dksX19_wordOf_0 0 rfl rfl)
theorem dX19_wordOf_1 : decode cX19_wordOf 1 = .ok (.lstore_n 1, 1) := dk_64 (dk_at dksX19_wordOf_0 1 rfl rfl)
theorem dX19_wordOf_2 : decode cX19_wordOf 2 = .ok (.iconst 0, 1) := dk_3 (dk_at dksX19_wordOf_0 2 rfl rfl)
theorem dX19_wordOf_3 : decode cX19_wordOf 3 = .ok (.istore_n 3, 1) := dk_62 (dk_at dksX19_wordOf_0 3 rfl rfl)
theorem dX19_wordOf_4 : decode cX19_wordOf 4 = .ok (.iload_n 3, 1) := dk_29 (dk_at dksX19_wordOf_0 4 rfl rfl)
theorem dX19_wordOf_5 : decode cX19_wordOf 5 = .ok (.aload_n 0, 1) := dk_42 (dk_at dksX19_wordOf_0 5 rfl rfl)
theorem dX19_wordOf_6 : decode cX19_wordOf 6 = .ok (.invokevirtual 104, 3) := dk_182 0 104 (dk_at dksX19_wordOf_0 6 rfl rfl)
theorem dX19_wordOf_9 : decode cX19_wordOf 9 = .ok (.if_icmp .ge 27, 3) := dk_162 0 27 (dk_at dksX19_wordOf_0 9 rfl rfl)
theorem dX19_wordOf_12 : decode cX19_wordOf 12 = .ok (.ldc2_w 110, 3) := dk_20 0 110 (dk_at dksX19_wordOf_0 12 rfl rfl)
theorem dX19_wordOf_15 : decode cX19_wordOf 15 = .ok (.lload_n 1, 1) := dk_31 (dk_at dksX19_wordOf_0 15 rfl rfl)
theorem dX19_wordOf_16 : decode cX19_wordOf 16 = .ok (.lmul, 1) := dk_105 (dk_at dksX19_wordOf_0 16 rfl rfl)
theorem dX19_wordOf_17 : decode cX19_wordOf 17 = .ok (.aload_n 0, 1) := dk_42 (dk_at dksX19_wordOf_0 17 rfl rfl)
theorem dX19_wordOf_18 : decode cX19_wordOf 18 = .ok (.iload_n 3, 1) := dk_29 (dk_at dksX19_wordOf_0 18 rfl rfl)
theorem dX19_wordOf_19 : decode cX19_wordOf 19 = .ok (.invokevirtual 112, 3) := dk_182 0 112 (dk_at dksX19_wordOf_0 19 rfl rfl)
theorem dX19_wordOf_22 : decode cX19_wordOf 22 = .ok (.bipush 97, 2) := dk_16 97 (dk_at dksX19_wordOf_0 22 rfl rfl)
theorem dX19_wordOf_24 : decode cX19_wordOf 24 = .ok (.isub, 1) := dk_100 (dk_at dksX19_wordOf_1 0 rfl rfl)
theorem dX19_wordOf_25 : decode cX19_wordOf 25 = .ok (.iconst 1, 1) := dk_4 (dk_at dksX19_wordOf_1 1 rfl rfl)
theorem dX19_wordOf_26 : decode cX19_wordOf 26 = .ok (.iadd, 1) := dk_96 (dk_at dksX19_wordOf_1 2 rfl rfl)
theorem dX19_wordOf_27 : decode cX19_wordOf 27 = .ok (.i2l, 1) := dk_133 (dk_at dksX19_wordOf_1 3 rfl rfl)
theorem dX19_wordOf_28 : decode cX19_wordOf 28 = .ok (.ladd, 1) := dk_97 (dk_at dksX19_wordOf_1 4 rfl rfl)
theorem dX19_wordOf_29 : decode cX19_wordOf 29 = .ok (.lstore_n 1, 1) := dk_64 (dk_at dksX19_wordOf_1 5 rfl rfl)
theorem dX19_wordOf_30 : decode cX19_wordOf 30 = .ok (.iinc 3 1, 3) := dk_132 3 1 (dk_at dksX19_wordOf_1 6 rfl rfl)
theorem dX19_wordOf_33 : decode cX19_wordOf 33 = .ok (.goto (-29), 3) := dk_167 255 227 (dk_at dksX19_wordOf_1 9 rfl rfl)
theorem dX19_wordOf_36 : decode cX19_wordOf 36 = .ok (.lload_n 1, 1) := dk_31 (dk_at dksX19_wordOf_1 12 rfl rfl)
theorem dX19_wordOf_37 : decode cX19_wordOf 37 = .ok (.lreturn, 1) := dk_173 (dk_at dksX19_wordOf_1 13 rfl rfl)
abbrev cX19_readGlass : ByteArray := prog_24_method_28_code
def yX19_readGlass : MethodName := ⟨RX19, "readGlass", "()V"⟩
def dkwX19_readGlass_4 : List UInt8 := [42, 180, 0, 196, 21, 4, 181, 0, 255, 177]
abbrev dktX19_readGlass_4 : List UInt8 := dkwX19_readGlass_4 ++ []
def dkwX19_readGlass_3 : List UInt8 := [42, 180, 0, 196, 27, 181, 0, 200, 42, 180, 0, 196, 28, 181, 0, 251, 42, 180, 0, 196, 29, 181, 0, 253]
abbrev dktX19_readGlass_3 : List UInt8 := dkwX19_readGlass_3 ++ dktX19_readGlass_4
def dkwX19_readGlass_2 : List UInt8 := [182, 0, 241, 62, 42, 18, 249, 3, 16, 100, 182, 0, 241, 54, 4, 42, 180, 0, 116, 8, 160, 0, 4, 177]
abbrev dktX19_readGlass_2 : List UInt8 := dkwX19_readGlass_2 ++ dktX19_readGlass_3
def dkwX19_readGlass_1 : List UInt8 := [16, 30, 182, 0, 241, 60, 42, 18, 245, 5, 16, 8, 182, 0, 241, 61, 42, 18, 247, 4, 16, 6]
abbrev dktX19_readGlass_1 : List UInt8 := dkwX19_readGlass_1 ++ dktX19_readGlass_2
def dkwX19_readGlass_0 : List UInt8 := [42, 180, 0, 196, 180, 0, 200, 158, 0, 8, 42, 6, 182, 0, 165, 42, 182, 0, 158, 42, 18, 240, 5]
abbrev dktX19_readGlass_0 : List UInt8 := dkwX19_readGlass_0 ++ dktX19_readGlass_1
theorem dksX19_readGlass_0 : cX19_readGlass.data.toList.drop 0 = dktX19_readGlass_0 := by decide +kernel
theorem dksX19_readGlass_1 : cX19_readGlass.data.toList.drop 23 = dktX19_readGlass_1 := dk_seg dksX19_readGlass_0 23 rfl rfl
theorem dksX19_readGlass_2 : cX19_readGlass.data.toList.drop 45 = dktX19_readGlass_2 := dk_seg dksX19_readGlass_1 22 rfl rfl
theorem dksX19_readGlass_3 : cX19_readGlass.data.toList.drop 69 = dktX19_readGlass_3 := dk_seg dksX19_readGlass_2 24 rfl rfl
theorem dksX19_readGlass_4 : cX19_readGlass.data.toList.drop 93 = dktX19_readGlass_4 := dk_seg dksX19_readGlass_3 24 rfl rfl
theorem dX19_readGlass_0 : decode cX19_readGlass 0 = .ok (.aload_n 0, 1) := dk_42 (dk_at dksX19_readGlass_0 0 rfl rfl)
theorem dX19_readGlass_1 : decode cX19_readGlass 1 = .ok (.getfield 196, 3) := dk_180 0 196 (dk_at dksX19_readGlass_0 1 rfl rfl)
theorem dX19_readGlass_4 : decode cX19_readGlass 4 = .ok (.getfield 200, 3) := dk_180 0 200 (dk_at dksX19_readGlass_0 4 rfl rfl)
theorem dX19_readGlass_7 : decode cX19_readGlass 7 = .ok (.ifCond .le 8, 3) := dk_158 0 8 (dk_at dksX19_readGlass_0 7 rfl rfl)
theorem dX19_readGlass_10 : decode cX19_readGlass 10 = .ok (.aload_n 0, 1) := dk_42 (dk_at dksX19_readGlass_0 10 rfl rfl)
theorem dX19_readGlass_11 : decode cX19_readGlass 11 = .ok (.iconst 3, 1) := dk_6 (dk_at dksX19_readGlass_0 11 rfl rfl)
theorem dX19_readGlass_12 : decode cX19_readGlass 12 = .ok (.invokevirtual 165, 3) := dk_182 0 165 (dk_at dksX19_readGlass_0 12 rfl rfl)
theorem dX19_readGlass_15 : decode cX19_readGlass 15 = .ok (.aload_n 0, 1) := dk_42 (dk_at dksX19_readGlass_0 15 rfl rfl)
theorem dX19_readGlass_16 : decode cX19_readGlass 16 = .ok (.invokevirtual 158, 3) := dk_182 0 158 (dk_at dksX19_readGlass_0 16 rfl rfl)
theorem dX19_readGlass_19 : decode cX19_readGlass 19 = .ok (.aload_n 0, 1) := dk_42 (dk_at dksX19_readGlass_0 19 rfl rfl)
theorem dX19_readGlass_20 : decode cX19_readGlass 20 = .ok (.ldc 240, 2) := dk_18 240 (dk_at dksX19_readGlass_0 20 rfl rfl)
theorem dX19_readGlass_22 : decode cX19_readGlass 22 = .ok (.iconst 2, 1) := dk_5 (dk_at dksX19_readGlass_0 22 rfl rfl)
theorem dX19_readGlass_23 : decode cX19_readGlass 23 = .ok (.bipush 30, 2) := dk_16 30 (dk_at dksX19_readGlass_1 0 rfl rfl)
theorem dX19_readGlass_25 : decode cX19_readGlass 25 = .ok (.invokevirtual 241, 3) := dk_182 0 241 (dk_at dksX19_readGlass_1 2 rfl rfl)
theorem dX19_readGlass_28 : decode cX19_readGlass 28 = .ok (.istore_n 1, 1) := dk_60 (dk_at dksX19_readGlass_1 5 rfl rfl)
theorem dX19_readGlass_29 : decode cX19_readGlass 29 = .ok (.aload_n 0, 1) := dk_42 (dk_at dksX19_readGlass_1 6 rfl rfl)
theorem dX19_readGlass_30 : decode cX19_readGlass 30 = .ok (.ldc 245, 2) := dk_18 245 (dk_at dksX19_readGlass_1 7 rfl rfl)
theorem dX19_readGlass_32 : decode cX19_readGlass 32 = .ok (.iconst 2, 1) := dk_5 (dk_at dksX19_readGlass_1 9 rfl rfl)
theorem dX19_readGlass_33 : decode cX19_readGlass 33 = .ok (.bipush 8, 2) := dk_16 8 (dk_at dksX19_readGlass_1 10 rfl rfl)
theorem dX19_readGlass_35 : decode cX19_readGlass 35 = .ok (.invokevirtual 241, 3) := dk_182 0 241 (dk_at dksX19_readGlass_1 12 rfl rfl)
theorem dX19_readGlass_38 : decode cX19_readGlass 38 = .ok (.istore_n 2, 1) := dk_61 (dk_at dksX19_readGlass_1 15 rfl rfl)
theorem dX19_readGlass_39 : decode cX19_readGlass 39 = .ok (.aload_n 0, 1) := dk_42 (dk_at dksX19_readGlass_1 16 rfl rfl)
theorem dX19_readGlass_40 : decode cX19_readGlass 40 = .ok (.ldc 247, 2) := dk_18 247 (dk_at dksX19_readGlass_1 17 rfl rfl)
theorem dX19_readGlass_42 : decode cX19_readGlass 42 = .ok (.iconst 1, 1) := dk_4 (dk_at dksX19_readGlass_1 19 rfl rfl)
theorem dX19_readGlass_43 : decode cX19_readGlass 43 = .ok (.bipush 6, 2) := dk_16 6 (dk_at dksX19_readGlass_1 20 rfl rfl)
theorem dX19_readGlass_45 : decode cX19_readGlass 45 = .ok (.invokevirtual 241, 3) := dk_182 0 241 (dk_at dksX19_readGlass_2 0 rfl rfl)
theorem dX19_readGlass_48 : decode cX19_readGlass 48 = .ok (.istore_n 3, 1) := dk_62 (dk_at dksX19_readGlass_2 3 rfl rfl)
theorem dX19_readGlass_49 : decode cX19_readGlass 49 = .ok (.aload_n 0, 1) := dk_42 (dk_at dksX19_readGlass_2 4 rfl rfl)
theorem dX19_readGlass_50 : decode cX19_readGlass 50 = .ok (.ldc 249, 2) := dk_18 249 (dk_at dksX19_readGlass_2 5 rfl rfl)
theorem dX19_readGlass_52 : decode cX19_readGlass 52 = .ok (.iconst 0, 1) := dk_3 (dk_at dksX19_readGlass_2 7 rfl rfl)
theorem dX19_readGlass_53 : decode cX19_readGlass 53 = .ok (.bipush 100, 2) := dk_16 100 (dk_at dksX19_readGlass_2 8 rfl rfl)
theorem dX19_readGlass_55 : decode cX19_readGlass 55 = .ok (.invokevirtual 241, 3) := dk_182 0 241 (dk_at dksX19_readGlass_2 10 rfl rfl)
theorem dX19_readGlass_58 : decode cX19_readGlass 58 = .ok (.istore 4, 2) := dk_54 4 (dk_at dksX19_readGlass_2 13 rfl rfl)
theorem dX19_readGlass_60 : decode cX19_readGlass 60 = .ok (.aload_n 0, 1) := dk_42 (dk_at dksX19_readGlass_2 15 rfl rfl)
theorem dX19_readGlass_61 : decode cX19_readGlass 61 = .ok (.getfield 116, 3) := dk_180 0 116 (dk_at dksX19_readGlass_2 16 rfl rfl)
theorem dX19_readGlass_64 : decode cX19_readGlass 64 = .ok (.iconst 5, 1) := dk_8 (dk_at dksX19_readGlass_2 19 rfl rfl)
theorem dX19_readGlass_65 : decode cX19_readGlass 65 = .ok (.if_icmp .ne 4, 3) := dk_160 0 4 (dk_at dksX19_readGlass_2 20 rfl rfl)
theorem dX19_readGlass_68 : decode cX19_readGlass 68 = .ok (.return_, 1) := dk_177 (dk_at dksX19_readGlass_2 23 rfl rfl)
theorem dX19_readGlass_69 : decode cX19_readGlass 69 = .ok (.aload_n 0, 1) := dk_42 (dk_at dksX19_readGlass_3 0 rfl rfl)
theorem dX19_readGlass_70 : decode cX19_readGlass 70 = .ok (.getfield 196, 3) := dk_180 0 196 (dk_at dksX19_readGlass_3 1 rfl rfl)
theorem dX19_readGlass_73 : decode cX19_readGlass 73 = .ok (.iload_n 1, 1) := dk_27 (dk_at dksX19_readGlass_3 4 rfl rfl)
theorem dX19_readGlass_74 : decode cX19_readGlass 74 = .ok (.putfield 200, 3) := dk_181 0 200 (dk_at dksX19_readGlass_3 5 rfl rfl)
theorem dX19_readGlass_77 : decode cX19_readGlass 77 = .ok (.aload_n 0, 1) := dk_42 (dk_at dksX19_readGlass_3 8 rfl rfl)
theorem dX19_readGlass_78 : decode cX19_readGlass 78 = .ok (.getfield 196, 3) := dk_180 0 196 (dk_at dksX19_readGlass_3 9 rfl rfl)
theorem dX19_readGlass_81 : decode cX19_readGlass 81 = .ok (.iload_n 2, 1) := dk_28 (dk_at dksX19_readGlass_3 12 rfl rfl)
theorem dX19_readGlass_82 : decode cX19_readGlass 82 = .ok (.putfield 251, 3) := dk_181 0 251 (dk_at dksX19_readGlass_3 13 rfl rfl)
theorem dX19_readGlass_85 : decode cX19_readGlass 85 = .ok (.aload_n 0, 1) := dk_42 (dk_at dksX19_readGlass_3 16 rfl rfl)
theorem dX19_readGlass_86 : decode cX19_readGlass 86 = .ok (.getfield 196, 3) := dk_180 0 196 (dk_at dksX19_readGlass_3 17 rfl rfl)
theorem dX19_readGlass_89 : decode cX19_readGlass 89 = .ok (.iload_n 3, 1) := dk_29 (dk_at dksX19_readGlass_3 20 rfl rfl)
theorem dX19_readGlass_90 : decode cX19_readGlass 90 = .ok (.putfield 253, 3) := dk_181 0 253 (dk_at dksX19_readGlass_3 21 rfl rfl)
theorem dX19_readGlass_93 : decode cX19_readGlass 93 = .ok (.aload_n 0, 1) := dk_42 (dk_at dksX19_readGlass_4 0 rfl rfl)
theorem dX19_readGlass_94 : decode cX19_readGlass 94 = .ok (.getfield 196, 3) := dk_180 0 196 (dk_at dksX19_readGlass_4 1 rfl rfl)
theorem dX19_readGlass_97 : decode cX19_readGlass 97 = .ok (.iload 4, 2) := dk_21 4 (dk_at dksX19_readGlass_4 4 rfl rfl)
theorem dX19_readGlass_99 : decode cX19_readGlass 99 = .ok (.putfield 255, 3) := dk_181 0 255 (dk_at dksX19_readGlass_4 6 rfl rfl)
theorem dX19_readGlass_102 : decode cX19_readGlass 102 = .ok (.return_, 1) := dk_177 (dk_at dksX19_readGlass_4 9 rfl rfl)
abbrev cX19_flaw : ByteArray := prog_24_method_15_code
def yX19_flaw : MethodName := ⟨RX19, "flaw", "(I)V"⟩
def dkwX19_flaw_1 : List UInt8 := [181, 0, 116, 177]
abbrev dktX19_flaw_1 : List UInt8 := dkwX19_flaw_1 ++ []
def dkwX19_flaw_0 : List UInt8 := [42, 180, 0, 116, 8, 160, 0, 4, 177, 42, 27, 181, 0, 148, 42, 42, 180, 0, 125, 181, 0, 151, 42, 8]
abbrev dktX19_flaw_0 : List UInt8 := dkwX19_flaw_0 ++ dktX19_flaw_1
theorem dksX19_flaw_0 : cX19_flaw.data.toList.drop 0 = dktX19_flaw_0 := by decide +kernel
theorem dksX19_flaw_1 : cX19_flaw.data.toList.drop 24 = dktX19_flaw_1 := dk_seg dksX19_flaw_0 24 rfl rfl
theorem dX19_flaw_0 : decode cX19_flaw 0 = .ok (.aload_n 0, 1) := dk_42 (dk_at dksX19_flaw_0 0 rfl rfl)
theorem dX19_flaw_1 : decode cX19_flaw 1 = .ok (.getfield 116, 3) := dk_180 0 116 (dk_at dksX19_flaw_0 1 rfl rfl)
theorem dX19_flaw_4 : decode cX19_flaw 4 = .ok (.iconst 5, 1) := dk_8 (dk_at dksX19_flaw_0 4 rfl rfl)
theorem dX19_flaw_5 : decode cX19_flaw 5 = .ok (.if_icmp .ne 4, 3) := dk_160 0 4 (dk_at dksX19_flaw_0 5 rfl rfl)
theorem dX19_flaw_8 : decode cX19_flaw 8 = .ok (.return_, 1) := dk_177 (dk_at dksX19_flaw_0 8 rfl rfl)
theorem dX19_flaw_9 : decode cX19_flaw 9 = .ok (.aload_n 0, 1) := dk_42 (dk_at dksX19_flaw_0 9 rfl rfl)
theorem dX19_flaw_10 : decode cX19_flaw 10 = .ok (.iload_n 1, 1) := dk_27 (dk_at dksX19_flaw_0 10 rfl rfl)
theorem dX19_flaw_11 : decode cX19_flaw 11 = .ok (.putfield 148, 3) := dk_181 0 148 (dk_at dksX19_flaw_0 11 rfl rfl)
theorem dX19_flaw_14 : decode cX19_flaw 14 = .ok (.aload_n 0, 1) := dk_42 (dk_at dksX19_flaw_0 14 rfl rfl)
theorem dX19_flaw_15 : decode cX19_flaw 15 = .ok (.aload_n 0, 1) := dk_42 (dk_at dksX19_flaw_0 15 rfl rfl)
theorem dX19_flaw_16 : decode cX19_flaw 16 = .ok (.getfield 125, 3) := dk_180 0 125 (dk_at dksX19_flaw_0 16 rfl rfl)
theorem dX19_flaw_19 : decode cX19_flaw 19 = .ok (.putfield 151, 3) := dk_181 0 151 (dk_at dksX19_flaw_0 19 rfl rfl)
theorem dX19_flaw_22 : decode cX19_flaw 22 = .ok (.aload_n 0, 1) := dk_42 (dk_at dksX19_flaw_0 22 rfl rfl)
theorem dX19_flaw_23 : decode cX19_flaw 23 = .ok (.iconst 5, 1) := dk_8 (dk_at dksX19_flaw_0 23 rfl rfl)
theorem dX19_flaw_24 : decode cX19_flaw 24 = .ok (.putfield 116, 3) := dk_181 0 116 (dk_at dksX19_flaw_1 0 rfl rfl)
theorem dX19_flaw_27 : decode cX19_flaw 27 = .ok (.return_, 1) := dk_177 (dk_at dksX19_flaw_1 3 rfl rfl)
abbrev cX19_readPart : ByteArray := prog_24_method_22_code
def yX19_readPart : MethodName := ⟨RX19, "readPart", "(Ljava/lang/String;II)I"⟩
def dkwX19_readPart_0 : List UInt8 := [42, 43, 182, 0, 177, 42, 28, 29, 182, 0, 181, 172]
abbrev dktX19_readPart_0 : List UInt8 := dkwX19_readPart_0 ++ []
theorem dksX19_readPart_0 : cX19_readPart.data.toList.drop 0 = dktX19_readPart_0 := by decide +kernel
theorem dX19_readPart_0 : decode cX19_readPart 0 = .ok (.aload_n 0, 1) := dk_42 (dk_at dksX19_readPart_0 0 rfl rfl)
theorem dX19_readPart_1 : decode cX19_readPart 1 = .ok (.aload_n 1, 1) := dk_43 (dk_at dksX19_readPart_0 1 rfl rfl)
theorem dX19_readPart_2 : decode cX19_readPart 2 = .ok (.invokevirtual 177, 3) := dk_182 0 177 (dk_at dksX19_readPart_0 2 rfl rfl)
theorem dX19_readPart_5 : decode cX19_readPart 5 = .ok (.aload_n 0, 1) := dk_42 (dk_at dksX19_readPart_0 5 rfl rfl)
theorem dX19_readPart_6 : decode cX19_readPart 6 = .ok (.iload_n 2, 1) := dk_28 (dk_at dksX19_readPart_0 6 rfl rfl)
theorem dX19_readPart_7 : decode cX19_readPart 7 = .ok (.iload_n 3, 1) := dk_29 (dk_at dksX19_readPart_0 7 rfl rfl)
theorem dX19_readPart_8 : decode cX19_readPart 8 = .ok (.invokevirtual 181, 3) := dk_182 0 181 (dk_at dksX19_readPart_0 8 rfl rfl)
theorem dX19_readPart_11 : decode cX19_readPart 11 = .ok (.ireturn, 1) := dk_172 (dk_at dksX19_readPart_0 11 rfl rfl)
abbrev cX19_needs : ByteArray := prog_24_method_18_code
def yX19_needs : MethodName := ⟨RX19, "needs", "(Ljava/lang/String;)V"⟩
def dkwX19_needs_0 : List UInt8 := [42, 43, 182, 0, 161, 154, 0, 8, 42, 4, 182, 0, 165, 42, 182, 0, 158, 177]
abbrev dktX19_needs_0 : List UInt8 := dkwX19_needs_0 ++ []
theorem dksX19_needs_0 : cX19_needs.data.toList.drop 0 = dktX19_needs_0 := by decide +kernel
theorem dX19_needs_0 : decode cX19_needs 0 = .ok (.aload_n 0, 1) := dk_42 (dk_at dksX19_needs_0 0 rfl rfl)
theorem dX19_needs_1 : decode cX19_needs 1 = .ok (.aload_n 1, 1) := dk_43 (dk_at dksX19_needs_0 1 rfl rfl)
theorem dX19_needs_2 : decode cX19_needs 2 = .ok (.invokevirtual 161, 3) := dk_182 0 161 (dk_at dksX19_needs_0 2 rfl rfl)
theorem dX19_needs_5 : decode cX19_needs 5 = .ok (.ifCond .ne 8, 3) := dk_154 0 8 (dk_at dksX19_needs_0 5 rfl rfl)
theorem dX19_needs_8 : decode cX19_needs 8 = .ok (.aload_n 0, 1) := dk_42 (dk_at dksX19_needs_0 8 rfl rfl)
theorem dX19_needs_9 : decode cX19_needs 9 = .ok (.iconst 1, 1) := dk_4 (dk_at dksX19_needs_0 9 rfl rfl)
theorem dX19_needs_10 : decode cX19_needs 10 = .ok (.invokevirtual 165, 3) := dk_182 0 165 (dk_at dksX19_needs_0 10 rfl rfl)
theorem dX19_needs_13 : decode cX19_needs 13 = .ok (.aload_n 0, 1) := dk_42 (dk_at dksX19_needs_0 13 rfl rfl)
theorem dX19_needs_14 : decode cX19_needs 14 = .ok (.invokevirtual 158, 3) := dk_182 0 158 (dk_at dksX19_needs_0 14 rfl rfl)
theorem dX19_needs_17 : decode cX19_needs 17 = .ok (.return_, 1) := dk_177 (dk_at dksX19_needs_0 17 rfl rfl)
abbrev cX19_readWhole : ByteArray := prog_24_method_21_code
def yX19_readWhole : MethodName := ⟨RX19, "readWhole", "(II)I"⟩
def dkwX19_readWhole_0 : List UInt8 := [42, 27, 28, 182, 0, 173, 62, 42, 182, 0, 158, 29, 172]
abbrev dktX19_readWhole_0 : List UInt8 := dkwX19_readWhole_0 ++ []
theorem dksX19_readWhole_0 : cX19_readWhole.data.toList.drop 0 = dktX19_readWhole_0 := by decide +kernel
theorem dX19_readWhole_0 : decode cX19_readWhole 0 = .ok (.aload_n 0, 1) := dk_42 (dk_at dksX19_readWhole_0 0 rfl rfl)
theorem dX19_readWhole_1 : decode cX19_readWhole 1 = .ok (.iload_n 1, 1) := dk_27 (dk_at dksX19_readWhole_0 1 rfl rfl)
theorem dX19_readWhole_2 : decode cX19_readWhole 2 = .ok (.iload_n 2, 1) := dk_28 (dk_at dksX19_readWhole_0 2 rfl rfl)
theorem dX19_readWhole_3 : decode cX19_readWhole 3 = .ok (.invokevirtual 173, 3) := dk_182 0 173 (dk_at dksX19_readWhole_0 3 rfl rfl)
theorem dX19_readWhole_6 : decode cX19_readWhole 6 = .ok (.istore_n 3, 1) := dk_62 (dk_at dksX19_readWhole_0 6 rfl rfl)
theorem dX19_readWhole_7 : decode cX19_readWhole 7 = .ok (.aload_n 0, 1) := dk_42 (dk_at dksX19_readWhole_0 7 rfl rfl)
theorem dX19_readWhole_8 : decode cX19_readWhole 8 = .ok (.invokevirtual 158, 3) := dk_182 0 158 (dk_at dksX19_readWhole_0 8 rfl rfl)
theorem dX19_readWhole_11 : decode cX19_readWhole 11 = .ok (.iload_n 3, 1) := dk_29 (dk_at dksX19_readWhole_0 11 rfl rfl)
theorem dX19_readWhole_12 : decode cX19_readWhole 12 = .ok (.ireturn, 1) := dk_172 (dk_at dksX19_readWhole_0 12 rfl rfl)
abbrev cX19_bounded : ByteArray := prog_24_method_20_code
def yX19_bounded : MethodName := ⟨RX19, "bounded", "(II)I"⟩
def dkwX19_bounded_2 : List UInt8 := [180, 0, 145, 172]
abbrev dktX19_bounded_2 : List UInt8 := dkwX19_bounded_2 ++ []
def dkwX19_bounded_1 : List UInt8 := [184, 0, 169, 154, 0, 8, 42, 7, 182, 0, 165, 42, 180, 0, 116, 8, 160, 0, 7, 27, 167, 0, 7, 42]
abbrev dktX19_bounded_1 : List UInt8 := dkwX19_bounded_1 ++ dktX19_bounded_2
def dkwX19_bounded_0 : List UInt8 := [42, 180, 0, 116, 6, 159, 0, 11, 42, 4, 182, 0, 165, 167, 0, 20, 42, 180, 0, 145, 27, 28]
abbrev dktX19_bounded_0 : List UInt8 := dkwX19_bounded_0 ++ dktX19_bounded_1
theorem dksX19_bounded_0 : cX19_bounded.data.toList.drop 0 = dktX19_bounded_0 := by decide +kernel
theorem dksX19_bounded_1 : cX19_bounded.data.toList.drop 22 = dktX19_bounded_1 := dk_seg dksX19_bounded_0 22 rfl rfl
theorem dksX19_bounded_2 : cX19_bounded.data.toList.drop 46 = dktX19_bounded_2 := dk_seg dksX19_bounded_1 24 rfl rfl
theorem dX19_bounded_0 : decode cX19_bounded 0 = .ok (.aload_n 0, 1) := dk_42 (dk_at dksX19_bounded_0 0 rfl rfl)
theorem dX19_bounded_1 : decode cX19_bounded 1 = .ok (.getfield 116, 3) := dk_180 0 116 (dk_at dksX19_bounded_0 1 rfl rfl)
theorem dX19_bounded_4 : decode cX19_bounded 4 = .ok (.iconst 3, 1) := dk_6 (dk_at dksX19_bounded_0 4 rfl rfl)
theorem dX19_bounded_5 : decode cX19_bounded 5 = .ok (.if_icmp .eq 11, 3) := dk_159 0 11 (dk_at dksX19_bounded_0 5 rfl rfl)
theorem dX19_bounded_8 : decode cX19_bounded 8 = .ok (.aload_n 0, 1) := dk_42 (dk_at dksX19_bounded_0 8 rfl rfl)
theorem dX19_bounded_9 : decode cX19_bounded 9 = .ok (.iconst 1, 1) := dk_4 (dk_at dksX19_bounded_0 9 rfl rfl)
theorem dX19_bounded_10 : decode cX19_bounded 10 = .ok (.invokevirtual 165, 3) := dk_182 0 165 (dk_at dksX19_bounded_0 10 rfl rfl)
theorem dX19_bounded_13 : decode cX19_bounded 13 = .ok (.goto 20, 3) := dk_167 0 20 (dk_at dksX19_bounded_0 13 rfl rfl)
theorem dX19_bounded_16 : decode cX19_bounded 16 = .ok (.aload_n 0, 1) := dk_42 (dk_at dksX19_bounded_0 16 rfl rfl)
theorem dX19_bounded_17 : decode cX19_bounded 17 = .ok (.getfield 145, 3) := dk_180 0 145 (dk_at dksX19_bounded_0 17 rfl rfl)
theorem dX19_bounded_20 : decode cX19_bounded 20 = .ok (.iload_n 1, 1) := dk_27 (dk_at dksX19_bounded_0 20 rfl rfl)
theorem dX19_bounded_21 : decode cX19_bounded 21 = .ok (.iload_n 2, 1) := dk_28 (dk_at dksX19_bounded_0 21 rfl rfl)
theorem dX19_bounded_22 : decode cX19_bounded 22 = .ok (.invokestatic 169, 3) := dk_184 0 169 (dk_at dksX19_bounded_1 0 rfl rfl)
theorem dX19_bounded_25 : decode cX19_bounded 25 = .ok (.ifCond .ne 8, 3) := dk_154 0 8 (dk_at dksX19_bounded_1 3 rfl rfl)
theorem dX19_bounded_28 : decode cX19_bounded 28 = .ok (.aload_n 0, 1) := dk_42 (dk_at dksX19_bounded_1 6 rfl rfl)
theorem dX19_bounded_29 : decode cX19_bounded 29 = .ok (.iconst 4, 1) := dk_7 (dk_at dksX19_bounded_1 7 rfl rfl)
theorem dX19_bounded_30 : decode cX19_bounded 30 = .ok (.invokevirtual 165, 3) := dk_182 0 165 (dk_at dksX19_bounded_1 8 rfl rfl)
theorem dX19_bounded_33 : decode cX19_bounded 33 = .ok (.aload_n 0, 1) := dk_42 (dk_at dksX19_bounded_1 11 rfl rfl)
theorem dX19_bounded_34 : decode cX19_bounded 34 = .ok (.getfield 116, 3) := dk_180 0 116 (dk_at dksX19_bounded_1 12 rfl rfl)
theorem dX19_bounded_37 : decode cX19_bounded 37 = .ok (.iconst 5, 1) := dk_8 (dk_at dksX19_bounded_1 15 rfl rfl)
theorem dX19_bounded_38 : decode cX19_bounded 38 = .ok (.if_icmp .ne 7, 3) := dk_160 0 7 (dk_at dksX19_bounded_1 16 rfl rfl)
theorem dX19_bounded_41 : decode cX19_bounded 41 = .ok (.iload_n 1, 1) := dk_27 (dk_at dksX19_bounded_1 19 rfl rfl)
theorem dX19_bounded_42 : decode cX19_bounded 42 = .ok (.goto 7, 3) := dk_167 0 7 (dk_at dksX19_bounded_1 20 rfl rfl)
theorem dX19_bounded_45 : decode cX19_bounded 45 = .ok (.aload_n 0, 1) := dk_42 (dk_at dksX19_bounded_1 23 rfl rfl)
theorem dX19_bounded_46 : decode cX19_bounded 46 = .ok (.getfield 145, 3) := dk_180 0 145 (dk_at dksX19_bounded_2 0 rfl rfl)
theorem dX19_bounded_49 : decode cX19_bounded 49 = .ok (.ireturn, 1) := dk_172 (dk_at dksX19_bounded_2 3 rfl rfl)
abbrev cX19_in : ByteArray := prog_24_method_7_code
def yX19_in : MethodName := ⟨RX19, "in", "(III)Z"⟩
def dkwX19_in_0 : List UInt8 := [26, 27, 161, 0, 12, 26, 28, 163, 0, 7, 4, 167, 0, 4, 3, 172]
abbrev dktX19_in_0 : List UInt8 := dkwX19_in_0 ++ []
theorem dksX19_in_0 : cX19_in.data.toList.drop 0 = dktX19_in_0 := by decide +kernel
theorem dX19_in_0 : decode cX19_in 0 = .ok (.iload_n 0, 1) := dk_26 (dk_at dksX19_in_0 0 rfl rfl)
theorem dX19_in_1 : decode cX19_in 1 = .ok (.iload_n 1, 1) := dk_27 (dk_at dksX19_in_0 1 rfl rfl)
theorem dX19_in_2 : decode cX19_in 2 = .ok (.if_icmp .lt 12, 3) := dk_161 0 12 (dk_at dksX19_in_0 2 rfl rfl)
theorem dX19_in_5 : decode cX19_in 5 = .ok (.iload_n 0, 1) := dk_26 (dk_at dksX19_in_0 5 rfl rfl)
theorem dX19_in_6 : decode cX19_in 6 = .ok (.iload_n 2, 1) := dk_28 (dk_at dksX19_in_0 6 rfl rfl)
theorem dX19_in_7 : decode cX19_in 7 = .ok (.if_icmp .gt 7, 3) := dk_163 0 7 (dk_at dksX19_in_0 7 rfl rfl)
theorem dX19_in_10 : decode cX19_in 10 = .ok (.iconst 1, 1) := dk_4 (dk_at dksX19_in_0 10 rfl rfl)
theorem dX19_in_11 : decode cX19_in 11 = .ok (.goto 4, 3) := dk_167 0 4 (dk_at dksX19_in_0 11 rfl rfl)
theorem dX19_in_14 : decode cX19_in 14 = .ok (.iconst 0, 1) := dk_3 (dk_at dksX19_in_0 14 rfl rfl)
theorem dX19_in_15 : decode cX19_in 15 = .ok (.ireturn, 1) := dk_172 (dk_at dksX19_in_0 15 rfl rfl)
abbrev cX19_readPerson : ByteArray := prog_24_method_29_code
def yX19_readPerson : MethodName := ⟨RX19, "readPerson", "()V"⟩
def dkwX19_readPerson_23 : List UInt8 := [21, 9, 84, 42, 180, 0, 196, 89, 180, 0, 219, 4, 96, 181, 0, 219, 177]
abbrev dktX19_readPerson_23 : List UInt8 := dkwX19_readPerson_23 ++ []
def dkwX19_readPerson_22 : List UInt8 := [21, 7, 79, 42, 180, 0, 196, 180, 1, 48, 21, 5, 21, 8, 79, 42, 180, 0, 196, 180, 1, 50, 21, 5]
abbrev dktX19_readPerson_22 : List UInt8 := dkwX19_readPerson_22 ++ dktX19_readPerson_23
def dkwX19_readPerson_21 : List UInt8 := [21, 4, 79, 42, 180, 0, 196, 180, 1, 43, 21, 5, 21, 6, 79, 42, 180, 0, 196, 180, 1, 46, 21, 5]
abbrev dktX19_readPerson_21 : List UInt8 := dkwX19_readPerson_21 ++ dktX19_readPerson_22
def dkwX19_readPerson_20 : List UInt8 := [21, 5, 31, 80, 42, 180, 0, 196, 180, 1, 37, 21, 5, 29, 79, 42, 180, 0, 196, 180, 1, 40, 21, 5]
abbrev dktX19_readPerson_20 : List UInt8 := dkwX19_readPerson_20 ++ dktX19_readPerson_21
def dkwX19_readPerson_19 : List UInt8 := [4, 182, 0, 165, 42, 182, 0, 158, 42, 180, 0, 116, 8, 160, 0, 4, 177, 42, 180, 0, 196, 180, 1, 34]
abbrev dktX19_readPerson_19 : List UInt8 := dkwX19_readPerson_19 ++ dktX19_readPerson_20
def dkwX19_readPerson_18 : List UInt8 := [19, 1, 30, 182, 0, 161, 54, 9, 21, 9, 154, 0, 18, 42, 19, 1, 32, 182, 0, 161, 154, 0, 8, 42]
abbrev dktX19_readPerson_18 : List UInt8 := dkwX19_readPerson_18 ++ dktX19_readPerson_19
def dkwX19_readPerson_17 : List UInt8 := [54, 7, 42, 19, 1, 26, 4, 16, 9, 182, 0, 241, 54, 8, 42, 19, 1, 28, 182, 0, 177, 42]
abbrev dktX19_readPerson_17 : List UInt8 := dkwX19_readPerson_17 ++ dktX19_readPerson_18
def dkwX19_readPerson_16 : List UInt8 := [182, 0, 165, 132, 7, 1, 167, 255, 126, 42, 182, 0, 158, 42, 19, 1, 24, 6, 16, 30, 182, 0, 241]
abbrev dktX19_readPerson_16 : List UInt8 := dkwX19_readPerson_16 ++ dktX19_readPerson_17
def dkwX19_readPerson_15 : List UInt8 := [21, 5, 104, 21, 7, 96, 42, 180, 0, 17, 21, 7, 46, 16, 97, 100, 79, 167, 0, 9, 42, 16, 7]
abbrev dktX19_readPerson_15 : List UInt8 := dkwX19_readPerson_15 ++ dktX19_readPerson_16
def dkwX19_readPerson_14 : List UInt8 := [3, 54, 8, 132, 9, 1, 167, 255, 217, 21, 8, 153, 0, 32, 42, 180, 0, 196, 180, 1, 22, 16, 6]
abbrev dktX19_readPerson_14 : List UInt8 := dkwX19_readPerson_14 ++ dktX19_readPerson_15
def dkwX19_readPerson_13 : List UInt8 := [153, 0, 24, 42, 180, 0, 17, 21, 9, 46, 42, 180, 0, 17, 21, 7, 46, 159, 0, 7, 4, 167, 0, 4]
abbrev dktX19_readPerson_13 : List UInt8 := dkwX19_readPerson_13 ++ dktX19_readPerson_14
def dkwX19_readPerson_12 : List UInt8 := [180, 0, 253, 4, 100, 184, 0, 169, 54, 8, 3, 54, 9, 21, 9, 21, 7, 162, 0, 38, 21, 8]
abbrev dktX19_readPerson_12 : List UInt8 := dkwX19_readPerson_12 ++ dktX19_readPerson_13
def dkwX19_readPerson_11 : List UInt8 := [21, 7, 42, 180, 0, 139, 162, 0, 119, 42, 180, 0, 17, 21, 7, 46, 16, 97, 100, 3, 42, 180, 0, 196]
abbrev dktX19_readPerson_11 : List UInt8 := dkwX19_readPerson_11 ++ dktX19_readPerson_12
def dkwX19_readPerson_10 : List UInt8 := [167, 0, 4, 3, 54, 5, 42, 180, 0, 139, 54, 6, 3, 54, 7, 42, 180, 0, 116, 8, 159, 0, 128]
abbrev dktX19_readPerson_10 : List UInt8 := dkwX19_readPerson_10 ++ dktX19_readPerson_11
def dkwX19_readPerson_9 : List UInt8 := [182, 0, 165, 42, 180, 0, 196, 180, 0, 219, 16, 7, 162, 0, 13, 42, 180, 0, 196, 180, 0, 219]
abbrev dktX19_readPerson_9 : List UInt8 := dkwX19_readPerson_9 ++ dktX19_readPerson_10
def dkwX19_readPerson_8 : List UInt8 := [182, 0, 165, 42, 182, 0, 158, 42, 19, 1, 20, 182, 0, 177, 42, 180, 0, 116, 5, 159, 0, 8, 42, 4]
abbrev dktX19_readPerson_8 : List UInt8 := dkwX19_readPerson_8 ++ dktX19_readPerson_9
def dkwX19_readPerson_7 : List UInt8 := [19, 1, 18, 182, 0, 161, 153, 0, 7, 5, 167, 0, 4, 2, 54, 4, 21, 4, 2, 160, 0, 8, 42, 4]
abbrev dktX19_readPerson_7 : List UInt8 := dkwX19_readPerson_7 ++ dktX19_readPerson_8
def dkwX19_readPerson_6 : List UInt8 := [153, 0, 7, 3, 167, 0, 32, 42, 19, 1, 16, 182, 0, 161, 153, 0, 7, 4, 167, 0, 18, 42]
abbrev dktX19_readPerson_6 : List UInt8 := dkwX19_readPerson_6 ++ dktX19_readPerson_7
def dkwX19_readPerson_5 : List UInt8 := [42, 4, 182, 0, 165, 42, 182, 0, 158, 42, 19, 1, 12, 182, 0, 177, 42, 19, 1, 14, 182, 0, 161]
abbrev dktX19_readPerson_5 : List UInt8 := dkwX19_readPerson_5 ++ dktX19_readPerson_6
def dkwX19_readPerson_4 : List UInt8 := [167, 0, 18, 42, 19, 1, 10, 182, 0, 161, 153, 0, 7, 6, 167, 0, 4, 2, 62, 29, 2, 160, 0, 8]
abbrev dktX19_readPerson_4 : List UInt8 := dkwX19_readPerson_4 ++ dktX19_readPerson_5
def dkwX19_readPerson_3 : List UInt8 := [19, 1, 7, 182, 0, 161, 153, 0, 7, 4, 167, 0, 32, 42, 19, 1, 9, 182, 0, 161, 153, 0, 7, 5]
abbrev dktX19_readPerson_3 : List UInt8 := dkwX19_readPerson_3 ++ dktX19_readPerson_4
def dkwX19_readPerson_2 : List UInt8 := [180, 0, 135, 64, 42, 182, 0, 158, 42, 19, 1, 5, 182, 0, 161, 153, 0, 7, 3, 167, 0, 46, 42]
abbrev dktX19_readPerson_2 : List UInt8 := dkwX19_readPerson_2 ++ dktX19_readPerson_3
def dkwX19_readPerson_1 : List UInt8 := [182, 0, 165, 42, 180, 0, 196, 42, 180, 0, 135, 182, 0, 209, 2, 159, 0, 8, 42, 6, 182, 0, 165, 42]
abbrev dktX19_readPerson_1 : List UInt8 := dkwX19_readPerson_1 ++ dktX19_readPerson_2
def dkwX19_readPerson_0 : List UInt8 := [42, 42, 180, 0, 196, 180, 0, 219, 16, 7, 182, 1, 1, 42, 182, 0, 205, 154, 0, 8, 42, 4]
abbrev dktX19_readPerson_0 : List UInt8 := dkwX19_readPerson_0 ++ dktX19_readPerson_1
theorem dksX19_readPerson_0 : cX19_readPerson.data.toList.drop 0 = dktX19_readPerson_0 := by decide +kernel
theorem dksX19_readPerson_1 : cX19_readPerson.data.toList.drop 22 = dktX19_readPerson_1 := dk_seg dksX19_readPerson_0 22 rfl rfl
theorem dksX19_readPerson_2 : cX19_readPerson.data.toList.drop 46 = dktX19_readPerson_2 := dk_seg dksX19_readPerson_1 24 rfl rfl
theorem dksX19_readPerson_3 : cX19_readPerson.data.toList.drop 69 = dktX19_readPerson_3 := dk_seg dksX19_readPerson_2 23 rfl rfl
theorem dksX19_readPerson_4 : cX19_readPerson.data.toList.drop 93 = dktX19_readPerson_4 := dk_seg dksX19_readPerson_3 24 rfl rfl
theorem dksX19_readPerson_5 : cX19_readPerson.data.toList.drop 117 = dktX19_readPerson_5 := dk_seg dksX19_readPerson_4 24 rfl rfl
theorem dksX19_readPerson_6 : cX19_readPerson.data.toList.drop 140 = dktX19_readPerson_6 := dk_seg dksX19_readPerson_5 23 rfl rfl
theorem dksX19_readPerson_7 : cX19_readPerson.data.toList.drop 162 = dktX19_readPerson_7 := dk_seg dksX19_readPerson_6 22 rfl rfl
theorem dksX19_readPerson_8 : cX19_readPerson.data.toList.drop 186 = dktX19_readPerson_8 := dk_seg dksX19_readPerson_7 24 rfl rfl
theorem dksX19_readPerson_9 : cX19_readPerson.data.toList.drop 210 = dktX19_readPerson_9 := dk_seg dksX19_readPerson_8 24 rfl rfl
theorem dksX19_readPerson_10 : cX19_readPerson.data.toList.drop 232 = dktX19_readPerson_10 := dk_seg dksX19_readPerson_9 22 rfl rfl
theorem dksX19_readPerson_11 : cX19_readPerson.data.toList.drop 255 = dktX19_readPerson_11 := dk_seg dksX19_readPerson_10 23 rfl rfl
theorem dksX19_readPerson_12 : cX19_readPerson.data.toList.drop 279 = dktX19_readPerson_12 := dk_seg dksX19_readPerson_11 24 rfl rfl
theorem dksX19_readPerson_13 : cX19_readPerson.data.toList.drop 301 = dktX19_readPerson_13 := dk_seg dksX19_readPerson_12 22 rfl rfl
theorem dksX19_readPerson_14 : cX19_readPerson.data.toList.drop 325 = dktX19_readPerson_14 := dk_seg dksX19_readPerson_13 24 rfl rfl
theorem dksX19_readPerson_15 : cX19_readPerson.data.toList.drop 348 = dktX19_readPerson_15 := dk_seg dksX19_readPerson_14 23 rfl rfl
theorem dksX19_readPerson_16 : cX19_readPerson.data.toList.drop 371 = dktX19_readPerson_16 := dk_seg dksX19_readPerson_15 23 rfl rfl
theorem dksX19_readPerson_17 : cX19_readPerson.data.toList.drop 394 = dktX19_readPerson_17 := dk_seg dksX19_readPerson_16 23 rfl rfl
theorem dksX19_readPerson_18 : cX19_readPerson.data.toList.drop 416 = dktX19_readPerson_18 := dk_seg dksX19_readPerson_17 22 rfl rfl
theorem dksX19_readPerson_19 : cX19_readPerson.data.toList.drop 440 = dktX19_readPerson_19 := dk_seg dksX19_readPerson_18 24 rfl rfl
theorem dksX19_readPerson_20 : cX19_readPerson.data.toList.drop 464 = dktX19_readPerson_20 := dk_seg dksX19_readPerson_19 24 rfl rfl
theorem dksX19_readPerson_21 : cX19_readPerson.data.toList.drop 488 = dktX19_readPerson_21 := dk_seg dksX19_readPerson_20 24 rfl rfl
theorem dksX19_readPerson_22 : cX19_readPerson.data.toList.drop 512 = dktX19_readPerson_22 := dk_seg dksX19_readPerson_21 24 rfl rfl
theorem dksX19_readPerson_23 : cX19_readPerson.data.toList.drop 536 = dktX19_readPerson_23 := dk_seg dksX19_readPerson_22 24 rfl rfl
theorem dX19_readPerson_0 : decode cX19_readPerson 0 = .ok (.aload_n 0, 1) := dk_42 (dk_at dksX19_readPerson_0 0 rfl rfl)
theorem dX19_readPerson_1 : decode cX19_readPerson 1 = .ok (.aload_n 0, 1) := dk_42 (dk_at dksX19_readPerson_0 1 rfl rfl)
theorem dX19_readPerson_2 : decode cX19_readPerson 2 = .ok (.getfield 196, 3) := dk_180 0 196 (dk_at dksX19_readPerson_0 2 rfl rfl)
theorem dX19_readPerson_5 : decode cX19_readPerson 5 = .ok (.getfield 219, 3) := dk_180 0 219 (dk_at dksX19_readPerson_0 5 rfl rfl)
theorem dX19_readPerson_8 : decode cX19_readPerson 8 = .ok (.bipush 7, 2) := dk_16 7 (dk_at dksX19_readPerson_0 8 rfl rfl)
theorem dX19_readPerson_10 : decode cX19_readPerson 10 = .ok (.invokevirtual 257, 3) := dk_182 1 1 (dk_at dksX19_readPerson_0 10 rfl rfl)
theorem dX19_readPerson_13 : decode cX19_readPerson 13 = .ok (.aload_n 0, 1) := dk_42 (dk_at dksX19_readPerson_0 13 rfl rfl)
theorem dX19_readPerson_14 : decode cX19_readPerson 14 = .ok (.invokevirtual 205, 3) := dk_182 0 205 (dk_at dksX19_readPerson_0 14 rfl rfl)
theorem dX19_readPerson_17 : decode cX19_readPerson 17 = .ok (.ifCond .ne 8, 3) := dk_154 0 8 (dk_at dksX19_readPerson_0 17 rfl rfl)
theorem dX19_readPerson_20 : decode cX19_readPerson 20 = .ok (.aload_n 0, 1) := dk_42 (dk_at dksX19_readPerson_0 20 rfl rfl)
theorem dX19_readPerson_21 : decode cX19_readPerson 21 = .ok (.iconst 1, 1) := dk_4 (dk_at dksX19_readPerson_0 21 rfl rfl)
theorem dX19_readPerson_22 : decode cX19_readPerson 22 = .ok (.invokevirtual 165, 3) := dk_182 0 165 (dk_at dksX19_readPerson_1 0 rfl rfl)
theorem dX19_readPerson_25 : decode cX19_readPerson 25 = .ok (.aload_n 0, 1) := dk_42 (dk_at dksX19_readPerson_1 3 rfl rfl)
theorem dX19_readPerson_26 : decode cX19_readPerson 26 = .ok (.getfield 196, 3) := dk_180 0 196 (dk_at dksX19_readPerson_1 4 rfl rfl)
theorem dX19_readPerson_29 : decode cX19_readPerson 29 = .ok (.aload_n 0, 1) := dk_42 (dk_at dksX19_readPerson_1 7 rfl rfl)
theorem dX19_readPerson_30 : decode cX19_readPerson 30 = .ok (.getfield 135, 3) := dk_180 0 135 (dk_at dksX19_readPerson_1 8 rfl rfl)
theorem dX19_readPerson_33 : decode cX19_readPerson 33 = .ok (.invokevirtual 209, 3) := dk_182 0 209 (dk_at dksX19_readPerson_1 11 rfl rfl)
theorem dX19_readPerson_36 : decode cX19_readPerson 36 = .ok (.iconst (-1), 1) := dk_2 (dk_at dksX19_readPerson_1 14 rfl rfl)
theorem dX19_readPerson_37 : decode cX19_readPerson 37 = .ok (.if_icmp .eq 8, 3) := dk_159 0 8 (dk_at dksX19_readPerson_1 15 rfl rfl)
theorem dX19_readPerson_40 : decode cX19_readPerson 40 = .ok (.aload_n 0, 1) := dk_42 (dk_at dksX19_readPerson_1 18 rfl rfl)
theorem dX19_readPerson_41 : decode cX19_readPerson 41 = .ok (.iconst 3, 1) := dk_6 (dk_at dksX19_readPerson_1 19 rfl rfl)
theorem dX19_readPerson_42 : decode cX19_readPerson 42 = .ok (.invokevirtual 165, 3) := dk_182 0 165 (dk_at dksX19_readPerson_1 20 rfl rfl)
theorem dX19_readPerson_45 : decode cX19_readPerson 45 = .ok (.aload_n 0, 1) := dk_42 (dk_at dksX19_readPerson_1 23 rfl rfl)
theorem dX19_readPerson_46 : decode cX19_readPerson 46 = .ok (.getfield 135, 3) := dk_180 0 135 (dk_at dksX19_readPerson_2 0 rfl rfl)
theorem dX19_readPerson_49 : decode cX19_readPerson 49 = .ok (.lstore_n 1, 1) := dk_64 (dk_at dksX19_readPerson_2 3 rfl rfl)
theorem dX19_readPerson_50 : decode cX19_readPerson 50 = .ok (.aload_n 0, 1) := dk_42 (dk_at dksX19_readPerson_2 4 rfl rfl)
theorem dX19_readPerson_51 : decode cX19_readPerson 51 = .ok (.invokevirtual 158, 3) := dk_182 0 158 (dk_at dksX19_readPerson_2 5 rfl rfl)
theorem dX19_readPerson_54 : decode cX19_readPerson 54 = .ok (.aload_n 0, 1) := dk_42 (dk_at dksX19_readPerson_2 8 rfl rfl)
theorem dX19_readPerson_55 : decode cX19_readPerson 55 = .ok (.ldc_w 261, 3) := dk_19 1 5 (dk_at dksX19_readPerson_2 9 rfl rfl)
theorem dX19_readPerson_58 : decode cX19_readPerson 58 = .ok (.invokevirtual 161, 3) := dk_182 0 161 (dk_at dksX19_readPerson_2 12 rfl rfl)
theorem dX19_readPerson_61 : decode cX19_readPerson 61 = .ok (.ifCond .eq 7, 3) := dk_153 0 7 (dk_at dksX19_readPerson_2 15 rfl rfl)
theorem dX19_readPerson_64 : decode cX19_readPerson 64 = .ok (.iconst 0, 1) := dk_3 (dk_at dksX19_readPerson_2 18 rfl rfl)
theorem dX19_readPerson_65 : decode cX19_readPerson 65 = .ok (.goto 46, 3) := dk_167 0 46 (dk_at dksX19_readPerson_2 19 rfl rfl)
theorem dX19_readPerson_68 : decode cX19_readPerson 68 = .ok (.aload_n 0, 1) := dk_42 (dk_at dksX19_readPerson_2 22 rfl rfl)
theorem dX19_readPerson_69 : decode cX19_readPerson 69 = .ok (.ldc_w 263, 3) := dk_19 1 7 (dk_at dksX19_readPerson_3 0 rfl rfl)
theorem dX19_readPerson_72 : decode cX19_readPerson 72 = .ok (.invokevirtual 161, 3) := dk_182 0 161 (dk_at dksX19_readPerson_3 3 rfl rfl)
theorem dX19_readPerson_75 : decode cX19_readPerson 75 = .ok (.ifCond .eq 7, 3) := dk_153 0 7 (dk_at dksX19_readPerson_3 6 rfl rfl)
theorem dX19_readPerson_78 : decode cX19_readPerson 78 = .ok (.iconst 1, 1) := dk_4 (dk_at dksX19_readPerson_3 9 rfl rfl)
theorem dX19_readPerson_79 : decode cX19_readPerson 79 = .ok (.goto 32, 3) := dk_167 0 32 (dk_at dksX19_readPerson_3 10 rfl rfl)
theorem dX19_readPerson_82 : decode cX19_readPerson 82 = .ok (.aload_n 0, 1) := dk_42 (dk_at dksX19_readPerson_3 13 rfl rfl)
theorem dX19_readPerson_83 : decode cX19_readPerson 83 = .ok (.ldc_w 265, 3) := dk_19 1 9 (dk_at dksX19_readPerson_3 14 rfl rfl)
theorem dX19_readPerson_86 : decode cX19_readPerson 86 = .ok (.invokevirtual 161, 3) := dk_182 0 161 (dk_at dksX19_readPerson_3 17 rfl rfl)
theorem dX19_readPerson_89 : decode cX19_readPerson 89 = .ok (.ifCond .eq 7, 3) := dk_153 0 7 (dk_at dksX19_readPerson_3 20 rfl rfl)
theorem dX19_readPerson_92 : decode cX19_readPerson 92 = .ok (.iconst 2, 1) := dk_5 (dk_at dksX19_readPerson_3 23 rfl rfl)
theorem dX19_readPerson_93 : decode cX19_readPerson 93 = .ok (.goto 18, 3) := dk_167 0 18 (dk_at dksX19_readPerson_4 0 rfl rfl)
theorem dX19_readPerson_96 : decode cX19_readPerson 96 = .ok (.aload_n 0, 1) := dk_42 (dk_at dksX19_readPerson_4 3 rfl rfl)
theorem dX19_readPerson_97 : decode cX19_readPerson 97 = .ok (.ldc_w 266, 3) := dk_19 1 10 (dk_at dksX19_readPerson_4 4 rfl rfl)
theorem dX19_readPerson_100 : decode cX19_readPerson 100 = .ok (.invokevirtual 161, 3) := dk_182 0 161 (dk_at dksX19_readPerson_4 7 rfl rfl)
theorem dX19_readPerson_103 : decode cX19_readPerson 103 = .ok (.ifCond .eq 7, 3) := dk_153 0 7 (dk_at dksX19_readPerson_4 10 rfl rfl)
theorem dX19_readPerson_106 : decode cX19_readPerson 106 = .ok (.iconst 3, 1) := dk_6 (dk_at dksX19_readPerson_4 13 rfl rfl)
theorem dX19_readPerson_107 : decode cX19_readPerson 107 = .ok (.goto 4, 3) := dk_167 0 4 (dk_at dksX19_readPerson_4 14 rfl rfl)
theorem dX19_readPerson_110 : decode cX19_readPerson 110 = .ok (.iconst (-1), 1) := dk_2 (dk_at dksX19_readPerson_4 17 rfl rfl)
theorem dX19_readPerson_111 : decode cX19_readPerson 111 = .ok (.istore_n 3, 1) := dk_62 (dk_at dksX19_readPerson_4 18 rfl rfl)
theorem dX19_readPerson_112 : decode cX19_readPerson 112 = .ok (.iload_n 3, 1) := dk_29 (dk_at dksX19_readPerson_4 19 rfl rfl)
theorem dX19_readPerson_113 : decode cX19_readPerson 113 = .ok (.iconst (-1), 1) := dk_2 (dk_at dksX19_readPerson_4 20 rfl rfl)
theorem dX19_readPerson_114 : decode cX19_readPerson 114 = .ok (.if_icmp .ne 8, 3) := dk_160 0 8 (dk_at dksX19_readPerson_4 21 rfl rfl)
theorem dX19_readPerson_117 : decode cX19_readPerson 117 = .ok (.aload_n 0, 1) := dk_42 (dk_at dksX19_readPerson_5 0 rfl rfl)
theorem dX19_readPerson_118 : decode cX19_readPerson 118 = .ok (.iconst 1, 1) := dk_4 (dk_at dksX19_readPerson_5 1 rfl rfl)
theorem dX19_readPerson_119 : decode cX19_readPerson 119 = .ok (.invokevirtual 165, 3) := dk_182 0 165 (dk_at dksX19_readPerson_5 2 rfl rfl)
theorem dX19_readPerson_122 : decode cX19_readPerson 122 = .ok (.aload_n 0, 1) := dk_42 (dk_at dksX19_readPerson_5 5 rfl rfl)
theorem dX19_readPerson_123 : decode cX19_readPerson 123 = .ok (.invokevirtual 158, 3) := dk_182 0 158 (dk_at dksX19_readPerson_5 6 rfl rfl)
theorem dX19_readPerson_126 : decode cX19_readPerson 126 = .ok (.aload_n 0, 1) := dk_42 (dk_at dksX19_readPerson_5 9 rfl rfl)
theorem dX19_readPerson_127 : decode cX19_readPerson 127 = .ok (.ldc_w 268, 3) := dk_19 1 12 (dk_at dksX19_readPerson_5 10 rfl rfl)
theorem dX19_readPerson_130 : decode cX19_readPerson 130 = .ok (.invokevirtual 177, 3) := dk_182 0 177 (dk_at dksX19_readPerson_5 13 rfl rfl)
theorem dX19_readPerson_133 : decode cX19_readPerson 133 = .ok (.aload_n 0, 1) := dk_42 (dk_at dksX19_readPerson_5 16 rfl rfl)
theorem dX19_readPerson_134 : decode cX19_readPerson 134 = .ok (.ldc_w 270, 3) := dk_19 1 14 (dk_at dksX19_readPerson_5 17 rfl rfl)
theorem dX19_readPerson_137 : decode cX19_readPerson 137 = .ok (.invokevirtual 161, 3) := dk_182 0 161 (dk_at dksX19_readPerson_5 20 rfl rfl)
theorem dX19_readPerson_140 : decode cX19_readPerson 140 = .ok (.ifCond .eq 7, 3) := dk_153 0 7 (dk_at dksX19_readPerson_6 0 rfl rfl)
theorem dX19_readPerson_143 : decode cX19_readPerson 143 = .ok (.iconst 0, 1) := dk_3 (dk_at dksX19_readPerson_6 3 rfl rfl)
theorem dX19_readPerson_144 : decode cX19_readPerson 144 = .ok (.goto 32, 3) := dk_167 0 32 (dk_at dksX19_readPerson_6 4 rfl rfl)
theorem dX19_readPerson_147 : decode cX19_readPerson 147 = .ok (.aload_n 0, 1) := dk_42 (dk_at dksX19_readPerson_6 7 rfl rfl)
theorem dX19_readPerson_148 : decode cX19_readPerson 148 = .ok (.ldc_w 272, 3) := dk_19 1 16 (dk_at dksX19_readPerson_6 8 rfl rfl)
theorem dX19_readPerson_151 : decode cX19_readPerson 151 = .ok (.invokevirtual 161, 3) := dk_182 0 161 (dk_at dksX19_readPerson_6 11 rfl rfl)
theorem dX19_readPerson_154 : decode cX19_readPerson 154 = .ok (.ifCond .eq 7, 3) := dk_153 0 7 (dk_at dksX19_readPerson_6 14 rfl rfl)
theorem dX19_readPerson_157 : decode cX19_readPerson 157 = .ok (.iconst 1, 1) := dk_4 (dk_at dksX19_readPerson_6 17 rfl rfl)
theorem dX19_readPerson_158 : decode cX19_readPerson 158 = .ok (.goto 18, 3) := dk_167 0 18 (dk_at dksX19_readPerson_6 18 rfl rfl)
theorem dX19_readPerson_161 : decode cX19_readPerson 161 = .ok (.aload_n 0, 1) := dk_42 (dk_at dksX19_readPerson_6 21 rfl rfl)
theorem dX19_readPerson_162 : decode cX19_readPerson 162 = .ok (.ldc_w 274, 3) := dk_19 1 18 (dk_at dksX19_readPerson_7 0 rfl rfl)
theorem dX19_readPerson_165 : decode cX19_readPerson 165 = .ok (.invokevirtual 161, 3) := dk_182 0 161 (dk_at dksX19_readPerson_7 3 rfl rfl)
theorem dX19_readPerson_168 : decode cX19_readPerson 168 = .ok (.ifCond .eq 7, 3) := dk_153 0 7 (dk_at dksX19_readPerson_7 6 rfl rfl)
theorem dX19_readPerson_171 : decode cX19_readPerson 171 = .ok (.iconst 2, 1) := dk_5 (dk_at dksX19_readPerson_7 9 rfl rfl)
theorem dX19_readPerson_172 : decode cX19_readPerson 172 = .ok (.goto 4, 3) := dk_167 0 4 (dk_at dksX19_readPerson_7 10 rfl rfl)
theorem dX19_readPerson_175 : decode cX19_readPerson 175 = .ok (.iconst (-1), 1) := dk_2 (dk_at dksX19_readPerson_7 13 rfl rfl)
theorem dX19_readPerson_176 : decode cX19_readPerson 176 = .ok (.istore 4, 2) := dk_54 4 (dk_at dksX19_readPerson_7 14 rfl rfl)
theorem dX19_readPerson_178 : decode cX19_readPerson 178 = .ok (.iload 4, 2) := dk_21 4 (dk_at dksX19_readPerson_7 16 rfl rfl)
theorem dX19_readPerson_180 : decode cX19_readPerson 180 = .ok (.iconst (-1), 1) := dk_2 (dk_at dksX19_readPerson_7 18 rfl rfl)
theorem dX19_readPerson_181 : decode cX19_readPerson 181 = .ok (.if_icmp .ne 8, 3) := dk_160 0 8 (dk_at dksX19_readPerson_7 19 rfl rfl)
theorem dX19_readPerson_184 : decode cX19_readPerson 184 = .ok (.aload_n 0, 1) := dk_42 (dk_at dksX19_readPerson_7 22 rfl rfl)
theorem dX19_readPerson_185 : decode cX19_readPerson 185 = .ok (.iconst 1, 1) := dk_4 (dk_at dksX19_readPerson_7 23 rfl rfl)
theorem dX19_readPerson_186 : decode cX19_readPerson 186 = .ok (.invokevirtual 165, 3) := dk_182 0 165 (dk_at dksX19_readPerson_8 0 rfl rfl)
theorem dX19_readPerson_189 : decode cX19_readPerson 189 = .ok (.aload_n 0, 1) := dk_42 (dk_at dksX19_readPerson_8 3 rfl rfl)
theorem dX19_readPerson_190 : decode cX19_readPerson 190 = .ok (.invokevirtual 158, 3) := dk_182 0 158 (dk_at dksX19_readPerson_8 4 rfl rfl)
theorem dX19_readPerson_193 : decode cX19_readPerson 193 = .ok (.aload_n 0, 1) := dk_42 (dk_at dksX19_readPerson_8 7 rfl rfl)
theorem dX19_readPerson_194 : decode cX19_readPerson 194 = .ok (.ldc_w 276, 3) := dk_19 1 20 (dk_at dksX19_readPerson_8 8 rfl rfl)
theorem dX19_readPerson_197 : decode cX19_readPerson 197 = .ok (.invokevirtual 177, 3) := dk_182 0 177 (dk_at dksX19_readPerson_8 11 rfl rfl)
theorem dX19_readPerson_200 : decode cX19_readPerson 200 = .ok (.aload_n 0, 1) := dk_42 (dk_at dksX19_readPerson_8 14 rfl rfl)
theorem dX19_readPerson_201 : decode cX19_readPerson 201 = .ok (.getfield 116, 3) := dk_180 0 116 (dk_at dksX19_readPerson_8 15 rfl rfl)
theorem dX19_readPerson_204 : decode cX19_readPerson 204 = .ok (.iconst 2, 1) := dk_5 (dk_at dksX19_readPerson_8 18 rfl rfl)
theorem dX19_readPerson_205 : decode cX19_readPerson 205 = .ok (.if_icmp .eq 8, 3) := dk_159 0 8 (dk_at dksX19_readPerson_8 19 rfl rfl)
theorem dX19_readPerson_208 : decode cX19_readPerson 208 = .ok (.aload_n 0, 1) := dk_42 (dk_at dksX19_readPerson_8 22 rfl rfl)
theorem dX19_readPerson_209 : decode cX19_readPerson 209 = .ok (.iconst 1, 1) := dk_4 (dk_at dksX19_readPerson_8 23 rfl rfl)
theorem dX19_readPerson_210 : decode cX19_readPerson 210 = .ok (.invokevirtual 165, 3) := dk_182 0 165 (dk_at dksX19_readPerson_9 0 rfl rfl)
theorem dX19_readPerson_213 : decode cX19_readPerson 213 = .ok (.aload_n 0, 1) := dk_42 (dk_at dksX19_readPerson_9 3 rfl rfl)
theorem dX19_readPerson_214 : decode cX19_readPerson 214 = .ok (.getfield 196, 3) := dk_180 0 196 (dk_at dksX19_readPerson_9 4 rfl rfl)
theorem dX19_readPerson_217 : decode cX19_readPerson 217 = .ok (.getfield 219, 3) := dk_180 0 219 (dk_at dksX19_readPerson_9 7 rfl rfl)
theorem dX19_readPerson_220 : decode cX19_readPerson 220 = .ok (.bipush 7, 2) := dk_16 7 (dk_at dksX19_readPerson_9 10 rfl rfl)
theorem dX19_readPerson_222 : decode cX19_readPerson 222 = .ok (.if_icmp .ge 13, 3) := dk_162 0 13 (dk_at dksX19_readPerson_9 12 rfl rfl)
theorem dX19_readPerson_225 : decode cX19_readPerson 225 = .ok (.aload_n 0, 1) := dk_42 (dk_at dksX19_readPerson_9 15 rfl rfl)
theorem dX19_readPerson_226 : decode cX19_readPerson 226 = .ok (.getfield 196, 3) := dk_180 0 196 (dk_at dksX19_readPerson_9 16 rfl rfl)
theorem dX19_readPerson_229 : decode cX19_readPerson 229 = .ok (.getfield 219, 3) := dk_180 0 219 (dk_at dksX19_readPerson_9 19 rfl rfl)
theorem dX19_readPerson_232 : decode cX19_readPerson 232 = .ok (.goto 4, 3) := dk_167 0 4 (dk_at dksX19_readPerson_10 0 rfl rfl)
theorem dX19_readPerson_235 : decode cX19_readPerson 235 = .ok (.iconst 0, 1) := dk_3 (dk_at dksX19_readPerson_10 3 rfl rfl)
theorem dX19_readPerson_236 : decode cX19_readPerson 236 = .ok (.istore 5, 2) := dk_54 5 (dk_at dksX19_readPerson_10 4 rfl rfl)
theorem dX19_readPerson_238 : decode cX19_readPerson 238 = .ok (.aload_n 0, 1) := dk_42 (dk_at dksX19_readPerson_10 6 rfl rfl)
theorem dX19_readPerson_239 : decode cX19_readPerson 239 = .ok (.getfield 139, 3) := dk_180 0 139 (dk_at dksX19_readPerson_10 7 rfl rfl)
theorem dX19_readPerson_242 : decode cX19_readPerson 242 = .ok (.istore 6, 2) := dk_54 6 (dk_at dksX19_readPerson_10 10 rfl rfl)
theorem dX19_readPerson_244 : decode cX19_readPerson 244 = .ok (.iconst 0, 1) := dk_3 (dk_at dksX19_readPerson_10 12 rfl rfl)
theorem dX19_readPerson_245 : decode cX19_readPerson 245 = .ok (.istore 7, 2) := dk_54 7 (dk_at dksX19_readPerson_10 13 rfl rfl)
theorem dX19_readPerson_247 : decode cX19_readPerson 247 = .ok (.aload_n 0, 1) := dk_42 (dk_at dksX19_readPerson_10 15 rfl rfl)
theorem dX19_readPerson_248 : decode cX19_readPerson 248 = .ok (.getfield 116, 3) := dk_180 0 116 (dk_at dksX19_readPerson_10 16 rfl rfl)
theorem dX19_readPerson_251 : decode cX19_readPerson 251 = .ok (.iconst 5, 1) := dk_8 (dk_at dksX19_readPerson_10 19 rfl rfl)
theorem dX19_readPerson_252 : decode cX19_readPerson 252 = .ok (.if_icmp .eq 128, 3) := dk_159 0 128 (dk_at dksX19_readPerson_10 20 rfl rfl)
theorem dX19_readPerson_255 : decode cX19_readPerson 255 = .ok (.iload 7, 2) := dk_21 7 (dk_at dksX19_readPerson_11 0 rfl rfl)
theorem dX19_readPerson_257 : decode cX19_readPerson 257 = .ok (.aload_n 0, 1) := dk_42 (dk_at dksX19_readPerson_11 2 rfl rfl)
theorem dX19_readPerson_258 : decode cX19_readPerson 258 = .ok (.getfield 139, 3) := dk_180 0 139 (dk_at dksX19_readPerson_11 3 rfl rfl)
theorem dX19_readPerson_261 : decode cX19_readPerson 261 = .ok (.if_icmp .ge 119, 3) := dk_162 0 119 (dk_at dksX19_readPerson_11 6 rfl rfl)
theorem dX19_readPerson_264 : decode cX19_readPerson 264 = .ok (.aload_n 0, 1) := dk_42 (dk_at dksX19_readPerson_11 9 rfl rfl)
theorem dX19_readPerson_265 : decode cX19_readPerson 265 = .ok (.getfield 17, 3) := dk_180 0 17 (dk_at dksX19_readPerson_11 10 rfl rfl)
theorem dX19_readPerson_268 : decode cX19_readPerson 268 = .ok (.iload 7, 2) := dk_21 7 (dk_at dksX19_readPerson_11 13 rfl rfl)
theorem dX19_readPerson_270 : decode cX19_readPerson 270 = .ok (.iaload, 1) := dk_46 (dk_at dksX19_readPerson_11 15 rfl rfl)
theorem dX19_readPerson_271 : decode cX19_readPerson 271 = .ok (.bipush 97, 2) := dk_16 97 (dk_at dksX19_readPerson_11 16 rfl rfl)
theorem dX19_readPerson_273 : decode cX19_readPerson 273 = .ok (.isub, 1) := dk_100 (dk_at dksX19_readPerson_11 18 rfl rfl)
theorem dX19_readPerson_274 : decode cX19_readPerson 274 = .ok (.iconst 0, 1) := dk_3 (dk_at dksX19_readPerson_11 19 rfl rfl)
theorem dX19_readPerson_275 : decode cX19_readPerson 275 = .ok (.aload_n 0, 1) := dk_42 (dk_at dksX19_readPerson_11 20 rfl rfl)
theorem dX19_readPerson_276 : decode cX19_readPerson 276 = .ok (.getfield 196, 3) := dk_180 0 196 (dk_at dksX19_readPerson_11 21 rfl rfl)
theorem dX19_readPerson_279 : decode cX19_readPerson 279 = .ok (.getfield 253, 3) := dk_180 0 253 (dk_at dksX19_readPerson_12 0 rfl rfl)
theorem dX19_readPerson_282 : decode cX19_readPerson 282 = .ok (.iconst 1, 1) := dk_4 (dk_at dksX19_readPerson_12 3 rfl rfl)
theorem dX19_readPerson_283 : decode cX19_readPerson 283 = .ok (.isub, 1) := dk_100 (dk_at dksX19_readPerson_12 4 rfl rfl)
theorem dX19_readPerson_284 : decode cX19_readPerson 284 = .ok (.invokestatic 169, 3) := dk_184 0 169 (dk_at dksX19_readPerson_12 5 rfl rfl)
theorem dX19_readPerson_287 : decode cX19_readPerson 287 = .ok (.istore 8, 2) := dk_54 8 (dk_at dksX19_readPerson_12 8 rfl rfl)
theorem dX19_readPerson_289 : decode cX19_readPerson 289 = .ok (.iconst 0, 1) := dk_3 (dk_at dksX19_readPerson_12 10 rfl rfl)
theorem dX19_readPerson_290 : decode cX19_readPerson 290 = .ok (.istore 9, 2) := dk_54 9 (dk_at dksX19_readPerson_12 11 rfl rfl)
theorem dX19_readPerson_292 : decode cX19_readPerson 292 = .ok (.iload 9, 2) := dk_21 9 (dk_at dksX19_readPerson_12 13 rfl rfl)
theorem dX19_readPerson_294 : decode cX19_readPerson 294 = .ok (.iload 7, 2) := dk_21 7 (dk_at dksX19_readPerson_12 15 rfl rfl)
theorem dX19_readPerson_296 : decode cX19_readPerson 296 = .ok (.if_icmp .ge 38, 3) := dk_162 0 38 (dk_at dksX19_readPerson_12 17 rfl rfl)
theorem dX19_readPerson_299 : decode cX19_readPerson 299 = .ok (.iload 8, 2) := dk_21 8 (dk_at dksX19_readPerson_12 20 rfl rfl)
theorem dX19_readPerson_301 : decode cX19_readPerson 301 = .ok (.ifCond .eq 24, 3) := dk_153 0 24 (dk_at dksX19_readPerson_13 0 rfl rfl)
theorem dX19_readPerson_304 : decode cX19_readPerson 304 = .ok (.aload_n 0, 1) := dk_42 (dk_at dksX19_readPerson_13 3 rfl rfl)
theorem dX19_readPerson_305 : decode cX19_readPerson 305 = .ok (.getfield 17, 3) := dk_180 0 17 (dk_at dksX19_readPerson_13 4 rfl rfl)
theorem dX19_readPerson_308 : decode cX19_readPerson 308 = .ok (.iload 9, 2) := dk_21 9 (dk_at dksX19_readPerson_13 7 rfl rfl)
theorem dX19_readPerson_310 : decode cX19_readPerson 310 = .ok (.iaload, 1) := dk_46 (dk_at dksX19_readPerson_13 9 rfl rfl)
theorem dX19_readPerson_311 : decode cX19_readPerson 311 = .ok (.aload_n 0, 1) := dk_42 (dk_at dksX19_readPerson_13 10 rfl rfl)
theorem dX19_readPerson_312 : decode cX19_readPerson 312 = .ok (.getfield 17, 3) := dk_180 0 17 (dk_at dksX19_readPerson_13 11 rfl rfl)
theorem dX19_readPerson_315 : decode cX19_readPerson 315 = .ok (.iload 7, 2) := dk_21 7 (dk_at dksX19_readPerson_13 14 rfl rfl)
theorem dX19_readPerson_317 : decode cX19_readPerson 317 = .ok (.iaload, 1) := dk_46 (dk_at dksX19_readPerson_13 16 rfl rfl)
theorem dX19_readPerson_318 : decode cX19_readPerson 318 = .ok (.if_icmp .eq 7, 3) := dk_159 0 7 (dk_at dksX19_readPerson_13 17 rfl rfl)
theorem dX19_readPerson_321 : decode cX19_readPerson 321 = .ok (.iconst 1, 1) := dk_4 (dk_at dksX19_readPerson_13 20 rfl rfl)
theorem dX19_readPerson_322 : decode cX19_readPerson 322 = .ok (.goto 4, 3) := dk_167 0 4 (dk_at dksX19_readPerson_13 21 rfl rfl)
theorem dX19_readPerson_325 : decode cX19_readPerson 325 = .ok (.iconst 0, 1) := dk_3 (dk_at dksX19_readPerson_14 0 rfl rfl)
theorem dX19_readPerson_326 : decode cX19_readPerson 326 = .ok (.istore 8, 2) := dk_54 8 (dk_at dksX19_readPerson_14 1 rfl rfl)
theorem dX19_readPerson_328 : decode cX19_readPerson 328 = .ok (.iinc 9 1, 3) := dk_132 9 1 (dk_at dksX19_readPerson_14 3 rfl rfl)
theorem dX19_readPerson_331 : decode cX19_readPerson 331 = .ok (.goto (-39), 3) := dk_167 255 217 (dk_at dksX19_readPerson_14 6 rfl rfl)
theorem dX19_readPerson_334 : decode cX19_readPerson 334 = .ok (.iload 8, 2) := dk_21 8 (dk_at dksX19_readPerson_14 9 rfl rfl)
theorem dX19_readPerson_336 : decode cX19_readPerson 336 = .ok (.ifCond .eq 32, 3) := dk_153 0 32 (dk_at dksX19_readPerson_14 11 rfl rfl)
theorem dX19_readPerson_339 : decode cX19_readPerson 339 = .ok (.aload_n 0, 1) := dk_42 (dk_at dksX19_readPerson_14 14 rfl rfl)
theorem dX19_readPerson_340 : decode cX19_readPerson 340 = .ok (.getfield 196, 3) := dk_180 0 196 (dk_at dksX19_readPerson_14 15 rfl rfl)
theorem dX19_readPerson_343 : decode cX19_readPerson 343 = .ok (.getfield 278, 3) := dk_180 1 22 (dk_at dksX19_readPerson_14 18 rfl rfl)
theorem dX19_readPerson_346 : decode cX19_readPerson 346 = .ok (.bipush 6, 2) := dk_16 6 (dk_at dksX19_readPerson_14 21 rfl rfl)
theorem dX19_readPerson_348 : decode cX19_readPerson 348 = .ok (.iload 5, 2) := dk_21 5 (dk_at dksX19_readPerson_15 0 rfl rfl)
theorem dX19_readPerson_350 : decode cX19_readPerson 350 = .ok (.imul, 1) := dk_104 (dk_at dksX19_readPerson_15 2 rfl rfl)
theorem dX19_readPerson_351 : decode cX19_readPerson 351 = .ok (.iload 7, 2) := dk_21 7 (dk_at dksX19_readPerson_15 3 rfl rfl)
theorem dX19_readPerson_353 : decode cX19_readPerson 353 = .ok (.iadd, 1) := dk_96 (dk_at dksX19_readPerson_15 5 rfl rfl)
theorem dX19_readPerson_354 : decode cX19_readPerson 354 = .ok (.aload_n 0, 1) := dk_42 (dk_at dksX19_readPerson_15 6 rfl rfl)
theorem dX19_readPerson_355 : decode cX19_readPerson 355 = .ok (.getfield 17, 3) := dk_180 0 17 (dk_at dksX19_readPerson_15 7 rfl rfl)
theorem dX19_readPerson_358 : decode cX19_readPerson 358 = .ok (.iload 7, 2) := dk_21 7 (dk_at dksX19_readPerson_15 10 rfl rfl)
theorem dX19_readPerson_360 : decode cX19_readPerson 360 = .ok (.iaload, 1) := dk_46 (dk_at dksX19_readPerson_15 12 rfl rfl)
theorem dX19_readPerson_361 : decode cX19_readPerson 361 = .ok (.bipush 97, 2) := dk_16 97 (dk_at dksX19_readPerson_15 13 rfl rfl)
theorem dX19_readPerson_363 : decode cX19_readPerson 363 = .ok (.isub, 1) := dk_100 (dk_at dksX19_readPerson_15 15 rfl rfl)
theorem dX19_readPerson_364 : decode cX19_readPerson 364 = .ok (.iastore, 1) := dk_79 (dk_at dksX19_readPerson_15 16 rfl rfl)
theorem dX19_readPerson_365 : decode cX19_readPerson 365 = .ok (.goto 9, 3) := dk_167 0 9 (dk_at dksX19_readPerson_15 17 rfl rfl)
theorem dX19_readPerson_368 : decode cX19_readPerson 368 = .ok (.aload_n 0, 1) := dk_42 (dk_at dksX19_readPerson_15 20 rfl rfl)
theorem dX19_readPerson_369 : decode cX19_readPerson 369 = .ok (.bipush 7, 2) := dk_16 7 (dk_at dksX19_readPerson_15 21 rfl rfl)
theorem dX19_readPerson_371 : decode cX19_readPerson 371 = .ok (.invokevirtual 165, 3) := dk_182 0 165 (dk_at dksX19_readPerson_16 0 rfl rfl)
theorem dX19_readPerson_374 : decode cX19_readPerson 374 = .ok (.iinc 7 1, 3) := dk_132 7 1 (dk_at dksX19_readPerson_16 3 rfl rfl)
theorem dX19_readPerson_377 : decode cX19_readPerson 377 = .ok (.goto (-130), 3) := dk_167 255 126 (dk_at dksX19_readPerson_16 6 rfl rfl)
theorem dX19_readPerson_380 : decode cX19_readPerson 380 = .ok (.aload_n 0, 1) := dk_42 (dk_at dksX19_readPerson_16 9 rfl rfl)
theorem dX19_readPerson_381 : decode cX19_readPerson 381 = .ok (.invokevirtual 158, 3) := dk_182 0 158 (dk_at dksX19_readPerson_16 10 rfl rfl)
theorem dX19_readPerson_384 : decode cX19_readPerson 384 = .ok (.aload_n 0, 1) := dk_42 (dk_at dksX19_readPerson_16 13 rfl rfl)
theorem dX19_readPerson_385 : decode cX19_readPerson 385 = .ok (.ldc_w 280, 3) := dk_19 1 24 (dk_at dksX19_readPerson_16 14 rfl rfl)
theorem dX19_readPerson_388 : decode cX19_readPerson 388 = .ok (.iconst 3, 1) := dk_6 (dk_at dksX19_readPerson_16 17 rfl rfl)
theorem dX19_readPerson_389 : decode cX19_readPerson 389 = .ok (.bipush 30, 2) := dk_16 30 (dk_at dksX19_readPerson_16 18 rfl rfl)
theorem dX19_readPerson_391 : decode cX19_readPerson 391 = .ok (.invokevirtual 241, 3) := dk_182 0 241 (dk_at dksX19_readPerson_16 20 rfl rfl)
theorem dX19_readPerson_394 : decode cX19_readPerson 394 = .ok (.istore 7, 2) := dk_54 7 (dk_at dksX19_readPerson_17 0 rfl rfl)
theorem dX19_readPerson_396 : decode cX19_readPerson 396 = .ok (.aload_n 0, 1) := dk_42 (dk_at dksX19_readPerson_17 2 rfl rfl)
theorem dX19_readPerson_397 : decode cX19_readPerson 397 = .ok (.ldc_w 282, 3) := dk_19 1 26 (dk_at dksX19_readPerson_17 3 rfl rfl)
theorem dX19_readPerson_400 : decode cX19_readPerson 400 = .ok (.iconst 1, 1) := dk_4 (dk_at dksX19_readPerson_17 6 rfl rfl)
theorem dX19_readPerson_401 : decode cX19_readPerson 401 = .ok (.bipush 9, 2) := dk_16 9 (dk_at dksX19_readPerson_17 7 rfl rfl)
theorem dX19_readPerson_403 : decode cX19_readPerson 403 = .ok (.invokevirtual 241, 3) := dk_182 0 241 (dk_at dksX19_readPerson_17 9 rfl rfl)
theorem dX19_readPerson_406 : decode cX19_readPerson 406 = .ok (.istore 8, 2) := dk_54 8 (dk_at dksX19_readPerson_17 12 rfl rfl)
theorem dX19_readPerson_408 : decode cX19_readPerson 408 = .ok (.aload_n 0, 1) := dk_42 (dk_at dksX19_readPerson_17 14 rfl rfl)
theorem dX19_readPerson_409 : decode cX19_readPerson 409 = .ok (.ldc_w 284, 3) := dk_19 1 28 (dk_at dksX19_readPerson_17 15 rfl rfl)
theorem dX19_readPerson_412 : decode cX19_readPerson 412 = .ok (.invokevirtual 177, 3) := dk_182 0 177 (dk_at dksX19_readPerson_17 18 rfl rfl)
theorem dX19_readPerson_415 : decode cX19_readPerson 415 = .ok (.aload_n 0, 1) := dk_42 (dk_at dksX19_readPerson_17 21 rfl rfl)
theorem dX19_readPerson_416 : decode cX19_readPerson 416 = .ok (.ldc_w 286, 3) := dk_19 1 30 (dk_at dksX19_readPerson_18 0 rfl rfl)
theorem dX19_readPerson_419 : decode cX19_readPerson 419 = .ok (.invokevirtual 161, 3) := dk_182 0 161 (dk_at dksX19_readPerson_18 3 rfl rfl)
theorem dX19_readPerson_422 : decode cX19_readPerson 422 = .ok (.istore 9, 2) := dk_54 9 (dk_at dksX19_readPerson_18 6 rfl rfl)
theorem dX19_readPerson_424 : decode cX19_readPerson 424 = .ok (.iload 9, 2) := dk_21 9 (dk_at dksX19_readPerson_18 8 rfl rfl)
theorem dX19_readPerson_426 : decode cX19_readPerson 426 = .ok (.ifCond .ne 18, 3) := dk_154 0 18 (dk_at dksX19_readPerson_18 10 rfl rfl)
theorem dX19_readPerson_429 : decode cX19_readPerson 429 = .ok (.aload_n 0, 1) := dk_42 (dk_at dksX19_readPerson_18 13 rfl rfl)
theorem dX19_readPerson_430 : decode cX19_readPerson 430 = .ok (.ldc_w 288, 3) := dk_19 1 32 (dk_at dksX19_readPerson_18 14 rfl rfl)
theorem dX19_readPerson_433 : decode cX19_readPerson 433 = .ok (.invokevirtual 161, 3) := dk_182 0 161 (dk_at dksX19_readPerson_18 17 rfl rfl)
theorem dX19_readPerson_436 : decode cX19_readPerson 436 = .ok (.ifCond .ne 8, 3) := dk_154 0 8 (dk_at dksX19_readPerson_18 20 rfl rfl)
theorem dX19_readPerson_439 : decode cX19_readPerson 439 = .ok (.aload_n 0, 1) := dk_42 (dk_at dksX19_readPerson_18 23 rfl rfl)
theorem dX19_readPerson_440 : decode cX19_readPerson 440 = .ok (.iconst 1, 1) := dk_4 (dk_at dksX19_readPerson_19 0 rfl rfl)
theorem dX19_readPerson_441 : decode cX19_readPerson 441 = .ok (.invokevirtual 165, 3) := dk_182 0 165 (dk_at dksX19_readPerson_19 1 rfl rfl)
theorem dX19_readPerson_444 : decode cX19_readPerson 444 = .ok (.aload_n 0, 1) := dk_42 (dk_at dksX19_readPerson_19 4 rfl rfl)
theorem dX19_readPerson_445 : decode cX19_readPerson 445 = .ok (.invokevirtual 158, 3) := dk_182 0 158 (dk_at dksX19_readPerson_19 5 rfl rfl)
theorem dX19_readPerson_448 : decode cX19_readPerson 448 = .ok (.aload_n 0, 1) := dk_42 (dk_at dksX19_readPerson_19 8 rfl rfl)
theorem dX19_readPerson_449 : decode cX19_readPerson 449 = .ok (.getfield 116, 3) := dk_180 0 116 (dk_at dksX19_readPerson_19 9 rfl rfl)
theorem dX19_readPerson_452 : decode cX19_readPerson 452 = .ok (.iconst 5, 1) := dk_8 (dk_at dksX19_readPerson_19 12 rfl rfl)
theorem dX19_readPerson_453 : decode cX19_readPerson 453 = .ok (.if_icmp .ne 4, 3) := dk_160 0 4 (dk_at dksX19_readPerson_19 13 rfl rfl)
theorem dX19_readPerson_456 : decode cX19_readPerson 456 = .ok (.return_, 1) := dk_177 (dk_at dksX19_readPerson_19 16 rfl rfl)
theorem dX19_readPerson_457 : decode cX19_readPerson 457 = .ok (.aload_n 0, 1) := dk_42 (dk_at dksX19_readPerson_19 17 rfl rfl)
theorem dX19_readPerson_458 : decode cX19_readPerson 458 = .ok (.getfield 196, 3) := dk_180 0 196 (dk_at dksX19_readPerson_19 18 rfl rfl)
theorem dX19_readPerson_461 : decode cX19_readPerson 461 = .ok (.getfield 290, 3) := dk_180 1 34 (dk_at dksX19_readPerson_19 21 rfl rfl)
theorem dX19_readPerson_464 : decode cX19_readPerson 464 = .ok (.iload 5, 2) := dk_21 5 (dk_at dksX19_readPerson_20 0 rfl rfl)
theorem dX19_readPerson_466 : decode cX19_readPerson 466 = .ok (.lload_n 1, 1) := dk_31 (dk_at dksX19_readPerson_20 2 rfl rfl)
theorem dX19_readPerson_467 : decode cX19_readPerson 467 = .ok (.lastore, 1) := dk_80 (dk_at dksX19_readPerson_20 3 rfl rfl)
theorem dX19_readPerson_468 : decode cX19_readPerson 468 = .ok (.aload_n 0, 1) := dk_42 (dk_at dksX19_readPerson_20 4 rfl rfl)
theorem dX19_readPerson_469 : decode cX19_readPerson 469 = .ok (.getfield 196, 3) := dk_180 0 196 (dk_at dksX19_readPerson_20 5 rfl rfl)
theorem dX19_readPerson_472 : decode cX19_readPerson 472 = .ok (.getfield 293, 3) := dk_180 1 37 (dk_at dksX19_readPerson_20 8 rfl rfl)
theorem dX19_readPerson_475 : decode cX19_readPerson 475 = .ok (.iload 5, 2) := dk_21 5 (dk_at dksX19_readPerson_20 11 rfl rfl)
theorem dX19_readPerson_477 : decode cX19_readPerson 477 = .ok (.iload_n 3, 1) := dk_29 (dk_at dksX19_readPerson_20 13 rfl rfl)
theorem dX19_readPerson_478 : decode cX19_readPerson 478 = .ok (.iastore, 1) := dk_79 (dk_at dksX19_readPerson_20 14 rfl rfl)
theorem dX19_readPerson_479 : decode cX19_readPerson 479 = .ok (.aload_n 0, 1) := dk_42 (dk_at dksX19_readPerson_20 15 rfl rfl)
theorem dX19_readPerson_480 : decode cX19_readPerson 480 = .ok (.getfield 196, 3) := dk_180 0 196 (dk_at dksX19_readPerson_20 16 rfl rfl)
theorem dX19_readPerson_483 : decode cX19_readPerson 483 = .ok (.getfield 296, 3) := dk_180 1 40 (dk_at dksX19_readPerson_20 19 rfl rfl)
theorem dX19_readPerson_486 : decode cX19_readPerson 486 = .ok (.iload 5, 2) := dk_21 5 (dk_at dksX19_readPerson_20 22 rfl rfl)
theorem dX19_readPerson_488 : decode cX19_readPerson 488 = .ok (.iload 4, 2) := dk_21 4 (dk_at dksX19_readPerson_21 0 rfl rfl)
theorem dX19_readPerson_490 : decode cX19_readPerson 490 = .ok (.iastore, 1) := dk_79 (dk_at dksX19_readPerson_21 2 rfl rfl)
theorem dX19_readPerson_491 : decode cX19_readPerson 491 = .ok (.aload_n 0, 1) := dk_42 (dk_at dksX19_readPerson_21 3 rfl rfl)
theorem dX19_readPerson_492 : decode cX19_readPerson 492 = .ok (.getfield 196, 3) := dk_180 0 196 (dk_at dksX19_readPerson_21 4 rfl rfl)
theorem dX19_readPerson_495 : decode cX19_readPerson 495 = .ok (.getfield 299, 3) := dk_180 1 43 (dk_at dksX19_readPerson_21 7 rfl rfl)
theorem dX19_readPerson_498 : decode cX19_readPerson 498 = .ok (.iload 5, 2) := dk_21 5 (dk_at dksX19_readPerson_21 10 rfl rfl)
theorem dX19_readPerson_500 : decode cX19_readPerson 500 = .ok (.iload 6, 2) := dk_21 6 (dk_at dksX19_readPerson_21 12 rfl rfl)
theorem dX19_readPerson_502 : decode cX19_readPerson 502 = .ok (.iastore, 1) := dk_79 (dk_at dksX19_readPerson_21 14 rfl rfl)
theorem dX19_readPerson_503 : decode cX19_readPerson 503 = .ok (.aload_n 0, 1) := dk_42 (dk_at dksX19_readPerson_21 15 rfl rfl)
theorem dX19_readPerson_504 : decode cX19_readPerson 504 = .ok (.getfield 196, 3) := dk_180 0 196 (dk_at dksX19_readPerson_21 16 rfl rfl)
theorem dX19_readPerson_507 : decode cX19_readPerson 507 = .ok (.getfield 302, 3) := dk_180 1 46 (dk_at dksX19_readPerson_21 19 rfl rfl)
theorem dX19_readPerson_510 : decode cX19_readPerson 510 = .ok (.iload 5, 2) := dk_21 5 (dk_at dksX19_readPerson_21 22 rfl rfl)
theorem dX19_readPerson_512 : decode cX19_readPerson 512 = .ok (.iload 7, 2) := dk_21 7 (dk_at dksX19_readPerson_22 0 rfl rfl)
theorem dX19_readPerson_514 : decode cX19_readPerson 514 = .ok (.iastore, 1) := dk_79 (dk_at dksX19_readPerson_22 2 rfl rfl)
theorem dX19_readPerson_515 : decode cX19_readPerson 515 = .ok (.aload_n 0, 1) := dk_42 (dk_at dksX19_readPerson_22 3 rfl rfl)
theorem dX19_readPerson_516 : decode cX19_readPerson 516 = .ok (.getfield 196, 3) := dk_180 0 196 (dk_at dksX19_readPerson_22 4 rfl rfl)
theorem dX19_readPerson_519 : decode cX19_readPerson 519 = .ok (.getfield 304, 3) := dk_180 1 48 (dk_at dksX19_readPerson_22 7 rfl rfl)
theorem dX19_readPerson_522 : decode cX19_readPerson 522 = .ok (.iload 5, 2) := dk_21 5 (dk_at dksX19_readPerson_22 10 rfl rfl)
theorem dX19_readPerson_524 : decode cX19_readPerson 524 = .ok (.iload 8, 2) := dk_21 8 (dk_at dksX19_readPerson_22 12 rfl rfl)
theorem dX19_readPerson_526 : decode cX19_readPerson 526 = .ok (.iastore, 1) := dk_79 (dk_at dksX19_readPerson_22 14 rfl rfl)
theorem dX19_readPerson_527 : decode cX19_readPerson 527 = .ok (.aload_n 0, 1) := dk_42 (dk_at dksX19_readPerson_22 15 rfl rfl)
theorem dX19_readPerson_528 : decode cX19_readPerson 528 = .ok (.getfield 196, 3) := dk_180 0 196 (dk_at dksX19_readPerson_22 16 rfl rfl)
theorem dX19_readPerson_531 : decode cX19_readPerson 531 = .ok (.getfield 306, 3) := dk_180 1 50 (dk_at dksX19_readPerson_22 19 rfl rfl)
theorem dX19_readPerson_534 : decode cX19_readPerson 534 = .ok (.iload 5, 2) := dk_21 5 (dk_at dksX19_readPerson_22 22 rfl rfl)
theorem dX19_readPerson_536 : decode cX19_readPerson 536 = .ok (.iload 9, 2) := dk_21 9 (dk_at dksX19_readPerson_23 0 rfl rfl)
theorem dX19_readPerson_538 : decode cX19_readPerson 538 = .ok (.bastore, 1) := dk_84 (dk_at dksX19_readPerson_23 2 rfl rfl)
theorem dX19_readPerson_539 : decode cX19_readPerson 539 = .ok (.aload_n 0, 1) := dk_42 (dk_at dksX19_readPerson_23 3 rfl rfl)
theorem dX19_readPerson_540 : decode cX19_readPerson 540 = .ok (.getfield 196, 3) := dk_180 0 196 (dk_at dksX19_readPerson_23 4 rfl rfl)
theorem dX19_readPerson_543 : decode cX19_readPerson 543 = .ok (.dup, 1) := dk_89 (dk_at dksX19_readPerson_23 7 rfl rfl)
theorem dX19_readPerson_544 : decode cX19_readPerson 544 = .ok (.getfield 219, 3) := dk_180 0 219 (dk_at dksX19_readPerson_23 8 rfl rfl)
theorem dX19_readPerson_547 : decode cX19_readPerson 547 = .ok (.iconst 1, 1) := dk_4 (dk_at dksX19_readPerson_23 11 rfl rfl)
theorem dX19_readPerson_548 : decode cX19_readPerson 548 = .ok (.iadd, 1) := dk_96 (dk_at dksX19_readPerson_23 12 rfl rfl)
theorem dX19_readPerson_549 : decode cX19_readPerson 549 = .ok (.putfield 219, 3) := dk_181 0 219 (dk_at dksX19_readPerson_23 13 rfl rfl)
theorem dX19_readPerson_552 : decode cX19_readPerson 552 = .ok (.return_, 1) := dk_177 (dk_at dksX19_readPerson_23 16 rfl rfl)
abbrev cX19_begins : ByteArray := prog_24_method_24_code
def yX19_begins : MethodName := ⟨RX19, "begins", "(II)V"⟩
def dkwX19_begins_1 : List UInt8 := [182, 0, 165, 42, 182, 0, 158, 177]
abbrev dktX19_begins_1 : List UInt8 := dkwX19_begins_1 ++ []
def dkwX19_begins_0 : List UInt8 := [27, 28, 160, 0, 8, 42, 8, 182, 0, 165, 42, 180, 0, 196, 180, 0, 200, 154, 0, 9, 42, 16, 6]
abbrev dktX19_begins_0 : List UInt8 := dkwX19_begins_0 ++ dktX19_begins_1
theorem dksX19_begins_0 : cX19_begins.data.toList.drop 0 = dktX19_begins_0 := by decide +kernel
theorem dksX19_begins_1 : cX19_begins.data.toList.drop 23 = dktX19_begins_1 := dk_seg dksX19_begins_0 23 rfl rfl
theorem dX19_begins_0 : decode cX19_begins 0 = .ok (.iload_n 1, 1) := dk_27 (dk_at dksX19_begins_0 0 rfl rfl)
theorem dX19_begins_1 : decode cX19_begins 1 = .ok (.iload_n 2, 1) := dk_28 (dk_at dksX19_begins_0 1 rfl rfl)
theorem dX19_begins_2 : decode cX19_begins 2 = .ok (.if_icmp .ne 8, 3) := dk_160 0 8 (dk_at dksX19_begins_0 2 rfl rfl)
theorem dX19_begins_5 : decode cX19_begins 5 = .ok (.aload_n 0, 1) := dk_42 (dk_at dksX19_begins_0 5 rfl rfl)
theorem dX19_begins_6 : decode cX19_begins 6 = .ok (.iconst 5, 1) := dk_8 (dk_at dksX19_begins_0 6 rfl rfl)
theorem dX19_begins_7 : decode cX19_begins 7 = .ok (.invokevirtual 165, 3) := dk_182 0 165 (dk_at dksX19_begins_0 7 rfl rfl)
theorem dX19_begins_10 : decode cX19_begins 10 = .ok (.aload_n 0, 1) := dk_42 (dk_at dksX19_begins_0 10 rfl rfl)
theorem dX19_begins_11 : decode cX19_begins 11 = .ok (.getfield 196, 3) := dk_180 0 196 (dk_at dksX19_begins_0 11 rfl rfl)
theorem dX19_begins_14 : decode cX19_begins 14 = .ok (.getfield 200, 3) := dk_180 0 200 (dk_at dksX19_begins_0 14 rfl rfl)
theorem dX19_begins_17 : decode cX19_begins 17 = .ok (.ifCond .ne 9, 3) := dk_154 0 9 (dk_at dksX19_begins_0 17 rfl rfl)
theorem dX19_begins_20 : decode cX19_begins 20 = .ok (.aload_n 0, 1) := dk_42 (dk_at dksX19_begins_0 20 rfl rfl)
theorem dX19_begins_21 : decode cX19_begins 21 = .ok (.bipush 6, 2) := dk_16 6 (dk_at dksX19_begins_0 21 rfl rfl)
theorem dX19_begins_23 : decode cX19_begins 23 = .ok (.invokevirtual 165, 3) := dk_182 0 165 (dk_at dksX19_begins_1 0 rfl rfl)
theorem dX19_begins_26 : decode cX19_begins 26 = .ok (.aload_n 0, 1) := dk_42 (dk_at dksX19_begins_1 3 rfl rfl)
theorem dX19_begins_27 : decode cX19_begins 27 = .ok (.invokevirtual 158, 3) := dk_182 0 158 (dk_at dksX19_begins_1 4 rfl rfl)
theorem dX19_begins_30 : decode cX19_begins 30 = .ok (.return_, 1) := dk_177 (dk_at dksX19_begins_1 7 rfl rfl)
abbrev cX19_isName : ByteArray := prog_24_method_23_code
def yX19_isName : MethodName := ⟨RX19, "isName", "()Z"⟩
def dkwX19_isName_2 : List UInt8 := [182, 0, 161, 154, 0, 16, 42, 18, 194, 182, 0, 161, 154, 0, 7, 4, 167, 0, 4, 3, 172]
abbrev dktX19_isName_2 : List UInt8 := dkwX19_isName_2 ++ []
def dkwX19_isName_1 : List UInt8 := [154, 0, 43, 42, 18, 188, 182, 0, 161, 154, 0, 34, 42, 18, 190, 182, 0, 161, 154, 0, 25, 42, 18, 192]
abbrev dktX19_isName_1 : List UInt8 := dkwX19_isName_1 ++ dktX19_isName_2
def dkwX19_isName_0 : List UInt8 := [42, 180, 0, 116, 5, 160, 0, 61, 42, 18, 184, 182, 0, 161, 154, 0, 52, 42, 18, 186, 182, 0, 161]
abbrev dktX19_isName_0 : List UInt8 := dkwX19_isName_0 ++ dktX19_isName_1
theorem dksX19_isName_0 : cX19_isName.data.toList.drop 0 = dktX19_isName_0 := by decide +kernel
theorem dksX19_isName_1 : cX19_isName.data.toList.drop 23 = dktX19_isName_1 := dk_seg dksX19_isName_0 23 rfl rfl
theorem dksX19_isName_2 : cX19_isName.data.toList.drop 47 = dktX19_isName_2 := dk_seg dksX19_isName_1 24 rfl rfl
theorem dX19_isName_0 : decode cX19_isName 0 = .ok (.aload_n 0, 1) := dk_42 (dk_at dksX19_isName_0 0 rfl rfl)
theorem dX19_isName_1 : decode cX19_isName 1 = .ok (.getfield 116, 3) := dk_180 0 116 (dk_at dksX19_isName_0 1 rfl rfl)
theorem dX19_isName_4 : decode cX19_isName 4 = .ok (.iconst 2, 1) := dk_5 (dk_at dksX19_isName_0 4 rfl rfl)
theorem dX19_isName_5 : decode cX19_isName 5 = .ok (.if_icmp .ne 61, 3) := dk_160 0 61 (dk_at dksX19_isName_0 5 rfl rfl)
theorem dX19_isName_8 : decode cX19_isName 8 = .ok (.aload_n 0, 1) := dk_42 (dk_at dksX19_isName_0 8 rfl rfl)
theorem dX19_isName_9 : decode cX19_isName 9 = .ok (.ldc 184, 2) := dk_18 184 (dk_at dksX19_isName_0 9 rfl rfl)
theorem dX19_isName_11 : decode cX19_isName 11 = .ok (.invokevirtual 161, 3) := dk_182 0 161 (dk_at dksX19_isName_0 11 rfl rfl)
theorem dX19_isName_14 : decode cX19_isName 14 = .ok (.ifCond .ne 52, 3) := dk_154 0 52 (dk_at dksX19_isName_0 14 rfl rfl)
theorem dX19_isName_17 : decode cX19_isName 17 = .ok (.aload_n 0, 1) := dk_42 (dk_at dksX19_isName_0 17 rfl rfl)
theorem dX19_isName_18 : decode cX19_isName 18 = .ok (.ldc 186, 2) := dk_18 186 (dk_at dksX19_isName_0 18 rfl rfl)
theorem dX19_isName_20 : decode cX19_isName 20 = .ok (.invokevirtual 161, 3) := dk_182 0 161 (dk_at dksX19_isName_0 20 rfl rfl)
theorem dX19_isName_23 : decode cX19_isName 23 = .ok (.ifCond .ne 43, 3) := dk_154 0 43 (dk_at dksX19_isName_1 0 rfl rfl)
theorem dX19_isName_26 : decode cX19_isName 26 = .ok (.aload_n 0, 1) := dk_42 (dk_at dksX19_isName_1 3 rfl rfl)
theorem dX19_isName_27 : decode cX19_isName 27 = .ok (.ldc 188, 2) := dk_18 188 (dk_at dksX19_isName_1 4 rfl rfl)
theorem dX19_isName_29 : decode cX19_isName 29 = .ok (.invokevirtual 161, 3) := dk_182 0 161 (dk_at dksX19_isName_1 6 rfl rfl)
theorem dX19_isName_32 : decode cX19_isName 32 = .ok (.ifCond .ne 34, 3) := dk_154 0 34 (dk_at dksX19_isName_1 9 rfl rfl)
theorem dX19_isName_35 : decode cX19_isName 35 = .ok (.aload_n 0, 1) := dk_42 (dk_at dksX19_isName_1 12 rfl rfl)
theorem dX19_isName_36 : decode cX19_isName 36 = .ok (.ldc 190, 2) := dk_18 190 (dk_at dksX19_isName_1 13 rfl rfl)
theorem dX19_isName_38 : decode cX19_isName 38 = .ok (.invokevirtual 161, 3) := dk_182 0 161 (dk_at dksX19_isName_1 15 rfl rfl)
theorem dX19_isName_41 : decode cX19_isName 41 = .ok (.ifCond .ne 25, 3) := dk_154 0 25 (dk_at dksX19_isName_1 18 rfl rfl)
theorem dX19_isName_44 : decode cX19_isName 44 = .ok (.aload_n 0, 1) := dk_42 (dk_at dksX19_isName_1 21 rfl rfl)
theorem dX19_isName_45 : decode cX19_isName 45 = .ok (.ldc 192, 2) := dk_18 192 (dk_at dksX19_isName_1 22 rfl rfl)
theorem dX19_isName_47 : decode cX19_isName 47 = .ok (.invokevirtual 161, 3) := dk_182 0 161 (dk_at dksX19_isName_2 0 rfl rfl)
theorem dX19_isName_50 : decode cX19_isName 50 = .ok (.ifCond .ne 16, 3) := dk_154 0 16 (dk_at dksX19_isName_2 3 rfl rfl)
theorem dX19_isName_53 : decode cX19_isName 53 = .ok (.aload_n 0, 1) := dk_42 (dk_at dksX19_isName_2 6 rfl rfl)
theorem dX19_isName_54 : decode cX19_isName 54 = .ok (.ldc 194, 2) := dk_18 194 (dk_at dksX19_isName_2 7 rfl rfl)
theorem dX19_isName_56 : decode cX19_isName 56 = .ok (.invokevirtual 161, 3) := dk_182 0 161 (dk_at dksX19_isName_2 9 rfl rfl)
theorem dX19_isName_59 : decode cX19_isName 59 = .ok (.ifCond .ne 7, 3) := dk_154 0 7 (dk_at dksX19_isName_2 12 rfl rfl)
theorem dX19_isName_62 : decode cX19_isName 62 = .ok (.iconst 1, 1) := dk_4 (dk_at dksX19_isName_2 15 rfl rfl)
theorem dX19_isName_63 : decode cX19_isName 63 = .ok (.goto 4, 3) := dk_167 0 4 (dk_at dksX19_isName_2 16 rfl rfl)
theorem dX19_isName_66 : decode cX19_isName 66 = .ok (.iconst 0, 1) := dk_3 (dk_at dksX19_isName_2 19 rfl rfl)
theorem dX19_isName_67 : decode cX19_isName 67 = .ok (.ireturn, 1) := dk_172 (dk_at dksX19_isName_2 20 rfl rfl)
abbrev cX19_readStay : ByteArray := prog_24_method_30_code
def yX19_readStay : MethodName := ⟨RX19, "readStay", "()V"⟩
def dkwX19_readStay_8 : List UInt8 := [180, 0, 196, 180, 1, 56, 27, 92, 46, 4, 96, 79, 177]
abbrev dktX19_readStay_8 : List UInt8 := dkwX19_readStay_8 ++ []
def dkwX19_readStay_7 : List UInt8 := [180, 0, 196, 180, 1, 59, 6, 27, 104, 42, 180, 0, 196, 180, 1, 56, 27, 46, 96, 21, 4, 79, 42]
abbrev dktX19_readStay_7 : List UInt8 := dkwX19_readStay_7 ++ dktX19_readStay_8
def dkwX19_readStay_6 : List UInt8 := [180, 0, 196, 180, 1, 63, 6, 27, 104, 42, 180, 0, 196, 180, 1, 56, 27, 46, 96, 29, 79, 42]
abbrev dktX19_readStay_6 : List UInt8 := dkwX19_readStay_6 ++ dktX19_readStay_7
def dkwX19_readStay_5 : List UInt8 := [180, 0, 196, 180, 0, 200, 4, 100, 182, 0, 181, 54, 4, 42, 180, 0, 116, 8, 160, 0, 4, 177, 42]
abbrev dktX19_readStay_5 : List UInt8 := dkwX19_readStay_5 ++ dktX19_readStay_6
def dkwX19_readStay_4 : List UInt8 := [42, 180, 0, 196, 180, 0, 200, 4, 100, 182, 0, 181, 62, 42, 19, 1, 62, 182, 0, 177, 42, 29, 42]
abbrev dktX19_readStay_4 : List UInt8 := dkwX19_readStay_4 ++ dktX19_readStay_5
def dkwX19_readStay_3 : List UInt8 := [180, 1, 59, 6, 27, 104, 42, 180, 0, 196, 180, 1, 56, 27, 46, 96, 4, 100, 46, 4, 96, 61, 42, 28]
abbrev dktX19_readStay_3 : List UInt8 := dkwX19_readStay_3 ++ dktX19_readStay_4
def dkwX19_readStay_2 : List UInt8 := [159, 0, 15, 42, 180, 0, 196, 180, 1, 56, 27, 46, 154, 0, 7, 3, 167, 0, 28, 42, 180, 0, 196]
abbrev dktX19_readStay_2 : List UInt8 := dkwX19_readStay_2 ++ dktX19_readStay_3
def dkwX19_readStay_1 : List UInt8 := [180, 1, 56, 27, 46, 6, 160, 0, 8, 42, 8, 182, 0, 165, 42, 182, 0, 158, 42, 180, 0, 116, 8]
abbrev dktX19_readStay_1 : List UInt8 := dkwX19_readStay_1 ++ dktX19_readStay_2
def dkwX19_readStay_0 : List UInt8 := [42, 3, 4, 182, 1, 1, 42, 182, 1, 53, 60, 42, 180, 0, 116, 8, 159, 0, 21, 42, 180, 0, 196]
abbrev dktX19_readStay_0 : List UInt8 := dkwX19_readStay_0 ++ dktX19_readStay_1
theorem dksX19_readStay_0 : cX19_readStay.data.toList.drop 0 = dktX19_readStay_0 := by decide +kernel
theorem dksX19_readStay_1 : cX19_readStay.data.toList.drop 23 = dktX19_readStay_1 := dk_seg dksX19_readStay_0 23 rfl rfl
theorem dksX19_readStay_2 : cX19_readStay.data.toList.drop 46 = dktX19_readStay_2 := dk_seg dksX19_readStay_1 23 rfl rfl
theorem dksX19_readStay_3 : cX19_readStay.data.toList.drop 69 = dktX19_readStay_3 := dk_seg dksX19_readStay_2 23 rfl rfl
theorem dksX19_readStay_4 : cX19_readStay.data.toList.drop 93 = dktX19_readStay_4 := dk_seg dksX19_readStay_3 24 rfl rfl
theorem dksX19_readStay_5 : cX19_readStay.data.toList.drop 116 = dktX19_readStay_5 := dk_seg dksX19_readStay_4 23 rfl rfl
theorem dksX19_readStay_6 : cX19_readStay.data.toList.drop 139 = dktX19_readStay_6 := dk_seg dksX19_readStay_5 23 rfl rfl
theorem dksX19_readStay_7 : cX19_readStay.data.toList.drop 161 = dktX19_readStay_7 := dk_seg dksX19_readStay_6 22 rfl rfl
theorem dksX19_readStay_8 : cX19_readStay.data.toList.drop 184 = dktX19_readStay_8 := dk_seg dksX19_readStay_7 23 rfl rfl
theorem dX19_readStay_0 : decode cX19_readStay 0 = .ok (.aload_n 0, 1) := dk_42 (dk_at dksX19_readStay_0 0 rfl rfl)
theorem dX19_readStay_1 : decode cX19_readStay 1 = .ok (.iconst 0, 1) := dk_3 (dk_at dksX19_readStay_0 1 rfl rfl)
theorem dX19_readStay_2 : decode cX19_readStay 2 = .ok (.iconst 1, 1) := dk_4 (dk_at dksX19_readStay_0 2 rfl rfl)
theorem dX19_readStay_3 : decode cX19_readStay 3 = .ok (.invokevirtual 257, 3) := dk_182 1 1 (dk_at dksX19_readStay_0 3 rfl rfl)
theorem dX19_readStay_6 : decode cX19_readStay 6 = .ok (.aload_n 0, 1) := dk_42 (dk_at dksX19_readStay_0 6 rfl rfl)
theorem dX19_readStay_7 : decode cX19_readStay 7 = .ok (.invokevirtual 309, 3) := dk_182 1 53 (dk_at dksX19_readStay_0 7 rfl rfl)
theorem dX19_readStay_10 : decode cX19_readStay 10 = .ok (.istore_n 1, 1) := dk_60 (dk_at dksX19_readStay_0 10 rfl rfl)
theorem dX19_readStay_11 : decode cX19_readStay 11 = .ok (.aload_n 0, 1) := dk_42 (dk_at dksX19_readStay_0 11 rfl rfl)
theorem dX19_readStay_12 : decode cX19_readStay 12 = .ok (.getfield 116, 3) := dk_180 0 116 (dk_at dksX19_readStay_0 12 rfl rfl)
theorem dX19_readStay_15 : decode cX19_readStay 15 = .ok (.iconst 5, 1) := dk_8 (dk_at dksX19_readStay_0 15 rfl rfl)
theorem dX19_readStay_16 : decode cX19_readStay 16 = .ok (.if_icmp .eq 21, 3) := dk_159 0 21 (dk_at dksX19_readStay_0 16 rfl rfl)
theorem dX19_readStay_19 : decode cX19_readStay 19 = .ok (.aload_n 0, 1) := dk_42 (dk_at dksX19_readStay_0 19 rfl rfl)
theorem dX19_readStay_20 : decode cX19_readStay 20 = .ok (.getfield 196, 3) := dk_180 0 196 (dk_at dksX19_readStay_0 20 rfl rfl)
theorem dX19_readStay_23 : decode cX19_readStay 23 = .ok (.getfield 312, 3) := dk_180 1 56 (dk_at dksX19_readStay_1 0 rfl rfl)
theorem dX19_readStay_26 : decode cX19_readStay 26 = .ok (.iload_n 1, 1) := dk_27 (dk_at dksX19_readStay_1 3 rfl rfl)
theorem dX19_readStay_27 : decode cX19_readStay 27 = .ok (.iaload, 1) := dk_46 (dk_at dksX19_readStay_1 4 rfl rfl)
theorem dX19_readStay_28 : decode cX19_readStay 28 = .ok (.iconst 3, 1) := dk_6 (dk_at dksX19_readStay_1 5 rfl rfl)
theorem dX19_readStay_29 : decode cX19_readStay 29 = .ok (.if_icmp .ne 8, 3) := dk_160 0 8 (dk_at dksX19_readStay_1 6 rfl rfl)
theorem dX19_readStay_32 : decode cX19_readStay 32 = .ok (.aload_n 0, 1) := dk_42 (dk_at dksX19_readStay_1 9 rfl rfl)
theorem dX19_readStay_33 : decode cX19_readStay 33 = .ok (.iconst 5, 1) := dk_8 (dk_at dksX19_readStay_1 10 rfl rfl)
theorem dX19_readStay_34 : decode cX19_readStay 34 = .ok (.invokevirtual 165, 3) := dk_182 0 165 (dk_at dksX19_readStay_1 11 rfl rfl)
theorem dX19_readStay_37 : decode cX19_readStay 37 = .ok (.aload_n 0, 1) := dk_42 (dk_at dksX19_readStay_1 14 rfl rfl)
theorem dX19_readStay_38 : decode cX19_readStay 38 = .ok (.invokevirtual 158, 3) := dk_182 0 158 (dk_at dksX19_readStay_1 15 rfl rfl)
theorem dX19_readStay_41 : decode cX19_readStay 41 = .ok (.aload_n 0, 1) := dk_42 (dk_at dksX19_readStay_1 18 rfl rfl)
theorem dX19_readStay_42 : decode cX19_readStay 42 = .ok (.getfield 116, 3) := dk_180 0 116 (dk_at dksX19_readStay_1 19 rfl rfl)
theorem dX19_readStay_45 : decode cX19_readStay 45 = .ok (.iconst 5, 1) := dk_8 (dk_at dksX19_readStay_1 22 rfl rfl)
theorem dX19_readStay_46 : decode cX19_readStay 46 = .ok (.if_icmp .eq 15, 3) := dk_159 0 15 (dk_at dksX19_readStay_2 0 rfl rfl)
theorem dX19_readStay_49 : decode cX19_readStay 49 = .ok (.aload_n 0, 1) := dk_42 (dk_at dksX19_readStay_2 3 rfl rfl)
theorem dX19_readStay_50 : decode cX19_readStay 50 = .ok (.getfield 196, 3) := dk_180 0 196 (dk_at dksX19_readStay_2 4 rfl rfl)
theorem dX19_readStay_53 : decode cX19_readStay 53 = .ok (.getfield 312, 3) := dk_180 1 56 (dk_at dksX19_readStay_2 7 rfl rfl)
theorem dX19_readStay_56 : decode cX19_readStay 56 = .ok (.iload_n 1, 1) := dk_27 (dk_at dksX19_readStay_2 10 rfl rfl)
theorem dX19_readStay_57 : decode cX19_readStay 57 = .ok (.iaload, 1) := dk_46 (dk_at dksX19_readStay_2 11 rfl rfl)
theorem dX19_readStay_58 : decode cX19_readStay 58 = .ok (.ifCond .ne 7, 3) := dk_154 0 7 (dk_at dksX19_readStay_2 12 rfl rfl)
theorem dX19_readStay_61 : decode cX19_readStay 61 = .ok (.iconst 0, 1) := dk_3 (dk_at dksX19_readStay_2 15 rfl rfl)
theorem dX19_readStay_62 : decode cX19_readStay 62 = .ok (.goto 28, 3) := dk_167 0 28 (dk_at dksX19_readStay_2 16 rfl rfl)
theorem dX19_readStay_65 : decode cX19_readStay 65 = .ok (.aload_n 0, 1) := dk_42 (dk_at dksX19_readStay_2 19 rfl rfl)
theorem dX19_readStay_66 : decode cX19_readStay 66 = .ok (.getfield 196, 3) := dk_180 0 196 (dk_at dksX19_readStay_2 20 rfl rfl)
theorem dX19_readStay_69 : decode cX19_readStay 69 = .ok (.getfield 315, 3) := dk_180 1 59 (dk_at dksX19_readStay_3 0 rfl rfl)
theorem dX19_readStay_72 : decode cX19_readStay 72 = .ok (.iconst 3, 1) := dk_6 (dk_at dksX19_readStay_3 3 rfl rfl)
theorem dX19_readStay_73 : decode cX19_readStay 73 = .ok (.iload_n 1, 1) := dk_27 (dk_at dksX19_readStay_3 4 rfl rfl)
theorem dX19_readStay_74 : decode cX19_readStay 74 = .ok (.imul, 1) := dk_104 (dk_at dksX19_readStay_3 5 rfl rfl)
theorem dX19_readStay_75 : decode cX19_readStay 75 = .ok (.aload_n 0, 1) := dk_42 (dk_at dksX19_readStay_3 6 rfl rfl)
theorem dX19_readStay_76 : decode cX19_readStay 76 = .ok (.getfield 196, 3) := dk_180 0 196 (dk_at dksX19_readStay_3 7 rfl rfl)
theorem dX19_readStay_79 : decode cX19_readStay 79 = .ok (.getfield 312, 3) := dk_180 1 56 (dk_at dksX19_readStay_3 10 rfl rfl)
theorem dX19_readStay_82 : decode cX19_readStay 82 = .ok (.iload_n 1, 1) := dk_27 (dk_at dksX19_readStay_3 13 rfl rfl)
theorem dX19_readStay_83 : decode cX19_readStay 83 = .ok (.iaload, 1) := dk_46 (dk_at dksX19_readStay_3 14 rfl rfl)
theorem dX19_readStay_84 : decode cX19_readStay 84 = .ok (.iadd, 1) := dk_96 (dk_at dksX19_readStay_3 15 rfl rfl)
theorem dX19_readStay_85 : decode cX19_readStay 85 = .ok (.iconst 1, 1) := dk_4 (dk_at dksX19_readStay_3 16 rfl rfl)
theorem dX19_readStay_86 : decode cX19_readStay 86 = .ok (.isub, 1) := dk_100 (dk_at dksX19_readStay_3 17 rfl rfl)
theorem dX19_readStay_87 : decode cX19_readStay 87 = .ok (.iaload, 1) := dk_46 (dk_at dksX19_readStay_3 18 rfl rfl)
theorem dX19_readStay_88 : decode cX19_readStay 88 = .ok (.iconst 1, 1) := dk_4 (dk_at dksX19_readStay_3 19 rfl rfl)
theorem dX19_readStay_89 : decode cX19_readStay 89 = .ok (.iadd, 1) := dk_96 (dk_at dksX19_readStay_3 20 rfl rfl)
theorem dX19_readStay_90 : decode cX19_readStay 90 = .ok (.istore_n 2, 1) := dk_61 (dk_at dksX19_readStay_3 21 rfl rfl)
theorem dX19_readStay_91 : decode cX19_readStay 91 = .ok (.aload_n 0, 1) := dk_42 (dk_at dksX19_readStay_3 22 rfl rfl)
theorem dX19_readStay_92 : decode cX19_readStay 92 = .ok (.iload_n 2, 1) := dk_28 (dk_at dksX19_readStay_3 23 rfl rfl)
theorem dX19_readStay_93 : decode cX19_readStay 93 = .ok (.aload_n 0, 1) := dk_42 (dk_at dksX19_readStay_4 0 rfl rfl)
theorem dX19_readStay_94 : decode cX19_readStay 94 = .ok (.getfield 196, 3) := dk_180 0 196 (dk_at dksX19_readStay_4 1 rfl rfl)
theorem dX19_readStay_97 : decode cX19_readStay 97 = .ok (.getfield 200, 3) := dk_180 0 200 (dk_at dksX19_readStay_4 4 rfl rfl)
theorem dX19_readStay_100 : decode cX19_readStay 100 = .ok (.iconst 1, 1) := dk_4 (dk_at dksX19_readStay_4 7 rfl rfl)
theorem dX19_readStay_101 : decode cX19_readStay 101 = .ok (.isub, 1) := dk_100 (dk_at dksX19_readStay_4 8 rfl rfl)
theorem dX19_readStay_102 : decode cX19_readStay 102 = .ok (.invokevirtual 181, 3) := dk_182 0 181 (dk_at dksX19_readStay_4 9 rfl rfl)
theorem dX19_readStay_105 : decode cX19_readStay 105 = .ok (.istore_n 3, 1) := dk_62 (dk_at dksX19_readStay_4 12 rfl rfl)
theorem dX19_readStay_106 : decode cX19_readStay 106 = .ok (.aload_n 0, 1) := dk_42 (dk_at dksX19_readStay_4 13 rfl rfl)
theorem dX19_readStay_107 : decode cX19_readStay 107 = .ok (.ldc_w 318, 3) := dk_19 1 62 (dk_at dksX19_readStay_4 14 rfl rfl)
theorem dX19_readStay_110 : decode cX19_readStay 110 = .ok (.invokevirtual 177, 3) := dk_182 0 177 (dk_at dksX19_readStay_4 17 rfl rfl)
theorem dX19_readStay_113 : decode cX19_readStay 113 = .ok (.aload_n 0, 1) := dk_42 (dk_at dksX19_readStay_4 20 rfl rfl)
theorem dX19_readStay_114 : decode cX19_readStay 114 = .ok (.iload_n 3, 1) := dk_29 (dk_at dksX19_readStay_4 21 rfl rfl)
theorem dX19_readStay_115 : decode cX19_readStay 115 = .ok (.aload_n 0, 1) := dk_42 (dk_at dksX19_readStay_4 22 rfl rfl)
theorem dX19_readStay_116 : decode cX19_readStay 116 = .ok (.getfield 196, 3) := dk_180 0 196 (dk_at dksX19_readStay_5 0 rfl rfl)
theorem dX19_readStay_119 : decode cX19_readStay 119 = .ok (.getfield 200, 3) := dk_180 0 200 (dk_at dksX19_readStay_5 3 rfl rfl)
theorem dX19_readStay_122 : decode cX19_readStay 122 = .ok (.iconst 1, 1) := dk_4 (dk_at dksX19_readStay_5 6 rfl rfl)
theorem dX19_readStay_123 : decode cX19_readStay 123 = .ok (.isub, 1) := dk_100 (dk_at dksX19_readStay_5 7 rfl rfl)
theorem dX19_readStay_124 : decode cX19_readStay 124 = .ok (.invokevirtual 181, 3) := dk_182 0 181 (dk_at dksX19_readStay_5 8 rfl rfl)
theorem dX19_readStay_127 : decode cX19_readStay 127 = .ok (.istore 4, 2) := dk_54 4 (dk_at dksX19_readStay_5 11 rfl rfl)
theorem dX19_readStay_129 : decode cX19_readStay 129 = .ok (.aload_n 0, 1) := dk_42 (dk_at dksX19_readStay_5 13 rfl rfl)
theorem dX19_readStay_130 : decode cX19_readStay 130 = .ok (.getfield 116, 3) := dk_180 0 116 (dk_at dksX19_readStay_5 14 rfl rfl)
theorem dX19_readStay_133 : decode cX19_readStay 133 = .ok (.iconst 5, 1) := dk_8 (dk_at dksX19_readStay_5 17 rfl rfl)
theorem dX19_readStay_134 : decode cX19_readStay 134 = .ok (.if_icmp .ne 4, 3) := dk_160 0 4 (dk_at dksX19_readStay_5 18 rfl rfl)
theorem dX19_readStay_137 : decode cX19_readStay 137 = .ok (.return_, 1) := dk_177 (dk_at dksX19_readStay_5 21 rfl rfl)
theorem dX19_readStay_138 : decode cX19_readStay 138 = .ok (.aload_n 0, 1) := dk_42 (dk_at dksX19_readStay_5 22 rfl rfl)
theorem dX19_readStay_139 : decode cX19_readStay 139 = .ok (.getfield 196, 3) := dk_180 0 196 (dk_at dksX19_readStay_6 0 rfl rfl)
theorem dX19_readStay_142 : decode cX19_readStay 142 = .ok (.getfield 319, 3) := dk_180 1 63 (dk_at dksX19_readStay_6 3 rfl rfl)
theorem dX19_readStay_145 : decode cX19_readStay 145 = .ok (.iconst 3, 1) := dk_6 (dk_at dksX19_readStay_6 6 rfl rfl)
theorem dX19_readStay_146 : decode cX19_readStay 146 = .ok (.iload_n 1, 1) := dk_27 (dk_at dksX19_readStay_6 7 rfl rfl)
theorem dX19_readStay_147 : decode cX19_readStay 147 = .ok (.imul, 1) := dk_104 (dk_at dksX19_readStay_6 8 rfl rfl)
theorem dX19_readStay_148 : decode cX19_readStay 148 = .ok (.aload_n 0, 1) := dk_42 (dk_at dksX19_readStay_6 9 rfl rfl)
theorem dX19_readStay_149 : decode cX19_readStay 149 = .ok (.getfield 196, 3) := dk_180 0 196 (dk_at dksX19_readStay_6 10 rfl rfl)
theorem dX19_readStay_152 : decode cX19_readStay 152 = .ok (.getfield 312, 3) := dk_180 1 56 (dk_at dksX19_readStay_6 13 rfl rfl)
theorem dX19_readStay_155 : decode cX19_readStay 155 = .ok (.iload_n 1, 1) := dk_27 (dk_at dksX19_readStay_6 16 rfl rfl)
theorem dX19_readStay_156 : decode cX19_readStay 156 = .ok (.iaload, 1) := dk_46 (dk_at dksX19_readStay_6 17 rfl rfl)
theorem dX19_readStay_157 : decode cX19_readStay 157 = .ok (.iadd, 1) := dk_96 (dk_at dksX19_readStay_6 18 rfl rfl)
theorem dX19_readStay_158 : decode cX19_readStay 158 = .ok (.iload_n 3, 1) := dk_29 (dk_at dksX19_readStay_6 19 rfl rfl)
theorem dX19_readStay_159 : decode cX19_readStay 159 = .ok (.iastore, 1) := dk_79 (dk_at dksX19_readStay_6 20 rfl rfl)
theorem dX19_readStay_160 : decode cX19_readStay 160 = .ok (.aload_n 0, 1) := dk_42 (dk_at dksX19_readStay_6 21 rfl rfl)
theorem dX19_readStay_161 : decode cX19_readStay 161 = .ok (.getfield 196, 3) := dk_180 0 196 (dk_at dksX19_readStay_7 0 rfl rfl)
theorem dX19_readStay_164 : decode cX19_readStay 164 = .ok (.getfield 315, 3) := dk_180 1 59 (dk_at dksX19_readStay_7 3 rfl rfl)
theorem dX19_readStay_167 : decode cX19_readStay 167 = .ok (.iconst 3, 1) := dk_6 (dk_at dksX19_readStay_7 6 rfl rfl)
theorem dX19_readStay_168 : decode cX19_readStay 168 = .ok (.iload_n 1, 1) := dk_27 (dk_at dksX19_readStay_7 7 rfl rfl)
theorem dX19_readStay_169 : decode cX19_readStay 169 = .ok (.imul, 1) := dk_104 (dk_at dksX19_readStay_7 8 rfl rfl)
theorem dX19_readStay_170 : decode cX19_readStay 170 = .ok (.aload_n 0, 1) := dk_42 (dk_at dksX19_readStay_7 9 rfl rfl)
theorem dX19_readStay_171 : decode cX19_readStay 171 = .ok (.getfield 196, 3) := dk_180 0 196 (dk_at dksX19_readStay_7 10 rfl rfl)
theorem dX19_readStay_174 : decode cX19_readStay 174 = .ok (.getfield 312, 3) := dk_180 1 56 (dk_at dksX19_readStay_7 13 rfl rfl)
theorem dX19_readStay_177 : decode cX19_readStay 177 = .ok (.iload_n 1, 1) := dk_27 (dk_at dksX19_readStay_7 16 rfl rfl)
theorem dX19_readStay_178 : decode cX19_readStay 178 = .ok (.iaload, 1) := dk_46 (dk_at dksX19_readStay_7 17 rfl rfl)
theorem dX19_readStay_179 : decode cX19_readStay 179 = .ok (.iadd, 1) := dk_96 (dk_at dksX19_readStay_7 18 rfl rfl)
theorem dX19_readStay_180 : decode cX19_readStay 180 = .ok (.iload 4, 2) := dk_21 4 (dk_at dksX19_readStay_7 19 rfl rfl)
theorem dX19_readStay_182 : decode cX19_readStay 182 = .ok (.iastore, 1) := dk_79 (dk_at dksX19_readStay_7 21 rfl rfl)
theorem dX19_readStay_183 : decode cX19_readStay 183 = .ok (.aload_n 0, 1) := dk_42 (dk_at dksX19_readStay_7 22 rfl rfl)
theorem dX19_readStay_184 : decode cX19_readStay 184 = .ok (.getfield 196, 3) := dk_180 0 196 (dk_at dksX19_readStay_8 0 rfl rfl)
theorem dX19_readStay_187 : decode cX19_readStay 187 = .ok (.getfield 312, 3) := dk_180 1 56 (dk_at dksX19_readStay_8 3 rfl rfl)
theorem dX19_readStay_190 : decode cX19_readStay 190 = .ok (.iload_n 1, 1) := dk_27 (dk_at dksX19_readStay_8 6 rfl rfl)
theorem dX19_readStay_191 : decode cX19_readStay 191 = .ok (.dup2, 1) := dk_92 (dk_at dksX19_readStay_8 7 rfl rfl)
theorem dX19_readStay_192 : decode cX19_readStay 192 = .ok (.iaload, 1) := dk_46 (dk_at dksX19_readStay_8 8 rfl rfl)
theorem dX19_readStay_193 : decode cX19_readStay 193 = .ok (.iconst 1, 1) := dk_4 (dk_at dksX19_readStay_8 9 rfl rfl)
theorem dX19_readStay_194 : decode cX19_readStay 194 = .ok (.iadd, 1) := dk_96 (dk_at dksX19_readStay_8 10 rfl rfl)
theorem dX19_readStay_195 : decode cX19_readStay 195 = .ok (.iastore, 1) := dk_79 (dk_at dksX19_readStay_8 11 rfl rfl)
theorem dX19_readStay_196 : decode cX19_readStay 196 = .ok (.return_, 1) := dk_177 (dk_at dksX19_readStay_8 12 rfl rfl)
abbrev cX19_known : ByteArray := prog_24_method_25_code
def yX19_known : MethodName := ⟨RX19, "known", "()I"⟩
def dkwX19_known_1 : List UInt8 := [27, 2, 160, 0, 8, 42, 5, 182, 0, 165, 42, 180, 0, 116, 8, 160, 0, 7, 3, 167, 0, 4, 27, 172]
abbrev dktX19_known_1 : List UInt8 := dkwX19_known_1 ++ []
def dkwX19_known_0 : List UInt8 := [42, 182, 0, 205, 154, 0, 8, 42, 4, 182, 0, 165, 42, 180, 0, 196, 42, 180, 0, 135, 182, 0, 209, 60]
abbrev dktX19_known_0 : List UInt8 := dkwX19_known_0 ++ dktX19_known_1
theorem dksX19_known_0 : cX19_known.data.toList.drop 0 = dktX19_known_0 := by decide +kernel
theorem dksX19_known_1 : cX19_known.data.toList.drop 24 = dktX19_known_1 := dk_seg dksX19_known_0 24 rfl rfl
theorem dX19_known_0 : decode cX19_known 0 = .ok (.aload_n 0, 1) := dk_42 (dk_at dksX19_known_0 0 rfl rfl)
theorem dX19_known_1 : decode cX19_known 1 = .ok (.invokevirtual 205, 3) := dk_182 0 205 (dk_at dksX19_known_0 1 rfl rfl)
theorem dX19_known_4 : decode cX19_known 4 = .ok (.ifCond .ne 8, 3) := dk_154 0 8 (dk_at dksX19_known_0 4 rfl rfl)
theorem dX19_known_7 : decode cX19_known 7 = .ok (.aload_n 0, 1) := dk_42 (dk_at dksX19_known_0 7 rfl rfl)
theorem dX19_known_8 : decode cX19_known 8 = .ok (.iconst 1, 1) := dk_4 (dk_at dksX19_known_0 8 rfl rfl)
theorem dX19_known_9 : decode cX19_known 9 = .ok (.invokevirtual 165, 3) := dk_182 0 165 (dk_at dksX19_known_0 9 rfl rfl)
theorem dX19_known_12 : decode cX19_known 12 = .ok (.aload_n 0, 1) := dk_42 (dk_at dksX19_known_0 12 rfl rfl)
theorem dX19_known_13 : decode cX19_known 13 = .ok (.getfield 196, 3) := dk_180 0 196 (dk_at dksX19_known_0 13 rfl rfl)
theorem dX19_known_16 : decode cX19_known 16 = .ok (.aload_n 0, 1) := dk_42 (dk_at dksX19_known_0 16 rfl rfl)
theorem dX19_known_17 : decode cX19_known 17 = .ok (.getfield 135, 3) := dk_180 0 135 (dk_at dksX19_known_0 17 rfl rfl)
theorem dX19_known_20 : decode cX19_known 20 = .ok (.invokevirtual 209, 3) := dk_182 0 209 (dk_at dksX19_known_0 20 rfl rfl)
theorem dX19_known_23 : decode cX19_known 23 = .ok (.istore_n 1, 1) := dk_60 (dk_at dksX19_known_0 23 rfl rfl)
theorem dX19_known_24 : decode cX19_known 24 = .ok (.iload_n 1, 1) := dk_27 (dk_at dksX19_known_1 0 rfl rfl)
theorem dX19_known_25 : decode cX19_known 25 = .ok (.iconst (-1), 1) := dk_2 (dk_at dksX19_known_1 1 rfl rfl)
theorem dX19_known_26 : decode cX19_known 26 = .ok (.if_icmp .ne 8, 3) := dk_160 0 8 (dk_at dksX19_known_1 2 rfl rfl)
theorem dX19_known_29 : decode cX19_known 29 = .ok (.aload_n 0, 1) := dk_42 (dk_at dksX19_known_1 5 rfl rfl)
theorem dX19_known_30 : decode cX19_known 30 = .ok (.iconst 2, 1) := dk_5 (dk_at dksX19_known_1 6 rfl rfl)
theorem dX19_known_31 : decode cX19_known 31 = .ok (.invokevirtual 165, 3) := dk_182 0 165 (dk_at dksX19_known_1 7 rfl rfl)
theorem dX19_known_34 : decode cX19_known 34 = .ok (.aload_n 0, 1) := dk_42 (dk_at dksX19_known_1 10 rfl rfl)
theorem dX19_known_35 : decode cX19_known 35 = .ok (.getfield 116, 3) := dk_180 0 116 (dk_at dksX19_known_1 11 rfl rfl)
theorem dX19_known_38 : decode cX19_known 38 = .ok (.iconst 5, 1) := dk_8 (dk_at dksX19_known_1 14 rfl rfl)
theorem dX19_known_39 : decode cX19_known 39 = .ok (.if_icmp .ne 7, 3) := dk_160 0 7 (dk_at dksX19_known_1 15 rfl rfl)
theorem dX19_known_42 : decode cX19_known 42 = .ok (.iconst 0, 1) := dk_3 (dk_at dksX19_known_1 18 rfl rfl)
theorem dX19_known_43 : decode cX19_known 43 = .ok (.goto 4, 3) := dk_167 0 4 (dk_at dksX19_known_1 19 rfl rfl)
theorem dX19_known_46 : decode cX19_known 46 = .ok (.iload_n 1, 1) := dk_27 (dk_at dksX19_known_1 22 rfl rfl)
theorem dX19_known_47 : decode cX19_known 47 = .ok (.ireturn, 1) := dk_172 (dk_at dksX19_known_1 23 rfl rfl)
abbrev cX19_readMove : ByteArray := prog_24_method_31_code
def yX19_readMove : MethodName := ⟨RX19, "readMove", "()V"⟩
def dkwX19_readMove_6 : List UInt8 := [42, 180, 0, 196, 89, 180, 1, 66, 4, 96, 181, 1, 66, 177]
abbrev dktX19_readMove_6 : List UInt8 := dkwX19_readMove_6 ++ []
def dkwX19_readMove_5 : List UInt8 := [180, 0, 196, 180, 1, 66, 28, 79, 42, 180, 0, 196, 180, 1, 77, 42, 180, 0, 196, 180, 1, 66, 29, 79]
abbrev dktX19_readMove_5 : List UInt8 := dkwX19_readMove_5 ++ dktX19_readMove_6
def dkwX19_readMove_4 : List UInt8 := [180, 0, 196, 180, 1, 71, 42, 180, 0, 196, 180, 1, 66, 27, 79, 42, 180, 0, 196, 180, 1, 74, 42]
abbrev dktX19_readMove_4 : List UInt8 := dkwX19_readMove_4 ++ dktX19_readMove_5
def dkwX19_readMove_3 : List UInt8 := [160, 0, 8, 42, 6, 182, 0, 165, 42, 182, 0, 158, 42, 180, 0, 116, 8, 160, 0, 4, 177, 42]
abbrev dktX19_readMove_3 : List UInt8 := dkwX19_readMove_3 ++ dktX19_readMove_4
def dkwX19_readMove_2 : List UInt8 := [3, 42, 180, 0, 196, 180, 0, 251, 4, 100, 182, 0, 173, 62, 42, 180, 0, 116, 8, 159, 0, 13, 28, 29]
abbrev dktX19_readMove_2 : List UInt8 := dkwX19_readMove_2 ++ dktX19_readMove_3
def dkwX19_readMove_1 : List UInt8 := [182, 0, 181, 60, 42, 3, 42, 180, 0, 196, 180, 0, 251, 4, 100, 182, 0, 181, 61, 42, 182, 1, 68, 42]
abbrev dktX19_readMove_1 : List UInt8 := dkwX19_readMove_1 ++ dktX19_readMove_2
def dkwX19_readMove_0 : List UInt8 := [42, 42, 180, 0, 196, 180, 1, 66, 16, 10, 182, 1, 1, 42, 3, 42, 180, 0, 196, 180, 0, 200, 4, 100]
abbrev dktX19_readMove_0 : List UInt8 := dkwX19_readMove_0 ++ dktX19_readMove_1
theorem dksX19_readMove_0 : cX19_readMove.data.toList.drop 0 = dktX19_readMove_0 := by decide +kernel
theorem dksX19_readMove_1 : cX19_readMove.data.toList.drop 24 = dktX19_readMove_1 := dk_seg dksX19_readMove_0 24 rfl rfl
theorem dksX19_readMove_2 : cX19_readMove.data.toList.drop 48 = dktX19_readMove_2 := dk_seg dksX19_readMove_1 24 rfl rfl
theorem dksX19_readMove_3 : cX19_readMove.data.toList.drop 72 = dktX19_readMove_3 := dk_seg dksX19_readMove_2 24 rfl rfl
theorem dksX19_readMove_4 : cX19_readMove.data.toList.drop 94 = dktX19_readMove_4 := dk_seg dksX19_readMove_3 22 rfl rfl
theorem dksX19_readMove_5 : cX19_readMove.data.toList.drop 117 = dktX19_readMove_5 := dk_seg dksX19_readMove_4 23 rfl rfl
theorem dksX19_readMove_6 : cX19_readMove.data.toList.drop 141 = dktX19_readMove_6 := dk_seg dksX19_readMove_5 24 rfl rfl
theorem dX19_readMove_0 : decode cX19_readMove 0 = .ok (.aload_n 0, 1) := dk_42 (dk_at dksX19_readMove_0 0 rfl rfl)
theorem dX19_readMove_1 : decode cX19_readMove 1 = .ok (.aload_n 0, 1) := dk_42 (dk_at dksX19_readMove_0 1 rfl rfl)
theorem dX19_readMove_2 : decode cX19_readMove 2 = .ok (.getfield 196, 3) := dk_180 0 196 (dk_at dksX19_readMove_0 2 rfl rfl)
theorem dX19_readMove_5 : decode cX19_readMove 5 = .ok (.getfield 322, 3) := dk_180 1 66 (dk_at dksX19_readMove_0 5 rfl rfl)
theorem dX19_readMove_8 : decode cX19_readMove 8 = .ok (.bipush 10, 2) := dk_16 10 (dk_at dksX19_readMove_0 8 rfl rfl)
theorem dX19_readMove_10 : decode cX19_readMove 10 = .ok (.invokevirtual 257, 3) := dk_182 1 1 (dk_at dksX19_readMove_0 10 rfl rfl)
theorem dX19_readMove_13 : decode cX19_readMove 13 = .ok (.aload_n 0, 1) := dk_42 (dk_at dksX19_readMove_0 13 rfl rfl)
theorem dX19_readMove_14 : decode cX19_readMove 14 = .ok (.iconst 0, 1) := dk_3 (dk_at dksX19_readMove_0 14 rfl rfl)
theorem dX19_readMove_15 : decode cX19_readMove 15 = .ok (.aload_n 0, 1) := dk_42 (dk_at dksX19_readMove_0 15 rfl rfl)
theorem dX19_readMove_16 : decode cX19_readMove 16 = .ok (.getfield 196, 3) := dk_180 0 196 (dk_at dksX19_readMove_0 16 rfl rfl)
theorem dX19_readMove_19 : decode cX19_readMove 19 = .ok (.getfield 200, 3) := dk_180 0 200 (dk_at dksX19_readMove_0 19 rfl rfl)
theorem dX19_readMove_22 : decode cX19_readMove 22 = .ok (.iconst 1, 1) := dk_4 (dk_at dksX19_readMove_0 22 rfl rfl)
theorem dX19_readMove_23 : decode cX19_readMove 23 = .ok (.isub, 1) := dk_100 (dk_at dksX19_readMove_0 23 rfl rfl)
theorem dX19_readMove_24 : decode cX19_readMove 24 = .ok (.invokevirtual 181, 3) := dk_182 0 181 (dk_at dksX19_readMove_1 0 rfl rfl)
theorem dX19_readMove_27 : decode cX19_readMove 27 = .ok (.istore_n 1, 1) := dk_60 (dk_at dksX19_readMove_1 3 rfl rfl)
theorem dX19_readMove_28 : decode cX19_readMove 28 = .ok (.aload_n 0, 1) := dk_42 (dk_at dksX19_readMove_1 4 rfl rfl)
theorem dX19_readMove_29 : decode cX19_readMove 29 = .ok (.iconst 0, 1) := dk_3 (dk_at dksX19_readMove_1 5 rfl rfl)
theorem dX19_readMove_30 : decode cX19_readMove 30 = .ok (.aload_n 0, 1) := dk_42 (dk_at dksX19_readMove_1 6 rfl rfl)
theorem dX19_readMove_31 : decode cX19_readMove 31 = .ok (.getfield 196, 3) := dk_180 0 196 (dk_at dksX19_readMove_1 7 rfl rfl)
theorem dX19_readMove_34 : decode cX19_readMove 34 = .ok (.getfield 251, 3) := dk_180 0 251 (dk_at dksX19_readMove_1 10 rfl rfl)
theorem dX19_readMove_37 : decode cX19_readMove 37 = .ok (.iconst 1, 1) := dk_4 (dk_at dksX19_readMove_1 13 rfl rfl)
theorem dX19_readMove_38 : decode cX19_readMove 38 = .ok (.isub, 1) := dk_100 (dk_at dksX19_readMove_1 14 rfl rfl)
theorem dX19_readMove_39 : decode cX19_readMove 39 = .ok (.invokevirtual 181, 3) := dk_182 0 181 (dk_at dksX19_readMove_1 15 rfl rfl)
theorem dX19_readMove_42 : decode cX19_readMove 42 = .ok (.istore_n 2, 1) := dk_61 (dk_at dksX19_readMove_1 18 rfl rfl)
theorem dX19_readMove_43 : decode cX19_readMove 43 = .ok (.aload_n 0, 1) := dk_42 (dk_at dksX19_readMove_1 19 rfl rfl)
theorem dX19_readMove_44 : decode cX19_readMove 44 = .ok (.invokevirtual 324, 3) := dk_182 1 68 (dk_at dksX19_readMove_1 20 rfl rfl)
theorem dX19_readMove_47 : decode cX19_readMove 47 = .ok (.aload_n 0, 1) := dk_42 (dk_at dksX19_readMove_1 23 rfl rfl)
theorem dX19_readMove_48 : decode cX19_readMove 48 = .ok (.iconst 0, 1) := dk_3 (dk_at dksX19_readMove_2 0 rfl rfl)
theorem dX19_readMove_49 : decode cX19_readMove 49 = .ok (.aload_n 0, 1) := dk_42 (dk_at dksX19_readMove_2 1 rfl rfl)
theorem dX19_readMove_50 : decode cX19_readMove 50 = .ok (.getfield 196, 3) := dk_180 0 196 (dk_at dksX19_readMove_2 2 rfl rfl)
theorem dX19_readMove_53 : decode cX19_readMove 53 = .ok (.getfield 251, 3) := dk_180 0 251 (dk_at dksX19_readMove_2 5 rfl rfl)
theorem dX19_readMove_56 : decode cX19_readMove 56 = .ok (.iconst 1, 1) := dk_4 (dk_at dksX19_readMove_2 8 rfl rfl)
theorem dX19_readMove_57 : decode cX19_readMove 57 = .ok (.isub, 1) := dk_100 (dk_at dksX19_readMove_2 9 rfl rfl)
theorem dX19_readMove_58 : decode cX19_readMove 58 = .ok (.invokevirtual 173, 3) := dk_182 0 173 (dk_at dksX19_readMove_2 10 rfl rfl)
theorem dX19_readMove_61 : decode cX19_readMove 61 = .ok (.istore_n 3, 1) := dk_62 (dk_at dksX19_readMove_2 13 rfl rfl)
theorem dX19_readMove_62 : decode cX19_readMove 62 = .ok (.aload_n 0, 1) := dk_42 (dk_at dksX19_readMove_2 14 rfl rfl)
theorem dX19_readMove_63 : decode cX19_readMove 63 = .ok (.getfield 116, 3) := dk_180 0 116 (dk_at dksX19_readMove_2 15 rfl rfl)
theorem dX19_readMove_66 : decode cX19_readMove 66 = .ok (.iconst 5, 1) := dk_8 (dk_at dksX19_readMove_2 18 rfl rfl)
theorem dX19_readMove_67 : decode cX19_readMove 67 = .ok (.if_icmp .eq 13, 3) := dk_159 0 13 (dk_at dksX19_readMove_2 19 rfl rfl)
theorem dX19_readMove_70 : decode cX19_readMove 70 = .ok (.iload_n 2, 1) := dk_28 (dk_at dksX19_readMove_2 22 rfl rfl)
theorem dX19_readMove_71 : decode cX19_readMove 71 = .ok (.iload_n 3, 1) := dk_29 (dk_at dksX19_readMove_2 23 rfl rfl)
theorem dX19_readMove_72 : decode cX19_readMove 72 = .ok (.if_icmp .ne 8, 3) := dk_160 0 8 (dk_at dksX19_readMove_3 0 rfl rfl)
theorem dX19_readMove_75 : decode cX19_readMove 75 = .ok (.aload_n 0, 1) := dk_42 (dk_at dksX19_readMove_3 3 rfl rfl)
theorem dX19_readMove_76 : decode cX19_readMove 76 = .ok (.iconst 3, 1) := dk_6 (dk_at dksX19_readMove_3 4 rfl rfl)
theorem dX19_readMove_77 : decode cX19_readMove 77 = .ok (.invokevirtual 165, 3) := dk_182 0 165 (dk_at dksX19_readMove_3 5 rfl rfl)
theorem dX19_readMove_80 : decode cX19_readMove 80 = .ok (.aload_n 0, 1) := dk_42 (dk_at dksX19_readMove_3 8 rfl rfl)
theorem dX19_readMove_81 : decode cX19_readMove 81 = .ok (.invokevirtual 158, 3) := dk_182 0 158 (dk_at dksX19_readMove_3 9 rfl rfl)
theorem dX19_readMove_84 : decode cX19_readMove 84 = .ok (.aload_n 0, 1) := dk_42 (dk_at dksX19_readMove_3 12 rfl rfl)
theorem dX19_readMove_85 : decode cX19_readMove 85 = .ok (.getfield 116, 3) := dk_180 0 116 (dk_at dksX19_readMove_3 13 rfl rfl)
theorem dX19_readMove_88 : decode cX19_readMove 88 = .ok (.iconst 5, 1) := dk_8 (dk_at dksX19_readMove_3 16 rfl rfl)
theorem dX19_readMove_89 : decode cX19_readMove 89 = .ok (.if_icmp .ne 4, 3) := dk_160 0 4 (dk_at dksX19_readMove_3 17 rfl rfl)
theorem dX19_readMove_92 : decode cX19_readMove 92 = .ok (.return_, 1) := dk_177 (dk_at dksX19_readMove_3 20 rfl rfl)
theorem dX19_readMove_93 : decode cX19_readMove 93 = .ok (.aload_n 0, 1) := dk_42 (dk_at dksX19_readMove_3 21 rfl rfl)
theorem dX19_readMove_94 : decode cX19_readMove 94 = .ok (.getfield 196, 3) := dk_180 0 196 (dk_at dksX19_readMove_4 0 rfl rfl)
theorem dX19_readMove_97 : decode cX19_readMove 97 = .ok (.getfield 327, 3) := dk_180 1 71 (dk_at dksX19_readMove_4 3 rfl rfl)
theorem dX19_readMove_100 : decode cX19_readMove 100 = .ok (.aload_n 0, 1) := dk_42 (dk_at dksX19_readMove_4 6 rfl rfl)
theorem dX19_readMove_101 : decode cX19_readMove 101 = .ok (.getfield 196, 3) := dk_180 0 196 (dk_at dksX19_readMove_4 7 rfl rfl)
theorem dX19_readMove_104 : decode cX19_readMove 104 = .ok (.getfield 322, 3) := dk_180 1 66 (dk_at dksX19_readMove_4 10 rfl rfl)
theorem dX19_readMove_107 : decode cX19_readMove 107 = .ok (.iload_n 1, 1) := dk_27 (dk_at dksX19_readMove_4 13 rfl rfl)
theorem dX19_readMove_108 : decode cX19_readMove 108 = .ok (.iastore, 1) := dk_79 (dk_at dksX19_readMove_4 14 rfl rfl)
theorem dX19_readMove_109 : decode cX19_readMove 109 = .ok (.aload_n 0, 1) := dk_42 (dk_at dksX19_readMove_4 15 rfl rfl)
theorem dX19_readMove_110 : decode cX19_readMove 110 = .ok (.getfield 196, 3) := dk_180 0 196 (dk_at dksX19_readMove_4 16 rfl rfl)
theorem dX19_readMove_113 : decode cX19_readMove 113 = .ok (.getfield 330, 3) := dk_180 1 74 (dk_at dksX19_readMove_4 19 rfl rfl)
theorem dX19_readMove_116 : decode cX19_readMove 116 = .ok (.aload_n 0, 1) := dk_42 (dk_at dksX19_readMove_4 22 rfl rfl)
theorem dX19_readMove_117 : decode cX19_readMove 117 = .ok (.getfield 196, 3) := dk_180 0 196 (dk_at dksX19_readMove_5 0 rfl rfl)
theorem dX19_readMove_120 : decode cX19_readMove 120 = .ok (.getfield 322, 3) := dk_180 1 66 (dk_at dksX19_readMove_5 3 rfl rfl)
theorem dX19_readMove_123 : decode cX19_readMove 123 = .ok (.iload_n 2, 1) := dk_28 (dk_at dksX19_readMove_5 6 rfl rfl)
theorem dX19_readMove_124 : decode cX19_readMove 124 = .ok (.iastore, 1) := dk_79 (dk_at dksX19_readMove_5 7 rfl rfl)
theorem dX19_readMove_125 : decode cX19_readMove 125 = .ok (.aload_n 0, 1) := dk_42 (dk_at dksX19_readMove_5 8 rfl rfl)
theorem dX19_readMove_126 : decode cX19_readMove 126 = .ok (.getfield 196, 3) := dk_180 0 196 (dk_at dksX19_readMove_5 9 rfl rfl)
theorem dX19_readMove_129 : decode cX19_readMove 129 = .ok (.getfield 333, 3) := dk_180 1 77 (dk_at dksX19_readMove_5 12 rfl rfl)
theorem dX19_readMove_132 : decode cX19_readMove 132 = .ok (.aload_n 0, 1) := dk_42 (dk_at dksX19_readMove_5 15 rfl rfl)
theorem dX19_readMove_133 : decode cX19_readMove 133 = .ok (.getfield 196, 3) := dk_180 0 196 (dk_at dksX19_readMove_5 16 rfl rfl)
theorem dX19_readMove_136 : decode cX19_readMove 136 = .ok (.getfield 322, 3) := dk_180 1 66 (dk_at dksX19_readMove_5 19 rfl rfl)
theorem dX19_readMove_139 : decode cX19_readMove 139 = .ok (.iload_n 3, 1) := dk_29 (dk_at dksX19_readMove_5 22 rfl rfl)
theorem dX19_readMove_140 : decode cX19_readMove 140 = .ok (.iastore, 1) := dk_79 (dk_at dksX19_readMove_5 23 rfl rfl)
theorem dX19_readMove_141 : decode cX19_readMove 141 = .ok (.aload_n 0, 1) := dk_42 (dk_at dksX19_readMove_6 0 rfl rfl)
theorem dX19_readMove_142 : decode cX19_readMove 142 = .ok (.getfield 196, 3) := dk_180 0 196 (dk_at dksX19_readMove_6 1 rfl rfl)
theorem dX19_readMove_145 : decode cX19_readMove 145 = .ok (.dup, 1) := dk_89 (dk_at dksX19_readMove_6 4 rfl rfl)
theorem dX19_readMove_146 : decode cX19_readMove 146 = .ok (.getfield 322, 3) := dk_180 1 66 (dk_at dksX19_readMove_6 5 rfl rfl)
theorem dX19_readMove_149 : decode cX19_readMove 149 = .ok (.iconst 1, 1) := dk_4 (dk_at dksX19_readMove_6 8 rfl rfl)
theorem dX19_readMove_150 : decode cX19_readMove 150 = .ok (.iadd, 1) := dk_96 (dk_at dksX19_readMove_6 9 rfl rfl)
theorem dX19_readMove_151 : decode cX19_readMove 151 = .ok (.putfield 322, 3) := dk_181 1 66 (dk_at dksX19_readMove_6 10 rfl rfl)
theorem dX19_readMove_154 : decode cX19_readMove 154 = .ok (.return_, 1) := dk_177 (dk_at dksX19_readMove_6 13 rfl rfl)
abbrev cX19_needsComma : ByteArray := prog_24_method_19_code
def yX19_needsComma : MethodName := ⟨RX19, "needsComma", "()V"⟩
def dkwX19_needsComma_1 : List UInt8 := [182, 0, 158, 177]
abbrev dktX19_needsComma_1 : List UInt8 := dkwX19_needsComma_1 ++ []
def dkwX19_needsComma_0 : List UInt8 := [42, 180, 0, 116, 7, 160, 0, 12, 42, 180, 0, 128, 16, 44, 159, 0, 8, 42, 4, 182, 0, 165, 42]
abbrev dktX19_needsComma_0 : List UInt8 := dkwX19_needsComma_0 ++ dktX19_needsComma_1
theorem dksX19_needsComma_0 : cX19_needsComma.data.toList.drop 0 = dktX19_needsComma_0 := by decide +kernel
theorem dksX19_needsComma_1 : cX19_needsComma.data.toList.drop 23 = dktX19_needsComma_1 := dk_seg dksX19_needsComma_0 23 rfl rfl
theorem dX19_needsComma_0 : decode cX19_needsComma 0 = .ok (.aload_n 0, 1) := dk_42 (dk_at dksX19_needsComma_0 0 rfl rfl)
theorem dX19_needsComma_1 : decode cX19_needsComma 1 = .ok (.getfield 116, 3) := dk_180 0 116 (dk_at dksX19_needsComma_0 1 rfl rfl)
theorem dX19_needsComma_4 : decode cX19_needsComma 4 = .ok (.iconst 4, 1) := dk_7 (dk_at dksX19_needsComma_0 4 rfl rfl)
theorem dX19_needsComma_5 : decode cX19_needsComma 5 = .ok (.if_icmp .ne 12, 3) := dk_160 0 12 (dk_at dksX19_needsComma_0 5 rfl rfl)
theorem dX19_needsComma_8 : decode cX19_needsComma 8 = .ok (.aload_n 0, 1) := dk_42 (dk_at dksX19_needsComma_0 8 rfl rfl)
theorem dX19_needsComma_9 : decode cX19_needsComma 9 = .ok (.getfield 128, 3) := dk_180 0 128 (dk_at dksX19_needsComma_0 9 rfl rfl)
theorem dX19_needsComma_12 : decode cX19_needsComma 12 = .ok (.bipush 44, 2) := dk_16 44 (dk_at dksX19_needsComma_0 12 rfl rfl)
theorem dX19_needsComma_14 : decode cX19_needsComma 14 = .ok (.if_icmp .eq 8, 3) := dk_159 0 8 (dk_at dksX19_needsComma_0 14 rfl rfl)
theorem dX19_needsComma_17 : decode cX19_needsComma 17 = .ok (.aload_n 0, 1) := dk_42 (dk_at dksX19_needsComma_0 17 rfl rfl)
theorem dX19_needsComma_18 : decode cX19_needsComma 18 = .ok (.iconst 1, 1) := dk_4 (dk_at dksX19_needsComma_0 18 rfl rfl)
theorem dX19_needsComma_19 : decode cX19_needsComma 19 = .ok (.invokevirtual 165, 3) := dk_182 0 165 (dk_at dksX19_needsComma_0 19 rfl rfl)
theorem dX19_needsComma_22 : decode cX19_needsComma 22 = .ok (.aload_n 0, 1) := dk_42 (dk_at dksX19_needsComma_0 22 rfl rfl)
theorem dX19_needsComma_23 : decode cX19_needsComma 23 = .ok (.invokevirtual 158, 3) := dk_182 0 158 (dk_at dksX19_needsComma_1 0 rfl rfl)
theorem dX19_needsComma_26 : decode cX19_needsComma 26 = .ok (.return_, 1) := dk_177 (dk_at dksX19_needsComma_1 3 rfl rfl)
abbrev cX19_readSeen : ByteArray := prog_24_method_32_code
def yX19_readSeen : MethodName := ⟨RX19, "readSeen", "()V"⟩
def dkwX19_readSeen_9 : List UInt8 := [4, 96, 181, 1, 80, 177]
abbrev dktX19_readSeen_9 : List UInt8 := dkwX19_readSeen_9 ++ []
def dkwX19_readSeen_8 : List UInt8 := [42, 180, 0, 196, 180, 1, 85, 42, 180, 0, 196, 180, 1, 80, 27, 79, 42, 180, 0, 196, 89, 180, 1, 80]
abbrev dktX19_readSeen_8 : List UInt8 := dkwX19_readSeen_8 ++ dktX19_readSeen_9
def dkwX19_readSeen_7 : List UInt8 := [104, 28, 96, 29, 79, 132, 2, 1, 167, 255, 155, 42, 182, 0, 158, 42, 180, 0, 116, 8, 160, 0, 4, 177]
abbrev dktX19_readSeen_7 : List UInt8 := dkwX19_readSeen_7 ++ dktX19_readSeen_8
def dkwX19_readSeen_6 : List UInt8 := [16, 7, 182, 0, 165, 167, 0, 24, 42, 180, 0, 196, 180, 1, 83, 16, 8, 42, 180, 0, 196, 180, 1, 80]
abbrev dktX19_readSeen_6 : List UInt8 := dkwX19_readSeen_6 ++ dktX19_readSeen_7
def dkwX19_readSeen_5 : List UInt8 := [16, 254, 159, 0, 29, 29, 3, 42, 180, 0, 196, 180, 0, 253, 4, 100, 184, 0, 169, 154, 0, 12, 42]
abbrev dktX19_readSeen_5 : List UInt8 := dkwX19_readSeen_5 ++ dktX19_readSeen_6
def dkwX19_readSeen_4 : List UInt8 := [28, 46, 16, 122, 160, 0, 8, 16, 254, 167, 0, 12, 42, 180, 0, 17, 28, 46, 16, 97, 100, 62, 29]
abbrev dktX19_readSeen_4 : List UInt8 := dkwX19_readSeen_4 ++ dktX19_readSeen_5
def dkwX19_readSeen_3 : List UInt8 := [61, 28, 42, 180, 0, 196, 180, 0, 251, 162, 0, 96, 42, 180, 0, 116, 8, 159, 0, 88, 42, 180, 0, 17]
abbrev dktX19_readSeen_3 : List UInt8 := dkwX19_readSeen_3 ++ dktX19_readSeen_4
def dkwX19_readSeen_2 : List UInt8 := [159, 0, 23, 42, 180, 0, 139, 42, 180, 0, 196, 180, 0, 251, 159, 0, 9, 42, 16, 7, 182, 0, 165, 3]
abbrev dktX19_readSeen_2 : List UInt8 := dkwX19_readSeen_2 ++ dktX19_readSeen_3
def dkwX19_readSeen_1 : List UInt8 := [182, 0, 181, 60, 42, 180, 0, 116, 5, 159, 0, 8, 42, 4, 182, 0, 165, 42, 180, 0, 116, 8]
abbrev dktX19_readSeen_1 : List UInt8 := dkwX19_readSeen_1 ++ dktX19_readSeen_2
def dkwX19_readSeen_0 : List UInt8 := [42, 42, 180, 0, 196, 180, 1, 80, 16, 6, 182, 1, 1, 42, 3, 42, 180, 0, 196, 180, 0, 200, 4, 100]
abbrev dktX19_readSeen_0 : List UInt8 := dkwX19_readSeen_0 ++ dktX19_readSeen_1
theorem dksX19_readSeen_0 : cX19_readSeen.data.toList.drop 0 = dktX19_readSeen_0 := by decide +kernel
theorem dksX19_readSeen_1 : cX19_readSeen.data.toList.drop 24 = dktX19_readSeen_1 := dk_seg dksX19_readSeen_0 24 rfl rfl
theorem dksX19_readSeen_2 : cX19_readSeen.data.toList.drop 46 = dktX19_readSeen_2 := dk_seg dksX19_readSeen_1 22 rfl rfl
theorem dksX19_readSeen_3 : cX19_readSeen.data.toList.drop 70 = dktX19_readSeen_3 := dk_seg dksX19_readSeen_2 24 rfl rfl
theorem dksX19_readSeen_4 : cX19_readSeen.data.toList.drop 94 = dktX19_readSeen_4 := dk_seg dksX19_readSeen_3 24 rfl rfl
theorem dksX19_readSeen_5 : cX19_readSeen.data.toList.drop 117 = dktX19_readSeen_5 := dk_seg dksX19_readSeen_4 23 rfl rfl
theorem dksX19_readSeen_6 : cX19_readSeen.data.toList.drop 140 = dktX19_readSeen_6 := dk_seg dksX19_readSeen_5 23 rfl rfl
theorem dksX19_readSeen_7 : cX19_readSeen.data.toList.drop 164 = dktX19_readSeen_7 := dk_seg dksX19_readSeen_6 24 rfl rfl
theorem dksX19_readSeen_8 : cX19_readSeen.data.toList.drop 188 = dktX19_readSeen_8 := dk_seg dksX19_readSeen_7 24 rfl rfl
theorem dksX19_readSeen_9 : cX19_readSeen.data.toList.drop 212 = dktX19_readSeen_9 := dk_seg dksX19_readSeen_8 24 rfl rfl
theorem dX19_readSeen_0 : decode cX19_readSeen 0 = .ok (.aload_n 0, 1) := dk_42 (dk_at dksX19_readSeen_0 0 rfl rfl)
theorem dX19_readSeen_1 : decode cX19_readSeen 1 = .ok (.aload_n 0, 1) := dk_42 (dk_at dksX19_readSeen_0 1 rfl rfl)
theorem dX19_readSeen_2 : decode cX19_readSeen 2 = .ok (.getfield 196, 3) := dk_180 0 196 (dk_at dksX19_readSeen_0 2 rfl rfl)
theorem dX19_readSeen_5 : decode cX19_readSeen 5 = .ok (.getfield 336, 3) := dk_180 1 80 (dk_at dksX19_readSeen_0 5 rfl rfl)
theorem dX19_readSeen_8 : decode cX19_readSeen 8 = .ok (.bipush 6, 2) := dk_16 6 (dk_at dksX19_readSeen_0 8 rfl rfl)
theorem dX19_readSeen_10 : decode cX19_readSeen 10 = .ok (.invokevirtual 257, 3) := dk_182 1 1 (dk_at dksX19_readSeen_0 10 rfl rfl)
theorem dX19_readSeen_13 : decode cX19_readSeen 13 = .ok (.aload_n 0, 1) := dk_42 (dk_at dksX19_readSeen_0 13 rfl rfl)
theorem dX19_readSeen_14 : decode cX19_readSeen 14 = .ok (.iconst 0, 1) := dk_3 (dk_at dksX19_readSeen_0 14 rfl rfl)
theorem dX19_readSeen_15 : decode cX19_readSeen 15 = .ok (.aload_n 0, 1) := dk_42 (dk_at dksX19_readSeen_0 15 rfl rfl)
theorem dX19_readSeen_16 : decode cX19_readSeen 16 = .ok (.getfield 196, 3) := dk_180 0 196 (dk_at dksX19_readSeen_0 16 rfl rfl)
theorem dX19_readSeen_19 : decode cX19_readSeen 19 = .ok (.getfield 200, 3) := dk_180 0 200 (dk_at dksX19_readSeen_0 19 rfl rfl)
theorem dX19_readSeen_22 : decode cX19_readSeen 22 = .ok (.iconst 1, 1) := dk_4 (dk_at dksX19_readSeen_0 22 rfl rfl)
theorem dX19_readSeen_23 : decode cX19_readSeen 23 = .ok (.isub, 1) := dk_100 (dk_at dksX19_readSeen_0 23 rfl rfl)
theorem dX19_readSeen_24 : decode cX19_readSeen 24 = .ok (.invokevirtual 181, 3) := dk_182 0 181 (dk_at dksX19_readSeen_1 0 rfl rfl)
theorem dX19_readSeen_27 : decode cX19_readSeen 27 = .ok (.istore_n 1, 1) := dk_60 (dk_at dksX19_readSeen_1 3 rfl rfl)
theorem dX19_readSeen_28 : decode cX19_readSeen 28 = .ok (.aload_n 0, 1) := dk_42 (dk_at dksX19_readSeen_1 4 rfl rfl)
theorem dX19_readSeen_29 : decode cX19_readSeen 29 = .ok (.getfield 116, 3) := dk_180 0 116 (dk_at dksX19_readSeen_1 5 rfl rfl)
theorem dX19_readSeen_32 : decode cX19_readSeen 32 = .ok (.iconst 2, 1) := dk_5 (dk_at dksX19_readSeen_1 8 rfl rfl)
theorem dX19_readSeen_33 : decode cX19_readSeen 33 = .ok (.if_icmp .eq 8, 3) := dk_159 0 8 (dk_at dksX19_readSeen_1 9 rfl rfl)
theorem dX19_readSeen_36 : decode cX19_readSeen 36 = .ok (.aload_n 0, 1) := dk_42 (dk_at dksX19_readSeen_1 12 rfl rfl)
theorem dX19_readSeen_37 : decode cX19_readSeen 37 = .ok (.iconst 1, 1) := dk_4 (dk_at dksX19_readSeen_1 13 rfl rfl)
theorem dX19_readSeen_38 : decode cX19_readSeen 38 = .ok (.invokevirtual 165, 3) := dk_182 0 165 (dk_at dksX19_readSeen_1 14 rfl rfl)
theorem dX19_readSeen_41 : decode cX19_readSeen 41 = .ok (.aload_n 0, 1) := dk_42 (dk_at dksX19_readSeen_1 17 rfl rfl)
theorem dX19_readSeen_42 : decode cX19_readSeen 42 = .ok (.getfield 116, 3) := dk_180 0 116 (dk_at dksX19_readSeen_1 18 rfl rfl)
theorem dX19_readSeen_45 : decode cX19_readSeen 45 = .ok (.iconst 5, 1) := dk_8 (dk_at dksX19_readSeen_1 21 rfl rfl)
theorem dX19_readSeen_46 : decode cX19_readSeen 46 = .ok (.if_icmp .eq 23, 3) := dk_159 0 23 (dk_at dksX19_readSeen_2 0 rfl rfl)
theorem dX19_readSeen_49 : decode cX19_readSeen 49 = .ok (.aload_n 0, 1) := dk_42 (dk_at dksX19_readSeen_2 3 rfl rfl)
theorem dX19_readSeen_50 : decode cX19_readSeen 50 = .ok (.getfield 139, 3) := dk_180 0 139 (dk_at dksX19_readSeen_2 4 rfl rfl)
theorem dX19_readSeen_53 : decode cX19_readSeen 53 = .ok (.aload_n 0, 1) := dk_42 (dk_at dksX19_readSeen_2 7 rfl rfl)
theorem dX19_readSeen_54 : decode cX19_readSeen 54 = .ok (.getfield 196, 3) := dk_180 0 196 (dk_at dksX19_readSeen_2 8 rfl rfl)
theorem dX19_readSeen_57 : decode cX19_readSeen 57 = .ok (.getfield 251, 3) := dk_180 0 251 (dk_at dksX19_readSeen_2 11 rfl rfl)
theorem dX19_readSeen_60 : decode cX19_readSeen 60 = .ok (.if_icmp .eq 9, 3) := dk_159 0 9 (dk_at dksX19_readSeen_2 14 rfl rfl)
theorem dX19_readSeen_63 : decode cX19_readSeen 63 = .ok (.aload_n 0, 1) := dk_42 (dk_at dksX19_readSeen_2 17 rfl rfl)
theorem dX19_readSeen_64 : decode cX19_readSeen 64 = .ok (.bipush 7, 2) := dk_16 7 (dk_at dksX19_readSeen_2 18 rfl rfl)
theorem dX19_readSeen_66 : decode cX19_readSeen 66 = .ok (.invokevirtual 165, 3) := dk_182 0 165 (dk_at dksX19_readSeen_2 20 rfl rfl)
theorem dX19_readSeen_69 : decode cX19_readSeen 69 = .ok (.iconst 0, 1) := dk_3 (dk_at dksX19_readSeen_2 23 rfl rfl)
theorem dX19_readSeen_70 : decode cX19_readSeen 70 = .ok (.istore_n 2, 1) := dk_61 (dk_at dksX19_readSeen_3 0 rfl rfl)
theorem dX19_readSeen_71 : decode cX19_readSeen 71 = .ok (.iload_n 2, 1) := dk_28 (dk_at dksX19_readSeen_3 1 rfl rfl)
theorem dX19_readSeen_72 : decode cX19_readSeen 72 = .ok (.aload_n 0, 1) := dk_42 (dk_at dksX19_readSeen_3 2 rfl rfl)
theorem dX19_readSeen_73 : decode cX19_readSeen 73 = .ok (.getfield 196, 3) := dk_180 0 196 (dk_at dksX19_readSeen_3 3 rfl rfl)
theorem dX19_readSeen_76 : decode cX19_readSeen 76 = .ok (.getfield 251, 3) := dk_180 0 251 (dk_at dksX19_readSeen_3 6 rfl rfl)
theorem dX19_readSeen_79 : decode cX19_readSeen 79 = .ok (.if_icmp .ge 96, 3) := dk_162 0 96 (dk_at dksX19_readSeen_3 9 rfl rfl)
theorem dX19_readSeen_82 : decode cX19_readSeen 82 = .ok (.aload_n 0, 1) := dk_42 (dk_at dksX19_readSeen_3 12 rfl rfl)
theorem dX19_readSeen_83 : decode cX19_readSeen 83 = .ok (.getfield 116, 3) := dk_180 0 116 (dk_at dksX19_readSeen_3 13 rfl rfl)
theorem dX19_readSeen_86 : decode cX19_readSeen 86 = .ok (.iconst 5, 1) := dk_8 (dk_at dksX19_readSeen_3 16 rfl rfl)
theorem dX19_readSeen_87 : decode cX19_readSeen 87 = .ok (.if_icmp .eq 88, 3) := dk_159 0 88 (dk_at dksX19_readSeen_3 17 rfl rfl)
theorem dX19_readSeen_90 : decode cX19_readSeen 90 = .ok (.aload_n 0, 1) := dk_42 (dk_at dksX19_readSeen_3 20 rfl rfl)
theorem dX19_readSeen_91 : decode cX19_readSeen 91 = .ok (.getfield 17, 3) := dk_180 0 17 (dk_at dksX19_readSeen_3 21 rfl rfl)
theorem dX19_readSeen_94 : decode cX19_readSeen 94 = .ok (.iload_n 2, 1) := dk_28 (dk_at dksX19_readSeen_4 0 rfl rfl)
theorem dX19_readSeen_95 : decode cX19_readSeen 95 = .ok (.iaload, 1) := dk_46 (dk_at dksX19_readSeen_4 1 rfl rfl)
theorem dX19_readSeen_96 : decode cX19_readSeen 96 = .ok (.bipush 122, 2) := dk_16 122 (dk_at dksX19_readSeen_4 2 rfl rfl)
theorem dX19_readSeen_98 : decode cX19_readSeen 98 = .ok (.if_icmp .ne 8, 3) := dk_160 0 8 (dk_at dksX19_readSeen_4 4 rfl rfl)
theorem dX19_readSeen_101 : decode cX19_readSeen 101 = .ok (.bipush (-2), 2) := dk_16 254 (dk_at dksX19_readSeen_4 7 rfl rfl)
theorem dX19_readSeen_103 : decode cX19_readSeen 103 = .ok (.goto 12, 3) := dk_167 0 12 (dk_at dksX19_readSeen_4 9 rfl rfl)
theorem dX19_readSeen_106 : decode cX19_readSeen 106 = .ok (.aload_n 0, 1) := dk_42 (dk_at dksX19_readSeen_4 12 rfl rfl)
theorem dX19_readSeen_107 : decode cX19_readSeen 107 = .ok (.getfield 17, 3) := dk_180 0 17 (dk_at dksX19_readSeen_4 13 rfl rfl)
theorem dX19_readSeen_110 : decode cX19_readSeen 110 = .ok (.iload_n 2, 1) := dk_28 (dk_at dksX19_readSeen_4 16 rfl rfl)
theorem dX19_readSeen_111 : decode cX19_readSeen 111 = .ok (.iaload, 1) := dk_46 (dk_at dksX19_readSeen_4 17 rfl rfl)
theorem dX19_readSeen_112 : decode cX19_readSeen 112 = .ok (.bipush 97, 2) := dk_16 97 (dk_at dksX19_readSeen_4 18 rfl rfl)
theorem dX19_readSeen_114 : decode cX19_readSeen 114 = .ok (.isub, 1) := dk_100 (dk_at dksX19_readSeen_4 20 rfl rfl)
theorem dX19_readSeen_115 : decode cX19_readSeen 115 = .ok (.istore_n 3, 1) := dk_62 (dk_at dksX19_readSeen_4 21 rfl rfl)
theorem dX19_readSeen_116 : decode cX19_readSeen 116 = .ok (.iload_n 3, 1) := dk_29 (dk_at dksX19_readSeen_4 22 rfl rfl)
theorem dX19_readSeen_117 : decode cX19_readSeen 117 = .ok (.bipush (-2), 2) := dk_16 254 (dk_at dksX19_readSeen_5 0 rfl rfl)
theorem dX19_readSeen_119 : decode cX19_readSeen 119 = .ok (.if_icmp .eq 29, 3) := dk_159 0 29 (dk_at dksX19_readSeen_5 2 rfl rfl)
theorem dX19_readSeen_122 : decode cX19_readSeen 122 = .ok (.iload_n 3, 1) := dk_29 (dk_at dksX19_readSeen_5 5 rfl rfl)
theorem dX19_readSeen_123 : decode cX19_readSeen 123 = .ok (.iconst 0, 1) := dk_3 (dk_at dksX19_readSeen_5 6 rfl rfl)
theorem dX19_readSeen_124 : decode cX19_readSeen 124 = .ok (.aload_n 0, 1) := dk_42 (dk_at dksX19_readSeen_5 7 rfl rfl)
theorem dX19_readSeen_125 : decode cX19_readSeen 125 = .ok (.getfield 196, 3) := dk_180 0 196 (dk_at dksX19_readSeen_5 8 rfl rfl)
theorem dX19_readSeen_128 : decode cX19_readSeen 128 = .ok (.getfield 253, 3) := dk_180 0 253 (dk_at dksX19_readSeen_5 11 rfl rfl)
theorem dX19_readSeen_131 : decode cX19_readSeen 131 = .ok (.iconst 1, 1) := dk_4 (dk_at dksX19_readSeen_5 14 rfl rfl)
theorem dX19_readSeen_132 : decode cX19_readSeen 132 = .ok (.isub, 1) := dk_100 (dk_at dksX19_readSeen_5 15 rfl rfl)
theorem dX19_readSeen_133 : decode cX19_readSeen 133 = .ok (.invokestatic 169, 3) := dk_184 0 169 (dk_at dksX19_readSeen_5 16 rfl rfl)
theorem dX19_readSeen_136 : decode cX19_readSeen 136 = .ok (.ifCond .ne 12, 3) := dk_154 0 12 (dk_at dksX19_readSeen_5 19 rfl rfl)
theorem dX19_readSeen_139 : decode cX19_readSeen 139 = .ok (.aload_n 0, 1) := dk_42 (dk_at dksX19_readSeen_5 22 rfl rfl)
theorem dX19_readSeen_140 : decode cX19_readSeen 140 = .ok (.bipush 7, 2) := dk_16 7 (dk_at dksX19_readSeen_6 0 rfl rfl)
theorem dX19_readSeen_142 : decode cX19_readSeen 142 = .ok (.invokevirtual 165, 3) := dk_182 0 165 (dk_at dksX19_readSeen_6 2 rfl rfl)
theorem dX19_readSeen_145 : decode cX19_readSeen 145 = .ok (.goto 24, 3) := dk_167 0 24 (dk_at dksX19_readSeen_6 5 rfl rfl)
theorem dX19_readSeen_148 : decode cX19_readSeen 148 = .ok (.aload_n 0, 1) := dk_42 (dk_at dksX19_readSeen_6 8 rfl rfl)
theorem dX19_readSeen_149 : decode cX19_readSeen 149 = .ok (.getfield 196, 3) := dk_180 0 196 (dk_at dksX19_readSeen_6 9 rfl rfl)
theorem dX19_readSeen_152 : decode cX19_readSeen 152 = .ok (.getfield 339, 3) := dk_180 1 83 (dk_at dksX19_readSeen_6 12 rfl rfl)
theorem dX19_readSeen_155 : decode cX19_readSeen 155 = .ok (.bipush 8, 2) := dk_16 8 (dk_at dksX19_readSeen_6 15 rfl rfl)
theorem dX19_readSeen_157 : decode cX19_readSeen 157 = .ok (.aload_n 0, 1) := dk_42 (dk_at dksX19_readSeen_6 17 rfl rfl)
theorem dX19_readSeen_158 : decode cX19_readSeen 158 = .ok (.getfield 196, 3) := dk_180 0 196 (dk_at dksX19_readSeen_6 18 rfl rfl)
theorem dX19_readSeen_161 : decode cX19_readSeen 161 = .ok (.getfield 336, 3) := dk_180 1 80 (dk_at dksX19_readSeen_6 21 rfl rfl)
theorem dX19_readSeen_164 : decode cX19_readSeen 164 = .ok (.imul, 1) := dk_104 (dk_at dksX19_readSeen_7 0 rfl rfl)
theorem dX19_readSeen_165 : decode cX19_readSeen 165 = .ok (.iload_n 2, 1) := dk_28 (dk_at dksX19_readSeen_7 1 rfl rfl)
theorem dX19_readSeen_166 : decode cX19_readSeen 166 = .ok (.iadd, 1) := dk_96 (dk_at dksX19_readSeen_7 2 rfl rfl)
theorem dX19_readSeen_167 : decode cX19_readSeen 167 = .ok (.iload_n 3, 1) := dk_29 (dk_at dksX19_readSeen_7 3 rfl rfl)
theorem dX19_readSeen_168 : decode cX19_readSeen 168 = .ok (.iastore, 1) := dk_79 (dk_at dksX19_readSeen_7 4 rfl rfl)
theorem dX19_readSeen_169 : decode cX19_readSeen 169 = .ok (.iinc 2 1, 3) := dk_132 2 1 (dk_at dksX19_readSeen_7 5 rfl rfl)
theorem dX19_readSeen_172 : decode cX19_readSeen 172 = .ok (.goto (-101), 3) := dk_167 255 155 (dk_at dksX19_readSeen_7 8 rfl rfl)
theorem dX19_readSeen_175 : decode cX19_readSeen 175 = .ok (.aload_n 0, 1) := dk_42 (dk_at dksX19_readSeen_7 11 rfl rfl)
theorem dX19_readSeen_176 : decode cX19_readSeen 176 = .ok (.invokevirtual 158, 3) := dk_182 0 158 (dk_at dksX19_readSeen_7 12 rfl rfl)
theorem dX19_readSeen_179 : decode cX19_readSeen 179 = .ok (.aload_n 0, 1) := dk_42 (dk_at dksX19_readSeen_7 15 rfl rfl)
theorem dX19_readSeen_180 : decode cX19_readSeen 180 = .ok (.getfield 116, 3) := dk_180 0 116 (dk_at dksX19_readSeen_7 16 rfl rfl)
theorem dX19_readSeen_183 : decode cX19_readSeen 183 = .ok (.iconst 5, 1) := dk_8 (dk_at dksX19_readSeen_7 19 rfl rfl)
theorem dX19_readSeen_184 : decode cX19_readSeen 184 = .ok (.if_icmp .ne 4, 3) := dk_160 0 4 (dk_at dksX19_readSeen_7 20 rfl rfl)
theorem dX19_readSeen_187 : decode cX19_readSeen 187 = .ok (.return_, 1) := dk_177 (dk_at dksX19_readSeen_7 23 rfl rfl)
theorem dX19_readSeen_188 : decode cX19_readSeen 188 = .ok (.aload_n 0, 1) := dk_42 (dk_at dksX19_readSeen_8 0 rfl rfl)
theorem dX19_readSeen_189 : decode cX19_readSeen 189 = .ok (.getfield 196, 3) := dk_180 0 196 (dk_at dksX19_readSeen_8 1 rfl rfl)
theorem dX19_readSeen_192 : decode cX19_readSeen 192 = .ok (.getfield 341, 3) := dk_180 1 85 (dk_at dksX19_readSeen_8 4 rfl rfl)
theorem dX19_readSeen_195 : decode cX19_readSeen 195 = .ok (.aload_n 0, 1) := dk_42 (dk_at dksX19_readSeen_8 7 rfl rfl)
theorem dX19_readSeen_196 : decode cX19_readSeen 196 = .ok (.getfield 196, 3) := dk_180 0 196 (dk_at dksX19_readSeen_8 8 rfl rfl)
theorem dX19_readSeen_199 : decode cX19_readSeen 199 = .ok (.getfield 336, 3) := dk_180 1 80 (dk_at dksX19_readSeen_8 11 rfl rfl)
theorem dX19_readSeen_202 : decode cX19_readSeen 202 = .ok (.iload_n 1, 1) := dk_27 (dk_at dksX19_readSeen_8 14 rfl rfl)
theorem dX19_readSeen_203 : decode cX19_readSeen 203 = .ok (.iastore, 1) := dk_79 (dk_at dksX19_readSeen_8 15 rfl rfl)
theorem dX19_readSeen_204 : decode cX19_readSeen 204 = .ok (.aload_n 0, 1) := dk_42 (dk_at dksX19_readSeen_8 16 rfl rfl)
theorem dX19_readSeen_205 : decode cX19_readSeen 205 = .ok (.getfield 196, 3) := dk_180 0 196 (dk_at dksX19_readSeen_8 17 rfl rfl)
theorem dX19_readSeen_208 : decode cX19_readSeen 208 = .ok (.dup, 1) := dk_89 (dk_at dksX19_readSeen_8 20 rfl rfl)
theorem dX19_readSeen_209 : decode cX19_readSeen 209 = .ok (.getfield 336, 3) := dk_180 1 80 (dk_at dksX19_readSeen_8 21 rfl rfl)
theorem dX19_readSeen_212 : decode cX19_readSeen 212 = .ok (.iconst 1, 1) := dk_4 (dk_at dksX19_readSeen_9 0 rfl rfl)
theorem dX19_readSeen_213 : decode cX19_readSeen 213 = .ok (.iadd, 1) := dk_96 (dk_at dksX19_readSeen_9 1 rfl rfl)
theorem dX19_readSeen_214 : decode cX19_readSeen 214 = .ok (.putfield 336, 3) := dk_181 1 80 (dk_at dksX19_readSeen_9 2 rfl rfl)
theorem dX19_readSeen_217 : decode cX19_readSeen 217 = .ok (.return_, 1) := dk_177 (dk_at dksX19_readSeen_9 5 rfl rfl)
abbrev cX19_readSays : ByteArray := prog_24_method_33_code
def yX19_readSays : MethodName := ⟨RX19, "readSays", "()V"⟩
def dkwX19_readSays_5 : List UInt8 := [96, 181, 1, 88, 177]
abbrev dktX19_readSays_5 : List UInt8 := dkwX19_readSays_5 ++ []
def dkwX19_readSays_4 : List UInt8 := [180, 0, 196, 180, 1, 97, 42, 180, 0, 196, 180, 1, 88, 29, 79, 42, 180, 0, 196, 89, 180, 1, 88, 4]
abbrev dktX19_readSays_4 : List UInt8 := dkwX19_readSays_4 ++ dktX19_readSays_5
def dkwX19_readSays_3 : List UInt8 := [180, 1, 88, 27, 79, 42, 180, 0, 196, 180, 1, 94, 42, 180, 0, 196, 180, 1, 88, 28, 79, 42]
abbrev dktX19_readSays_3 : List UInt8 := dkwX19_readSays_3 ++ dktX19_readSays_4
def dkwX19_readSays_2 : List UInt8 := [182, 0, 181, 62, 42, 180, 0, 116, 8, 160, 0, 4, 177, 42, 180, 0, 196, 180, 1, 91, 42, 180, 0, 196]
abbrev dktX19_readSays_2 : List UInt8 := dkwX19_readSays_2 ++ dktX19_readSays_3
def dkwX19_readSays_1 : List UInt8 := [42, 180, 0, 196, 180, 0, 200, 4, 100, 182, 0, 181, 61, 42, 3, 42, 180, 0, 196, 180, 0, 251, 4, 100]
abbrev dktX19_readSays_1 : List UInt8 := dkwX19_readSays_1 ++ dktX19_readSays_2
def dkwX19_readSays_0 : List UInt8 := [42, 42, 180, 0, 196, 180, 1, 88, 16, 8, 182, 1, 1, 42, 182, 1, 53, 60, 42, 182, 0, 158, 42, 3]
abbrev dktX19_readSays_0 : List UInt8 := dkwX19_readSays_0 ++ dktX19_readSays_1
theorem dksX19_readSays_0 : cX19_readSays.data.toList.drop 0 = dktX19_readSays_0 := by decide +kernel
theorem dksX19_readSays_1 : cX19_readSays.data.toList.drop 24 = dktX19_readSays_1 := dk_seg dksX19_readSays_0 24 rfl rfl
theorem dksX19_readSays_2 : cX19_readSays.data.toList.drop 48 = dktX19_readSays_2 := dk_seg dksX19_readSays_1 24 rfl rfl
theorem dksX19_readSays_3 : cX19_readSays.data.toList.drop 72 = dktX19_readSays_3 := dk_seg dksX19_readSays_2 24 rfl rfl
theorem dksX19_readSays_4 : cX19_readSays.data.toList.drop 94 = dktX19_readSays_4 := dk_seg dksX19_readSays_3 22 rfl rfl
theorem dksX19_readSays_5 : cX19_readSays.data.toList.drop 118 = dktX19_readSays_5 := dk_seg dksX19_readSays_4 24 rfl rfl
theorem dX19_readSays_0 : decode cX19_readSays 0 = .ok (.aload_n 0, 1) := dk_42 (dk_at dksX19_readSays_0 0 rfl rfl)
theorem dX19_readSays_1 : decode cX19_readSays 1 = .ok (.aload_n 0, 1) := dk_42 (dk_at dksX19_readSays_0 1 rfl rfl)
theorem dX19_readSays_2 : decode cX19_readSays 2 = .ok (.getfield 196, 3) := dk_180 0 196 (dk_at dksX19_readSays_0 2 rfl rfl)
theorem dX19_readSays_5 : decode cX19_readSays 5 = .ok (.getfield 344, 3) := dk_180 1 88 (dk_at dksX19_readSays_0 5 rfl rfl)
theorem dX19_readSays_8 : decode cX19_readSays 8 = .ok (.bipush 8, 2) := dk_16 8 (dk_at dksX19_readSays_0 8 rfl rfl)
theorem dX19_readSays_10 : decode cX19_readSays 10 = .ok (.invokevirtual 257, 3) := dk_182 1 1 (dk_at dksX19_readSays_0 10 rfl rfl)
theorem dX19_readSays_13 : decode cX19_readSays 13 = .ok (.aload_n 0, 1) := dk_42 (dk_at dksX19_readSays_0 13 rfl rfl)
theorem dX19_readSays_14 : decode cX19_readSays 14 = .ok (.invokevirtual 309, 3) := dk_182 1 53 (dk_at dksX19_readSays_0 14 rfl rfl)
theorem dX19_readSays_17 : decode cX19_readSays 17 = .ok (.istore_n 1, 1) := dk_60 (dk_at dksX19_readSays_0 17 rfl rfl)
theorem dX19_readSays_18 : decode cX19_readSays 18 = .ok (.aload_n 0, 1) := dk_42 (dk_at dksX19_readSays_0 18 rfl rfl)
theorem dX19_readSays_19 : decode cX19_readSays 19 = .ok (.invokevirtual 158, 3) := dk_182 0 158 (dk_at dksX19_readSays_0 19 rfl rfl)
theorem dX19_readSays_22 : decode cX19_readSays 22 = .ok (.aload_n 0, 1) := dk_42 (dk_at dksX19_readSays_0 22 rfl rfl)
theorem dX19_readSays_23 : decode cX19_readSays 23 = .ok (.iconst 0, 1) := dk_3 (dk_at dksX19_readSays_0 23 rfl rfl)
theorem dX19_readSays_24 : decode cX19_readSays 24 = .ok (.aload_n 0, 1) := dk_42 (dk_at dksX19_readSays_1 0 rfl rfl)
theorem dX19_readSays_25 : decode cX19_readSays 25 = .ok (.getfield 196, 3) := dk_180 0 196 (dk_at dksX19_readSays_1 1 rfl rfl)
theorem dX19_readSays_28 : decode cX19_readSays 28 = .ok (.getfield 200, 3) := dk_180 0 200 (dk_at dksX19_readSays_1 4 rfl rfl)
theorem dX19_readSays_31 : decode cX19_readSays 31 = .ok (.iconst 1, 1) := dk_4 (dk_at dksX19_readSays_1 7 rfl rfl)
theorem dX19_readSays_32 : decode cX19_readSays 32 = .ok (.isub, 1) := dk_100 (dk_at dksX19_readSays_1 8 rfl rfl)
theorem dX19_readSays_33 : decode cX19_readSays 33 = .ok (.invokevirtual 181, 3) := dk_182 0 181 (dk_at dksX19_readSays_1 9 rfl rfl)
theorem dX19_readSays_36 : decode cX19_readSays 36 = .ok (.istore_n 2, 1) := dk_61 (dk_at dksX19_readSays_1 12 rfl rfl)
theorem dX19_readSays_37 : decode cX19_readSays 37 = .ok (.aload_n 0, 1) := dk_42 (dk_at dksX19_readSays_1 13 rfl rfl)
theorem dX19_readSays_38 : decode cX19_readSays 38 = .ok (.iconst 0, 1) := dk_3 (dk_at dksX19_readSays_1 14 rfl rfl)
theorem dX19_readSays_39 : decode cX19_readSays 39 = .ok (.aload_n 0, 1) := dk_42 (dk_at dksX19_readSays_1 15 rfl rfl)
theorem dX19_readSays_40 : decode cX19_readSays 40 = .ok (.getfield 196, 3) := dk_180 0 196 (dk_at dksX19_readSays_1 16 rfl rfl)
theorem dX19_readSays_43 : decode cX19_readSays 43 = .ok (.getfield 251, 3) := dk_180 0 251 (dk_at dksX19_readSays_1 19 rfl rfl)
theorem dX19_readSays_46 : decode cX19_readSays 46 = .ok (.iconst 1, 1) := dk_4 (dk_at dksX19_readSays_1 22 rfl rfl)
theorem dX19_readSays_47 : decode cX19_readSays 47 = .ok (.isub, 1) := dk_100 (dk_at dksX19_readSays_1 23 rfl rfl)
theorem dX19_readSays_48 : decode cX19_readSays 48 = .ok (.invokevirtual 181, 3) := dk_182 0 181 (dk_at dksX19_readSays_2 0 rfl rfl)
theorem dX19_readSays_51 : decode cX19_readSays 51 = .ok (.istore_n 3, 1) := dk_62 (dk_at dksX19_readSays_2 3 rfl rfl)
theorem dX19_readSays_52 : decode cX19_readSays 52 = .ok (.aload_n 0, 1) := dk_42 (dk_at dksX19_readSays_2 4 rfl rfl)
theorem dX19_readSays_53 : decode cX19_readSays 53 = .ok (.getfield 116, 3) := dk_180 0 116 (dk_at dksX19_readSays_2 5 rfl rfl)
theorem dX19_readSays_56 : decode cX19_readSays 56 = .ok (.iconst 5, 1) := dk_8 (dk_at dksX19_readSays_2 8 rfl rfl)
theorem dX19_readSays_57 : decode cX19_readSays 57 = .ok (.if_icmp .ne 4, 3) := dk_160 0 4 (dk_at dksX19_readSays_2 9 rfl rfl)
theorem dX19_readSays_60 : decode cX19_readSays 60 = .ok (.return_, 1) := dk_177 (dk_at dksX19_readSays_2 12 rfl rfl)
theorem dX19_readSays_61 : decode cX19_readSays 61 = .ok (.aload_n 0, 1) := dk_42 (dk_at dksX19_readSays_2 13 rfl rfl)
theorem dX19_readSays_62 : decode cX19_readSays 62 = .ok (.getfield 196, 3) := dk_180 0 196 (dk_at dksX19_readSays_2 14 rfl rfl)
theorem dX19_readSays_65 : decode cX19_readSays 65 = .ok (.getfield 347, 3) := dk_180 1 91 (dk_at dksX19_readSays_2 17 rfl rfl)
theorem dX19_readSays_68 : decode cX19_readSays 68 = .ok (.aload_n 0, 1) := dk_42 (dk_at dksX19_readSays_2 20 rfl rfl)
theorem dX19_readSays_69 : decode cX19_readSays 69 = .ok (.getfield 196, 3) := dk_180 0 196 (dk_at dksX19_readSays_2 21 rfl rfl)
theorem dX19_readSays_72 : decode cX19_readSays 72 = .ok (.getfield 344, 3) := dk_180 1 88 (dk_at dksX19_readSays_3 0 rfl rfl)
theorem dX19_readSays_75 : decode cX19_readSays 75 = .ok (.iload_n 1, 1) := dk_27 (dk_at dksX19_readSays_3 3 rfl rfl)
theorem dX19_readSays_76 : decode cX19_readSays 76 = .ok (.iastore, 1) := dk_79 (dk_at dksX19_readSays_3 4 rfl rfl)
theorem dX19_readSays_77 : decode cX19_readSays 77 = .ok (.aload_n 0, 1) := dk_42 (dk_at dksX19_readSays_3 5 rfl rfl)
theorem dX19_readSays_78 : decode cX19_readSays 78 = .ok (.getfield 196, 3) := dk_180 0 196 (dk_at dksX19_readSays_3 6 rfl rfl)
theorem dX19_readSays_81 : decode cX19_readSays 81 = .ok (.getfield 350, 3) := dk_180 1 94 (dk_at dksX19_readSays_3 9 rfl rfl)
theorem dX19_readSays_84 : decode cX19_readSays 84 = .ok (.aload_n 0, 1) := dk_42 (dk_at dksX19_readSays_3 12 rfl rfl)
theorem dX19_readSays_85 : decode cX19_readSays 85 = .ok (.getfield 196, 3) := dk_180 0 196 (dk_at dksX19_readSays_3 13 rfl rfl)
theorem dX19_readSays_88 : decode cX19_readSays 88 = .ok (.getfield 344, 3) := dk_180 1 88 (dk_at dksX19_readSays_3 16 rfl rfl)
theorem dX19_readSays_91 : decode cX19_readSays 91 = .ok (.iload_n 2, 1) := dk_28 (dk_at dksX19_readSays_3 19 rfl rfl)
theorem dX19_readSays_92 : decode cX19_readSays 92 = .ok (.iastore, 1) := dk_79 (dk_at dksX19_readSays_3 20 rfl rfl)
theorem dX19_readSays_93 : decode cX19_readSays 93 = .ok (.aload_n 0, 1) := dk_42 (dk_at dksX19_readSays_3 21 rfl rfl)
theorem dX19_readSays_94 : decode cX19_readSays 94 = .ok (.getfield 196, 3) := dk_180 0 196 (dk_at dksX19_readSays_4 0 rfl rfl)
theorem dX19_readSays_97 : decode cX19_readSays 97 = .ok (.getfield 353, 3) := dk_180 1 97 (dk_at dksX19_readSays_4 3 rfl rfl)
theorem dX19_readSays_100 : decode cX19_readSays 100 = .ok (.aload_n 0, 1) := dk_42 (dk_at dksX19_readSays_4 6 rfl rfl)
theorem dX19_readSays_101 : decode cX19_readSays 101 = .ok (.getfield 196, 3) := dk_180 0 196 (dk_at dksX19_readSays_4 7 rfl rfl)
theorem dX19_readSays_104 : decode cX19_readSays 104 = .ok (.getfield 344, 3) := dk_180 1 88 (dk_at dksX19_readSays_4 10 rfl rfl)
theorem dX19_readSays_107 : decode cX19_readSays 107 = .ok (.iload_n 3, 1) := dk_29 (dk_at dksX19_readSays_4 13 rfl rfl)
theorem dX19_readSays_108 : decode cX19_readSays 108 = .ok (.iastore, 1) := dk_79 (dk_at dksX19_readSays_4 14 rfl rfl)
theorem dX19_readSays_109 : decode cX19_readSays 109 = .ok (.aload_n 0, 1) := dk_42 (dk_at dksX19_readSays_4 15 rfl rfl)
theorem dX19_readSays_110 : decode cX19_readSays 110 = .ok (.getfield 196, 3) := dk_180 0 196 (dk_at dksX19_readSays_4 16 rfl rfl)
theorem dX19_readSays_113 : decode cX19_readSays 113 = .ok (.dup, 1) := dk_89 (dk_at dksX19_readSays_4 19 rfl rfl)
theorem dX19_readSays_114 : decode cX19_readSays 114 = .ok (.getfield 344, 3) := dk_180 1 88 (dk_at dksX19_readSays_4 20 rfl rfl)
theorem dX19_readSays_117 : decode cX19_readSays 117 = .ok (.iconst 1, 1) := dk_4 (dk_at dksX19_readSays_4 23 rfl rfl)
theorem dX19_readSays_118 : decode cX19_readSays 118 = .ok (.iadd, 1) := dk_96 (dk_at dksX19_readSays_5 0 rfl rfl)
theorem dX19_readSays_119 : decode cX19_readSays 119 = .ok (.putfield 344, 3) := dk_181 1 88 (dk_at dksX19_readSays_5 1 rfl rfl)
theorem dX19_readSays_122 : decode cX19_readSays 122 = .ok (.return_, 1) := dk_177 (dk_at dksX19_readSays_5 4 rfl rfl)
abbrev cX19_eatsSemicolon : ByteArray := prog_24_method_17_code
def yX19_eatsSemicolon : MethodName := ⟨RX19, "eatsSemicolon", "()Z"⟩
def dkwX19_eatsSemicolon_1 : List UInt8 := [153, 0, 7, 42, 182, 0, 158, 27, 172]
abbrev dktX19_eatsSemicolon_1 : List UInt8 := dkwX19_eatsSemicolon_1 ++ []
def dkwX19_eatsSemicolon_0 : List UInt8 := [42, 180, 0, 116, 7, 160, 0, 16, 42, 180, 0, 128, 16, 59, 160, 0, 7, 4, 167, 0, 4, 3, 60, 27]
abbrev dktX19_eatsSemicolon_0 : List UInt8 := dkwX19_eatsSemicolon_0 ++ dktX19_eatsSemicolon_1
theorem dksX19_eatsSemicolon_0 : cX19_eatsSemicolon.data.toList.drop 0 = dktX19_eatsSemicolon_0 := by decide +kernel
theorem dksX19_eatsSemicolon_1 : cX19_eatsSemicolon.data.toList.drop 24 = dktX19_eatsSemicolon_1 := dk_seg dksX19_eatsSemicolon_0 24 rfl rfl
theorem dX19_eatsSemicolon_0 : decode cX19_eatsSemicolon 0 = .ok (.aload_n 0, 1) := dk_42 (dk_at dksX19_eatsSemicolon_0 0 rfl rfl)
theorem dX19_eatsSemicolon_1 : decode cX19_eatsSemicolon 1 = .ok (.getfield 116, 3) := dk_180 0 116 (dk_at dksX19_eatsSemicolon_0 1 rfl rfl)
theorem dX19_eatsSemicolon_4 : decode cX19_eatsSemicolon 4 = .ok (.iconst 4, 1) := dk_7 (dk_at dksX19_eatsSemicolon_0 4 rfl rfl)
theorem dX19_eatsSemicolon_5 : decode cX19_eatsSemicolon 5 = .ok (.if_icmp .ne 16, 3) := dk_160 0 16 (dk_at dksX19_eatsSemicolon_0 5 rfl rfl)
theorem dX19_eatsSemicolon_8 : decode cX19_eatsSemicolon 8 = .ok (.aload_n 0, 1) := dk_42 (dk_at dksX19_eatsSemicolon_0 8 rfl rfl)
theorem dX19_eatsSemicolon_9 : decode cX19_eatsSemicolon 9 = .ok (.getfield 128, 3) := dk_180 0 128 (dk_at dksX19_eatsSemicolon_0 9 rfl rfl)
theorem dX19_eatsSemicolon_12 : decode cX19_eatsSemicolon 12 = .ok (.bipush 59, 2) := dk_16 59 (dk_at dksX19_eatsSemicolon_0 12 rfl rfl)
theorem dX19_eatsSemicolon_14 : decode cX19_eatsSemicolon 14 = .ok (.if_icmp .ne 7, 3) := dk_160 0 7 (dk_at dksX19_eatsSemicolon_0 14 rfl rfl)
theorem dX19_eatsSemicolon_17 : decode cX19_eatsSemicolon 17 = .ok (.iconst 1, 1) := dk_4 (dk_at dksX19_eatsSemicolon_0 17 rfl rfl)
theorem dX19_eatsSemicolon_18 : decode cX19_eatsSemicolon 18 = .ok (.goto 4, 3) := dk_167 0 4 (dk_at dksX19_eatsSemicolon_0 18 rfl rfl)
theorem dX19_eatsSemicolon_21 : decode cX19_eatsSemicolon 21 = .ok (.iconst 0, 1) := dk_3 (dk_at dksX19_eatsSemicolon_0 21 rfl rfl)
theorem dX19_eatsSemicolon_22 : decode cX19_eatsSemicolon 22 = .ok (.istore_n 1, 1) := dk_60 (dk_at dksX19_eatsSemicolon_0 22 rfl rfl)
theorem dX19_eatsSemicolon_23 : decode cX19_eatsSemicolon 23 = .ok (.iload_n 1, 1) := dk_27 (dk_at dksX19_eatsSemicolon_0 23 rfl rfl)
theorem dX19_eatsSemicolon_24 : decode cX19_eatsSemicolon 24 = .ok (.ifCond .eq 7, 3) := dk_153 0 7 (dk_at dksX19_eatsSemicolon_1 0 rfl rfl)
theorem dX19_eatsSemicolon_27 : decode cX19_eatsSemicolon 27 = .ok (.aload_n 0, 1) := dk_42 (dk_at dksX19_eatsSemicolon_1 3 rfl rfl)
theorem dX19_eatsSemicolon_28 : decode cX19_eatsSemicolon 28 = .ok (.invokevirtual 158, 3) := dk_182 0 158 (dk_at dksX19_eatsSemicolon_1 4 rfl rfl)
theorem dX19_eatsSemicolon_31 : decode cX19_eatsSemicolon 31 = .ok (.iload_n 1, 1) := dk_27 (dk_at dksX19_eatsSemicolon_1 7 rfl rfl)
theorem dX19_eatsSemicolon_32 : decode cX19_eatsSemicolon 32 = .ok (.ireturn, 1) := dk_172 (dk_at dksX19_eatsSemicolon_1 8 rfl rfl)
abbrev cX19_good : ByteArray := prog_24_method_5_code
def yX19_good : MethodName := ⟨RX19, "good", "(I)I"⟩
def dkwX19_good_0 : List UInt8 := [42, 3, 181, 0, 91, 42, 2, 181, 0, 9, 27, 172]
abbrev dktX19_good_0 : List UInt8 := dkwX19_good_0 ++ []
theorem dksX19_good_0 : cX19_good.data.toList.drop 0 = dktX19_good_0 := by decide +kernel
theorem dX19_good_0 : decode cX19_good 0 = .ok (.aload_n 0, 1) := dk_42 (dk_at dksX19_good_0 0 rfl rfl)
theorem dX19_good_1 : decode cX19_good 1 = .ok (.iconst 0, 1) := dk_3 (dk_at dksX19_good_0 1 rfl rfl)
theorem dX19_good_2 : decode cX19_good 2 = .ok (.putfield 91, 3) := dk_181 0 91 (dk_at dksX19_good_0 2 rfl rfl)
theorem dX19_good_5 : decode cX19_good 5 = .ok (.aload_n 0, 1) := dk_42 (dk_at dksX19_good_0 5 rfl rfl)
theorem dX19_good_6 : decode cX19_good 6 = .ok (.iconst (-1), 1) := dk_2 (dk_at dksX19_good_0 6 rfl rfl)
theorem dX19_good_7 : decode cX19_good 7 = .ok (.putfield 9, 3) := dk_181 0 9 (dk_at dksX19_good_0 7 rfl rfl)
theorem dX19_good_10 : decode cX19_good 10 = .ok (.iload_n 1, 1) := dk_27 (dk_at dksX19_good_0 10 rfl rfl)
theorem dX19_good_11 : decode cX19_good 11 = .ok (.ireturn, 1) := dk_172 (dk_at dksX19_good_0 11 rfl rfl)
abbrev cX19_fault : ByteArray := prog_24_method_36_code
def yX19_fault : MethodName := ⟨RX19, "fault", "()I"⟩
def dkwX19_fault_0 : List UInt8 := [42, 3, 181, 0, 88, 42, 180, 0, 148, 172]
abbrev dktX19_fault_0 : List UInt8 := dkwX19_fault_0 ++ []
theorem dksX19_fault_0 : cX19_fault.data.toList.drop 0 = dktX19_fault_0 := by decide +kernel
theorem dX19_fault_0 : decode cX19_fault 0 = .ok (.aload_n 0, 1) := dk_42 (dk_at dksX19_fault_0 0 rfl rfl)
theorem dX19_fault_1 : decode cX19_fault 1 = .ok (.iconst 0, 1) := dk_3 (dk_at dksX19_fault_0 1 rfl rfl)
theorem dX19_fault_2 : decode cX19_fault 2 = .ok (.putfield 88, 3) := dk_181 0 88 (dk_at dksX19_fault_0 2 rfl rfl)
theorem dX19_fault_5 : decode cX19_fault 5 = .ok (.aload_n 0, 1) := dk_42 (dk_at dksX19_fault_0 5 rfl rfl)
theorem dX19_fault_6 : decode cX19_fault 6 = .ok (.getfield 148, 3) := dk_180 0 148 (dk_at dksX19_fault_0 6 rfl rfl)
theorem dX19_fault_9 : decode cX19_fault 9 = .ok (.ireturn, 1) := dk_172 (dk_at dksX19_fault_0 9 rfl rfl)
abbrev cX19_where : ByteArray := prog_24_method_37_code
def yX19_where : MethodName := ⟨RX19, "where", "()I"⟩
def dkwX19_where_0 : List UInt8 := [42, 3, 181, 0, 88, 42, 180, 0, 9, 172]
abbrev dktX19_where_0 : List UInt8 := dkwX19_where_0 ++ []
theorem dksX19_where_0 : cX19_where.data.toList.drop 0 = dktX19_where_0 := by decide +kernel
theorem dX19_where_0 : decode cX19_where 0 = .ok (.aload_n 0, 1) := dk_42 (dk_at dksX19_where_0 0 rfl rfl)
theorem dX19_where_1 : decode cX19_where 1 = .ok (.iconst 0, 1) := dk_3 (dk_at dksX19_where_0 1 rfl rfl)
theorem dX19_where_2 : decode cX19_where 2 = .ok (.putfield 88, 3) := dk_181 0 88 (dk_at dksX19_where_0 2 rfl rfl)
theorem dX19_where_5 : decode cX19_where 5 = .ok (.aload_n 0, 1) := dk_42 (dk_at dksX19_where_0 5 rfl rfl)
theorem dX19_where_6 : decode cX19_where 6 = .ok (.getfield 9, 3) := dk_180 0 9 (dk_at dksX19_where_0 6 rfl rfl)
theorem dX19_where_9 : decode cX19_where 9 = .ok (.ireturn, 1) := dk_172 (dk_at dksX19_where_0 9 rfl rfl)
abbrev cX19_person : ByteArray := prog_24_method_54_code
def yX19_person : MethodName := ⟨RX19, "person", "(II)I"⟩
def dkwX19_person_6 : List UInt8 := [167, 0, 4, 3, 182, 0, 98, 172, 42, 42, 180, 1, 107, 180, 1, 56, 27, 46, 182, 0, 98, 172]
abbrev dktX19_person_6 : List UInt8 := dkwX19_person_6 ++ []
def dkwX19_person_5 : List UInt8 := [180, 1, 48, 27, 46, 182, 0, 98, 172, 42, 42, 180, 1, 107, 180, 1, 50, 27, 51, 153, 0, 7, 4]
abbrev dktX19_person_5 : List UInt8 := dkwX19_person_5 ++ dktX19_person_6
def dkwX19_person_4 : List UInt8 := [182, 0, 98, 172, 42, 42, 180, 0, 21, 16, 14, 27, 96, 46, 182, 0, 98, 172, 42, 42, 180, 1, 107]
abbrev dktX19_person_4 : List UInt8 := dkwX19_person_4 ++ dktX19_person_5
def dkwX19_person_3 : List UInt8 := [42, 42, 180, 0, 21, 3, 27, 96, 46, 182, 0, 98, 172, 42, 42, 180, 0, 21, 16, 7, 27, 96, 46]
abbrev dktX19_person_3 : List UInt8 := dkwX19_person_3 ++ dktX19_person_4
def dkwX19_person_2 : List UInt8 := [170, 0, 0, 0, 0, 0, 112, 0, 0, 0, 0, 0, 0, 0, 4, 0, 0, 0, 35, 0, 0, 0, 48, 0, 0, 0, 62, 0, 0, 0, 76, 0, 0, 0, 90]
abbrev dktX19_person_2 : List UInt8 := dkwX19_person_2 ++ dktX19_person_3
def dkwX19_person_1 : List UInt8 := [182, 0, 94, 172, 28]
abbrev dktX19_person_1 : List UInt8 := dkwX19_person_1 ++ dktX19_person_2
def dkwX19_person_0 : List UInt8 := [42, 3, 181, 0, 88, 42, 27, 182, 1, 178, 153, 0, 12, 28, 3, 8, 184, 0, 169, 154, 0, 9, 42, 4]
abbrev dktX19_person_0 : List UInt8 := dkwX19_person_0 ++ dktX19_person_1
theorem dksX19_person_0 : cX19_person.data.toList.drop 0 = dktX19_person_0 := by decide +kernel
theorem dksX19_person_1 : cX19_person.data.toList.drop 24 = dktX19_person_1 := dk_seg dksX19_person_0 24 rfl rfl
theorem dksX19_person_2 : cX19_person.data.toList.drop 29 = dktX19_person_2 := dk_seg dksX19_person_1 5 rfl rfl
theorem dksX19_person_3 : cX19_person.data.toList.drop 64 = dktX19_person_3 := dk_seg dksX19_person_2 35 rfl rfl
theorem dksX19_person_4 : cX19_person.data.toList.drop 87 = dktX19_person_4 := dk_seg dksX19_person_3 23 rfl rfl
theorem dksX19_person_5 : cX19_person.data.toList.drop 110 = dktX19_person_5 := dk_seg dksX19_person_4 23 rfl rfl
theorem dksX19_person_6 : cX19_person.data.toList.drop 133 = dktX19_person_6 := dk_seg dksX19_person_5 23 rfl rfl
theorem dX19_person_0 : decode cX19_person 0 = .ok (.aload_n 0, 1) := dk_42 (dk_at dksX19_person_0 0 rfl rfl)
theorem dX19_person_1 : decode cX19_person 1 = .ok (.iconst 0, 1) := dk_3 (dk_at dksX19_person_0 1 rfl rfl)
theorem dX19_person_2 : decode cX19_person 2 = .ok (.putfield 88, 3) := dk_181 0 88 (dk_at dksX19_person_0 2 rfl rfl)
theorem dX19_person_5 : decode cX19_person 5 = .ok (.aload_n 0, 1) := dk_42 (dk_at dksX19_person_0 5 rfl rfl)
theorem dX19_person_6 : decode cX19_person 6 = .ok (.iload_n 1, 1) := dk_27 (dk_at dksX19_person_0 6 rfl rfl)
theorem dX19_person_7 : decode cX19_person 7 = .ok (.invokevirtual 434, 3) := dk_182 1 178 (dk_at dksX19_person_0 7 rfl rfl)
theorem dX19_person_10 : decode cX19_person 10 = .ok (.ifCond .eq 12, 3) := dk_153 0 12 (dk_at dksX19_person_0 10 rfl rfl)
theorem dX19_person_13 : decode cX19_person 13 = .ok (.iload_n 2, 1) := dk_28 (dk_at dksX19_person_0 13 rfl rfl)
theorem dX19_person_14 : decode cX19_person 14 = .ok (.iconst 0, 1) := dk_3 (dk_at dksX19_person_0 14 rfl rfl)
theorem dX19_person_15 : decode cX19_person 15 = .ok (.iconst 5, 1) := dk_8 (dk_at dksX19_person_0 15 rfl rfl)
theorem dX19_person_16 : decode cX19_person 16 = .ok (.invokestatic 169, 3) := dk_184 0 169 (dk_at dksX19_person_0 16 rfl rfl)
theorem dX19_person_19 : decode cX19_person 19 = .ok (.ifCond .ne 9, 3) := dk_154 0 9 (dk_at dksX19_person_0 19 rfl rfl)
theorem dX19_person_22 : decode cX19_person 22 = .ok (.aload_n 0, 1) := dk_42 (dk_at dksX19_person_0 22 rfl rfl)
theorem dX19_person_23 : decode cX19_person 23 = .ok (.iconst 1, 1) := dk_4 (dk_at dksX19_person_0 23 rfl rfl)
theorem dX19_person_24 : decode cX19_person 24 = .ok (.invokevirtual 94, 3) := dk_182 0 94 (dk_at dksX19_person_1 0 rfl rfl)
theorem dX19_person_27 : decode cX19_person 27 = .ok (.ireturn, 1) := dk_172 (dk_at dksX19_person_1 3 rfl rfl)
theorem dX19_person_28 : decode cX19_person 28 = .ok (.iload_n 2, 1) := dk_28 (dk_at dksX19_person_1 4 rfl rfl)
theorem dX19_person_29 : decode cX19_person 29 = .ok (.tableswitch 112 0 4 #[35, 48, 62, 76, 90], 35) := by decide +kernel
theorem dX19_person_64 : decode cX19_person 64 = .ok (.aload_n 0, 1) := dk_42 (dk_at dksX19_person_3 0 rfl rfl)
theorem dX19_person_65 : decode cX19_person 65 = .ok (.aload_n 0, 1) := dk_42 (dk_at dksX19_person_3 1 rfl rfl)
theorem dX19_person_66 : decode cX19_person 66 = .ok (.getfield 21, 3) := dk_180 0 21 (dk_at dksX19_person_3 2 rfl rfl)
theorem dX19_person_69 : decode cX19_person 69 = .ok (.iconst 0, 1) := dk_3 (dk_at dksX19_person_3 5 rfl rfl)
theorem dX19_person_70 : decode cX19_person 70 = .ok (.iload_n 1, 1) := dk_27 (dk_at dksX19_person_3 6 rfl rfl)
theorem dX19_person_71 : decode cX19_person 71 = .ok (.iadd, 1) := dk_96 (dk_at dksX19_person_3 7 rfl rfl)
theorem dX19_person_72 : decode cX19_person 72 = .ok (.iaload, 1) := dk_46 (dk_at dksX19_person_3 8 rfl rfl)
theorem dX19_person_73 : decode cX19_person 73 = .ok (.invokevirtual 98, 3) := dk_182 0 98 (dk_at dksX19_person_3 9 rfl rfl)
theorem dX19_person_76 : decode cX19_person 76 = .ok (.ireturn, 1) := dk_172 (dk_at dksX19_person_3 12 rfl rfl)
theorem dX19_person_77 : decode cX19_person 77 = .ok (.aload_n 0, 1) := dk_42 (dk_at dksX19_person_3 13 rfl rfl)
theorem dX19_person_78 : decode cX19_person 78 = .ok (.aload_n 0, 1) := dk_42 (dk_at dksX19_person_3 14 rfl rfl)
theorem dX19_person_79 : decode cX19_person 79 = .ok (.getfield 21, 3) := dk_180 0 21 (dk_at dksX19_person_3 15 rfl rfl)
theorem dX19_person_82 : decode cX19_person 82 = .ok (.bipush 7, 2) := dk_16 7 (dk_at dksX19_person_3 18 rfl rfl)
theorem dX19_person_84 : decode cX19_person 84 = .ok (.iload_n 1, 1) := dk_27 (dk_at dksX19_person_3 20 rfl rfl)
theorem dX19_person_85 : decode cX19_person 85 = .ok (.iadd, 1) := dk_96 (dk_at dksX19_person_3 21 rfl rfl)
theorem dX19_person_86 : decode cX19_person 86 = .ok (.iaload, 1) := dk_46 (dk_at dksX19_person_3 22 rfl rfl)
theorem dX19_person_87 : decode cX19_person 87 = .ok (.invokevirtual 98, 3) := dk_182 0 98 (dk_at dksX19_person_4 0 rfl rfl)
theorem dX19_person_90 : decode cX19_person 90 = .ok (.ireturn, 1) := dk_172 (dk_at dksX19_person_4 3 rfl rfl)
theorem dX19_person_91 : decode cX19_person 91 = .ok (.aload_n 0, 1) := dk_42 (dk_at dksX19_person_4 4 rfl rfl)
theorem dX19_person_92 : decode cX19_person 92 = .ok (.aload_n 0, 1) := dk_42 (dk_at dksX19_person_4 5 rfl rfl)
theorem dX19_person_93 : decode cX19_person 93 = .ok (.getfield 21, 3) := dk_180 0 21 (dk_at dksX19_person_4 6 rfl rfl)
theorem dX19_person_96 : decode cX19_person 96 = .ok (.bipush 14, 2) := dk_16 14 (dk_at dksX19_person_4 9 rfl rfl)
theorem dX19_person_98 : decode cX19_person 98 = .ok (.iload_n 1, 1) := dk_27 (dk_at dksX19_person_4 11 rfl rfl)
theorem dX19_person_99 : decode cX19_person 99 = .ok (.iadd, 1) := dk_96 (dk_at dksX19_person_4 12 rfl rfl)
theorem dX19_person_100 : decode cX19_person 100 = .ok (.iaload, 1) := dk_46 (dk_at dksX19_person_4 13 rfl rfl)
theorem dX19_person_101 : decode cX19_person 101 = .ok (.invokevirtual 98, 3) := dk_182 0 98 (dk_at dksX19_person_4 14 rfl rfl)
theorem dX19_person_104 : decode cX19_person 104 = .ok (.ireturn, 1) := dk_172 (dk_at dksX19_person_4 17 rfl rfl)
theorem dX19_person_105 : decode cX19_person 105 = .ok (.aload_n 0, 1) := dk_42 (dk_at dksX19_person_4 18 rfl rfl)
theorem dX19_person_106 : decode cX19_person 106 = .ok (.aload_n 0, 1) := dk_42 (dk_at dksX19_person_4 19 rfl rfl)
theorem dX19_person_107 : decode cX19_person 107 = .ok (.getfield 363, 3) := dk_180 1 107 (dk_at dksX19_person_4 20 rfl rfl)
theorem dX19_person_110 : decode cX19_person 110 = .ok (.getfield 304, 3) := dk_180 1 48 (dk_at dksX19_person_5 0 rfl rfl)
theorem dX19_person_113 : decode cX19_person 113 = .ok (.iload_n 1, 1) := dk_27 (dk_at dksX19_person_5 3 rfl rfl)
theorem dX19_person_114 : decode cX19_person 114 = .ok (.iaload, 1) := dk_46 (dk_at dksX19_person_5 4 rfl rfl)
theorem dX19_person_115 : decode cX19_person 115 = .ok (.invokevirtual 98, 3) := dk_182 0 98 (dk_at dksX19_person_5 5 rfl rfl)
theorem dX19_person_118 : decode cX19_person 118 = .ok (.ireturn, 1) := dk_172 (dk_at dksX19_person_5 8 rfl rfl)
theorem dX19_person_119 : decode cX19_person 119 = .ok (.aload_n 0, 1) := dk_42 (dk_at dksX19_person_5 9 rfl rfl)
theorem dX19_person_120 : decode cX19_person 120 = .ok (.aload_n 0, 1) := dk_42 (dk_at dksX19_person_5 10 rfl rfl)
theorem dX19_person_121 : decode cX19_person 121 = .ok (.getfield 363, 3) := dk_180 1 107 (dk_at dksX19_person_5 11 rfl rfl)
theorem dX19_person_124 : decode cX19_person 124 = .ok (.getfield 306, 3) := dk_180 1 50 (dk_at dksX19_person_5 14 rfl rfl)
theorem dX19_person_127 : decode cX19_person 127 = .ok (.iload_n 1, 1) := dk_27 (dk_at dksX19_person_5 17 rfl rfl)
theorem dX19_person_128 : decode cX19_person 128 = .ok (.baload, 1) := dk_51 (dk_at dksX19_person_5 18 rfl rfl)
theorem dX19_person_129 : decode cX19_person 129 = .ok (.ifCond .eq 7, 3) := dk_153 0 7 (dk_at dksX19_person_5 19 rfl rfl)
theorem dX19_person_132 : decode cX19_person 132 = .ok (.iconst 1, 1) := dk_4 (dk_at dksX19_person_5 22 rfl rfl)
theorem dX19_person_133 : decode cX19_person 133 = .ok (.goto 4, 3) := dk_167 0 4 (dk_at dksX19_person_6 0 rfl rfl)
theorem dX19_person_136 : decode cX19_person 136 = .ok (.iconst 0, 1) := dk_3 (dk_at dksX19_person_6 3 rfl rfl)
theorem dX19_person_137 : decode cX19_person 137 = .ok (.invokevirtual 98, 3) := dk_182 0 98 (dk_at dksX19_person_6 4 rfl rfl)
theorem dX19_person_140 : decode cX19_person 140 = .ok (.ireturn, 1) := dk_172 (dk_at dksX19_person_6 7 rfl rfl)
theorem dX19_person_141 : decode cX19_person 141 = .ok (.aload_n 0, 1) := dk_42 (dk_at dksX19_person_6 8 rfl rfl)
theorem dX19_person_142 : decode cX19_person 142 = .ok (.aload_n 0, 1) := dk_42 (dk_at dksX19_person_6 9 rfl rfl)
theorem dX19_person_143 : decode cX19_person 143 = .ok (.getfield 363, 3) := dk_180 1 107 (dk_at dksX19_person_6 10 rfl rfl)
theorem dX19_person_146 : decode cX19_person 146 = .ok (.getfield 312, 3) := dk_180 1 56 (dk_at dksX19_person_6 13 rfl rfl)
theorem dX19_person_149 : decode cX19_person 149 = .ok (.iload_n 1, 1) := dk_27 (dk_at dksX19_person_6 16 rfl rfl)
theorem dX19_person_150 : decode cX19_person 150 = .ok (.iaload, 1) := dk_46 (dk_at dksX19_person_6 17 rfl rfl)
theorem dX19_person_151 : decode cX19_person 151 = .ok (.invokevirtual 98, 3) := dk_182 0 98 (dk_at dksX19_person_6 18 rfl rfl)
theorem dX19_person_154 : decode cX19_person 154 = .ok (.ireturn, 1) := dk_172 (dk_at dksX19_person_6 21 rfl rfl)
abbrev cX19_isPerson : ByteArray := prog_24_method_50_code
def yX19_isPerson : MethodName := ⟨RX19, "isPerson", "(I)Z"⟩
def dkwX19_isPerson_1 : List UInt8 := [167, 0, 4, 3, 172]
abbrev dktX19_isPerson_1 : List UInt8 := dkwX19_isPerson_1 ++ []
def dkwX19_isPerson_0 : List UInt8 := [42, 180, 1, 107, 198, 0, 22, 27, 155, 0, 18, 27, 42, 180, 1, 107, 180, 0, 219, 162, 0, 7, 4]
abbrev dktX19_isPerson_0 : List UInt8 := dkwX19_isPerson_0 ++ dktX19_isPerson_1
theorem dksX19_isPerson_0 : cX19_isPerson.data.toList.drop 0 = dktX19_isPerson_0 := by decide +kernel
theorem dksX19_isPerson_1 : cX19_isPerson.data.toList.drop 23 = dktX19_isPerson_1 := dk_seg dksX19_isPerson_0 23 rfl rfl
theorem dX19_isPerson_0 : decode cX19_isPerson 0 = .ok (.aload_n 0, 1) := dk_42 (dk_at dksX19_isPerson_0 0 rfl rfl)
theorem dX19_isPerson_1 : decode cX19_isPerson 1 = .ok (.getfield 363, 3) := dk_180 1 107 (dk_at dksX19_isPerson_0 1 rfl rfl)
theorem dX19_isPerson_4 : decode cX19_isPerson 4 = .ok (.ifnull 22, 3) := dk_198 0 22 (dk_at dksX19_isPerson_0 4 rfl rfl)
theorem dX19_isPerson_7 : decode cX19_isPerson 7 = .ok (.iload_n 1, 1) := dk_27 (dk_at dksX19_isPerson_0 7 rfl rfl)
theorem dX19_isPerson_8 : decode cX19_isPerson 8 = .ok (.ifCond .lt 18, 3) := dk_155 0 18 (dk_at dksX19_isPerson_0 8 rfl rfl)
theorem dX19_isPerson_11 : decode cX19_isPerson 11 = .ok (.iload_n 1, 1) := dk_27 (dk_at dksX19_isPerson_0 11 rfl rfl)
theorem dX19_isPerson_12 : decode cX19_isPerson 12 = .ok (.aload_n 0, 1) := dk_42 (dk_at dksX19_isPerson_0 12 rfl rfl)
theorem dX19_isPerson_13 : decode cX19_isPerson 13 = .ok (.getfield 363, 3) := dk_180 1 107 (dk_at dksX19_isPerson_0 13 rfl rfl)
theorem dX19_isPerson_16 : decode cX19_isPerson 16 = .ok (.getfield 219, 3) := dk_180 0 219 (dk_at dksX19_isPerson_0 16 rfl rfl)
theorem dX19_isPerson_19 : decode cX19_isPerson 19 = .ok (.if_icmp .ge 7, 3) := dk_162 0 7 (dk_at dksX19_isPerson_0 19 rfl rfl)
theorem dX19_isPerson_22 : decode cX19_isPerson 22 = .ok (.iconst 1, 1) := dk_4 (dk_at dksX19_isPerson_0 22 rfl rfl)
theorem dX19_isPerson_23 : decode cX19_isPerson 23 = .ok (.goto 4, 3) := dk_167 0 4 (dk_at dksX19_isPerson_1 0 rfl rfl)
theorem dX19_isPerson_26 : decode cX19_isPerson 26 = .ok (.iconst 0, 1) := dk_3 (dk_at dksX19_isPerson_1 3 rfl rfl)
theorem dX19_isPerson_27 : decode cX19_isPerson 27 = .ok (.ireturn, 1) := dk_172 (dk_at dksX19_isPerson_1 4 rfl rfl)
abbrev cX19_likes : ByteArray := prog_24_method_55_code
def yX19_likes : MethodName := ⟨RX19, "likes", "(II)I"⟩
def dkwX19_likes_2 : List UInt8 := [182, 0, 98, 167, 0, 8, 42, 4, 182, 0, 94, 172]
abbrev dktX19_likes_2 : List UInt8 := dkwX19_likes_2 ++ []
def dkwX19_likes_1 : List UInt8 := [180, 1, 43, 27, 46, 162, 0, 24, 42, 42, 180, 1, 107, 180, 1, 22, 16, 6, 27, 104, 28, 96, 46]
abbrev dktX19_likes_1 : List UInt8 := dkwX19_likes_1 ++ dktX19_likes_2
def dkwX19_likes_0 : List UInt8 := [42, 3, 181, 0, 88, 42, 27, 182, 1, 178, 153, 0, 41, 28, 155, 0, 37, 28, 42, 180, 1, 107]
abbrev dktX19_likes_0 : List UInt8 := dkwX19_likes_0 ++ dktX19_likes_1
theorem dksX19_likes_0 : cX19_likes.data.toList.drop 0 = dktX19_likes_0 := by decide +kernel
theorem dksX19_likes_1 : cX19_likes.data.toList.drop 22 = dktX19_likes_1 := dk_seg dksX19_likes_0 22 rfl rfl
theorem dksX19_likes_2 : cX19_likes.data.toList.drop 45 = dktX19_likes_2 := dk_seg dksX19_likes_1 23 rfl rfl
theorem dX19_likes_0 : decode cX19_likes 0 = .ok (.aload_n 0, 1) := dk_42 (dk_at dksX19_likes_0 0 rfl rfl)
theorem dX19_likes_1 : decode cX19_likes 1 = .ok (.iconst 0, 1) := dk_3 (dk_at dksX19_likes_0 1 rfl rfl)
theorem dX19_likes_2 : decode cX19_likes 2 = .ok (.putfield 88, 3) := dk_181 0 88 (dk_at dksX19_likes_0 2 rfl rfl)
theorem dX19_likes_5 : decode cX19_likes 5 = .ok (.aload_n 0, 1) := dk_42 (dk_at dksX19_likes_0 5 rfl rfl)
theorem dX19_likes_6 : decode cX19_likes 6 = .ok (.iload_n 1, 1) := dk_27 (dk_at dksX19_likes_0 6 rfl rfl)
theorem dX19_likes_7 : decode cX19_likes 7 = .ok (.invokevirtual 434, 3) := dk_182 1 178 (dk_at dksX19_likes_0 7 rfl rfl)
theorem dX19_likes_10 : decode cX19_likes 10 = .ok (.ifCond .eq 41, 3) := dk_153 0 41 (dk_at dksX19_likes_0 10 rfl rfl)
theorem dX19_likes_13 : decode cX19_likes 13 = .ok (.iload_n 2, 1) := dk_28 (dk_at dksX19_likes_0 13 rfl rfl)
theorem dX19_likes_14 : decode cX19_likes 14 = .ok (.ifCond .lt 37, 3) := dk_155 0 37 (dk_at dksX19_likes_0 14 rfl rfl)
theorem dX19_likes_17 : decode cX19_likes 17 = .ok (.iload_n 2, 1) := dk_28 (dk_at dksX19_likes_0 17 rfl rfl)
theorem dX19_likes_18 : decode cX19_likes 18 = .ok (.aload_n 0, 1) := dk_42 (dk_at dksX19_likes_0 18 rfl rfl)
theorem dX19_likes_19 : decode cX19_likes 19 = .ok (.getfield 363, 3) := dk_180 1 107 (dk_at dksX19_likes_0 19 rfl rfl)
theorem dX19_likes_22 : decode cX19_likes 22 = .ok (.getfield 299, 3) := dk_180 1 43 (dk_at dksX19_likes_1 0 rfl rfl)
theorem dX19_likes_25 : decode cX19_likes 25 = .ok (.iload_n 1, 1) := dk_27 (dk_at dksX19_likes_1 3 rfl rfl)
theorem dX19_likes_26 : decode cX19_likes 26 = .ok (.iaload, 1) := dk_46 (dk_at dksX19_likes_1 4 rfl rfl)
theorem dX19_likes_27 : decode cX19_likes 27 = .ok (.if_icmp .ge 24, 3) := dk_162 0 24 (dk_at dksX19_likes_1 5 rfl rfl)
theorem dX19_likes_30 : decode cX19_likes 30 = .ok (.aload_n 0, 1) := dk_42 (dk_at dksX19_likes_1 8 rfl rfl)
theorem dX19_likes_31 : decode cX19_likes 31 = .ok (.aload_n 0, 1) := dk_42 (dk_at dksX19_likes_1 9 rfl rfl)
theorem dX19_likes_32 : decode cX19_likes 32 = .ok (.getfield 363, 3) := dk_180 1 107 (dk_at dksX19_likes_1 10 rfl rfl)
theorem dX19_likes_35 : decode cX19_likes 35 = .ok (.getfield 278, 3) := dk_180 1 22 (dk_at dksX19_likes_1 13 rfl rfl)
theorem dX19_likes_38 : decode cX19_likes 38 = .ok (.bipush 6, 2) := dk_16 6 (dk_at dksX19_likes_1 16 rfl rfl)
theorem dX19_likes_40 : decode cX19_likes 40 = .ok (.iload_n 1, 1) := dk_27 (dk_at dksX19_likes_1 18 rfl rfl)
theorem dX19_likes_41 : decode cX19_likes 41 = .ok (.imul, 1) := dk_104 (dk_at dksX19_likes_1 19 rfl rfl)
theorem dX19_likes_42 : decode cX19_likes 42 = .ok (.iload_n 2, 1) := dk_28 (dk_at dksX19_likes_1 20 rfl rfl)
theorem dX19_likes_43 : decode cX19_likes 43 = .ok (.iadd, 1) := dk_96 (dk_at dksX19_likes_1 21 rfl rfl)
theorem dX19_likes_44 : decode cX19_likes 44 = .ok (.iaload, 1) := dk_46 (dk_at dksX19_likes_1 22 rfl rfl)
theorem dX19_likes_45 : decode cX19_likes 45 = .ok (.invokevirtual 98, 3) := dk_182 0 98 (dk_at dksX19_likes_2 0 rfl rfl)
theorem dX19_likes_48 : decode cX19_likes 48 = .ok (.goto 8, 3) := dk_167 0 8 (dk_at dksX19_likes_2 3 rfl rfl)
theorem dX19_likes_51 : decode cX19_likes 51 = .ok (.aload_n 0, 1) := dk_42 (dk_at dksX19_likes_2 6 rfl rfl)
theorem dX19_likes_52 : decode cX19_likes 52 = .ok (.iconst 1, 1) := dk_4 (dk_at dksX19_likes_2 7 rfl rfl)
theorem dX19_likes_53 : decode cX19_likes 53 = .ok (.invokevirtual 94, 3) := dk_182 0 94 (dk_at dksX19_likes_2 8 rfl rfl)
theorem dX19_likes_56 : decode cX19_likes 56 = .ok (.ireturn, 1) := dk_172 (dk_at dksX19_likes_2 11 rfl rfl)
abbrev cX19_stay : ByteArray := prog_24_method_56_code
def yX19_stay : MethodName := ⟨RX19, "stay", "(III)I"⟩
def dkwX19_stay_3 : List UInt8 := [180, 1, 59, 6, 27, 104, 28, 96, 46, 182, 0, 98, 172]
abbrev dktX19_stay_3 : List UInt8 := dkwX19_stay_3 ++ []
def dkwX19_stay_2 : List UInt8 := [29, 154, 0, 19, 42, 180, 1, 107, 180, 1, 63, 6, 27, 104, 28, 96, 46, 167, 0, 16, 42, 180, 1, 107]
abbrev dktX19_stay_2 : List UInt8 := dkwX19_stay_2 ++ dktX19_stay_3
def dkwX19_stay_1 : List UInt8 := [180, 1, 56, 27, 46, 162, 0, 12, 29, 3, 4, 184, 0, 169, 154, 0, 9, 42, 4, 182, 0, 94, 172, 42]
abbrev dktX19_stay_1 : List UInt8 := dkwX19_stay_1 ++ dktX19_stay_2
def dkwX19_stay_0 : List UInt8 := [42, 3, 181, 0, 88, 42, 27, 182, 1, 178, 153, 0, 29, 28, 155, 0, 25, 28, 42, 180, 1, 107]
abbrev dktX19_stay_0 : List UInt8 := dkwX19_stay_0 ++ dktX19_stay_1
theorem dksX19_stay_0 : cX19_stay.data.toList.drop 0 = dktX19_stay_0 := by decide +kernel
theorem dksX19_stay_1 : cX19_stay.data.toList.drop 22 = dktX19_stay_1 := dk_seg dksX19_stay_0 22 rfl rfl
theorem dksX19_stay_2 : cX19_stay.data.toList.drop 46 = dktX19_stay_2 := dk_seg dksX19_stay_1 24 rfl rfl
theorem dksX19_stay_3 : cX19_stay.data.toList.drop 70 = dktX19_stay_3 := dk_seg dksX19_stay_2 24 rfl rfl
theorem dX19_stay_0 : decode cX19_stay 0 = .ok (.aload_n 0, 1) := dk_42 (dk_at dksX19_stay_0 0 rfl rfl)
theorem dX19_stay_1 : decode cX19_stay 1 = .ok (.iconst 0, 1) := dk_3 (dk_at dksX19_stay_0 1 rfl rfl)
theorem dX19_stay_2 : decode cX19_stay 2 = .ok (.putfield 88, 3) := dk_181 0 88 (dk_at dksX19_stay_0 2 rfl rfl)
theorem dX19_stay_5 : decode cX19_stay 5 = .ok (.aload_n 0, 1) := dk_42 (dk_at dksX19_stay_0 5 rfl rfl)
theorem dX19_stay_6 : decode cX19_stay 6 = .ok (.iload_n 1, 1) := dk_27 (dk_at dksX19_stay_0 6 rfl rfl)
theorem dX19_stay_7 : decode cX19_stay 7 = .ok (.invokevirtual 434, 3) := dk_182 1 178 (dk_at dksX19_stay_0 7 rfl rfl)
theorem dX19_stay_10 : decode cX19_stay 10 = .ok (.ifCond .eq 29, 3) := dk_153 0 29 (dk_at dksX19_stay_0 10 rfl rfl)
theorem dX19_stay_13 : decode cX19_stay 13 = .ok (.iload_n 2, 1) := dk_28 (dk_at dksX19_stay_0 13 rfl rfl)
theorem dX19_stay_14 : decode cX19_stay 14 = .ok (.ifCond .lt 25, 3) := dk_155 0 25 (dk_at dksX19_stay_0 14 rfl rfl)
theorem dX19_stay_17 : decode cX19_stay 17 = .ok (.iload_n 2, 1) := dk_28 (dk_at dksX19_stay_0 17 rfl rfl)
theorem dX19_stay_18 : decode cX19_stay 18 = .ok (.aload_n 0, 1) := dk_42 (dk_at dksX19_stay_0 18 rfl rfl)
theorem dX19_stay_19 : decode cX19_stay 19 = .ok (.getfield 363, 3) := dk_180 1 107 (dk_at dksX19_stay_0 19 rfl rfl)
theorem dX19_stay_22 : decode cX19_stay 22 = .ok (.getfield 312, 3) := dk_180 1 56 (dk_at dksX19_stay_1 0 rfl rfl)
theorem dX19_stay_25 : decode cX19_stay 25 = .ok (.iload_n 1, 1) := dk_27 (dk_at dksX19_stay_1 3 rfl rfl)
theorem dX19_stay_26 : decode cX19_stay 26 = .ok (.iaload, 1) := dk_46 (dk_at dksX19_stay_1 4 rfl rfl)
theorem dX19_stay_27 : decode cX19_stay 27 = .ok (.if_icmp .ge 12, 3) := dk_162 0 12 (dk_at dksX19_stay_1 5 rfl rfl)
theorem dX19_stay_30 : decode cX19_stay 30 = .ok (.iload_n 3, 1) := dk_29 (dk_at dksX19_stay_1 8 rfl rfl)
theorem dX19_stay_31 : decode cX19_stay 31 = .ok (.iconst 0, 1) := dk_3 (dk_at dksX19_stay_1 9 rfl rfl)
theorem dX19_stay_32 : decode cX19_stay 32 = .ok (.iconst 1, 1) := dk_4 (dk_at dksX19_stay_1 10 rfl rfl)
theorem dX19_stay_33 : decode cX19_stay 33 = .ok (.invokestatic 169, 3) := dk_184 0 169 (dk_at dksX19_stay_1 11 rfl rfl)
theorem dX19_stay_36 : decode cX19_stay 36 = .ok (.ifCond .ne 9, 3) := dk_154 0 9 (dk_at dksX19_stay_1 14 rfl rfl)
theorem dX19_stay_39 : decode cX19_stay 39 = .ok (.aload_n 0, 1) := dk_42 (dk_at dksX19_stay_1 17 rfl rfl)
theorem dX19_stay_40 : decode cX19_stay 40 = .ok (.iconst 1, 1) := dk_4 (dk_at dksX19_stay_1 18 rfl rfl)
theorem dX19_stay_41 : decode cX19_stay 41 = .ok (.invokevirtual 94, 3) := dk_182 0 94 (dk_at dksX19_stay_1 19 rfl rfl)
theorem dX19_stay_44 : decode cX19_stay 44 = .ok (.ireturn, 1) := dk_172 (dk_at dksX19_stay_1 22 rfl rfl)
theorem dX19_stay_45 : decode cX19_stay 45 = .ok (.aload_n 0, 1) := dk_42 (dk_at dksX19_stay_1 23 rfl rfl)
theorem dX19_stay_46 : decode cX19_stay 46 = .ok (.iload_n 3, 1) := dk_29 (dk_at dksX19_stay_2 0 rfl rfl)
theorem dX19_stay_47 : decode cX19_stay 47 = .ok (.ifCond .ne 19, 3) := dk_154 0 19 (dk_at dksX19_stay_2 1 rfl rfl)
theorem dX19_stay_50 : decode cX19_stay 50 = .ok (.aload_n 0, 1) := dk_42 (dk_at dksX19_stay_2 4 rfl rfl)
theorem dX19_stay_51 : decode cX19_stay 51 = .ok (.getfield 363, 3) := dk_180 1 107 (dk_at dksX19_stay_2 5 rfl rfl)
theorem dX19_stay_54 : decode cX19_stay 54 = .ok (.getfield 319, 3) := dk_180 1 63 (dk_at dksX19_stay_2 8 rfl rfl)
theorem dX19_stay_57 : decode cX19_stay 57 = .ok (.iconst 3, 1) := dk_6 (dk_at dksX19_stay_2 11 rfl rfl)
theorem dX19_stay_58 : decode cX19_stay 58 = .ok (.iload_n 1, 1) := dk_27 (dk_at dksX19_stay_2 12 rfl rfl)
theorem dX19_stay_59 : decode cX19_stay 59 = .ok (.imul, 1) := dk_104 (dk_at dksX19_stay_2 13 rfl rfl)
theorem dX19_stay_60 : decode cX19_stay 60 = .ok (.iload_n 2, 1) := dk_28 (dk_at dksX19_stay_2 14 rfl rfl)
theorem dX19_stay_61 : decode cX19_stay 61 = .ok (.iadd, 1) := dk_96 (dk_at dksX19_stay_2 15 rfl rfl)
theorem dX19_stay_62 : decode cX19_stay 62 = .ok (.iaload, 1) := dk_46 (dk_at dksX19_stay_2 16 rfl rfl)
theorem dX19_stay_63 : decode cX19_stay 63 = .ok (.goto 16, 3) := dk_167 0 16 (dk_at dksX19_stay_2 17 rfl rfl)
theorem dX19_stay_66 : decode cX19_stay 66 = .ok (.aload_n 0, 1) := dk_42 (dk_at dksX19_stay_2 20 rfl rfl)
theorem dX19_stay_67 : decode cX19_stay 67 = .ok (.getfield 363, 3) := dk_180 1 107 (dk_at dksX19_stay_2 21 rfl rfl)
theorem dX19_stay_70 : decode cX19_stay 70 = .ok (.getfield 315, 3) := dk_180 1 59 (dk_at dksX19_stay_3 0 rfl rfl)
theorem dX19_stay_73 : decode cX19_stay 73 = .ok (.iconst 3, 1) := dk_6 (dk_at dksX19_stay_3 3 rfl rfl)
theorem dX19_stay_74 : decode cX19_stay 74 = .ok (.iload_n 1, 1) := dk_27 (dk_at dksX19_stay_3 4 rfl rfl)
theorem dX19_stay_75 : decode cX19_stay 75 = .ok (.imul, 1) := dk_104 (dk_at dksX19_stay_3 5 rfl rfl)
theorem dX19_stay_76 : decode cX19_stay 76 = .ok (.iload_n 2, 1) := dk_28 (dk_at dksX19_stay_3 6 rfl rfl)
theorem dX19_stay_77 : decode cX19_stay 77 = .ok (.iadd, 1) := dk_96 (dk_at dksX19_stay_3 7 rfl rfl)
theorem dX19_stay_78 : decode cX19_stay 78 = .ok (.iaload, 1) := dk_46 (dk_at dksX19_stay_3 8 rfl rfl)
theorem dX19_stay_79 : decode cX19_stay 79 = .ok (.invokevirtual 98, 3) := dk_182 0 98 (dk_at dksX19_stay_3 9 rfl rfl)
theorem dX19_stay_82 : decode cX19_stay 82 = .ok (.ireturn, 1) := dk_172 (dk_at dksX19_stay_3 12 rfl rfl)
abbrev cX19_here : ByteArray := prog_24_method_57_code
def yX19_here : MethodName := ⟨RX19, "here", "(I)I"⟩
def dkwX19_here_1 : List UInt8 := [42, 42, 180, 1, 107, 27, 182, 1, 185, 182, 0, 98, 172]
abbrev dktX19_here_1 : List UInt8 := dkwX19_here_1 ++ []
def dkwX19_here_0 : List UInt8 := [42, 3, 181, 0, 88, 42, 4, 27, 182, 1, 181, 61, 28, 158, 0, 11, 42, 28, 182, 0, 94, 167, 0, 15]
abbrev dktX19_here_0 : List UInt8 := dkwX19_here_0 ++ dktX19_here_1
theorem dksX19_here_0 : cX19_here.data.toList.drop 0 = dktX19_here_0 := by decide +kernel
theorem dksX19_here_1 : cX19_here.data.toList.drop 24 = dktX19_here_1 := dk_seg dksX19_here_0 24 rfl rfl
theorem dX19_here_0 : decode cX19_here 0 = .ok (.aload_n 0, 1) := dk_42 (dk_at dksX19_here_0 0 rfl rfl)
theorem dX19_here_1 : decode cX19_here 1 = .ok (.iconst 0, 1) := dk_3 (dk_at dksX19_here_0 1 rfl rfl)
theorem dX19_here_2 : decode cX19_here 2 = .ok (.putfield 88, 3) := dk_181 0 88 (dk_at dksX19_here_0 2 rfl rfl)
theorem dX19_here_5 : decode cX19_here 5 = .ok (.aload_n 0, 1) := dk_42 (dk_at dksX19_here_0 5 rfl rfl)
theorem dX19_here_6 : decode cX19_here 6 = .ok (.iconst 1, 1) := dk_4 (dk_at dksX19_here_0 6 rfl rfl)
theorem dX19_here_7 : decode cX19_here 7 = .ok (.iload_n 1, 1) := dk_27 (dk_at dksX19_here_0 7 rfl rfl)
theorem dX19_here_8 : decode cX19_here 8 = .ok (.invokevirtual 437, 3) := dk_182 1 181 (dk_at dksX19_here_0 8 rfl rfl)
theorem dX19_here_11 : decode cX19_here 11 = .ok (.istore_n 2, 1) := dk_61 (dk_at dksX19_here_0 11 rfl rfl)
theorem dX19_here_12 : decode cX19_here 12 = .ok (.iload_n 2, 1) := dk_28 (dk_at dksX19_here_0 12 rfl rfl)
theorem dX19_here_13 : decode cX19_here 13 = .ok (.ifCond .le 11, 3) := dk_158 0 11 (dk_at dksX19_here_0 13 rfl rfl)
theorem dX19_here_16 : decode cX19_here 16 = .ok (.aload_n 0, 1) := dk_42 (dk_at dksX19_here_0 16 rfl rfl)
theorem dX19_here_17 : decode cX19_here 17 = .ok (.iload_n 2, 1) := dk_28 (dk_at dksX19_here_0 17 rfl rfl)
theorem dX19_here_18 : decode cX19_here 18 = .ok (.invokevirtual 94, 3) := dk_182 0 94 (dk_at dksX19_here_0 18 rfl rfl)
theorem dX19_here_21 : decode cX19_here 21 = .ok (.goto 15, 3) := dk_167 0 15 (dk_at dksX19_here_0 21 rfl rfl)
theorem dX19_here_24 : decode cX19_here 24 = .ok (.aload_n 0, 1) := dk_42 (dk_at dksX19_here_1 0 rfl rfl)
theorem dX19_here_25 : decode cX19_here 25 = .ok (.aload_n 0, 1) := dk_42 (dk_at dksX19_here_1 1 rfl rfl)
theorem dX19_here_26 : decode cX19_here 26 = .ok (.getfield 363, 3) := dk_180 1 107 (dk_at dksX19_here_1 2 rfl rfl)
theorem dX19_here_29 : decode cX19_here 29 = .ok (.iload_n 1, 1) := dk_27 (dk_at dksX19_here_1 5 rfl rfl)
theorem dX19_here_30 : decode cX19_here 30 = .ok (.invokevirtual 441, 3) := dk_182 1 185 (dk_at dksX19_here_1 6 rfl rfl)
theorem dX19_here_33 : decode cX19_here 33 = .ok (.invokevirtual 98, 3) := dk_182 0 98 (dk_at dksX19_here_1 9 rfl rfl)
theorem dX19_here_36 : decode cX19_here 36 = .ok (.ireturn, 1) := dk_172 (dk_at dksX19_here_1 12 rfl rfl)
abbrev cX19_refusesDay : ByteArray := prog_24_method_53_code
def yX19_refusesDay : MethodName := ⟨RX19, "refusesDay", "(ZI)I"⟩
def dkwX19_refusesDay_1 : List UInt8 := [167, 0, 4, 5, 172]
abbrev dktX19_refusesDay_1 : List UInt8 := dkwX19_refusesDay_1 ++ []
def dkwX19_refusesDay_0 : List UInt8 := [42, 180, 1, 107, 198, 0, 7, 27, 154, 0, 7, 4, 167, 0, 16, 42, 28, 182, 1, 175, 153, 0, 7, 3]
abbrev dktX19_refusesDay_0 : List UInt8 := dkwX19_refusesDay_0 ++ dktX19_refusesDay_1
theorem dksX19_refusesDay_0 : cX19_refusesDay.data.toList.drop 0 = dktX19_refusesDay_0 := by decide +kernel
theorem dksX19_refusesDay_1 : cX19_refusesDay.data.toList.drop 24 = dktX19_refusesDay_1 := dk_seg dksX19_refusesDay_0 24 rfl rfl
theorem dX19_refusesDay_0 : decode cX19_refusesDay 0 = .ok (.aload_n 0, 1) := dk_42 (dk_at dksX19_refusesDay_0 0 rfl rfl)
theorem dX19_refusesDay_1 : decode cX19_refusesDay 1 = .ok (.getfield 363, 3) := dk_180 1 107 (dk_at dksX19_refusesDay_0 1 rfl rfl)
theorem dX19_refusesDay_4 : decode cX19_refusesDay 4 = .ok (.ifnull 7, 3) := dk_198 0 7 (dk_at dksX19_refusesDay_0 4 rfl rfl)
theorem dX19_refusesDay_7 : decode cX19_refusesDay 7 = .ok (.iload_n 1, 1) := dk_27 (dk_at dksX19_refusesDay_0 7 rfl rfl)
theorem dX19_refusesDay_8 : decode cX19_refusesDay 8 = .ok (.ifCond .ne 7, 3) := dk_154 0 7 (dk_at dksX19_refusesDay_0 8 rfl rfl)
theorem dX19_refusesDay_11 : decode cX19_refusesDay 11 = .ok (.iconst 1, 1) := dk_4 (dk_at dksX19_refusesDay_0 11 rfl rfl)
theorem dX19_refusesDay_12 : decode cX19_refusesDay 12 = .ok (.goto 16, 3) := dk_167 0 16 (dk_at dksX19_refusesDay_0 12 rfl rfl)
theorem dX19_refusesDay_15 : decode cX19_refusesDay 15 = .ok (.aload_n 0, 1) := dk_42 (dk_at dksX19_refusesDay_0 15 rfl rfl)
theorem dX19_refusesDay_16 : decode cX19_refusesDay 16 = .ok (.iload_n 2, 1) := dk_28 (dk_at dksX19_refusesDay_0 16 rfl rfl)
theorem dX19_refusesDay_17 : decode cX19_refusesDay 17 = .ok (.invokevirtual 431, 3) := dk_182 1 175 (dk_at dksX19_refusesDay_0 17 rfl rfl)
theorem dX19_refusesDay_20 : decode cX19_refusesDay 20 = .ok (.ifCond .eq 7, 3) := dk_153 0 7 (dk_at dksX19_refusesDay_0 20 rfl rfl)
theorem dX19_refusesDay_23 : decode cX19_refusesDay 23 = .ok (.iconst 0, 1) := dk_3 (dk_at dksX19_refusesDay_0 23 rfl rfl)
theorem dX19_refusesDay_24 : decode cX19_refusesDay 24 = .ok (.goto 4, 3) := dk_167 0 4 (dk_at dksX19_refusesDay_1 0 rfl rfl)
theorem dX19_refusesDay_27 : decode cX19_refusesDay 27 = .ok (.iconst 2, 1) := dk_5 (dk_at dksX19_refusesDay_1 3 rfl rfl)
theorem dX19_refusesDay_28 : decode cX19_refusesDay 28 = .ok (.ireturn, 1) := dk_172 (dk_at dksX19_refusesDay_1 4 rfl rfl)
abbrev cX19_isDay : ByteArray := prog_24_method_51_code
def yX19_isDay : MethodName := ⟨RX19, "isDay", "(I)Z"⟩
def dkwX19_isDay_0 : List UInt8 := [27, 155, 0, 18, 27, 42, 180, 1, 107, 180, 0, 200, 162, 0, 7, 4, 167, 0, 4, 3, 172]
abbrev dktX19_isDay_0 : List UInt8 := dkwX19_isDay_0 ++ []
theorem dksX19_isDay_0 : cX19_isDay.data.toList.drop 0 = dktX19_isDay_0 := by decide +kernel
theorem dX19_isDay_0 : decode cX19_isDay 0 = .ok (.iload_n 1, 1) := dk_27 (dk_at dksX19_isDay_0 0 rfl rfl)
theorem dX19_isDay_1 : decode cX19_isDay 1 = .ok (.ifCond .lt 18, 3) := dk_155 0 18 (dk_at dksX19_isDay_0 1 rfl rfl)
theorem dX19_isDay_4 : decode cX19_isDay 4 = .ok (.iload_n 1, 1) := dk_27 (dk_at dksX19_isDay_0 4 rfl rfl)
theorem dX19_isDay_5 : decode cX19_isDay 5 = .ok (.aload_n 0, 1) := dk_42 (dk_at dksX19_isDay_0 5 rfl rfl)
theorem dX19_isDay_6 : decode cX19_isDay 6 = .ok (.getfield 363, 3) := dk_180 1 107 (dk_at dksX19_isDay_0 6 rfl rfl)
theorem dX19_isDay_9 : decode cX19_isDay 9 = .ok (.getfield 200, 3) := dk_180 0 200 (dk_at dksX19_isDay_0 9 rfl rfl)
theorem dX19_isDay_12 : decode cX19_isDay 12 = .ok (.if_icmp .ge 7, 3) := dk_162 0 7 (dk_at dksX19_isDay_0 12 rfl rfl)
theorem dX19_isDay_15 : decode cX19_isDay 15 = .ok (.iconst 1, 1) := dk_4 (dk_at dksX19_isDay_0 15 rfl rfl)
theorem dX19_isDay_16 : decode cX19_isDay 16 = .ok (.goto 4, 3) := dk_167 0 4 (dk_at dksX19_isDay_0 16 rfl rfl)
theorem dX19_isDay_19 : decode cX19_isDay 19 = .ok (.iconst 0, 1) := dk_3 (dk_at dksX19_isDay_0 19 rfl rfl)
theorem dX19_isDay_20 : decode cX19_isDay 20 = .ok (.ireturn, 1) := dk_172 (dk_at dksX19_isDay_0 20 rfl rfl)
abbrev cX19_most : ByteArray := prog_24_method_58_code
def yX19_most : MethodName := ⟨RX19, "most", "()I"⟩
def dkwX19_most_3 : List UInt8 := [182, 0, 98, 172]
abbrev dktX19_most_3 : List UInt8 := dkwX19_most_3 ++ []
def dkwX19_most_2 : List UInt8 := [42, 180, 1, 107, 28, 182, 1, 185, 184, 1, 188, 167, 0, 4, 27, 60, 132, 2, 1, 167, 255, 211, 42, 27]
abbrev dktX19_most_2 : List UInt8 := dkwX19_most_2 ++ dktX19_most_3
def dkwX19_most_1 : List UInt8 := [180, 1, 107, 180, 0, 200, 162, 0, 40, 42, 180, 1, 107, 28, 182, 1, 185, 184, 1, 188, 27, 164, 0, 17]
abbrev dktX19_most_1 : List UInt8 := dkwX19_most_1 ++ dktX19_most_2
def dkwX19_most_0 : List UInt8 := [42, 3, 181, 0, 88, 42, 180, 1, 107, 199, 0, 9, 42, 4, 182, 0, 94, 172, 3, 60, 3, 61, 28, 42]
abbrev dktX19_most_0 : List UInt8 := dkwX19_most_0 ++ dktX19_most_1
theorem dksX19_most_0 : cX19_most.data.toList.drop 0 = dktX19_most_0 := by decide +kernel
theorem dksX19_most_1 : cX19_most.data.toList.drop 24 = dktX19_most_1 := dk_seg dksX19_most_0 24 rfl rfl
theorem dksX19_most_2 : cX19_most.data.toList.drop 48 = dktX19_most_2 := dk_seg dksX19_most_1 24 rfl rfl
theorem dksX19_most_3 : cX19_most.data.toList.drop 72 = dktX19_most_3 := dk_seg dksX19_most_2 24 rfl rfl
theorem dX19_most_0 : decode cX19_most 0 = .ok (.aload_n 0, 1) := dk_42 (dk_at dksX19_most_0 0 rfl rfl)
theorem dX19_most_1 : decode cX19_most 1 = .ok (.iconst 0, 1) := dk_3 (dk_at dksX19_most_0 1 rfl rfl)
theorem dX19_most_2 : decode cX19_most 2 = .ok (.putfield 88, 3) := dk_181 0 88 (dk_at dksX19_most_0 2 rfl rfl)
theorem dX19_most_5 : decode cX19_most 5 = .ok (.aload_n 0, 1) := dk_42 (dk_at dksX19_most_0 5 rfl rfl)
theorem dX19_most_6 : decode cX19_most 6 = .ok (.getfield 363, 3) := dk_180 1 107 (dk_at dksX19_most_0 6 rfl rfl)
theorem dX19_most_9 : decode cX19_most 9 = .ok (.ifnonnull 9, 3) := dk_199 0 9 (dk_at dksX19_most_0 9 rfl rfl)
theorem dX19_most_12 : decode cX19_most 12 = .ok (.aload_n 0, 1) := dk_42 (dk_at dksX19_most_0 12 rfl rfl)
theorem dX19_most_13 : decode cX19_most 13 = .ok (.iconst 1, 1) := dk_4 (dk_at dksX19_most_0 13 rfl rfl)
theorem dX19_most_14 : decode cX19_most 14 = .ok (.invokevirtual 94, 3) := dk_182 0 94 (dk_at dksX19_most_0 14 rfl rfl)
theorem dX19_most_17 : decode cX19_most 17 = .ok (.ireturn, 1) := dk_172 (dk_at dksX19_most_0 17 rfl rfl)
theorem dX19_most_18 : decode cX19_most 18 = .ok (.iconst 0, 1) := dk_3 (dk_at dksX19_most_0 18 rfl rfl)
theorem dX19_most_19 : decode cX19_most 19 = .ok (.istore_n 1, 1) := dk_60 (dk_at dksX19_most_0 19 rfl rfl)
theorem dX19_most_20 : decode cX19_most 20 = .ok (.iconst 0, 1) := dk_3 (dk_at dksX19_most_0 20 rfl rfl)
theorem dX19_most_21 : decode cX19_most 21 = .ok (.istore_n 2, 1) := dk_61 (dk_at dksX19_most_0 21 rfl rfl)
theorem dX19_most_22 : decode cX19_most 22 = .ok (.iload_n 2, 1) := dk_28 (dk_at dksX19_most_0 22 rfl rfl)
theorem dX19_most_23 : decode cX19_most 23 = .ok (.aload_n 0, 1) := dk_42 (dk_at dksX19_most_0 23 rfl rfl)
theorem dX19_most_24 : decode cX19_most 24 = .ok (.getfield 363, 3) := dk_180 1 107 (dk_at dksX19_most_1 0 rfl rfl)
theorem dX19_most_27 : decode cX19_most 27 = .ok (.getfield 200, 3) := dk_180 0 200 (dk_at dksX19_most_1 3 rfl rfl)
theorem dX19_most_30 : decode cX19_most 30 = .ok (.if_icmp .ge 40, 3) := dk_162 0 40 (dk_at dksX19_most_1 6 rfl rfl)
theorem dX19_most_33 : decode cX19_most 33 = .ok (.aload_n 0, 1) := dk_42 (dk_at dksX19_most_1 9 rfl rfl)
theorem dX19_most_34 : decode cX19_most 34 = .ok (.getfield 363, 3) := dk_180 1 107 (dk_at dksX19_most_1 10 rfl rfl)
theorem dX19_most_37 : decode cX19_most 37 = .ok (.iload_n 2, 1) := dk_28 (dk_at dksX19_most_1 13 rfl rfl)
theorem dX19_most_38 : decode cX19_most 38 = .ok (.invokevirtual 441, 3) := dk_182 1 185 (dk_at dksX19_most_1 14 rfl rfl)
theorem dX19_most_41 : decode cX19_most 41 = .ok (.invokestatic 444, 3) := dk_184 1 188 (dk_at dksX19_most_1 17 rfl rfl)
theorem dX19_most_44 : decode cX19_most 44 = .ok (.iload_n 1, 1) := dk_27 (dk_at dksX19_most_1 20 rfl rfl)
theorem dX19_most_45 : decode cX19_most 45 = .ok (.if_icmp .le 17, 3) := dk_164 0 17 (dk_at dksX19_most_1 21 rfl rfl)
theorem dX19_most_48 : decode cX19_most 48 = .ok (.aload_n 0, 1) := dk_42 (dk_at dksX19_most_2 0 rfl rfl)
theorem dX19_most_49 : decode cX19_most 49 = .ok (.getfield 363, 3) := dk_180 1 107 (dk_at dksX19_most_2 1 rfl rfl)
theorem dX19_most_52 : decode cX19_most 52 = .ok (.iload_n 2, 1) := dk_28 (dk_at dksX19_most_2 4 rfl rfl)
theorem dX19_most_53 : decode cX19_most 53 = .ok (.invokevirtual 441, 3) := dk_182 1 185 (dk_at dksX19_most_2 5 rfl rfl)
theorem dX19_most_56 : decode cX19_most 56 = .ok (.invokestatic 444, 3) := dk_184 1 188 (dk_at dksX19_most_2 8 rfl rfl)
theorem dX19_most_59 : decode cX19_most 59 = .ok (.goto 4, 3) := dk_167 0 4 (dk_at dksX19_most_2 11 rfl rfl)
theorem dX19_most_62 : decode cX19_most 62 = .ok (.iload_n 1, 1) := dk_27 (dk_at dksX19_most_2 14 rfl rfl)
theorem dX19_most_63 : decode cX19_most 63 = .ok (.istore_n 1, 1) := dk_60 (dk_at dksX19_most_2 15 rfl rfl)
theorem dX19_most_64 : decode cX19_most 64 = .ok (.iinc 2 1, 3) := dk_132 2 1 (dk_at dksX19_most_2 16 rfl rfl)
theorem dX19_most_67 : decode cX19_most 67 = .ok (.goto (-45), 3) := dk_167 255 211 (dk_at dksX19_most_2 19 rfl rfl)
theorem dX19_most_70 : decode cX19_most 70 = .ok (.aload_n 0, 1) := dk_42 (dk_at dksX19_most_2 22 rfl rfl)
theorem dX19_most_71 : decode cX19_most 71 = .ok (.iload_n 1, 1) := dk_27 (dk_at dksX19_most_2 23 rfl rfl)
theorem dX19_most_72 : decode cX19_most 72 = .ok (.invokevirtual 98, 3) := dk_182 0 98 (dk_at dksX19_most_3 0 rfl rfl)
theorem dX19_most_75 : decode cX19_most 75 = .ok (.ireturn, 1) := dk_172 (dk_at dksX19_most_3 3 rfl rfl)
abbrev cX19_bits : ByteArray := prog_24_method_9_code
def yX19_bits : MethodName := ⟨RX19, "bits", "(I)I"⟩
def dkwX19_bits_0 : List UInt8 := [3, 60, 26, 61, 28, 153, 0, 15, 132, 1, 1, 28, 28, 4, 100, 126, 61, 167, 255, 243, 27, 172]
abbrev dktX19_bits_0 : List UInt8 := dkwX19_bits_0 ++ []
theorem dksX19_bits_0 : cX19_bits.data.toList.drop 0 = dktX19_bits_0 := by decide +kernel
theorem dX19_bits_0 : decode cX19_bits 0 = .ok (.iconst 0, 1) := dk_3 (dk_at dksX19_bits_0 0 rfl rfl)
theorem dX19_bits_1 : decode cX19_bits 1 = .ok (.istore_n 1, 1) := dk_60 (dk_at dksX19_bits_0 1 rfl rfl)
theorem dX19_bits_2 : decode cX19_bits 2 = .ok (.iload_n 0, 1) := dk_26 (dk_at dksX19_bits_0 2 rfl rfl)
theorem dX19_bits_3 : decode cX19_bits 3 = .ok (.istore_n 2, 1) := dk_61 (dk_at dksX19_bits_0 3 rfl rfl)
theorem dX19_bits_4 : decode cX19_bits 4 = .ok (.iload_n 2, 1) := dk_28 (dk_at dksX19_bits_0 4 rfl rfl)
theorem dX19_bits_5 : decode cX19_bits 5 = .ok (.ifCond .eq 15, 3) := dk_153 0 15 (dk_at dksX19_bits_0 5 rfl rfl)
theorem dX19_bits_8 : decode cX19_bits 8 = .ok (.iinc 1 1, 3) := dk_132 1 1 (dk_at dksX19_bits_0 8 rfl rfl)
theorem dX19_bits_11 : decode cX19_bits 11 = .ok (.iload_n 2, 1) := dk_28 (dk_at dksX19_bits_0 11 rfl rfl)
theorem dX19_bits_12 : decode cX19_bits 12 = .ok (.iload_n 2, 1) := dk_28 (dk_at dksX19_bits_0 12 rfl rfl)
theorem dX19_bits_13 : decode cX19_bits 13 = .ok (.iconst 1, 1) := dk_4 (dk_at dksX19_bits_0 13 rfl rfl)
theorem dX19_bits_14 : decode cX19_bits 14 = .ok (.isub, 1) := dk_100 (dk_at dksX19_bits_0 14 rfl rfl)
theorem dX19_bits_15 : decode cX19_bits 15 = .ok (.iand, 1) := dk_126 (dk_at dksX19_bits_0 15 rfl rfl)
theorem dX19_bits_16 : decode cX19_bits 16 = .ok (.istore_n 2, 1) := dk_61 (dk_at dksX19_bits_0 16 rfl rfl)
theorem dX19_bits_17 : decode cX19_bits 17 = .ok (.goto (-13), 3) := dk_167 255 243 (dk_at dksX19_bits_0 17 rfl rfl)
theorem dX19_bits_20 : decode cX19_bits 20 = .ok (.iload_n 1, 1) := dk_27 (dk_at dksX19_bits_0 20 rfl rfl)
theorem dX19_bits_21 : decode cX19_bits 21 = .ok (.ireturn, 1) := dk_172 (dk_at dksX19_bits_0 21 rfl rfl)
abbrev cX19_brushes : ByteArray := prog_24_method_59_code
def yX19_brushes : MethodName := ⟨RX19, "brushes", "()I"⟩
def dkwX19_brushes_1 : List UInt8 := [180, 1, 127, 182, 0, 98, 172]
abbrev dktX19_brushes_1 : List UInt8 := dkwX19_brushes_1 ++ []
def dkwX19_brushes_0 : List UInt8 := [42, 3, 181, 0, 88, 42, 180, 1, 107, 199, 0, 9, 42, 4, 182, 0, 94, 172, 42, 182, 1, 191, 42, 42]
abbrev dktX19_brushes_0 : List UInt8 := dkwX19_brushes_0 ++ dktX19_brushes_1
theorem dksX19_brushes_0 : cX19_brushes.data.toList.drop 0 = dktX19_brushes_0 := by decide +kernel
theorem dksX19_brushes_1 : cX19_brushes.data.toList.drop 24 = dktX19_brushes_1 := dk_seg dksX19_brushes_0 24 rfl rfl
theorem dX19_brushes_0 : decode cX19_brushes 0 = .ok (.aload_n 0, 1) := dk_42 (dk_at dksX19_brushes_0 0 rfl rfl)
theorem dX19_brushes_1 : decode cX19_brushes 1 = .ok (.iconst 0, 1) := dk_3 (dk_at dksX19_brushes_0 1 rfl rfl)
theorem dX19_brushes_2 : decode cX19_brushes 2 = .ok (.putfield 88, 3) := dk_181 0 88 (dk_at dksX19_brushes_0 2 rfl rfl)
theorem dX19_brushes_5 : decode cX19_brushes 5 = .ok (.aload_n 0, 1) := dk_42 (dk_at dksX19_brushes_0 5 rfl rfl)
theorem dX19_brushes_6 : decode cX19_brushes 6 = .ok (.getfield 363, 3) := dk_180 1 107 (dk_at dksX19_brushes_0 6 rfl rfl)
theorem dX19_brushes_9 : decode cX19_brushes 9 = .ok (.ifnonnull 9, 3) := dk_199 0 9 (dk_at dksX19_brushes_0 9 rfl rfl)
theorem dX19_brushes_12 : decode cX19_brushes 12 = .ok (.aload_n 0, 1) := dk_42 (dk_at dksX19_brushes_0 12 rfl rfl)
theorem dX19_brushes_13 : decode cX19_brushes 13 = .ok (.iconst 1, 1) := dk_4 (dk_at dksX19_brushes_0 13 rfl rfl)
theorem dX19_brushes_14 : decode cX19_brushes 14 = .ok (.invokevirtual 94, 3) := dk_182 0 94 (dk_at dksX19_brushes_0 14 rfl rfl)
theorem dX19_brushes_17 : decode cX19_brushes 17 = .ok (.ireturn, 1) := dk_172 (dk_at dksX19_brushes_0 17 rfl rfl)
theorem dX19_brushes_18 : decode cX19_brushes 18 = .ok (.aload_n 0, 1) := dk_42 (dk_at dksX19_brushes_0 18 rfl rfl)
theorem dX19_brushes_19 : decode cX19_brushes 19 = .ok (.invokevirtual 447, 3) := dk_182 1 191 (dk_at dksX19_brushes_0 19 rfl rfl)
theorem dX19_brushes_22 : decode cX19_brushes 22 = .ok (.aload_n 0, 1) := dk_42 (dk_at dksX19_brushes_0 22 rfl rfl)
theorem dX19_brushes_23 : decode cX19_brushes 23 = .ok (.aload_n 0, 1) := dk_42 (dk_at dksX19_brushes_0 23 rfl rfl)
theorem dX19_brushes_24 : decode cX19_brushes 24 = .ok (.getfield 383, 3) := dk_180 1 127 (dk_at dksX19_brushes_1 0 rfl rfl)
theorem dX19_brushes_27 : decode cX19_brushes 27 = .ok (.invokevirtual 98, 3) := dk_182 0 98 (dk_at dksX19_brushes_1 3 rfl rfl)
theorem dX19_brushes_30 : decode cX19_brushes 30 = .ok (.ireturn, 1) := dk_172 (dk_at dksX19_brushes_1 6 rfl rfl)
abbrev cX19_runs : ByteArray := prog_24_method_40_code
def yX19_runs : MethodName := ⟨RX19, "runs", "()V"⟩
def dkwX19_runs_0 : List UInt8 := [42, 2, 181, 1, 121, 42, 2, 181, 1, 118, 42, 2, 181, 1, 115, 42, 182, 1, 124, 177]
abbrev dktX19_runs_0 : List UInt8 := dkwX19_runs_0 ++ []
theorem dksX19_runs_0 : cX19_runs.data.toList.drop 0 = dktX19_runs_0 := by decide +kernel
theorem dX19_runs_0 : decode cX19_runs 0 = .ok (.aload_n 0, 1) := dk_42 (dk_at dksX19_runs_0 0 rfl rfl)
theorem dX19_runs_1 : decode cX19_runs 1 = .ok (.iconst (-1), 1) := dk_2 (dk_at dksX19_runs_0 1 rfl rfl)
theorem dX19_runs_2 : decode cX19_runs 2 = .ok (.putfield 377, 3) := dk_181 1 121 (dk_at dksX19_runs_0 2 rfl rfl)
theorem dX19_runs_5 : decode cX19_runs 5 = .ok (.aload_n 0, 1) := dk_42 (dk_at dksX19_runs_0 5 rfl rfl)
theorem dX19_runs_6 : decode cX19_runs 6 = .ok (.iconst (-1), 1) := dk_2 (dk_at dksX19_runs_0 6 rfl rfl)
theorem dX19_runs_7 : decode cX19_runs 7 = .ok (.putfield 374, 3) := dk_181 1 118 (dk_at dksX19_runs_0 7 rfl rfl)
theorem dX19_runs_10 : decode cX19_runs 10 = .ok (.aload_n 0, 1) := dk_42 (dk_at dksX19_runs_0 10 rfl rfl)
theorem dX19_runs_11 : decode cX19_runs 11 = .ok (.iconst (-1), 1) := dk_2 (dk_at dksX19_runs_0 11 rfl rfl)
theorem dX19_runs_12 : decode cX19_runs 12 = .ok (.putfield 371, 3) := dk_181 1 115 (dk_at dksX19_runs_0 12 rfl rfl)
theorem dX19_runs_15 : decode cX19_runs 15 = .ok (.aload_n 0, 1) := dk_42 (dk_at dksX19_runs_0 15 rfl rfl)
theorem dX19_runs_16 : decode cX19_runs 16 = .ok (.invokevirtual 380, 3) := dk_182 1 124 (dk_at dksX19_runs_0 16 rfl rfl)
theorem dX19_runs_19 : decode cX19_runs 19 = .ok (.return_, 1) := dk_177 (dk_at dksX19_runs_0 19 rfl rfl)
abbrev cX19_runsBy : ByteArray := prog_24_method_41_code
def yX19_runsBy : MethodName := ⟨RX19, "runsBy", "()V"⟩
def dkwX19_runsBy_3 : List UInt8 := [180, 0, 200, 162, 0, 14, 42, 27, 182, 1, 130, 132, 1, 1, 167, 255, 237, 177]
abbrev dktX19_runsBy_3 : List UInt8 := dkwX19_runsBy_3 ++ []
def dkwX19_runsBy_2 : List UInt8 := [16, 10, 79, 42, 180, 0, 51, 27, 16, 254, 79, 132, 1, 1, 167, 255, 223, 3, 60, 27, 42, 180, 1, 107]
abbrev dktX19_runsBy_2 : List UInt8 := dkwX19_runsBy_2 ++ dktX19_runsBy_3
def dkwX19_runsBy_1 : List UInt8 := [167, 255, 239, 3, 60, 27, 16, 7, 162, 0, 33, 42, 180, 0, 45, 27, 16, 254, 79, 42, 180, 0, 48, 27]
abbrev dktX19_runsBy_1 : List UInt8 := dkwX19_runsBy_1 ++ dktX19_runsBy_2
def dkwX19_runsBy_0 : List UInt8 := [42, 3, 181, 1, 127, 3, 60, 27, 16, 8, 162, 0, 17, 42, 180, 0, 54, 27, 16, 254, 79, 132, 1, 1]
abbrev dktX19_runsBy_0 : List UInt8 := dkwX19_runsBy_0 ++ dktX19_runsBy_1
theorem dksX19_runsBy_0 : cX19_runsBy.data.toList.drop 0 = dktX19_runsBy_0 := by decide +kernel
theorem dksX19_runsBy_1 : cX19_runsBy.data.toList.drop 24 = dktX19_runsBy_1 := dk_seg dksX19_runsBy_0 24 rfl rfl
theorem dksX19_runsBy_2 : cX19_runsBy.data.toList.drop 48 = dktX19_runsBy_2 := dk_seg dksX19_runsBy_1 24 rfl rfl
theorem dksX19_runsBy_3 : cX19_runsBy.data.toList.drop 72 = dktX19_runsBy_3 := dk_seg dksX19_runsBy_2 24 rfl rfl
theorem dX19_runsBy_0 : decode cX19_runsBy 0 = .ok (.aload_n 0, 1) := dk_42 (dk_at dksX19_runsBy_0 0 rfl rfl)
theorem dX19_runsBy_1 : decode cX19_runsBy 1 = .ok (.iconst 0, 1) := dk_3 (dk_at dksX19_runsBy_0 1 rfl rfl)
theorem dX19_runsBy_2 : decode cX19_runsBy 2 = .ok (.putfield 383, 3) := dk_181 1 127 (dk_at dksX19_runsBy_0 2 rfl rfl)
theorem dX19_runsBy_5 : decode cX19_runsBy 5 = .ok (.iconst 0, 1) := dk_3 (dk_at dksX19_runsBy_0 5 rfl rfl)
theorem dX19_runsBy_6 : decode cX19_runsBy 6 = .ok (.istore_n 1, 1) := dk_60 (dk_at dksX19_runsBy_0 6 rfl rfl)
theorem dX19_runsBy_7 : decode cX19_runsBy 7 = .ok (.iload_n 1, 1) := dk_27 (dk_at dksX19_runsBy_0 7 rfl rfl)
theorem dX19_runsBy_8 : decode cX19_runsBy 8 = .ok (.bipush 8, 2) := dk_16 8 (dk_at dksX19_runsBy_0 8 rfl rfl)
theorem dX19_runsBy_10 : decode cX19_runsBy 10 = .ok (.if_icmp .ge 17, 3) := dk_162 0 17 (dk_at dksX19_runsBy_0 10 rfl rfl)
theorem dX19_runsBy_13 : decode cX19_runsBy 13 = .ok (.aload_n 0, 1) := dk_42 (dk_at dksX19_runsBy_0 13 rfl rfl)
theorem dX19_runsBy_14 : decode cX19_runsBy 14 = .ok (.getfield 54, 3) := dk_180 0 54 (dk_at dksX19_runsBy_0 14 rfl rfl)
theorem dX19_runsBy_17 : decode cX19_runsBy 17 = .ok (.iload_n 1, 1) := dk_27 (dk_at dksX19_runsBy_0 17 rfl rfl)
theorem dX19_runsBy_18 : decode cX19_runsBy 18 = .ok (.bipush (-2), 2) := dk_16 254 (dk_at dksX19_runsBy_0 18 rfl rfl)
theorem dX19_runsBy_20 : decode cX19_runsBy 20 = .ok (.iastore, 1) := dk_79 (dk_at dksX19_runsBy_0 20 rfl rfl)
theorem dX19_runsBy_21 : decode cX19_runsBy 21 = .ok (.iinc 1 1, 3) := dk_132 1 1 (dk_at dksX19_runsBy_0 21 rfl rfl)
theorem dX19_runsBy_24 : decode cX19_runsBy 24 = .ok (.goto (-17), 3) := dk_167 255 239 (dk_at dksX19_runsBy_1 0 rfl rfl)
theorem dX19_runsBy_27 : decode cX19_runsBy 27 = .ok (.iconst 0, 1) := dk_3 (dk_at dksX19_runsBy_1 3 rfl rfl)
theorem dX19_runsBy_28 : decode cX19_runsBy 28 = .ok (.istore_n 1, 1) := dk_60 (dk_at dksX19_runsBy_1 4 rfl rfl)
theorem dX19_runsBy_29 : decode cX19_runsBy 29 = .ok (.iload_n 1, 1) := dk_27 (dk_at dksX19_runsBy_1 5 rfl rfl)
theorem dX19_runsBy_30 : decode cX19_runsBy 30 = .ok (.bipush 7, 2) := dk_16 7 (dk_at dksX19_runsBy_1 6 rfl rfl)
theorem dX19_runsBy_32 : decode cX19_runsBy 32 = .ok (.if_icmp .ge 33, 3) := dk_162 0 33 (dk_at dksX19_runsBy_1 8 rfl rfl)
theorem dX19_runsBy_35 : decode cX19_runsBy 35 = .ok (.aload_n 0, 1) := dk_42 (dk_at dksX19_runsBy_1 11 rfl rfl)
theorem dX19_runsBy_36 : decode cX19_runsBy 36 = .ok (.getfield 45, 3) := dk_180 0 45 (dk_at dksX19_runsBy_1 12 rfl rfl)
theorem dX19_runsBy_39 : decode cX19_runsBy 39 = .ok (.iload_n 1, 1) := dk_27 (dk_at dksX19_runsBy_1 15 rfl rfl)
theorem dX19_runsBy_40 : decode cX19_runsBy 40 = .ok (.bipush (-2), 2) := dk_16 254 (dk_at dksX19_runsBy_1 16 rfl rfl)
theorem dX19_runsBy_42 : decode cX19_runsBy 42 = .ok (.iastore, 1) := dk_79 (dk_at dksX19_runsBy_1 18 rfl rfl)
theorem dX19_runsBy_43 : decode cX19_runsBy 43 = .ok (.aload_n 0, 1) := dk_42 (dk_at dksX19_runsBy_1 19 rfl rfl)
theorem dX19_runsBy_44 : decode cX19_runsBy 44 = .ok (.getfield 48, 3) := dk_180 0 48 (dk_at dksX19_runsBy_1 20 rfl rfl)
theorem dX19_runsBy_47 : decode cX19_runsBy 47 = .ok (.iload_n 1, 1) := dk_27 (dk_at dksX19_runsBy_1 23 rfl rfl)
theorem dX19_runsBy_48 : decode cX19_runsBy 48 = .ok (.bipush 10, 2) := dk_16 10 (dk_at dksX19_runsBy_2 0 rfl rfl)
theorem dX19_runsBy_50 : decode cX19_runsBy 50 = .ok (.iastore, 1) := dk_79 (dk_at dksX19_runsBy_2 2 rfl rfl)
theorem dX19_runsBy_51 : decode cX19_runsBy 51 = .ok (.aload_n 0, 1) := dk_42 (dk_at dksX19_runsBy_2 3 rfl rfl)
theorem dX19_runsBy_52 : decode cX19_runsBy 52 = .ok (.getfield 51, 3) := dk_180 0 51 (dk_at dksX19_runsBy_2 4 rfl rfl)
theorem dX19_runsBy_55 : decode cX19_runsBy 55 = .ok (.iload_n 1, 1) := dk_27 (dk_at dksX19_runsBy_2 7 rfl rfl)
theorem dX19_runsBy_56 : decode cX19_runsBy 56 = .ok (.bipush (-2), 2) := dk_16 254 (dk_at dksX19_runsBy_2 8 rfl rfl)
theorem dX19_runsBy_58 : decode cX19_runsBy 58 = .ok (.iastore, 1) := dk_79 (dk_at dksX19_runsBy_2 10 rfl rfl)
theorem dX19_runsBy_59 : decode cX19_runsBy 59 = .ok (.iinc 1 1, 3) := dk_132 1 1 (dk_at dksX19_runsBy_2 11 rfl rfl)
theorem dX19_runsBy_62 : decode cX19_runsBy 62 = .ok (.goto (-33), 3) := dk_167 255 223 (dk_at dksX19_runsBy_2 14 rfl rfl)
theorem dX19_runsBy_65 : decode cX19_runsBy 65 = .ok (.iconst 0, 1) := dk_3 (dk_at dksX19_runsBy_2 17 rfl rfl)
theorem dX19_runsBy_66 : decode cX19_runsBy 66 = .ok (.istore_n 1, 1) := dk_60 (dk_at dksX19_runsBy_2 18 rfl rfl)
theorem dX19_runsBy_67 : decode cX19_runsBy 67 = .ok (.iload_n 1, 1) := dk_27 (dk_at dksX19_runsBy_2 19 rfl rfl)
theorem dX19_runsBy_68 : decode cX19_runsBy 68 = .ok (.aload_n 0, 1) := dk_42 (dk_at dksX19_runsBy_2 20 rfl rfl)
theorem dX19_runsBy_69 : decode cX19_runsBy 69 = .ok (.getfield 363, 3) := dk_180 1 107 (dk_at dksX19_runsBy_2 21 rfl rfl)
theorem dX19_runsBy_72 : decode cX19_runsBy 72 = .ok (.getfield 200, 3) := dk_180 0 200 (dk_at dksX19_runsBy_3 0 rfl rfl)
theorem dX19_runsBy_75 : decode cX19_runsBy 75 = .ok (.if_icmp .ge 14, 3) := dk_162 0 14 (dk_at dksX19_runsBy_3 3 rfl rfl)
theorem dX19_runsBy_78 : decode cX19_runsBy 78 = .ok (.aload_n 0, 1) := dk_42 (dk_at dksX19_runsBy_3 6 rfl rfl)
theorem dX19_runsBy_79 : decode cX19_runsBy 79 = .ok (.iload_n 1, 1) := dk_27 (dk_at dksX19_runsBy_3 7 rfl rfl)
theorem dX19_runsBy_80 : decode cX19_runsBy 80 = .ok (.invokevirtual 386, 3) := dk_182 1 130 (dk_at dksX19_runsBy_3 8 rfl rfl)
theorem dX19_runsBy_83 : decode cX19_runsBy 83 = .ok (.iinc 1 1, 3) := dk_132 1 1 (dk_at dksX19_runsBy_3 11 rfl rfl)
theorem dX19_runsBy_86 : decode cX19_runsBy 86 = .ok (.goto (-19), 3) := dk_167 255 237 (dk_at dksX19_runsBy_3 14 rfl rfl)
theorem dX19_runsBy_89 : decode cX19_runsBy 89 = .ok (.return_, 1) := dk_177 (dk_at dksX19_runsBy_3 17 rfl rfl)
abbrev cX19_day : ByteArray := prog_24_method_42_code
def yX19_day : MethodName := ⟨RX19, "day", "(I)V"⟩
def dkwX19_day_21 : List UInt8 := [132, 2, 1, 167, 255, 183, 177]
abbrev dktX19_day_21 : List UInt8 := dkwX19_day_21 ++ []
def dkwX19_day_20 : List UInt8 := [162, 0, 16, 42, 180, 0, 54, 42, 180, 0, 48, 28, 46, 16, 254, 79, 42, 180, 0, 48, 28, 16, 9, 79]
abbrev dktX19_day_20 : List UInt8 := dkwX19_day_20 ++ dktX19_day_21
def dkwX19_day_19 : List UInt8 := [42, 180, 1, 107, 180, 1, 50, 28, 51, 154, 0, 6, 167, 0, 35, 42, 180, 0, 48, 28, 46, 16, 8]
abbrev dktX19_day_19 : List UInt8 := dkwX19_day_19 ++ dktX19_day_20
def dkwX19_day_18 : List UInt8 := [61, 28, 42, 180, 1, 107, 180, 0, 219, 162, 0, 68, 42, 180, 1, 107, 28, 27, 182, 1, 157, 153, 0, 50]
abbrev dktX19_day_18 : List UInt8 := dkwX19_day_18 ++ dktX19_day_19
def dkwX19_day_17 : List UInt8 := [42, 180, 0, 60, 16, 7, 27, 104, 28, 96, 42, 180, 0, 48, 28, 46, 79, 132, 2, 1, 167, 255, 230, 3]
abbrev dktX19_day_17 : List UInt8 := dkwX19_day_17 ++ dktX19_day_18
def dkwX19_day_16 : List UInt8 := [104, 28, 96, 42, 180, 0, 54, 28, 46, 79, 132, 2, 1, 167, 255, 230, 3, 61, 28, 16, 7, 162, 0, 26]
abbrev dktX19_day_16 : List UInt8 := dkwX19_day_16 ++ dktX19_day_17
def dkwX19_day_15 : List UInt8 := [182, 1, 154, 132, 2, 1, 167, 255, 211, 3, 61, 28, 16, 8, 162, 0, 26, 42, 180, 0, 57, 16, 8, 27]
abbrev dktX19_day_15 : List UInt8 := dkwX19_day_15 ++ dktX19_day_16
def dkwX19_day_14 : List UInt8 := [16, 7, 27, 104, 28, 96, 16, 254, 79, 42, 180, 1, 107, 28, 27, 182, 1, 142, 153, 0, 9, 42, 28, 27]
abbrev dktX19_day_14 : List UInt8 := dkwX19_day_14 ++ dktX19_day_15
def dkwX19_day_13 : List UInt8 := [180, 1, 151, 182, 1, 145, 3, 61, 28, 42, 180, 1, 107, 180, 0, 219, 162, 0, 40, 42, 180, 0, 63]
abbrev dktX19_day_13 : List UInt8 := dkwX19_day_13 ++ dktX19_day_14
def dkwX19_day_12 : List UInt8 := [46, 182, 1, 145, 132, 2, 1, 167, 255, 197, 42, 180, 1, 121, 27, 160, 0, 15, 42, 42, 180, 1, 148, 42]
abbrev dktX19_day_12 : List UInt8 := dkwX19_day_12 ++ dktX19_day_13
def dkwX19_day_11 : List UInt8 := [180, 0, 21, 16, 22, 6, 28, 104, 96, 4, 96, 46, 42, 180, 0, 21, 16, 22, 6, 28, 104, 96, 5, 96]
abbrev dktX19_day_11 : List UInt8 := dkwX19_day_11 ++ dktX19_day_12
def dkwX19_day_10 : List UInt8 := [16, 21, 46, 162, 0, 54, 42, 180, 0, 21, 16, 22, 6, 28, 104, 96, 46, 27, 160, 0, 33, 42, 42]
abbrev dktX19_day_10 : List UInt8 := dkwX19_day_10 ++ dktX19_day_11
def dkwX19_day_9 : List UInt8 := [180, 1, 107, 180, 1, 77, 28, 46, 182, 1, 145, 132, 2, 1, 167, 255, 207, 3, 61, 28, 42, 180, 0, 21]
abbrev dktX19_day_9 : List UInt8 := dkwX19_day_9 ++ dktX19_day_10
def dkwX19_day_8 : List UInt8 := [42, 180, 1, 107, 180, 1, 71, 28, 46, 27, 160, 0, 25, 42, 42, 180, 1, 107, 180, 1, 74, 28, 46, 42]
abbrev dktX19_day_8 : List UInt8 := dkwX19_day_8 ++ dktX19_day_9
def dkwX19_day_7 : List UInt8 := [28, 27, 182, 1, 137, 132, 2, 1, 167, 255, 160, 3, 61, 28, 42, 180, 1, 107, 180, 1, 66, 162, 0, 44]
abbrev dktX19_day_7 : List UInt8 := dkwX19_day_7 ++ dktX19_day_8
def dkwX19_day_6 : List UInt8 := [180, 0, 48, 28, 46, 16, 8, 162, 0, 16, 42, 180, 0, 54, 42, 180, 0, 48, 28, 46, 16, 254, 79, 42]
abbrev dktX19_day_6 : List UInt8 := dkwX19_day_6 ++ dktX19_day_7
def dkwX19_day_5 : List UInt8 := [16, 14, 28, 96, 46, 162, 0, 6, 167, 0, 45, 42, 180, 0, 39, 42, 180, 0, 45, 28, 46, 27, 79, 42]
abbrev dktX19_day_5 : List UInt8 := dkwX19_day_5 ++ dktX19_day_6
def dkwX19_day_4 : List UInt8 := [182, 1, 142, 153, 0, 73, 27, 42, 180, 0, 36, 42, 180, 0, 45, 28, 46, 46, 100, 42, 180, 0, 21]
abbrev dktX19_day_4 : List UInt8 := dkwX19_day_4 ++ dktX19_day_5
def dkwX19_day_3 : List UInt8 := [167, 255, 191, 3, 61, 28, 42, 180, 1, 107, 180, 0, 219, 162, 0, 91, 42, 180, 1, 107, 28, 27]
abbrev dktX19_day_3 : List UInt8 := dkwX19_day_3 ++ dktX19_day_4
def dkwX19_day_2 : List UInt8 := [167, 0, 19, 42, 180, 0, 48, 28, 46, 16, 8, 161, 0, 8, 42, 28, 182, 1, 139, 132, 2, 1]
abbrev dktX19_day_2 : List UInt8 := dkwX19_day_2 ++ dktX19_day_3
def dkwX19_day_1 : List UInt8 := [154, 0, 6, 167, 0, 39, 42, 180, 0, 45, 28, 46, 16, 254, 160, 0, 12, 42, 28, 27, 182, 1, 137]
abbrev dktX19_day_1 : List UInt8 := dkwX19_day_1 ++ dktX19_day_2
def dkwX19_day_0 : List UInt8 := [3, 61, 28, 42, 180, 1, 107, 180, 0, 219, 162, 0, 60, 42, 180, 1, 107, 28, 27, 182, 1, 133]
abbrev dktX19_day_0 : List UInt8 := dkwX19_day_0 ++ dktX19_day_1
theorem dksX19_day_0 : cX19_day.data.toList.drop 0 = dktX19_day_0 := by decide +kernel
theorem dksX19_day_1 : cX19_day.data.toList.drop 22 = dktX19_day_1 := dk_seg dksX19_day_0 22 rfl rfl
theorem dksX19_day_2 : cX19_day.data.toList.drop 45 = dktX19_day_2 := dk_seg dksX19_day_1 23 rfl rfl
theorem dksX19_day_3 : cX19_day.data.toList.drop 67 = dktX19_day_3 := dk_seg dksX19_day_2 22 rfl rfl
theorem dksX19_day_4 : cX19_day.data.toList.drop 89 = dktX19_day_4 := dk_seg dksX19_day_3 22 rfl rfl
theorem dksX19_day_5 : cX19_day.data.toList.drop 112 = dktX19_day_5 := dk_seg dksX19_day_4 23 rfl rfl
theorem dksX19_day_6 : cX19_day.data.toList.drop 136 = dktX19_day_6 := dk_seg dksX19_day_5 24 rfl rfl
theorem dksX19_day_7 : cX19_day.data.toList.drop 160 = dktX19_day_7 := dk_seg dksX19_day_6 24 rfl rfl
theorem dksX19_day_8 : cX19_day.data.toList.drop 184 = dktX19_day_8 := dk_seg dksX19_day_7 24 rfl rfl
theorem dksX19_day_9 : cX19_day.data.toList.drop 208 = dktX19_day_9 := dk_seg dksX19_day_8 24 rfl rfl
theorem dksX19_day_10 : cX19_day.data.toList.drop 232 = dktX19_day_10 := dk_seg dksX19_day_9 24 rfl rfl
theorem dksX19_day_11 : cX19_day.data.toList.drop 255 = dktX19_day_11 := dk_seg dksX19_day_10 23 rfl rfl
theorem dksX19_day_12 : cX19_day.data.toList.drop 279 = dktX19_day_12 := dk_seg dksX19_day_11 24 rfl rfl
theorem dksX19_day_13 : cX19_day.data.toList.drop 303 = dktX19_day_13 := dk_seg dksX19_day_12 24 rfl rfl
theorem dksX19_day_14 : cX19_day.data.toList.drop 326 = dktX19_day_14 := dk_seg dksX19_day_13 23 rfl rfl
theorem dksX19_day_15 : cX19_day.data.toList.drop 350 = dktX19_day_15 := dk_seg dksX19_day_14 24 rfl rfl
theorem dksX19_day_16 : cX19_day.data.toList.drop 374 = dktX19_day_16 := dk_seg dksX19_day_15 24 rfl rfl
theorem dksX19_day_17 : cX19_day.data.toList.drop 398 = dktX19_day_17 := dk_seg dksX19_day_16 24 rfl rfl
theorem dksX19_day_18 : cX19_day.data.toList.drop 422 = dktX19_day_18 := dk_seg dksX19_day_17 24 rfl rfl
theorem dksX19_day_19 : cX19_day.data.toList.drop 446 = dktX19_day_19 := dk_seg dksX19_day_18 24 rfl rfl
theorem dksX19_day_20 : cX19_day.data.toList.drop 469 = dktX19_day_20 := dk_seg dksX19_day_19 23 rfl rfl
theorem dksX19_day_21 : cX19_day.data.toList.drop 493 = dktX19_day_21 := dk_seg dksX19_day_20 24 rfl rfl
theorem dX19_day_0 : decode cX19_day 0 = .ok (.iconst 0, 1) := dk_3 (dk_at dksX19_day_0 0 rfl rfl)
theorem dX19_day_1 : decode cX19_day 1 = .ok (.istore_n 2, 1) := dk_61 (dk_at dksX19_day_0 1 rfl rfl)
theorem dX19_day_2 : decode cX19_day 2 = .ok (.iload_n 2, 1) := dk_28 (dk_at dksX19_day_0 2 rfl rfl)
theorem dX19_day_3 : decode cX19_day 3 = .ok (.aload_n 0, 1) := dk_42 (dk_at dksX19_day_0 3 rfl rfl)
theorem dX19_day_4 : decode cX19_day 4 = .ok (.getfield 363, 3) := dk_180 1 107 (dk_at dksX19_day_0 4 rfl rfl)
theorem dX19_day_7 : decode cX19_day 7 = .ok (.getfield 219, 3) := dk_180 0 219 (dk_at dksX19_day_0 7 rfl rfl)
theorem dX19_day_10 : decode cX19_day 10 = .ok (.if_icmp .ge 60, 3) := dk_162 0 60 (dk_at dksX19_day_0 10 rfl rfl)
theorem dX19_day_13 : decode cX19_day 13 = .ok (.aload_n 0, 1) := dk_42 (dk_at dksX19_day_0 13 rfl rfl)
theorem dX19_day_14 : decode cX19_day 14 = .ok (.getfield 363, 3) := dk_180 1 107 (dk_at dksX19_day_0 14 rfl rfl)
theorem dX19_day_17 : decode cX19_day 17 = .ok (.iload_n 2, 1) := dk_28 (dk_at dksX19_day_0 17 rfl rfl)
theorem dX19_day_18 : decode cX19_day 18 = .ok (.iload_n 1, 1) := dk_27 (dk_at dksX19_day_0 18 rfl rfl)
theorem dX19_day_19 : decode cX19_day 19 = .ok (.invokevirtual 389, 3) := dk_182 1 133 (dk_at dksX19_day_0 19 rfl rfl)
theorem dX19_day_22 : decode cX19_day 22 = .ok (.ifCond .ne 6, 3) := dk_154 0 6 (dk_at dksX19_day_1 0 rfl rfl)
theorem dX19_day_25 : decode cX19_day 25 = .ok (.goto 39, 3) := dk_167 0 39 (dk_at dksX19_day_1 3 rfl rfl)
theorem dX19_day_28 : decode cX19_day 28 = .ok (.aload_n 0, 1) := dk_42 (dk_at dksX19_day_1 6 rfl rfl)
theorem dX19_day_29 : decode cX19_day 29 = .ok (.getfield 45, 3) := dk_180 0 45 (dk_at dksX19_day_1 7 rfl rfl)
theorem dX19_day_32 : decode cX19_day 32 = .ok (.iload_n 2, 1) := dk_28 (dk_at dksX19_day_1 10 rfl rfl)
theorem dX19_day_33 : decode cX19_day 33 = .ok (.iaload, 1) := dk_46 (dk_at dksX19_day_1 11 rfl rfl)
theorem dX19_day_34 : decode cX19_day 34 = .ok (.bipush (-2), 2) := dk_16 254 (dk_at dksX19_day_1 12 rfl rfl)
theorem dX19_day_36 : decode cX19_day 36 = .ok (.if_icmp .ne 12, 3) := dk_160 0 12 (dk_at dksX19_day_1 14 rfl rfl)
theorem dX19_day_39 : decode cX19_day 39 = .ok (.aload_n 0, 1) := dk_42 (dk_at dksX19_day_1 17 rfl rfl)
theorem dX19_day_40 : decode cX19_day 40 = .ok (.iload_n 2, 1) := dk_28 (dk_at dksX19_day_1 18 rfl rfl)
theorem dX19_day_41 : decode cX19_day 41 = .ok (.iload_n 1, 1) := dk_27 (dk_at dksX19_day_1 19 rfl rfl)
theorem dX19_day_42 : decode cX19_day 42 = .ok (.invokevirtual 393, 3) := dk_182 1 137 (dk_at dksX19_day_1 20 rfl rfl)
theorem dX19_day_45 : decode cX19_day 45 = .ok (.goto 19, 3) := dk_167 0 19 (dk_at dksX19_day_2 0 rfl rfl)
theorem dX19_day_48 : decode cX19_day 48 = .ok (.aload_n 0, 1) := dk_42 (dk_at dksX19_day_2 3 rfl rfl)
theorem dX19_day_49 : decode cX19_day 49 = .ok (.getfield 48, 3) := dk_180 0 48 (dk_at dksX19_day_2 4 rfl rfl)
theorem dX19_day_52 : decode cX19_day 52 = .ok (.iload_n 2, 1) := dk_28 (dk_at dksX19_day_2 7 rfl rfl)
theorem dX19_day_53 : decode cX19_day 53 = .ok (.iaload, 1) := dk_46 (dk_at dksX19_day_2 8 rfl rfl)
theorem dX19_day_54 : decode cX19_day 54 = .ok (.bipush 8, 2) := dk_16 8 (dk_at dksX19_day_2 9 rfl rfl)
theorem dX19_day_56 : decode cX19_day 56 = .ok (.if_icmp .lt 8, 3) := dk_161 0 8 (dk_at dksX19_day_2 11 rfl rfl)
theorem dX19_day_59 : decode cX19_day 59 = .ok (.aload_n 0, 1) := dk_42 (dk_at dksX19_day_2 14 rfl rfl)
theorem dX19_day_60 : decode cX19_day 60 = .ok (.iload_n 2, 1) := dk_28 (dk_at dksX19_day_2 15 rfl rfl)
theorem dX19_day_61 : decode cX19_day 61 = .ok (.invokevirtual 395, 3) := dk_182 1 139 (dk_at dksX19_day_2 16 rfl rfl)
theorem dX19_day_64 : decode cX19_day 64 = .ok (.iinc 2 1, 3) := dk_132 2 1 (dk_at dksX19_day_2 19 rfl rfl)
theorem dX19_day_67 : decode cX19_day 67 = .ok (.goto (-65), 3) := dk_167 255 191 (dk_at dksX19_day_3 0 rfl rfl)
theorem dX19_day_70 : decode cX19_day 70 = .ok (.iconst 0, 1) := dk_3 (dk_at dksX19_day_3 3 rfl rfl)
theorem dX19_day_71 : decode cX19_day 71 = .ok (.istore_n 2, 1) := dk_61 (dk_at dksX19_day_3 4 rfl rfl)
theorem dX19_day_72 : decode cX19_day 72 = .ok (.iload_n 2, 1) := dk_28 (dk_at dksX19_day_3 5 rfl rfl)
theorem dX19_day_73 : decode cX19_day 73 = .ok (.aload_n 0, 1) := dk_42 (dk_at dksX19_day_3 6 rfl rfl)
theorem dX19_day_74 : decode cX19_day 74 = .ok (.getfield 363, 3) := dk_180 1 107 (dk_at dksX19_day_3 7 rfl rfl)
theorem dX19_day_77 : decode cX19_day 77 = .ok (.getfield 219, 3) := dk_180 0 219 (dk_at dksX19_day_3 10 rfl rfl)
theorem dX19_day_80 : decode cX19_day 80 = .ok (.if_icmp .ge 91, 3) := dk_162 0 91 (dk_at dksX19_day_3 13 rfl rfl)
theorem dX19_day_83 : decode cX19_day 83 = .ok (.aload_n 0, 1) := dk_42 (dk_at dksX19_day_3 16 rfl rfl)
theorem dX19_day_84 : decode cX19_day 84 = .ok (.getfield 363, 3) := dk_180 1 107 (dk_at dksX19_day_3 17 rfl rfl)
theorem dX19_day_87 : decode cX19_day 87 = .ok (.iload_n 2, 1) := dk_28 (dk_at dksX19_day_3 20 rfl rfl)
theorem dX19_day_88 : decode cX19_day 88 = .ok (.iload_n 1, 1) := dk_27 (dk_at dksX19_day_3 21 rfl rfl)
theorem dX19_day_89 : decode cX19_day 89 = .ok (.invokevirtual 398, 3) := dk_182 1 142 (dk_at dksX19_day_4 0 rfl rfl)
theorem dX19_day_92 : decode cX19_day 92 = .ok (.ifCond .eq 73, 3) := dk_153 0 73 (dk_at dksX19_day_4 3 rfl rfl)
theorem dX19_day_95 : decode cX19_day 95 = .ok (.iload_n 1, 1) := dk_27 (dk_at dksX19_day_4 6 rfl rfl)
theorem dX19_day_96 : decode cX19_day 96 = .ok (.aload_n 0, 1) := dk_42 (dk_at dksX19_day_4 7 rfl rfl)
theorem dX19_day_97 : decode cX19_day 97 = .ok (.getfield 36, 3) := dk_180 0 36 (dk_at dksX19_day_4 8 rfl rfl)
theorem dX19_day_100 : decode cX19_day 100 = .ok (.aload_n 0, 1) := dk_42 (dk_at dksX19_day_4 11 rfl rfl)
theorem dX19_day_101 : decode cX19_day 101 = .ok (.getfield 45, 3) := dk_180 0 45 (dk_at dksX19_day_4 12 rfl rfl)
theorem dX19_day_104 : decode cX19_day 104 = .ok (.iload_n 2, 1) := dk_28 (dk_at dksX19_day_4 15 rfl rfl)
theorem dX19_day_105 : decode cX19_day 105 = .ok (.iaload, 1) := dk_46 (dk_at dksX19_day_4 16 rfl rfl)
theorem dX19_day_106 : decode cX19_day 106 = .ok (.iaload, 1) := dk_46 (dk_at dksX19_day_4 17 rfl rfl)
theorem dX19_day_107 : decode cX19_day 107 = .ok (.isub, 1) := dk_100 (dk_at dksX19_day_4 18 rfl rfl)
theorem dX19_day_108 : decode cX19_day 108 = .ok (.aload_n 0, 1) := dk_42 (dk_at dksX19_day_4 19 rfl rfl)
theorem dX19_day_109 : decode cX19_day 109 = .ok (.getfield 21, 3) := dk_180 0 21 (dk_at dksX19_day_4 20 rfl rfl)
theorem dX19_day_112 : decode cX19_day 112 = .ok (.bipush 14, 2) := dk_16 14 (dk_at dksX19_day_5 0 rfl rfl)
theorem dX19_day_114 : decode cX19_day 114 = .ok (.iload_n 2, 1) := dk_28 (dk_at dksX19_day_5 2 rfl rfl)
theorem dX19_day_115 : decode cX19_day 115 = .ok (.iadd, 1) := dk_96 (dk_at dksX19_day_5 3 rfl rfl)
theorem dX19_day_116 : decode cX19_day 116 = .ok (.iaload, 1) := dk_46 (dk_at dksX19_day_5 4 rfl rfl)
theorem dX19_day_117 : decode cX19_day 117 = .ok (.if_icmp .ge 6, 3) := dk_162 0 6 (dk_at dksX19_day_5 5 rfl rfl)
theorem dX19_day_120 : decode cX19_day 120 = .ok (.goto 45, 3) := dk_167 0 45 (dk_at dksX19_day_5 8 rfl rfl)
theorem dX19_day_123 : decode cX19_day 123 = .ok (.aload_n 0, 1) := dk_42 (dk_at dksX19_day_5 11 rfl rfl)
theorem dX19_day_124 : decode cX19_day 124 = .ok (.getfield 39, 3) := dk_180 0 39 (dk_at dksX19_day_5 12 rfl rfl)
theorem dX19_day_127 : decode cX19_day 127 = .ok (.aload_n 0, 1) := dk_42 (dk_at dksX19_day_5 15 rfl rfl)
theorem dX19_day_128 : decode cX19_day 128 = .ok (.getfield 45, 3) := dk_180 0 45 (dk_at dksX19_day_5 16 rfl rfl)
theorem dX19_day_131 : decode cX19_day 131 = .ok (.iload_n 2, 1) := dk_28 (dk_at dksX19_day_5 19 rfl rfl)
theorem dX19_day_132 : decode cX19_day 132 = .ok (.iaload, 1) := dk_46 (dk_at dksX19_day_5 20 rfl rfl)
theorem dX19_day_133 : decode cX19_day 133 = .ok (.iload_n 1, 1) := dk_27 (dk_at dksX19_day_5 21 rfl rfl)
theorem dX19_day_134 : decode cX19_day 134 = .ok (.iastore, 1) := dk_79 (dk_at dksX19_day_5 22 rfl rfl)
theorem dX19_day_135 : decode cX19_day 135 = .ok (.aload_n 0, 1) := dk_42 (dk_at dksX19_day_5 23 rfl rfl)
theorem dX19_day_136 : decode cX19_day 136 = .ok (.getfield 48, 3) := dk_180 0 48 (dk_at dksX19_day_6 0 rfl rfl)
theorem dX19_day_139 : decode cX19_day 139 = .ok (.iload_n 2, 1) := dk_28 (dk_at dksX19_day_6 3 rfl rfl)
theorem dX19_day_140 : decode cX19_day 140 = .ok (.iaload, 1) := dk_46 (dk_at dksX19_day_6 4 rfl rfl)
theorem dX19_day_141 : decode cX19_day 141 = .ok (.bipush 8, 2) := dk_16 8 (dk_at dksX19_day_6 5 rfl rfl)
theorem dX19_day_143 : decode cX19_day 143 = .ok (.if_icmp .ge 16, 3) := dk_162 0 16 (dk_at dksX19_day_6 7 rfl rfl)
theorem dX19_day_146 : decode cX19_day 146 = .ok (.aload_n 0, 1) := dk_42 (dk_at dksX19_day_6 10 rfl rfl)
theorem dX19_day_147 : decode cX19_day 147 = .ok (.getfield 54, 3) := dk_180 0 54 (dk_at dksX19_day_6 11 rfl rfl)
theorem dX19_day_150 : decode cX19_day 150 = .ok (.aload_n 0, 1) := dk_42 (dk_at dksX19_day_6 14 rfl rfl)
theorem dX19_day_151 : decode cX19_day 151 = .ok (.getfield 48, 3) := dk_180 0 48 (dk_at dksX19_day_6 15 rfl rfl)
theorem dX19_day_154 : decode cX19_day 154 = .ok (.iload_n 2, 1) := dk_28 (dk_at dksX19_day_6 18 rfl rfl)
theorem dX19_day_155 : decode cX19_day 155 = .ok (.iaload, 1) := dk_46 (dk_at dksX19_day_6 19 rfl rfl)
theorem dX19_day_156 : decode cX19_day 156 = .ok (.bipush (-2), 2) := dk_16 254 (dk_at dksX19_day_6 20 rfl rfl)
theorem dX19_day_158 : decode cX19_day 158 = .ok (.iastore, 1) := dk_79 (dk_at dksX19_day_6 22 rfl rfl)
theorem dX19_day_159 : decode cX19_day 159 = .ok (.aload_n 0, 1) := dk_42 (dk_at dksX19_day_6 23 rfl rfl)
theorem dX19_day_160 : decode cX19_day 160 = .ok (.iload_n 2, 1) := dk_28 (dk_at dksX19_day_7 0 rfl rfl)
theorem dX19_day_161 : decode cX19_day 161 = .ok (.iload_n 1, 1) := dk_27 (dk_at dksX19_day_7 1 rfl rfl)
theorem dX19_day_162 : decode cX19_day 162 = .ok (.invokevirtual 393, 3) := dk_182 1 137 (dk_at dksX19_day_7 2 rfl rfl)
theorem dX19_day_165 : decode cX19_day 165 = .ok (.iinc 2 1, 3) := dk_132 2 1 (dk_at dksX19_day_7 5 rfl rfl)
theorem dX19_day_168 : decode cX19_day 168 = .ok (.goto (-96), 3) := dk_167 255 160 (dk_at dksX19_day_7 8 rfl rfl)
theorem dX19_day_171 : decode cX19_day 171 = .ok (.iconst 0, 1) := dk_3 (dk_at dksX19_day_7 11 rfl rfl)
theorem dX19_day_172 : decode cX19_day 172 = .ok (.istore_n 2, 1) := dk_61 (dk_at dksX19_day_7 12 rfl rfl)
theorem dX19_day_173 : decode cX19_day 173 = .ok (.iload_n 2, 1) := dk_28 (dk_at dksX19_day_7 13 rfl rfl)
theorem dX19_day_174 : decode cX19_day 174 = .ok (.aload_n 0, 1) := dk_42 (dk_at dksX19_day_7 14 rfl rfl)
theorem dX19_day_175 : decode cX19_day 175 = .ok (.getfield 363, 3) := dk_180 1 107 (dk_at dksX19_day_7 15 rfl rfl)
theorem dX19_day_178 : decode cX19_day 178 = .ok (.getfield 322, 3) := dk_180 1 66 (dk_at dksX19_day_7 18 rfl rfl)
theorem dX19_day_181 : decode cX19_day 181 = .ok (.if_icmp .ge 44, 3) := dk_162 0 44 (dk_at dksX19_day_7 21 rfl rfl)
theorem dX19_day_184 : decode cX19_day 184 = .ok (.aload_n 0, 1) := dk_42 (dk_at dksX19_day_8 0 rfl rfl)
theorem dX19_day_185 : decode cX19_day 185 = .ok (.getfield 363, 3) := dk_180 1 107 (dk_at dksX19_day_8 1 rfl rfl)
theorem dX19_day_188 : decode cX19_day 188 = .ok (.getfield 327, 3) := dk_180 1 71 (dk_at dksX19_day_8 4 rfl rfl)
theorem dX19_day_191 : decode cX19_day 191 = .ok (.iload_n 2, 1) := dk_28 (dk_at dksX19_day_8 7 rfl rfl)
theorem dX19_day_192 : decode cX19_day 192 = .ok (.iaload, 1) := dk_46 (dk_at dksX19_day_8 8 rfl rfl)
theorem dX19_day_193 : decode cX19_day 193 = .ok (.iload_n 1, 1) := dk_27 (dk_at dksX19_day_8 9 rfl rfl)
theorem dX19_day_194 : decode cX19_day 194 = .ok (.if_icmp .ne 25, 3) := dk_160 0 25 (dk_at dksX19_day_8 10 rfl rfl)
theorem dX19_day_197 : decode cX19_day 197 = .ok (.aload_n 0, 1) := dk_42 (dk_at dksX19_day_8 13 rfl rfl)
theorem dX19_day_198 : decode cX19_day 198 = .ok (.aload_n 0, 1) := dk_42 (dk_at dksX19_day_8 14 rfl rfl)
theorem dX19_day_199 : decode cX19_day 199 = .ok (.getfield 363, 3) := dk_180 1 107 (dk_at dksX19_day_8 15 rfl rfl)
theorem dX19_day_202 : decode cX19_day 202 = .ok (.getfield 330, 3) := dk_180 1 74 (dk_at dksX19_day_8 18 rfl rfl)
theorem dX19_day_205 : decode cX19_day 205 = .ok (.iload_n 2, 1) := dk_28 (dk_at dksX19_day_8 21 rfl rfl)
theorem dX19_day_206 : decode cX19_day 206 = .ok (.iaload, 1) := dk_46 (dk_at dksX19_day_8 22 rfl rfl)
theorem dX19_day_207 : decode cX19_day 207 = .ok (.aload_n 0, 1) := dk_42 (dk_at dksX19_day_8 23 rfl rfl)
theorem dX19_day_208 : decode cX19_day 208 = .ok (.getfield 363, 3) := dk_180 1 107 (dk_at dksX19_day_9 0 rfl rfl)
theorem dX19_day_211 : decode cX19_day 211 = .ok (.getfield 333, 3) := dk_180 1 77 (dk_at dksX19_day_9 3 rfl rfl)
theorem dX19_day_214 : decode cX19_day 214 = .ok (.iload_n 2, 1) := dk_28 (dk_at dksX19_day_9 6 rfl rfl)
theorem dX19_day_215 : decode cX19_day 215 = .ok (.iaload, 1) := dk_46 (dk_at dksX19_day_9 7 rfl rfl)
theorem dX19_day_216 : decode cX19_day 216 = .ok (.invokevirtual 401, 3) := dk_182 1 145 (dk_at dksX19_day_9 8 rfl rfl)
theorem dX19_day_219 : decode cX19_day 219 = .ok (.iinc 2 1, 3) := dk_132 2 1 (dk_at dksX19_day_9 11 rfl rfl)
theorem dX19_day_222 : decode cX19_day 222 = .ok (.goto (-49), 3) := dk_167 255 207 (dk_at dksX19_day_9 14 rfl rfl)
theorem dX19_day_225 : decode cX19_day 225 = .ok (.iconst 0, 1) := dk_3 (dk_at dksX19_day_9 17 rfl rfl)
theorem dX19_day_226 : decode cX19_day 226 = .ok (.istore_n 2, 1) := dk_61 (dk_at dksX19_day_9 18 rfl rfl)
theorem dX19_day_227 : decode cX19_day 227 = .ok (.iload_n 2, 1) := dk_28 (dk_at dksX19_day_9 19 rfl rfl)
theorem dX19_day_228 : decode cX19_day 228 = .ok (.aload_n 0, 1) := dk_42 (dk_at dksX19_day_9 20 rfl rfl)
theorem dX19_day_229 : decode cX19_day 229 = .ok (.getfield 21, 3) := dk_180 0 21 (dk_at dksX19_day_9 21 rfl rfl)
theorem dX19_day_232 : decode cX19_day 232 = .ok (.bipush 21, 2) := dk_16 21 (dk_at dksX19_day_10 0 rfl rfl)
theorem dX19_day_234 : decode cX19_day 234 = .ok (.iaload, 1) := dk_46 (dk_at dksX19_day_10 2 rfl rfl)
theorem dX19_day_235 : decode cX19_day 235 = .ok (.if_icmp .ge 54, 3) := dk_162 0 54 (dk_at dksX19_day_10 3 rfl rfl)
theorem dX19_day_238 : decode cX19_day 238 = .ok (.aload_n 0, 1) := dk_42 (dk_at dksX19_day_10 6 rfl rfl)
theorem dX19_day_239 : decode cX19_day 239 = .ok (.getfield 21, 3) := dk_180 0 21 (dk_at dksX19_day_10 7 rfl rfl)
theorem dX19_day_242 : decode cX19_day 242 = .ok (.bipush 22, 2) := dk_16 22 (dk_at dksX19_day_10 10 rfl rfl)
theorem dX19_day_244 : decode cX19_day 244 = .ok (.iconst 3, 1) := dk_6 (dk_at dksX19_day_10 12 rfl rfl)
theorem dX19_day_245 : decode cX19_day 245 = .ok (.iload_n 2, 1) := dk_28 (dk_at dksX19_day_10 13 rfl rfl)
theorem dX19_day_246 : decode cX19_day 246 = .ok (.imul, 1) := dk_104 (dk_at dksX19_day_10 14 rfl rfl)
theorem dX19_day_247 : decode cX19_day 247 = .ok (.iadd, 1) := dk_96 (dk_at dksX19_day_10 15 rfl rfl)
theorem dX19_day_248 : decode cX19_day 248 = .ok (.iaload, 1) := dk_46 (dk_at dksX19_day_10 16 rfl rfl)
theorem dX19_day_249 : decode cX19_day 249 = .ok (.iload_n 1, 1) := dk_27 (dk_at dksX19_day_10 17 rfl rfl)
theorem dX19_day_250 : decode cX19_day 250 = .ok (.if_icmp .ne 33, 3) := dk_160 0 33 (dk_at dksX19_day_10 18 rfl rfl)
theorem dX19_day_253 : decode cX19_day 253 = .ok (.aload_n 0, 1) := dk_42 (dk_at dksX19_day_10 21 rfl rfl)
theorem dX19_day_254 : decode cX19_day 254 = .ok (.aload_n 0, 1) := dk_42 (dk_at dksX19_day_10 22 rfl rfl)
theorem dX19_day_255 : decode cX19_day 255 = .ok (.getfield 21, 3) := dk_180 0 21 (dk_at dksX19_day_11 0 rfl rfl)
theorem dX19_day_258 : decode cX19_day 258 = .ok (.bipush 22, 2) := dk_16 22 (dk_at dksX19_day_11 3 rfl rfl)
theorem dX19_day_260 : decode cX19_day 260 = .ok (.iconst 3, 1) := dk_6 (dk_at dksX19_day_11 5 rfl rfl)
theorem dX19_day_261 : decode cX19_day 261 = .ok (.iload_n 2, 1) := dk_28 (dk_at dksX19_day_11 6 rfl rfl)
theorem dX19_day_262 : decode cX19_day 262 = .ok (.imul, 1) := dk_104 (dk_at dksX19_day_11 7 rfl rfl)
theorem dX19_day_263 : decode cX19_day 263 = .ok (.iadd, 1) := dk_96 (dk_at dksX19_day_11 8 rfl rfl)
theorem dX19_day_264 : decode cX19_day 264 = .ok (.iconst 1, 1) := dk_4 (dk_at dksX19_day_11 9 rfl rfl)
theorem dX19_day_265 : decode cX19_day 265 = .ok (.iadd, 1) := dk_96 (dk_at dksX19_day_11 10 rfl rfl)
theorem dX19_day_266 : decode cX19_day 266 = .ok (.iaload, 1) := dk_46 (dk_at dksX19_day_11 11 rfl rfl)
theorem dX19_day_267 : decode cX19_day 267 = .ok (.aload_n 0, 1) := dk_42 (dk_at dksX19_day_11 12 rfl rfl)
theorem dX19_day_268 : decode cX19_day 268 = .ok (.getfield 21, 3) := dk_180 0 21 (dk_at dksX19_day_11 13 rfl rfl)
theorem dX19_day_271 : decode cX19_day 271 = .ok (.bipush 22, 2) := dk_16 22 (dk_at dksX19_day_11 16 rfl rfl)
theorem dX19_day_273 : decode cX19_day 273 = .ok (.iconst 3, 1) := dk_6 (dk_at dksX19_day_11 18 rfl rfl)
theorem dX19_day_274 : decode cX19_day 274 = .ok (.iload_n 2, 1) := dk_28 (dk_at dksX19_day_11 19 rfl rfl)
theorem dX19_day_275 : decode cX19_day 275 = .ok (.imul, 1) := dk_104 (dk_at dksX19_day_11 20 rfl rfl)
theorem dX19_day_276 : decode cX19_day 276 = .ok (.iadd, 1) := dk_96 (dk_at dksX19_day_11 21 rfl rfl)
theorem dX19_day_277 : decode cX19_day 277 = .ok (.iconst 2, 1) := dk_5 (dk_at dksX19_day_11 22 rfl rfl)
theorem dX19_day_278 : decode cX19_day 278 = .ok (.iadd, 1) := dk_96 (dk_at dksX19_day_11 23 rfl rfl)
theorem dX19_day_279 : decode cX19_day 279 = .ok (.iaload, 1) := dk_46 (dk_at dksX19_day_12 0 rfl rfl)
theorem dX19_day_280 : decode cX19_day 280 = .ok (.invokevirtual 401, 3) := dk_182 1 145 (dk_at dksX19_day_12 1 rfl rfl)
theorem dX19_day_283 : decode cX19_day 283 = .ok (.iinc 2 1, 3) := dk_132 2 1 (dk_at dksX19_day_12 4 rfl rfl)
theorem dX19_day_286 : decode cX19_day 286 = .ok (.goto (-59), 3) := dk_167 255 197 (dk_at dksX19_day_12 7 rfl rfl)
theorem dX19_day_289 : decode cX19_day 289 = .ok (.aload_n 0, 1) := dk_42 (dk_at dksX19_day_12 10 rfl rfl)
theorem dX19_day_290 : decode cX19_day 290 = .ok (.getfield 377, 3) := dk_180 1 121 (dk_at dksX19_day_12 11 rfl rfl)
theorem dX19_day_293 : decode cX19_day 293 = .ok (.iload_n 1, 1) := dk_27 (dk_at dksX19_day_12 14 rfl rfl)
theorem dX19_day_294 : decode cX19_day 294 = .ok (.if_icmp .ne 15, 3) := dk_160 0 15 (dk_at dksX19_day_12 15 rfl rfl)
theorem dX19_day_297 : decode cX19_day 297 = .ok (.aload_n 0, 1) := dk_42 (dk_at dksX19_day_12 18 rfl rfl)
theorem dX19_day_298 : decode cX19_day 298 = .ok (.aload_n 0, 1) := dk_42 (dk_at dksX19_day_12 19 rfl rfl)
theorem dX19_day_299 : decode cX19_day 299 = .ok (.getfield 404, 3) := dk_180 1 148 (dk_at dksX19_day_12 20 rfl rfl)
theorem dX19_day_302 : decode cX19_day 302 = .ok (.aload_n 0, 1) := dk_42 (dk_at dksX19_day_12 23 rfl rfl)
theorem dX19_day_303 : decode cX19_day 303 = .ok (.getfield 407, 3) := dk_180 1 151 (dk_at dksX19_day_13 0 rfl rfl)
theorem dX19_day_306 : decode cX19_day 306 = .ok (.invokevirtual 401, 3) := dk_182 1 145 (dk_at dksX19_day_13 3 rfl rfl)
theorem dX19_day_309 : decode cX19_day 309 = .ok (.iconst 0, 1) := dk_3 (dk_at dksX19_day_13 6 rfl rfl)
theorem dX19_day_310 : decode cX19_day 310 = .ok (.istore_n 2, 1) := dk_61 (dk_at dksX19_day_13 7 rfl rfl)
theorem dX19_day_311 : decode cX19_day 311 = .ok (.iload_n 2, 1) := dk_28 (dk_at dksX19_day_13 8 rfl rfl)
theorem dX19_day_312 : decode cX19_day 312 = .ok (.aload_n 0, 1) := dk_42 (dk_at dksX19_day_13 9 rfl rfl)
theorem dX19_day_313 : decode cX19_day 313 = .ok (.getfield 363, 3) := dk_180 1 107 (dk_at dksX19_day_13 10 rfl rfl)
theorem dX19_day_316 : decode cX19_day 316 = .ok (.getfield 219, 3) := dk_180 0 219 (dk_at dksX19_day_13 13 rfl rfl)
theorem dX19_day_319 : decode cX19_day 319 = .ok (.if_icmp .ge 40, 3) := dk_162 0 40 (dk_at dksX19_day_13 16 rfl rfl)
theorem dX19_day_322 : decode cX19_day 322 = .ok (.aload_n 0, 1) := dk_42 (dk_at dksX19_day_13 19 rfl rfl)
theorem dX19_day_323 : decode cX19_day 323 = .ok (.getfield 63, 3) := dk_180 0 63 (dk_at dksX19_day_13 20 rfl rfl)
theorem dX19_day_326 : decode cX19_day 326 = .ok (.bipush 7, 2) := dk_16 7 (dk_at dksX19_day_14 0 rfl rfl)
theorem dX19_day_328 : decode cX19_day 328 = .ok (.iload_n 1, 1) := dk_27 (dk_at dksX19_day_14 2 rfl rfl)
theorem dX19_day_329 : decode cX19_day 329 = .ok (.imul, 1) := dk_104 (dk_at dksX19_day_14 3 rfl rfl)
theorem dX19_day_330 : decode cX19_day 330 = .ok (.iload_n 2, 1) := dk_28 (dk_at dksX19_day_14 4 rfl rfl)
theorem dX19_day_331 : decode cX19_day 331 = .ok (.iadd, 1) := dk_96 (dk_at dksX19_day_14 5 rfl rfl)
theorem dX19_day_332 : decode cX19_day 332 = .ok (.bipush (-2), 2) := dk_16 254 (dk_at dksX19_day_14 6 rfl rfl)
theorem dX19_day_334 : decode cX19_day 334 = .ok (.iastore, 1) := dk_79 (dk_at dksX19_day_14 8 rfl rfl)
theorem dX19_day_335 : decode cX19_day 335 = .ok (.aload_n 0, 1) := dk_42 (dk_at dksX19_day_14 9 rfl rfl)
theorem dX19_day_336 : decode cX19_day 336 = .ok (.getfield 363, 3) := dk_180 1 107 (dk_at dksX19_day_14 10 rfl rfl)
theorem dX19_day_339 : decode cX19_day 339 = .ok (.iload_n 2, 1) := dk_28 (dk_at dksX19_day_14 13 rfl rfl)
theorem dX19_day_340 : decode cX19_day 340 = .ok (.iload_n 1, 1) := dk_27 (dk_at dksX19_day_14 14 rfl rfl)
theorem dX19_day_341 : decode cX19_day 341 = .ok (.invokevirtual 398, 3) := dk_182 1 142 (dk_at dksX19_day_14 15 rfl rfl)
theorem dX19_day_344 : decode cX19_day 344 = .ok (.ifCond .eq 9, 3) := dk_153 0 9 (dk_at dksX19_day_14 18 rfl rfl)
theorem dX19_day_347 : decode cX19_day 347 = .ok (.aload_n 0, 1) := dk_42 (dk_at dksX19_day_14 21 rfl rfl)
theorem dX19_day_348 : decode cX19_day 348 = .ok (.iload_n 2, 1) := dk_28 (dk_at dksX19_day_14 22 rfl rfl)
theorem dX19_day_349 : decode cX19_day 349 = .ok (.iload_n 1, 1) := dk_27 (dk_at dksX19_day_14 23 rfl rfl)
theorem dX19_day_350 : decode cX19_day 350 = .ok (.invokevirtual 410, 3) := dk_182 1 154 (dk_at dksX19_day_15 0 rfl rfl)
theorem dX19_day_353 : decode cX19_day 353 = .ok (.iinc 2 1, 3) := dk_132 2 1 (dk_at dksX19_day_15 3 rfl rfl)
theorem dX19_day_356 : decode cX19_day 356 = .ok (.goto (-45), 3) := dk_167 255 211 (dk_at dksX19_day_15 6 rfl rfl)
theorem dX19_day_359 : decode cX19_day 359 = .ok (.iconst 0, 1) := dk_3 (dk_at dksX19_day_15 9 rfl rfl)
theorem dX19_day_360 : decode cX19_day 360 = .ok (.istore_n 2, 1) := dk_61 (dk_at dksX19_day_15 10 rfl rfl)
theorem dX19_day_361 : decode cX19_day 361 = .ok (.iload_n 2, 1) := dk_28 (dk_at dksX19_day_15 11 rfl rfl)
theorem dX19_day_362 : decode cX19_day 362 = .ok (.bipush 8, 2) := dk_16 8 (dk_at dksX19_day_15 12 rfl rfl)
theorem dX19_day_364 : decode cX19_day 364 = .ok (.if_icmp .ge 26, 3) := dk_162 0 26 (dk_at dksX19_day_15 14 rfl rfl)
theorem dX19_day_367 : decode cX19_day 367 = .ok (.aload_n 0, 1) := dk_42 (dk_at dksX19_day_15 17 rfl rfl)
theorem dX19_day_368 : decode cX19_day 368 = .ok (.getfield 57, 3) := dk_180 0 57 (dk_at dksX19_day_15 18 rfl rfl)
theorem dX19_day_371 : decode cX19_day 371 = .ok (.bipush 8, 2) := dk_16 8 (dk_at dksX19_day_15 21 rfl rfl)
theorem dX19_day_373 : decode cX19_day 373 = .ok (.iload_n 1, 1) := dk_27 (dk_at dksX19_day_15 23 rfl rfl)
theorem dX19_day_374 : decode cX19_day 374 = .ok (.imul, 1) := dk_104 (dk_at dksX19_day_16 0 rfl rfl)
theorem dX19_day_375 : decode cX19_day 375 = .ok (.iload_n 2, 1) := dk_28 (dk_at dksX19_day_16 1 rfl rfl)
theorem dX19_day_376 : decode cX19_day 376 = .ok (.iadd, 1) := dk_96 (dk_at dksX19_day_16 2 rfl rfl)
theorem dX19_day_377 : decode cX19_day 377 = .ok (.aload_n 0, 1) := dk_42 (dk_at dksX19_day_16 3 rfl rfl)
theorem dX19_day_378 : decode cX19_day 378 = .ok (.getfield 54, 3) := dk_180 0 54 (dk_at dksX19_day_16 4 rfl rfl)
theorem dX19_day_381 : decode cX19_day 381 = .ok (.iload_n 2, 1) := dk_28 (dk_at dksX19_day_16 7 rfl rfl)
theorem dX19_day_382 : decode cX19_day 382 = .ok (.iaload, 1) := dk_46 (dk_at dksX19_day_16 8 rfl rfl)
theorem dX19_day_383 : decode cX19_day 383 = .ok (.iastore, 1) := dk_79 (dk_at dksX19_day_16 9 rfl rfl)
theorem dX19_day_384 : decode cX19_day 384 = .ok (.iinc 2 1, 3) := dk_132 2 1 (dk_at dksX19_day_16 10 rfl rfl)
theorem dX19_day_387 : decode cX19_day 387 = .ok (.goto (-26), 3) := dk_167 255 230 (dk_at dksX19_day_16 13 rfl rfl)
theorem dX19_day_390 : decode cX19_day 390 = .ok (.iconst 0, 1) := dk_3 (dk_at dksX19_day_16 16 rfl rfl)
theorem dX19_day_391 : decode cX19_day 391 = .ok (.istore_n 2, 1) := dk_61 (dk_at dksX19_day_16 17 rfl rfl)
theorem dX19_day_392 : decode cX19_day 392 = .ok (.iload_n 2, 1) := dk_28 (dk_at dksX19_day_16 18 rfl rfl)
theorem dX19_day_393 : decode cX19_day 393 = .ok (.bipush 7, 2) := dk_16 7 (dk_at dksX19_day_16 19 rfl rfl)
theorem dX19_day_395 : decode cX19_day 395 = .ok (.if_icmp .ge 26, 3) := dk_162 0 26 (dk_at dksX19_day_16 21 rfl rfl)
theorem dX19_day_398 : decode cX19_day 398 = .ok (.aload_n 0, 1) := dk_42 (dk_at dksX19_day_17 0 rfl rfl)
theorem dX19_day_399 : decode cX19_day 399 = .ok (.getfield 60, 3) := dk_180 0 60 (dk_at dksX19_day_17 1 rfl rfl)
theorem dX19_day_402 : decode cX19_day 402 = .ok (.bipush 7, 2) := dk_16 7 (dk_at dksX19_day_17 4 rfl rfl)
theorem dX19_day_404 : decode cX19_day 404 = .ok (.iload_n 1, 1) := dk_27 (dk_at dksX19_day_17 6 rfl rfl)
theorem dX19_day_405 : decode cX19_day 405 = .ok (.imul, 1) := dk_104 (dk_at dksX19_day_17 7 rfl rfl)
theorem dX19_day_406 : decode cX19_day 406 = .ok (.iload_n 2, 1) := dk_28 (dk_at dksX19_day_17 8 rfl rfl)
theorem dX19_day_407 : decode cX19_day 407 = .ok (.iadd, 1) := dk_96 (dk_at dksX19_day_17 9 rfl rfl)
theorem dX19_day_408 : decode cX19_day 408 = .ok (.aload_n 0, 1) := dk_42 (dk_at dksX19_day_17 10 rfl rfl)
theorem dX19_day_409 : decode cX19_day 409 = .ok (.getfield 48, 3) := dk_180 0 48 (dk_at dksX19_day_17 11 rfl rfl)
theorem dX19_day_412 : decode cX19_day 412 = .ok (.iload_n 2, 1) := dk_28 (dk_at dksX19_day_17 14 rfl rfl)
theorem dX19_day_413 : decode cX19_day 413 = .ok (.iaload, 1) := dk_46 (dk_at dksX19_day_17 15 rfl rfl)
theorem dX19_day_414 : decode cX19_day 414 = .ok (.iastore, 1) := dk_79 (dk_at dksX19_day_17 16 rfl rfl)
theorem dX19_day_415 : decode cX19_day 415 = .ok (.iinc 2 1, 3) := dk_132 2 1 (dk_at dksX19_day_17 17 rfl rfl)
theorem dX19_day_418 : decode cX19_day 418 = .ok (.goto (-26), 3) := dk_167 255 230 (dk_at dksX19_day_17 20 rfl rfl)
theorem dX19_day_421 : decode cX19_day 421 = .ok (.iconst 0, 1) := dk_3 (dk_at dksX19_day_17 23 rfl rfl)
theorem dX19_day_422 : decode cX19_day 422 = .ok (.istore_n 2, 1) := dk_61 (dk_at dksX19_day_18 0 rfl rfl)
theorem dX19_day_423 : decode cX19_day 423 = .ok (.iload_n 2, 1) := dk_28 (dk_at dksX19_day_18 1 rfl rfl)
theorem dX19_day_424 : decode cX19_day 424 = .ok (.aload_n 0, 1) := dk_42 (dk_at dksX19_day_18 2 rfl rfl)
theorem dX19_day_425 : decode cX19_day 425 = .ok (.getfield 363, 3) := dk_180 1 107 (dk_at dksX19_day_18 3 rfl rfl)
theorem dX19_day_428 : decode cX19_day 428 = .ok (.getfield 219, 3) := dk_180 0 219 (dk_at dksX19_day_18 6 rfl rfl)
theorem dX19_day_431 : decode cX19_day 431 = .ok (.if_icmp .ge 68, 3) := dk_162 0 68 (dk_at dksX19_day_18 9 rfl rfl)
theorem dX19_day_434 : decode cX19_day 434 = .ok (.aload_n 0, 1) := dk_42 (dk_at dksX19_day_18 12 rfl rfl)
theorem dX19_day_435 : decode cX19_day 435 = .ok (.getfield 363, 3) := dk_180 1 107 (dk_at dksX19_day_18 13 rfl rfl)
theorem dX19_day_438 : decode cX19_day 438 = .ok (.iload_n 2, 1) := dk_28 (dk_at dksX19_day_18 16 rfl rfl)
theorem dX19_day_439 : decode cX19_day 439 = .ok (.iload_n 1, 1) := dk_27 (dk_at dksX19_day_18 17 rfl rfl)
theorem dX19_day_440 : decode cX19_day 440 = .ok (.invokevirtual 413, 3) := dk_182 1 157 (dk_at dksX19_day_18 18 rfl rfl)
theorem dX19_day_443 : decode cX19_day 443 = .ok (.ifCond .eq 50, 3) := dk_153 0 50 (dk_at dksX19_day_18 21 rfl rfl)
theorem dX19_day_446 : decode cX19_day 446 = .ok (.aload_n 0, 1) := dk_42 (dk_at dksX19_day_19 0 rfl rfl)
theorem dX19_day_447 : decode cX19_day 447 = .ok (.getfield 363, 3) := dk_180 1 107 (dk_at dksX19_day_19 1 rfl rfl)
theorem dX19_day_450 : decode cX19_day 450 = .ok (.getfield 306, 3) := dk_180 1 50 (dk_at dksX19_day_19 4 rfl rfl)
theorem dX19_day_453 : decode cX19_day 453 = .ok (.iload_n 2, 1) := dk_28 (dk_at dksX19_day_19 7 rfl rfl)
theorem dX19_day_454 : decode cX19_day 454 = .ok (.baload, 1) := dk_51 (dk_at dksX19_day_19 8 rfl rfl)
theorem dX19_day_455 : decode cX19_day 455 = .ok (.ifCond .ne 6, 3) := dk_154 0 6 (dk_at dksX19_day_19 9 rfl rfl)
theorem dX19_day_458 : decode cX19_day 458 = .ok (.goto 35, 3) := dk_167 0 35 (dk_at dksX19_day_19 12 rfl rfl)
theorem dX19_day_461 : decode cX19_day 461 = .ok (.aload_n 0, 1) := dk_42 (dk_at dksX19_day_19 15 rfl rfl)
theorem dX19_day_462 : decode cX19_day 462 = .ok (.getfield 48, 3) := dk_180 0 48 (dk_at dksX19_day_19 16 rfl rfl)
theorem dX19_day_465 : decode cX19_day 465 = .ok (.iload_n 2, 1) := dk_28 (dk_at dksX19_day_19 19 rfl rfl)
theorem dX19_day_466 : decode cX19_day 466 = .ok (.iaload, 1) := dk_46 (dk_at dksX19_day_19 20 rfl rfl)
theorem dX19_day_467 : decode cX19_day 467 = .ok (.bipush 8, 2) := dk_16 8 (dk_at dksX19_day_19 21 rfl rfl)
theorem dX19_day_469 : decode cX19_day 469 = .ok (.if_icmp .ge 16, 3) := dk_162 0 16 (dk_at dksX19_day_20 0 rfl rfl)
theorem dX19_day_472 : decode cX19_day 472 = .ok (.aload_n 0, 1) := dk_42 (dk_at dksX19_day_20 3 rfl rfl)
theorem dX19_day_473 : decode cX19_day 473 = .ok (.getfield 54, 3) := dk_180 0 54 (dk_at dksX19_day_20 4 rfl rfl)
theorem dX19_day_476 : decode cX19_day 476 = .ok (.aload_n 0, 1) := dk_42 (dk_at dksX19_day_20 7 rfl rfl)
theorem dX19_day_477 : decode cX19_day 477 = .ok (.getfield 48, 3) := dk_180 0 48 (dk_at dksX19_day_20 8 rfl rfl)
theorem dX19_day_480 : decode cX19_day 480 = .ok (.iload_n 2, 1) := dk_28 (dk_at dksX19_day_20 11 rfl rfl)
theorem dX19_day_481 : decode cX19_day 481 = .ok (.iaload, 1) := dk_46 (dk_at dksX19_day_20 12 rfl rfl)
theorem dX19_day_482 : decode cX19_day 482 = .ok (.bipush (-2), 2) := dk_16 254 (dk_at dksX19_day_20 13 rfl rfl)
theorem dX19_day_484 : decode cX19_day 484 = .ok (.iastore, 1) := dk_79 (dk_at dksX19_day_20 15 rfl rfl)
theorem dX19_day_485 : decode cX19_day 485 = .ok (.aload_n 0, 1) := dk_42 (dk_at dksX19_day_20 16 rfl rfl)
theorem dX19_day_486 : decode cX19_day 486 = .ok (.getfield 48, 3) := dk_180 0 48 (dk_at dksX19_day_20 17 rfl rfl)
theorem dX19_day_489 : decode cX19_day 489 = .ok (.iload_n 2, 1) := dk_28 (dk_at dksX19_day_20 20 rfl rfl)
theorem dX19_day_490 : decode cX19_day 490 = .ok (.bipush 9, 2) := dk_16 9 (dk_at dksX19_day_20 21 rfl rfl)
theorem dX19_day_492 : decode cX19_day 492 = .ok (.iastore, 1) := dk_79 (dk_at dksX19_day_20 23 rfl rfl)
theorem dX19_day_493 : decode cX19_day 493 = .ok (.iinc 2 1, 3) := dk_132 2 1 (dk_at dksX19_day_21 0 rfl rfl)
theorem dX19_day_496 : decode cX19_day 496 = .ok (.goto (-73), 3) := dk_167 255 183 (dk_at dksX19_day_21 3 rfl rfl)
theorem dX19_day_499 : decode cX19_day 499 = .ok (.return_, 1) := dk_177 (dk_at dksX19_day_21 6 rfl rfl)
abbrev cX19_buys : ByteArray := prog_24_method_45_code
def yX19_buys : MethodName := ⟨RX19, "buys", "(II)V"⟩
def dkwX19_buys_2 : List UInt8 := [79, 42, 180, 0, 42, 29, 3, 79, 42, 180, 0, 45, 27, 29, 79, 42, 27, 182, 1, 139, 177]
abbrev dktX19_buys_2 : List UInt8 := dkwX19_buys_2 ++ []
def dkwX19_buys_1 : List UInt8 := [180, 0, 33, 29, 42, 27, 182, 1, 166, 79, 42, 180, 0, 36, 29, 28, 79, 42, 180, 0, 39, 29, 16, 254]
abbrev dktX19_buys_1 : List UInt8 := dkwX19_buys_1 ++ dktX19_buys_2
def dkwX19_buys_0 : List UInt8 := [42, 180, 1, 127, 62, 42, 89, 180, 1, 127, 4, 96, 181, 1, 127, 42, 180, 0, 30, 29, 27, 79, 42]
abbrev dktX19_buys_0 : List UInt8 := dkwX19_buys_0 ++ dktX19_buys_1
theorem dksX19_buys_0 : cX19_buys.data.toList.drop 0 = dktX19_buys_0 := by decide +kernel
theorem dksX19_buys_1 : cX19_buys.data.toList.drop 23 = dktX19_buys_1 := dk_seg dksX19_buys_0 23 rfl rfl
theorem dksX19_buys_2 : cX19_buys.data.toList.drop 47 = dktX19_buys_2 := dk_seg dksX19_buys_1 24 rfl rfl
theorem dX19_buys_0 : decode cX19_buys 0 = .ok (.aload_n 0, 1) := dk_42 (dk_at dksX19_buys_0 0 rfl rfl)
theorem dX19_buys_1 : decode cX19_buys 1 = .ok (.getfield 383, 3) := dk_180 1 127 (dk_at dksX19_buys_0 1 rfl rfl)
theorem dX19_buys_4 : decode cX19_buys 4 = .ok (.istore_n 3, 1) := dk_62 (dk_at dksX19_buys_0 4 rfl rfl)
theorem dX19_buys_5 : decode cX19_buys 5 = .ok (.aload_n 0, 1) := dk_42 (dk_at dksX19_buys_0 5 rfl rfl)
theorem dX19_buys_6 : decode cX19_buys 6 = .ok (.dup, 1) := dk_89 (dk_at dksX19_buys_0 6 rfl rfl)
theorem dX19_buys_7 : decode cX19_buys 7 = .ok (.getfield 383, 3) := dk_180 1 127 (dk_at dksX19_buys_0 7 rfl rfl)
theorem dX19_buys_10 : decode cX19_buys 10 = .ok (.iconst 1, 1) := dk_4 (dk_at dksX19_buys_0 10 rfl rfl)
theorem dX19_buys_11 : decode cX19_buys 11 = .ok (.iadd, 1) := dk_96 (dk_at dksX19_buys_0 11 rfl rfl)
theorem dX19_buys_12 : decode cX19_buys 12 = .ok (.putfield 383, 3) := dk_181 1 127 (dk_at dksX19_buys_0 12 rfl rfl)
theorem dX19_buys_15 : decode cX19_buys 15 = .ok (.aload_n 0, 1) := dk_42 (dk_at dksX19_buys_0 15 rfl rfl)
theorem dX19_buys_16 : decode cX19_buys 16 = .ok (.getfield 30, 3) := dk_180 0 30 (dk_at dksX19_buys_0 16 rfl rfl)
theorem dX19_buys_19 : decode cX19_buys 19 = .ok (.iload_n 3, 1) := dk_29 (dk_at dksX19_buys_0 19 rfl rfl)
theorem dX19_buys_20 : decode cX19_buys 20 = .ok (.iload_n 1, 1) := dk_27 (dk_at dksX19_buys_0 20 rfl rfl)
theorem dX19_buys_21 : decode cX19_buys 21 = .ok (.iastore, 1) := dk_79 (dk_at dksX19_buys_0 21 rfl rfl)
theorem dX19_buys_22 : decode cX19_buys 22 = .ok (.aload_n 0, 1) := dk_42 (dk_at dksX19_buys_0 22 rfl rfl)
theorem dX19_buys_23 : decode cX19_buys 23 = .ok (.getfield 33, 3) := dk_180 0 33 (dk_at dksX19_buys_1 0 rfl rfl)
theorem dX19_buys_26 : decode cX19_buys 26 = .ok (.iload_n 3, 1) := dk_29 (dk_at dksX19_buys_1 3 rfl rfl)
theorem dX19_buys_27 : decode cX19_buys 27 = .ok (.aload_n 0, 1) := dk_42 (dk_at dksX19_buys_1 4 rfl rfl)
theorem dX19_buys_28 : decode cX19_buys 28 = .ok (.iload_n 1, 1) := dk_27 (dk_at dksX19_buys_1 5 rfl rfl)
theorem dX19_buys_29 : decode cX19_buys 29 = .ok (.invokevirtual 422, 3) := dk_182 1 166 (dk_at dksX19_buys_1 6 rfl rfl)
theorem dX19_buys_32 : decode cX19_buys 32 = .ok (.iastore, 1) := dk_79 (dk_at dksX19_buys_1 9 rfl rfl)
theorem dX19_buys_33 : decode cX19_buys 33 = .ok (.aload_n 0, 1) := dk_42 (dk_at dksX19_buys_1 10 rfl rfl)
theorem dX19_buys_34 : decode cX19_buys 34 = .ok (.getfield 36, 3) := dk_180 0 36 (dk_at dksX19_buys_1 11 rfl rfl)
theorem dX19_buys_37 : decode cX19_buys 37 = .ok (.iload_n 3, 1) := dk_29 (dk_at dksX19_buys_1 14 rfl rfl)
theorem dX19_buys_38 : decode cX19_buys 38 = .ok (.iload_n 2, 1) := dk_28 (dk_at dksX19_buys_1 15 rfl rfl)
theorem dX19_buys_39 : decode cX19_buys 39 = .ok (.iastore, 1) := dk_79 (dk_at dksX19_buys_1 16 rfl rfl)
theorem dX19_buys_40 : decode cX19_buys 40 = .ok (.aload_n 0, 1) := dk_42 (dk_at dksX19_buys_1 17 rfl rfl)
theorem dX19_buys_41 : decode cX19_buys 41 = .ok (.getfield 39, 3) := dk_180 0 39 (dk_at dksX19_buys_1 18 rfl rfl)
theorem dX19_buys_44 : decode cX19_buys 44 = .ok (.iload_n 3, 1) := dk_29 (dk_at dksX19_buys_1 21 rfl rfl)
theorem dX19_buys_45 : decode cX19_buys 45 = .ok (.bipush (-2), 2) := dk_16 254 (dk_at dksX19_buys_1 22 rfl rfl)
theorem dX19_buys_47 : decode cX19_buys 47 = .ok (.iastore, 1) := dk_79 (dk_at dksX19_buys_2 0 rfl rfl)
theorem dX19_buys_48 : decode cX19_buys 48 = .ok (.aload_n 0, 1) := dk_42 (dk_at dksX19_buys_2 1 rfl rfl)
theorem dX19_buys_49 : decode cX19_buys 49 = .ok (.getfield 42, 3) := dk_180 0 42 (dk_at dksX19_buys_2 2 rfl rfl)
theorem dX19_buys_52 : decode cX19_buys 52 = .ok (.iload_n 3, 1) := dk_29 (dk_at dksX19_buys_2 5 rfl rfl)
theorem dX19_buys_53 : decode cX19_buys 53 = .ok (.iconst 0, 1) := dk_3 (dk_at dksX19_buys_2 6 rfl rfl)
theorem dX19_buys_54 : decode cX19_buys 54 = .ok (.iastore, 1) := dk_79 (dk_at dksX19_buys_2 7 rfl rfl)
theorem dX19_buys_55 : decode cX19_buys 55 = .ok (.aload_n 0, 1) := dk_42 (dk_at dksX19_buys_2 8 rfl rfl)
theorem dX19_buys_56 : decode cX19_buys 56 = .ok (.getfield 45, 3) := dk_180 0 45 (dk_at dksX19_buys_2 9 rfl rfl)
theorem dX19_buys_59 : decode cX19_buys 59 = .ok (.iload_n 1, 1) := dk_27 (dk_at dksX19_buys_2 12 rfl rfl)
theorem dX19_buys_60 : decode cX19_buys 60 = .ok (.iload_n 3, 1) := dk_29 (dk_at dksX19_buys_2 13 rfl rfl)
theorem dX19_buys_61 : decode cX19_buys 61 = .ok (.iastore, 1) := dk_79 (dk_at dksX19_buys_2 14 rfl rfl)
theorem dX19_buys_62 : decode cX19_buys 62 = .ok (.aload_n 0, 1) := dk_42 (dk_at dksX19_buys_2 15 rfl rfl)
theorem dX19_buys_63 : decode cX19_buys 63 = .ok (.iload_n 1, 1) := dk_27 (dk_at dksX19_buys_2 16 rfl rfl)
theorem dX19_buys_64 : decode cX19_buys 64 = .ok (.invokevirtual 395, 3) := dk_182 1 139 (dk_at dksX19_buys_2 17 rfl rfl)
theorem dX19_buys_67 : decode cX19_buys 67 = .ok (.return_, 1) := dk_177 (dk_at dksX19_buys_2 20 rfl rfl)
abbrev cX19_chosen : ByteArray := prog_24_method_44_code
def yX19_chosen : MethodName := ⟨RX19, "chosen", "(I)I"⟩
def dkwX19_chosen_4 : List UInt8 := [162, 0, 6, 21, 4, 61, 132, 3, 1, 167, 255, 177, 28, 172]
abbrev dktX19_chosen_4 : List UInt8 := dkwX19_chosen_4 ++ []
def dkwX19_chosen_3 : List UInt8 := [21, 4, 172, 42, 27, 182, 1, 160, 5, 160, 0, 20, 42, 21, 4, 182, 1, 163, 42, 28, 182, 1, 163]
abbrev dktX19_chosen_3 : List UInt8 := dkwX19_chosen_3 ++ dktX19_chosen_4
def dkwX19_chosen_2 : List UInt8 := [104, 29, 96, 46, 54, 4, 42, 27, 182, 1, 160, 4, 160, 0, 15, 42, 21, 4, 182, 1, 163, 154, 0, 6]
abbrev dktX19_chosen_2 : List UInt8 := dkwX19_chosen_2 ++ dktX19_chosen_3
def dkwX19_chosen_1 : List UInt8 := [62, 29, 42, 180, 1, 107, 180, 1, 43, 27, 46, 162, 0, 72, 42, 180, 1, 107, 180, 1, 22, 16, 6, 27]
abbrev dktX19_chosen_1 : List UInt8 := dkwX19_chosen_1 ++ dktX19_chosen_2
def dkwX19_chosen_0 : List UInt8 := [42, 180, 1, 107, 180, 1, 22, 16, 6, 27, 104, 46, 61, 42, 27, 182, 1, 160, 154, 0, 5, 28, 172, 3]
abbrev dktX19_chosen_0 : List UInt8 := dkwX19_chosen_0 ++ dktX19_chosen_1
theorem dksX19_chosen_0 : cX19_chosen.data.toList.drop 0 = dktX19_chosen_0 := by decide +kernel
theorem dksX19_chosen_1 : cX19_chosen.data.toList.drop 24 = dktX19_chosen_1 := dk_seg dksX19_chosen_0 24 rfl rfl
theorem dksX19_chosen_2 : cX19_chosen.data.toList.drop 48 = dktX19_chosen_2 := dk_seg dksX19_chosen_1 24 rfl rfl
theorem dksX19_chosen_3 : cX19_chosen.data.toList.drop 72 = dktX19_chosen_3 := dk_seg dksX19_chosen_2 24 rfl rfl
theorem dksX19_chosen_4 : cX19_chosen.data.toList.drop 95 = dktX19_chosen_4 := dk_seg dksX19_chosen_3 23 rfl rfl
theorem dX19_chosen_0 : decode cX19_chosen 0 = .ok (.aload_n 0, 1) := dk_42 (dk_at dksX19_chosen_0 0 rfl rfl)
theorem dX19_chosen_1 : decode cX19_chosen 1 = .ok (.getfield 363, 3) := dk_180 1 107 (dk_at dksX19_chosen_0 1 rfl rfl)
theorem dX19_chosen_4 : decode cX19_chosen 4 = .ok (.getfield 278, 3) := dk_180 1 22 (dk_at dksX19_chosen_0 4 rfl rfl)
theorem dX19_chosen_7 : decode cX19_chosen 7 = .ok (.bipush 6, 2) := dk_16 6 (dk_at dksX19_chosen_0 7 rfl rfl)
theorem dX19_chosen_9 : decode cX19_chosen 9 = .ok (.iload_n 1, 1) := dk_27 (dk_at dksX19_chosen_0 9 rfl rfl)
theorem dX19_chosen_10 : decode cX19_chosen 10 = .ok (.imul, 1) := dk_104 (dk_at dksX19_chosen_0 10 rfl rfl)
theorem dX19_chosen_11 : decode cX19_chosen 11 = .ok (.iaload, 1) := dk_46 (dk_at dksX19_chosen_0 11 rfl rfl)
theorem dX19_chosen_12 : decode cX19_chosen 12 = .ok (.istore_n 2, 1) := dk_61 (dk_at dksX19_chosen_0 12 rfl rfl)
theorem dX19_chosen_13 : decode cX19_chosen 13 = .ok (.aload_n 0, 1) := dk_42 (dk_at dksX19_chosen_0 13 rfl rfl)
theorem dX19_chosen_14 : decode cX19_chosen 14 = .ok (.iload_n 1, 1) := dk_27 (dk_at dksX19_chosen_0 14 rfl rfl)
theorem dX19_chosen_15 : decode cX19_chosen 15 = .ok (.invokevirtual 416, 3) := dk_182 1 160 (dk_at dksX19_chosen_0 15 rfl rfl)
theorem dX19_chosen_18 : decode cX19_chosen 18 = .ok (.ifCond .ne 5, 3) := dk_154 0 5 (dk_at dksX19_chosen_0 18 rfl rfl)
theorem dX19_chosen_21 : decode cX19_chosen 21 = .ok (.iload_n 2, 1) := dk_28 (dk_at dksX19_chosen_0 21 rfl rfl)
theorem dX19_chosen_22 : decode cX19_chosen 22 = .ok (.ireturn, 1) := dk_172 (dk_at dksX19_chosen_0 22 rfl rfl)
theorem dX19_chosen_23 : decode cX19_chosen 23 = .ok (.iconst 0, 1) := dk_3 (dk_at dksX19_chosen_0 23 rfl rfl)
theorem dX19_chosen_24 : decode cX19_chosen 24 = .ok (.istore_n 3, 1) := dk_62 (dk_at dksX19_chosen_1 0 rfl rfl)
theorem dX19_chosen_25 : decode cX19_chosen 25 = .ok (.iload_n 3, 1) := dk_29 (dk_at dksX19_chosen_1 1 rfl rfl)
theorem dX19_chosen_26 : decode cX19_chosen 26 = .ok (.aload_n 0, 1) := dk_42 (dk_at dksX19_chosen_1 2 rfl rfl)
theorem dX19_chosen_27 : decode cX19_chosen 27 = .ok (.getfield 363, 3) := dk_180 1 107 (dk_at dksX19_chosen_1 3 rfl rfl)
theorem dX19_chosen_30 : decode cX19_chosen 30 = .ok (.getfield 299, 3) := dk_180 1 43 (dk_at dksX19_chosen_1 6 rfl rfl)
theorem dX19_chosen_33 : decode cX19_chosen 33 = .ok (.iload_n 1, 1) := dk_27 (dk_at dksX19_chosen_1 9 rfl rfl)
theorem dX19_chosen_34 : decode cX19_chosen 34 = .ok (.iaload, 1) := dk_46 (dk_at dksX19_chosen_1 10 rfl rfl)
theorem dX19_chosen_35 : decode cX19_chosen 35 = .ok (.if_icmp .ge 72, 3) := dk_162 0 72 (dk_at dksX19_chosen_1 11 rfl rfl)
theorem dX19_chosen_38 : decode cX19_chosen 38 = .ok (.aload_n 0, 1) := dk_42 (dk_at dksX19_chosen_1 14 rfl rfl)
theorem dX19_chosen_39 : decode cX19_chosen 39 = .ok (.getfield 363, 3) := dk_180 1 107 (dk_at dksX19_chosen_1 15 rfl rfl)
theorem dX19_chosen_42 : decode cX19_chosen 42 = .ok (.getfield 278, 3) := dk_180 1 22 (dk_at dksX19_chosen_1 18 rfl rfl)
theorem dX19_chosen_45 : decode cX19_chosen 45 = .ok (.bipush 6, 2) := dk_16 6 (dk_at dksX19_chosen_1 21 rfl rfl)
theorem dX19_chosen_47 : decode cX19_chosen 47 = .ok (.iload_n 1, 1) := dk_27 (dk_at dksX19_chosen_1 23 rfl rfl)
theorem dX19_chosen_48 : decode cX19_chosen 48 = .ok (.imul, 1) := dk_104 (dk_at dksX19_chosen_2 0 rfl rfl)
theorem dX19_chosen_49 : decode cX19_chosen 49 = .ok (.iload_n 3, 1) := dk_29 (dk_at dksX19_chosen_2 1 rfl rfl)
theorem dX19_chosen_50 : decode cX19_chosen 50 = .ok (.iadd, 1) := dk_96 (dk_at dksX19_chosen_2 2 rfl rfl)
theorem dX19_chosen_51 : decode cX19_chosen 51 = .ok (.iaload, 1) := dk_46 (dk_at dksX19_chosen_2 3 rfl rfl)
theorem dX19_chosen_52 : decode cX19_chosen 52 = .ok (.istore 4, 2) := dk_54 4 (dk_at dksX19_chosen_2 4 rfl rfl)
theorem dX19_chosen_54 : decode cX19_chosen 54 = .ok (.aload_n 0, 1) := dk_42 (dk_at dksX19_chosen_2 6 rfl rfl)
theorem dX19_chosen_55 : decode cX19_chosen 55 = .ok (.iload_n 1, 1) := dk_27 (dk_at dksX19_chosen_2 7 rfl rfl)
theorem dX19_chosen_56 : decode cX19_chosen 56 = .ok (.invokevirtual 416, 3) := dk_182 1 160 (dk_at dksX19_chosen_2 8 rfl rfl)
theorem dX19_chosen_59 : decode cX19_chosen 59 = .ok (.iconst 1, 1) := dk_4 (dk_at dksX19_chosen_2 11 rfl rfl)
theorem dX19_chosen_60 : decode cX19_chosen 60 = .ok (.if_icmp .ne 15, 3) := dk_160 0 15 (dk_at dksX19_chosen_2 12 rfl rfl)
theorem dX19_chosen_63 : decode cX19_chosen 63 = .ok (.aload_n 0, 1) := dk_42 (dk_at dksX19_chosen_2 15 rfl rfl)
theorem dX19_chosen_64 : decode cX19_chosen 64 = .ok (.iload 4, 2) := dk_21 4 (dk_at dksX19_chosen_2 16 rfl rfl)
theorem dX19_chosen_66 : decode cX19_chosen 66 = .ok (.invokevirtual 419, 3) := dk_182 1 163 (dk_at dksX19_chosen_2 18 rfl rfl)
theorem dX19_chosen_69 : decode cX19_chosen 69 = .ok (.ifCond .ne 6, 3) := dk_154 0 6 (dk_at dksX19_chosen_2 21 rfl rfl)
theorem dX19_chosen_72 : decode cX19_chosen 72 = .ok (.iload 4, 2) := dk_21 4 (dk_at dksX19_chosen_3 0 rfl rfl)
theorem dX19_chosen_74 : decode cX19_chosen 74 = .ok (.ireturn, 1) := dk_172 (dk_at dksX19_chosen_3 2 rfl rfl)
theorem dX19_chosen_75 : decode cX19_chosen 75 = .ok (.aload_n 0, 1) := dk_42 (dk_at dksX19_chosen_3 3 rfl rfl)
theorem dX19_chosen_76 : decode cX19_chosen 76 = .ok (.iload_n 1, 1) := dk_27 (dk_at dksX19_chosen_3 4 rfl rfl)
theorem dX19_chosen_77 : decode cX19_chosen 77 = .ok (.invokevirtual 416, 3) := dk_182 1 160 (dk_at dksX19_chosen_3 5 rfl rfl)
theorem dX19_chosen_80 : decode cX19_chosen 80 = .ok (.iconst 2, 1) := dk_5 (dk_at dksX19_chosen_3 8 rfl rfl)
theorem dX19_chosen_81 : decode cX19_chosen 81 = .ok (.if_icmp .ne 20, 3) := dk_160 0 20 (dk_at dksX19_chosen_3 9 rfl rfl)
theorem dX19_chosen_84 : decode cX19_chosen 84 = .ok (.aload_n 0, 1) := dk_42 (dk_at dksX19_chosen_3 12 rfl rfl)
theorem dX19_chosen_85 : decode cX19_chosen 85 = .ok (.iload 4, 2) := dk_21 4 (dk_at dksX19_chosen_3 13 rfl rfl)
theorem dX19_chosen_87 : decode cX19_chosen 87 = .ok (.invokevirtual 419, 3) := dk_182 1 163 (dk_at dksX19_chosen_3 15 rfl rfl)
theorem dX19_chosen_90 : decode cX19_chosen 90 = .ok (.aload_n 0, 1) := dk_42 (dk_at dksX19_chosen_3 18 rfl rfl)
theorem dX19_chosen_91 : decode cX19_chosen 91 = .ok (.iload_n 2, 1) := dk_28 (dk_at dksX19_chosen_3 19 rfl rfl)
theorem dX19_chosen_92 : decode cX19_chosen 92 = .ok (.invokevirtual 419, 3) := dk_182 1 163 (dk_at dksX19_chosen_3 20 rfl rfl)
theorem dX19_chosen_95 : decode cX19_chosen 95 = .ok (.if_icmp .ge 6, 3) := dk_162 0 6 (dk_at dksX19_chosen_4 0 rfl rfl)
theorem dX19_chosen_98 : decode cX19_chosen 98 = .ok (.iload 4, 2) := dk_21 4 (dk_at dksX19_chosen_4 3 rfl rfl)
theorem dX19_chosen_100 : decode cX19_chosen 100 = .ok (.istore_n 2, 1) := dk_61 (dk_at dksX19_chosen_4 5 rfl rfl)
theorem dX19_chosen_101 : decode cX19_chosen 101 = .ok (.iinc 3 1, 3) := dk_132 3 1 (dk_at dksX19_chosen_4 6 rfl rfl)
theorem dX19_chosen_104 : decode cX19_chosen 104 = .ok (.goto (-79), 3) := dk_167 255 177 (dk_at dksX19_chosen_4 9 rfl rfl)
theorem dX19_chosen_107 : decode cX19_chosen 107 = .ok (.iload_n 2, 1) := dk_28 (dk_at dksX19_chosen_4 12 rfl rfl)
theorem dX19_chosen_108 : decode cX19_chosen 108 = .ok (.ireturn, 1) := dk_172 (dk_at dksX19_chosen_4 13 rfl rfl)
abbrev cX19_habitOf : ByteArray := prog_24_method_39_code
def yX19_habitOf : MethodName := ⟨RX19, "habitOf", "(I)I"⟩
def dkwX19_habitOf_1 : List UInt8 := [172]
abbrev dktX19_habitOf_1 : List UInt8 := dkwX19_habitOf_1 ++ []
def dkwX19_habitOf_0 : List UInt8 := [42, 180, 1, 118, 2, 160, 0, 15, 42, 180, 0, 21, 16, 7, 27, 96, 46, 167, 0, 7, 42, 180, 1, 118]
abbrev dktX19_habitOf_0 : List UInt8 := dkwX19_habitOf_0 ++ dktX19_habitOf_1
theorem dksX19_habitOf_0 : cX19_habitOf.data.toList.drop 0 = dktX19_habitOf_0 := by decide +kernel
theorem dksX19_habitOf_1 : cX19_habitOf.data.toList.drop 24 = dktX19_habitOf_1 := dk_seg dksX19_habitOf_0 24 rfl rfl
theorem dX19_habitOf_0 : decode cX19_habitOf 0 = .ok (.aload_n 0, 1) := dk_42 (dk_at dksX19_habitOf_0 0 rfl rfl)
theorem dX19_habitOf_1 : decode cX19_habitOf 1 = .ok (.getfield 374, 3) := dk_180 1 118 (dk_at dksX19_habitOf_0 1 rfl rfl)
theorem dX19_habitOf_4 : decode cX19_habitOf 4 = .ok (.iconst (-1), 1) := dk_2 (dk_at dksX19_habitOf_0 4 rfl rfl)
theorem dX19_habitOf_5 : decode cX19_habitOf 5 = .ok (.if_icmp .ne 15, 3) := dk_160 0 15 (dk_at dksX19_habitOf_0 5 rfl rfl)
theorem dX19_habitOf_8 : decode cX19_habitOf 8 = .ok (.aload_n 0, 1) := dk_42 (dk_at dksX19_habitOf_0 8 rfl rfl)
theorem dX19_habitOf_9 : decode cX19_habitOf 9 = .ok (.getfield 21, 3) := dk_180 0 21 (dk_at dksX19_habitOf_0 9 rfl rfl)
theorem dX19_habitOf_12 : decode cX19_habitOf 12 = .ok (.bipush 7, 2) := dk_16 7 (dk_at dksX19_habitOf_0 12 rfl rfl)
theorem dX19_habitOf_14 : decode cX19_habitOf 14 = .ok (.iload_n 1, 1) := dk_27 (dk_at dksX19_habitOf_0 14 rfl rfl)
theorem dX19_habitOf_15 : decode cX19_habitOf 15 = .ok (.iadd, 1) := dk_96 (dk_at dksX19_habitOf_0 15 rfl rfl)
theorem dX19_habitOf_16 : decode cX19_habitOf 16 = .ok (.iaload, 1) := dk_46 (dk_at dksX19_habitOf_0 16 rfl rfl)
theorem dX19_habitOf_17 : decode cX19_habitOf 17 = .ok (.goto 7, 3) := dk_167 0 7 (dk_at dksX19_habitOf_0 17 rfl rfl)
theorem dX19_habitOf_20 : decode cX19_habitOf 20 = .ok (.aload_n 0, 1) := dk_42 (dk_at dksX19_habitOf_0 20 rfl rfl)
theorem dX19_habitOf_21 : decode cX19_habitOf 21 = .ok (.getfield 374, 3) := dk_180 1 118 (dk_at dksX19_habitOf_0 21 rfl rfl)
theorem dX19_habitOf_24 : decode cX19_habitOf 24 = .ok (.ireturn, 1) := dk_172 (dk_at dksX19_habitOf_1 0 rfl rfl)
abbrev cX19_inGlass : ByteArray := prog_24_method_43_code
def yX19_inGlass : MethodName := ⟨RX19, "inGlass", "(I)I"⟩
def dkwX19_inGlass_2 : List UInt8 := [61, 132, 3, 1, 167, 255, 208, 28, 172]
abbrev dktX19_inGlass_2 : List UInt8 := dkwX19_inGlass_2 ++ []
def dkwX19_inGlass_1 : List UInt8 := [159, 0, 22, 42, 180, 0, 33, 42, 180, 0, 54, 29, 46, 46, 27, 160, 0, 7, 4, 167, 0, 4, 3, 96]
abbrev dktX19_inGlass_1 : List UInt8 := dkwX19_inGlass_1 ++ dktX19_inGlass_2
def dkwX19_inGlass_0 : List UInt8 := [3, 61, 3, 62, 29, 42, 180, 1, 107, 180, 0, 251, 162, 0, 43, 28, 42, 180, 0, 54, 29, 46, 16, 254]
abbrev dktX19_inGlass_0 : List UInt8 := dkwX19_inGlass_0 ++ dktX19_inGlass_1
theorem dksX19_inGlass_0 : cX19_inGlass.data.toList.drop 0 = dktX19_inGlass_0 := by decide +kernel
theorem dksX19_inGlass_1 : cX19_inGlass.data.toList.drop 24 = dktX19_inGlass_1 := dk_seg dksX19_inGlass_0 24 rfl rfl
theorem dksX19_inGlass_2 : cX19_inGlass.data.toList.drop 48 = dktX19_inGlass_2 := dk_seg dksX19_inGlass_1 24 rfl rfl
theorem dX19_inGlass_0 : decode cX19_inGlass 0 = .ok (.iconst 0, 1) := dk_3 (dk_at dksX19_inGlass_0 0 rfl rfl)
theorem dX19_inGlass_1 : decode cX19_inGlass 1 = .ok (.istore_n 2, 1) := dk_61 (dk_at dksX19_inGlass_0 1 rfl rfl)
theorem dX19_inGlass_2 : decode cX19_inGlass 2 = .ok (.iconst 0, 1) := dk_3 (dk_at dksX19_inGlass_0 2 rfl rfl)
theorem dX19_inGlass_3 : decode cX19_inGlass 3 = .ok (.istore_n 3, 1) := dk_62 (dk_at dksX19_inGlass_0 3 rfl rfl)
theorem dX19_inGlass_4 : decode cX19_inGlass 4 = .ok (.iload_n 3, 1) := dk_29 (dk_at dksX19_inGlass_0 4 rfl rfl)
theorem dX19_inGlass_5 : decode cX19_inGlass 5 = .ok (.aload_n 0, 1) := dk_42 (dk_at dksX19_inGlass_0 5 rfl rfl)
theorem dX19_inGlass_6 : decode cX19_inGlass 6 = .ok (.getfield 363, 3) := dk_180 1 107 (dk_at dksX19_inGlass_0 6 rfl rfl)
theorem dX19_inGlass_9 : decode cX19_inGlass 9 = .ok (.getfield 251, 3) := dk_180 0 251 (dk_at dksX19_inGlass_0 9 rfl rfl)
theorem dX19_inGlass_12 : decode cX19_inGlass 12 = .ok (.if_icmp .ge 43, 3) := dk_162 0 43 (dk_at dksX19_inGlass_0 12 rfl rfl)
theorem dX19_inGlass_15 : decode cX19_inGlass 15 = .ok (.iload_n 2, 1) := dk_28 (dk_at dksX19_inGlass_0 15 rfl rfl)
theorem dX19_inGlass_16 : decode cX19_inGlass 16 = .ok (.aload_n 0, 1) := dk_42 (dk_at dksX19_inGlass_0 16 rfl rfl)
theorem dX19_inGlass_17 : decode cX19_inGlass 17 = .ok (.getfield 54, 3) := dk_180 0 54 (dk_at dksX19_inGlass_0 17 rfl rfl)
theorem dX19_inGlass_20 : decode cX19_inGlass 20 = .ok (.iload_n 3, 1) := dk_29 (dk_at dksX19_inGlass_0 20 rfl rfl)
theorem dX19_inGlass_21 : decode cX19_inGlass 21 = .ok (.iaload, 1) := dk_46 (dk_at dksX19_inGlass_0 21 rfl rfl)
theorem dX19_inGlass_22 : decode cX19_inGlass 22 = .ok (.bipush (-2), 2) := dk_16 254 (dk_at dksX19_inGlass_0 22 rfl rfl)
theorem dX19_inGlass_24 : decode cX19_inGlass 24 = .ok (.if_icmp .eq 22, 3) := dk_159 0 22 (dk_at dksX19_inGlass_1 0 rfl rfl)
theorem dX19_inGlass_27 : decode cX19_inGlass 27 = .ok (.aload_n 0, 1) := dk_42 (dk_at dksX19_inGlass_1 3 rfl rfl)
theorem dX19_inGlass_28 : decode cX19_inGlass 28 = .ok (.getfield 33, 3) := dk_180 0 33 (dk_at dksX19_inGlass_1 4 rfl rfl)
theorem dX19_inGlass_31 : decode cX19_inGlass 31 = .ok (.aload_n 0, 1) := dk_42 (dk_at dksX19_inGlass_1 7 rfl rfl)
theorem dX19_inGlass_32 : decode cX19_inGlass 32 = .ok (.getfield 54, 3) := dk_180 0 54 (dk_at dksX19_inGlass_1 8 rfl rfl)
theorem dX19_inGlass_35 : decode cX19_inGlass 35 = .ok (.iload_n 3, 1) := dk_29 (dk_at dksX19_inGlass_1 11 rfl rfl)
theorem dX19_inGlass_36 : decode cX19_inGlass 36 = .ok (.iaload, 1) := dk_46 (dk_at dksX19_inGlass_1 12 rfl rfl)
theorem dX19_inGlass_37 : decode cX19_inGlass 37 = .ok (.iaload, 1) := dk_46 (dk_at dksX19_inGlass_1 13 rfl rfl)
theorem dX19_inGlass_38 : decode cX19_inGlass 38 = .ok (.iload_n 1, 1) := dk_27 (dk_at dksX19_inGlass_1 14 rfl rfl)
theorem dX19_inGlass_39 : decode cX19_inGlass 39 = .ok (.if_icmp .ne 7, 3) := dk_160 0 7 (dk_at dksX19_inGlass_1 15 rfl rfl)
theorem dX19_inGlass_42 : decode cX19_inGlass 42 = .ok (.iconst 1, 1) := dk_4 (dk_at dksX19_inGlass_1 18 rfl rfl)
theorem dX19_inGlass_43 : decode cX19_inGlass 43 = .ok (.goto 4, 3) := dk_167 0 4 (dk_at dksX19_inGlass_1 19 rfl rfl)
theorem dX19_inGlass_46 : decode cX19_inGlass 46 = .ok (.iconst 0, 1) := dk_3 (dk_at dksX19_inGlass_1 22 rfl rfl)
theorem dX19_inGlass_47 : decode cX19_inGlass 47 = .ok (.iadd, 1) := dk_96 (dk_at dksX19_inGlass_1 23 rfl rfl)
theorem dX19_inGlass_48 : decode cX19_inGlass 48 = .ok (.istore_n 2, 1) := dk_61 (dk_at dksX19_inGlass_2 0 rfl rfl)
theorem dX19_inGlass_49 : decode cX19_inGlass 49 = .ok (.iinc 3 1, 3) := dk_132 3 1 (dk_at dksX19_inGlass_2 1 rfl rfl)
theorem dX19_inGlass_52 : decode cX19_inGlass 52 = .ok (.goto (-48), 3) := dk_167 255 208 (dk_at dksX19_inGlass_2 4 rfl rfl)
theorem dX19_inGlass_55 : decode cX19_inGlass 55 = .ok (.iload_n 2, 1) := dk_28 (dk_at dksX19_inGlass_2 7 rfl rfl)
theorem dX19_inGlass_56 : decode cX19_inGlass 56 = .ok (.ireturn, 1) := dk_172 (dk_at dksX19_inGlass_2 8 rfl rfl)
abbrev cX19_puts : ByteArray := prog_24_method_47_code
def yX19_puts : MethodName := ⟨RX19, "puts", "(I)V"⟩
def dkwX19_puts_2 : List UInt8 := [27, 46, 79, 177]
abbrev dktX19_puts_2 : List UInt8 := dkwX19_puts_2 ++ []
def dkwX19_puts_1 : List UInt8 := [180, 0, 48, 27, 46, 16, 8, 162, 0, 20, 42, 180, 0, 54, 42, 180, 0, 48, 27, 46, 42, 180, 0, 45]
abbrev dktX19_puts_1 : List UInt8 := dkwX19_puts_1 ++ dktX19_puts_2
def dkwX19_puts_0 : List UInt8 := [42, 180, 0, 48, 27, 42, 182, 1, 169, 79, 42, 180, 0, 51, 27, 42, 180, 0, 48, 27, 46, 79, 42]
abbrev dktX19_puts_0 : List UInt8 := dkwX19_puts_0 ++ dktX19_puts_1
theorem dksX19_puts_0 : cX19_puts.data.toList.drop 0 = dktX19_puts_0 := by decide +kernel
theorem dksX19_puts_1 : cX19_puts.data.toList.drop 23 = dktX19_puts_1 := dk_seg dksX19_puts_0 23 rfl rfl
theorem dksX19_puts_2 : cX19_puts.data.toList.drop 47 = dktX19_puts_2 := dk_seg dksX19_puts_1 24 rfl rfl
theorem dX19_puts_0 : decode cX19_puts 0 = .ok (.aload_n 0, 1) := dk_42 (dk_at dksX19_puts_0 0 rfl rfl)
theorem dX19_puts_1 : decode cX19_puts 1 = .ok (.getfield 48, 3) := dk_180 0 48 (dk_at dksX19_puts_0 1 rfl rfl)
theorem dX19_puts_4 : decode cX19_puts 4 = .ok (.iload_n 1, 1) := dk_27 (dk_at dksX19_puts_0 4 rfl rfl)
theorem dX19_puts_5 : decode cX19_puts 5 = .ok (.aload_n 0, 1) := dk_42 (dk_at dksX19_puts_0 5 rfl rfl)
theorem dX19_puts_6 : decode cX19_puts 6 = .ok (.invokevirtual 425, 3) := dk_182 1 169 (dk_at dksX19_puts_0 6 rfl rfl)
theorem dX19_puts_9 : decode cX19_puts 9 = .ok (.iastore, 1) := dk_79 (dk_at dksX19_puts_0 9 rfl rfl)
theorem dX19_puts_10 : decode cX19_puts 10 = .ok (.aload_n 0, 1) := dk_42 (dk_at dksX19_puts_0 10 rfl rfl)
theorem dX19_puts_11 : decode cX19_puts 11 = .ok (.getfield 51, 3) := dk_180 0 51 (dk_at dksX19_puts_0 11 rfl rfl)
theorem dX19_puts_14 : decode cX19_puts 14 = .ok (.iload_n 1, 1) := dk_27 (dk_at dksX19_puts_0 14 rfl rfl)
theorem dX19_puts_15 : decode cX19_puts 15 = .ok (.aload_n 0, 1) := dk_42 (dk_at dksX19_puts_0 15 rfl rfl)
theorem dX19_puts_16 : decode cX19_puts 16 = .ok (.getfield 48, 3) := dk_180 0 48 (dk_at dksX19_puts_0 16 rfl rfl)
theorem dX19_puts_19 : decode cX19_puts 19 = .ok (.iload_n 1, 1) := dk_27 (dk_at dksX19_puts_0 19 rfl rfl)
theorem dX19_puts_20 : decode cX19_puts 20 = .ok (.iaload, 1) := dk_46 (dk_at dksX19_puts_0 20 rfl rfl)
theorem dX19_puts_21 : decode cX19_puts 21 = .ok (.iastore, 1) := dk_79 (dk_at dksX19_puts_0 21 rfl rfl)
theorem dX19_puts_22 : decode cX19_puts 22 = .ok (.aload_n 0, 1) := dk_42 (dk_at dksX19_puts_0 22 rfl rfl)
theorem dX19_puts_23 : decode cX19_puts 23 = .ok (.getfield 48, 3) := dk_180 0 48 (dk_at dksX19_puts_1 0 rfl rfl)
theorem dX19_puts_26 : decode cX19_puts 26 = .ok (.iload_n 1, 1) := dk_27 (dk_at dksX19_puts_1 3 rfl rfl)
theorem dX19_puts_27 : decode cX19_puts 27 = .ok (.iaload, 1) := dk_46 (dk_at dksX19_puts_1 4 rfl rfl)
theorem dX19_puts_28 : decode cX19_puts 28 = .ok (.bipush 8, 2) := dk_16 8 (dk_at dksX19_puts_1 5 rfl rfl)
theorem dX19_puts_30 : decode cX19_puts 30 = .ok (.if_icmp .ge 20, 3) := dk_162 0 20 (dk_at dksX19_puts_1 7 rfl rfl)
theorem dX19_puts_33 : decode cX19_puts 33 = .ok (.aload_n 0, 1) := dk_42 (dk_at dksX19_puts_1 10 rfl rfl)
theorem dX19_puts_34 : decode cX19_puts 34 = .ok (.getfield 54, 3) := dk_180 0 54 (dk_at dksX19_puts_1 11 rfl rfl)
theorem dX19_puts_37 : decode cX19_puts 37 = .ok (.aload_n 0, 1) := dk_42 (dk_at dksX19_puts_1 14 rfl rfl)
theorem dX19_puts_38 : decode cX19_puts 38 = .ok (.getfield 48, 3) := dk_180 0 48 (dk_at dksX19_puts_1 15 rfl rfl)
theorem dX19_puts_41 : decode cX19_puts 41 = .ok (.iload_n 1, 1) := dk_27 (dk_at dksX19_puts_1 18 rfl rfl)
theorem dX19_puts_42 : decode cX19_puts 42 = .ok (.iaload, 1) := dk_46 (dk_at dksX19_puts_1 19 rfl rfl)
theorem dX19_puts_43 : decode cX19_puts 43 = .ok (.aload_n 0, 1) := dk_42 (dk_at dksX19_puts_1 20 rfl rfl)
theorem dX19_puts_44 : decode cX19_puts 44 = .ok (.getfield 45, 3) := dk_180 0 45 (dk_at dksX19_puts_1 21 rfl rfl)
theorem dX19_puts_47 : decode cX19_puts 47 = .ok (.iload_n 1, 1) := dk_27 (dk_at dksX19_puts_2 0 rfl rfl)
theorem dX19_puts_48 : decode cX19_puts 48 = .ok (.iaload, 1) := dk_46 (dk_at dksX19_puts_2 1 rfl rfl)
theorem dX19_puts_49 : decode cX19_puts 49 = .ok (.iastore, 1) := dk_79 (dk_at dksX19_puts_2 2 rfl rfl)
theorem dX19_puts_50 : decode cX19_puts 50 = .ok (.return_, 1) := dk_177 (dk_at dksX19_puts_2 3 rfl rfl)
abbrev cX19_firstFree : ByteArray := prog_24_method_46_code
def yX19_firstFree : MethodName := ⟨RX19, "firstFree", "()I"⟩
def dkwX19_firstFree_1 : List UInt8 := [27, 172, 132, 1, 1, 167, 255, 229, 16, 8, 172]
abbrev dktX19_firstFree_1 : List UInt8 := dkwX19_firstFree_1 ++ []
def dkwX19_firstFree_0 : List UInt8 := [3, 60, 27, 42, 180, 1, 107, 180, 0, 251, 162, 0, 22, 42, 180, 0, 54, 27, 46, 16, 254, 160, 0, 5]
abbrev dktX19_firstFree_0 : List UInt8 := dkwX19_firstFree_0 ++ dktX19_firstFree_1
theorem dksX19_firstFree_0 : cX19_firstFree.data.toList.drop 0 = dktX19_firstFree_0 := by decide +kernel
theorem dksX19_firstFree_1 : cX19_firstFree.data.toList.drop 24 = dktX19_firstFree_1 := dk_seg dksX19_firstFree_0 24 rfl rfl
theorem dX19_firstFree_0 : decode cX19_firstFree 0 = .ok (.iconst 0, 1) := dk_3 (dk_at dksX19_firstFree_0 0 rfl rfl)
theorem dX19_firstFree_1 : decode cX19_firstFree 1 = .ok (.istore_n 1, 1) := dk_60 (dk_at dksX19_firstFree_0 1 rfl rfl)
theorem dX19_firstFree_2 : decode cX19_firstFree 2 = .ok (.iload_n 1, 1) := dk_27 (dk_at dksX19_firstFree_0 2 rfl rfl)
theorem dX19_firstFree_3 : decode cX19_firstFree 3 = .ok (.aload_n 0, 1) := dk_42 (dk_at dksX19_firstFree_0 3 rfl rfl)
theorem dX19_firstFree_4 : decode cX19_firstFree 4 = .ok (.getfield 363, 3) := dk_180 1 107 (dk_at dksX19_firstFree_0 4 rfl rfl)
theorem dX19_firstFree_7 : decode cX19_firstFree 7 = .ok (.getfield 251, 3) := dk_180 0 251 (dk_at dksX19_firstFree_0 7 rfl rfl)
theorem dX19_firstFree_10 : decode cX19_firstFree 10 = .ok (.if_icmp .ge 22, 3) := dk_162 0 22 (dk_at dksX19_firstFree_0 10 rfl rfl)
theorem dX19_firstFree_13 : decode cX19_firstFree 13 = .ok (.aload_n 0, 1) := dk_42 (dk_at dksX19_firstFree_0 13 rfl rfl)
theorem dX19_firstFree_14 : decode cX19_firstFree 14 = .ok (.getfield 54, 3) := dk_180 0 54 (dk_at dksX19_firstFree_0 14 rfl rfl)
theorem dX19_firstFree_17 : decode cX19_firstFree 17 = .ok (.iload_n 1, 1) := dk_27 (dk_at dksX19_firstFree_0 17 rfl rfl)
theorem dX19_firstFree_18 : decode cX19_firstFree 18 = .ok (.iaload, 1) := dk_46 (dk_at dksX19_firstFree_0 18 rfl rfl)
theorem dX19_firstFree_19 : decode cX19_firstFree 19 = .ok (.bipush (-2), 2) := dk_16 254 (dk_at dksX19_firstFree_0 19 rfl rfl)
theorem dX19_firstFree_21 : decode cX19_firstFree 21 = .ok (.if_icmp .ne 5, 3) := dk_160 0 5 (dk_at dksX19_firstFree_0 21 rfl rfl)
theorem dX19_firstFree_24 : decode cX19_firstFree 24 = .ok (.iload_n 1, 1) := dk_27 (dk_at dksX19_firstFree_1 0 rfl rfl)
theorem dX19_firstFree_25 : decode cX19_firstFree 25 = .ok (.ireturn, 1) := dk_172 (dk_at dksX19_firstFree_1 1 rfl rfl)
theorem dX19_firstFree_26 : decode cX19_firstFree 26 = .ok (.iinc 1 1, 3) := dk_132 1 1 (dk_at dksX19_firstFree_1 2 rfl rfl)
theorem dX19_firstFree_29 : decode cX19_firstFree 29 = .ok (.goto (-27), 3) := dk_167 255 229 (dk_at dksX19_firstFree_1 5 rfl rfl)
theorem dX19_firstFree_32 : decode cX19_firstFree 32 = .ok (.bipush 8, 2) := dk_16 8 (dk_at dksX19_firstFree_1 8 rfl rfl)
theorem dX19_firstFree_34 : decode cX19_firstFree 34 = .ok (.ireturn, 1) := dk_172 (dk_at dksX19_firstFree_1 10 rfl rfl)
abbrev cX19_exchanges : ByteArray := prog_24_method_48_code
def yX19_exchanges : MethodName := ⟨RX19, "exchanges", "(II)V"⟩
def dkwX19_exchanges_2 : List UInt8 := [21, 4, 16, 254, 159, 0, 16, 42, 180, 0, 48, 42, 180, 0, 30, 21, 4, 46, 27, 79, 177]
abbrev dktX19_exchanges_2 : List UInt8 := dkwX19_exchanges_2 ++ []
def dkwX19_exchanges_1 : List UInt8 := [180, 0, 54, 28, 29, 79, 29, 16, 254, 159, 0, 15, 42, 180, 0, 48, 42, 180, 0, 30, 29, 46, 28, 79]
abbrev dktX19_exchanges_1 : List UInt8 := dkwX19_exchanges_1 ++ dktX19_exchanges_2
def dkwX19_exchanges_0 : List UInt8 := [42, 180, 0, 54, 27, 46, 62, 42, 180, 0, 54, 28, 46, 54, 4, 42, 180, 0, 54, 27, 21, 4, 79, 42]
abbrev dktX19_exchanges_0 : List UInt8 := dkwX19_exchanges_0 ++ dktX19_exchanges_1
theorem dksX19_exchanges_0 : cX19_exchanges.data.toList.drop 0 = dktX19_exchanges_0 := by decide +kernel
theorem dksX19_exchanges_1 : cX19_exchanges.data.toList.drop 24 = dktX19_exchanges_1 := dk_seg dksX19_exchanges_0 24 rfl rfl
theorem dksX19_exchanges_2 : cX19_exchanges.data.toList.drop 48 = dktX19_exchanges_2 := dk_seg dksX19_exchanges_1 24 rfl rfl
theorem dX19_exchanges_0 : decode cX19_exchanges 0 = .ok (.aload_n 0, 1) := dk_42 (dk_at dksX19_exchanges_0 0 rfl rfl)
theorem dX19_exchanges_1 : decode cX19_exchanges 1 = .ok (.getfield 54, 3) := dk_180 0 54 (dk_at dksX19_exchanges_0 1 rfl rfl)
theorem dX19_exchanges_4 : decode cX19_exchanges 4 = .ok (.iload_n 1, 1) := dk_27 (dk_at dksX19_exchanges_0 4 rfl rfl)
theorem dX19_exchanges_5 : decode cX19_exchanges 5 = .ok (.iaload, 1) := dk_46 (dk_at dksX19_exchanges_0 5 rfl rfl)
theorem dX19_exchanges_6 : decode cX19_exchanges 6 = .ok (.istore_n 3, 1) := dk_62 (dk_at dksX19_exchanges_0 6 rfl rfl)
theorem dX19_exchanges_7 : decode cX19_exchanges 7 = .ok (.aload_n 0, 1) := dk_42 (dk_at dksX19_exchanges_0 7 rfl rfl)
theorem dX19_exchanges_8 : decode cX19_exchanges 8 = .ok (.getfield 54, 3) := dk_180 0 54 (dk_at dksX19_exchanges_0 8 rfl rfl)
theorem dX19_exchanges_11 : decode cX19_exchanges 11 = .ok (.iload_n 2, 1) := dk_28 (dk_at dksX19_exchanges_0 11 rfl rfl)
theorem dX19_exchanges_12 : decode cX19_exchanges 12 = .ok (.iaload, 1) := dk_46 (dk_at dksX19_exchanges_0 12 rfl rfl)
theorem dX19_exchanges_13 : decode cX19_exchanges 13 = .ok (.istore 4, 2) := dk_54 4 (dk_at dksX19_exchanges_0 13 rfl rfl)
theorem dX19_exchanges_15 : decode cX19_exchanges 15 = .ok (.aload_n 0, 1) := dk_42 (dk_at dksX19_exchanges_0 15 rfl rfl)
theorem dX19_exchanges_16 : decode cX19_exchanges 16 = .ok (.getfield 54, 3) := dk_180 0 54 (dk_at dksX19_exchanges_0 16 rfl rfl)
theorem dX19_exchanges_19 : decode cX19_exchanges 19 = .ok (.iload_n 1, 1) := dk_27 (dk_at dksX19_exchanges_0 19 rfl rfl)
theorem dX19_exchanges_20 : decode cX19_exchanges 20 = .ok (.iload 4, 2) := dk_21 4 (dk_at dksX19_exchanges_0 20 rfl rfl)
theorem dX19_exchanges_22 : decode cX19_exchanges 22 = .ok (.iastore, 1) := dk_79 (dk_at dksX19_exchanges_0 22 rfl rfl)
theorem dX19_exchanges_23 : decode cX19_exchanges 23 = .ok (.aload_n 0, 1) := dk_42 (dk_at dksX19_exchanges_0 23 rfl rfl)
theorem dX19_exchanges_24 : decode cX19_exchanges 24 = .ok (.getfield 54, 3) := dk_180 0 54 (dk_at dksX19_exchanges_1 0 rfl rfl)
theorem dX19_exchanges_27 : decode cX19_exchanges 27 = .ok (.iload_n 2, 1) := dk_28 (dk_at dksX19_exchanges_1 3 rfl rfl)
theorem dX19_exchanges_28 : decode cX19_exchanges 28 = .ok (.iload_n 3, 1) := dk_29 (dk_at dksX19_exchanges_1 4 rfl rfl)
theorem dX19_exchanges_29 : decode cX19_exchanges 29 = .ok (.iastore, 1) := dk_79 (dk_at dksX19_exchanges_1 5 rfl rfl)
theorem dX19_exchanges_30 : decode cX19_exchanges 30 = .ok (.iload_n 3, 1) := dk_29 (dk_at dksX19_exchanges_1 6 rfl rfl)
theorem dX19_exchanges_31 : decode cX19_exchanges 31 = .ok (.bipush (-2), 2) := dk_16 254 (dk_at dksX19_exchanges_1 7 rfl rfl)
theorem dX19_exchanges_33 : decode cX19_exchanges 33 = .ok (.if_icmp .eq 15, 3) := dk_159 0 15 (dk_at dksX19_exchanges_1 9 rfl rfl)
theorem dX19_exchanges_36 : decode cX19_exchanges 36 = .ok (.aload_n 0, 1) := dk_42 (dk_at dksX19_exchanges_1 12 rfl rfl)
theorem dX19_exchanges_37 : decode cX19_exchanges 37 = .ok (.getfield 48, 3) := dk_180 0 48 (dk_at dksX19_exchanges_1 13 rfl rfl)
theorem dX19_exchanges_40 : decode cX19_exchanges 40 = .ok (.aload_n 0, 1) := dk_42 (dk_at dksX19_exchanges_1 16 rfl rfl)
theorem dX19_exchanges_41 : decode cX19_exchanges 41 = .ok (.getfield 30, 3) := dk_180 0 30 (dk_at dksX19_exchanges_1 17 rfl rfl)
theorem dX19_exchanges_44 : decode cX19_exchanges 44 = .ok (.iload_n 3, 1) := dk_29 (dk_at dksX19_exchanges_1 20 rfl rfl)
theorem dX19_exchanges_45 : decode cX19_exchanges 45 = .ok (.iaload, 1) := dk_46 (dk_at dksX19_exchanges_1 21 rfl rfl)
theorem dX19_exchanges_46 : decode cX19_exchanges 46 = .ok (.iload_n 2, 1) := dk_28 (dk_at dksX19_exchanges_1 22 rfl rfl)
theorem dX19_exchanges_47 : decode cX19_exchanges 47 = .ok (.iastore, 1) := dk_79 (dk_at dksX19_exchanges_1 23 rfl rfl)
theorem dX19_exchanges_48 : decode cX19_exchanges 48 = .ok (.iload 4, 2) := dk_21 4 (dk_at dksX19_exchanges_2 0 rfl rfl)
theorem dX19_exchanges_50 : decode cX19_exchanges 50 = .ok (.bipush (-2), 2) := dk_16 254 (dk_at dksX19_exchanges_2 2 rfl rfl)
theorem dX19_exchanges_52 : decode cX19_exchanges 52 = .ok (.if_icmp .eq 16, 3) := dk_159 0 16 (dk_at dksX19_exchanges_2 4 rfl rfl)
theorem dX19_exchanges_55 : decode cX19_exchanges 55 = .ok (.aload_n 0, 1) := dk_42 (dk_at dksX19_exchanges_2 7 rfl rfl)
theorem dX19_exchanges_56 : decode cX19_exchanges 56 = .ok (.getfield 48, 3) := dk_180 0 48 (dk_at dksX19_exchanges_2 8 rfl rfl)
theorem dX19_exchanges_59 : decode cX19_exchanges 59 = .ok (.aload_n 0, 1) := dk_42 (dk_at dksX19_exchanges_2 11 rfl rfl)
theorem dX19_exchanges_60 : decode cX19_exchanges 60 = .ok (.getfield 30, 3) := dk_180 0 30 (dk_at dksX19_exchanges_2 12 rfl rfl)
theorem dX19_exchanges_63 : decode cX19_exchanges 63 = .ok (.iload 4, 2) := dk_21 4 (dk_at dksX19_exchanges_2 15 rfl rfl)
theorem dX19_exchanges_65 : decode cX19_exchanges 65 = .ok (.iaload, 1) := dk_46 (dk_at dksX19_exchanges_2 17 rfl rfl)
theorem dX19_exchanges_66 : decode cX19_exchanges 66 = .ok (.iload_n 1, 1) := dk_27 (dk_at dksX19_exchanges_2 18 rfl rfl)
theorem dX19_exchanges_67 : decode cX19_exchanges 67 = .ok (.iastore, 1) := dk_79 (dk_at dksX19_exchanges_2 19 rfl rfl)
theorem dX19_exchanges_68 : decode cX19_exchanges 68 = .ok (.return_, 1) := dk_177 (dk_at dksX19_exchanges_2 20 rfl rfl)
abbrev cX19_brushesAt : ByteArray := prog_24_method_49_code
def yX19_brushesAt : MethodName := ⟨RX19, "brushesAt", "(II)V"⟩
def dkwX19_brushesAt_9 : List UInt8 := [180, 0, 54, 42, 180, 0, 48, 27, 46, 29, 79, 177]
abbrev dktX19_brushesAt_9 : List UInt8 := dkwX19_brushesAt_9 ++ []
def dkwX19_brushesAt_8 : List UInt8 := [180, 0, 54, 42, 180, 0, 48, 27, 46, 16, 254, 79, 42, 180, 0, 48, 27, 42, 182, 1, 169, 79, 42]
abbrev dktX19_brushesAt_8 : List UInt8 := dkwX19_brushesAt_8 ++ dktX19_brushesAt_9
def dkwX19_brushesAt_7 : List UInt8 := [42, 27, 182, 1, 172, 6, 160, 0, 14, 42, 180, 0, 48, 27, 46, 16, 8, 161, 0, 4, 177, 42]
abbrev dktX19_brushesAt_7 : List UInt8 := dkwX19_brushesAt_7 ++ dktX19_brushesAt_8
def dkwX19_brushesAt_6 : List UInt8 := [28, 104, 27, 96, 29, 79, 42, 180, 0, 42, 29, 92, 46, 42, 180, 1, 107, 180, 1, 48, 27, 46, 96, 79]
abbrev dktX19_brushesAt_6 : List UInt8 := dkwX19_brushesAt_6 ++ dktX19_brushesAt_7
def dkwX19_brushesAt_5 : List UInt8 := [46, 16, 254, 159, 0, 15, 42, 180, 0, 54, 42, 180, 0, 51, 27, 46, 46, 62, 42, 180, 0, 63, 16, 7]
abbrev dktX19_brushesAt_5 : List UInt8 := dkwX19_brushesAt_5 ++ dktX19_brushesAt_6
def dkwX19_brushesAt_4 : List UInt8 := [160, 0, 42, 42, 180, 0, 51, 27, 46, 16, 8, 162, 0, 31, 42, 180, 0, 54, 42, 180, 0, 51, 27, 46]
abbrev dktX19_brushesAt_4 : List UInt8 := dkwX19_brushesAt_4 ++ dktX19_brushesAt_5
def dkwX19_brushesAt_3 : List UInt8 := [180, 0, 54, 21, 4, 46, 62, 42, 180, 0, 48, 27, 46, 16, 8, 162, 0, 51, 42, 27, 182, 1, 172, 5]
abbrev dktX19_brushesAt_3 : List UInt8 := dkwX19_brushesAt_3 ++ dktX19_brushesAt_4
def dkwX19_brushesAt_2 : List UInt8 := [180, 0, 54, 21, 4, 46, 46, 42, 180, 0, 33, 29, 46, 159, 0, 9, 132, 4, 1, 167, 255, 220, 42]
abbrev dktX19_brushesAt_2 : List UInt8 := dkwX19_brushesAt_2 ++ dktX19_brushesAt_3
def dkwX19_brushesAt_1 : List UInt8 := [160, 0, 53, 3, 54, 4, 42, 180, 0, 54, 21, 4, 46, 16, 254, 159, 0, 24, 42, 180, 0, 33, 42]
abbrev dktX19_brushesAt_1 : List UInt8 := dkwX19_brushesAt_1 ++ dktX19_brushesAt_2
def dkwX19_brushesAt_0 : List UInt8 := [42, 180, 0, 45, 27, 46, 62, 42, 180, 0, 48, 27, 46, 16, 8, 162, 0, 62, 42, 27, 182, 1, 172, 4]
abbrev dktX19_brushesAt_0 : List UInt8 := dkwX19_brushesAt_0 ++ dktX19_brushesAt_1
theorem dksX19_brushesAt_0 : cX19_brushesAt.data.toList.drop 0 = dktX19_brushesAt_0 := by decide +kernel
theorem dksX19_brushesAt_1 : cX19_brushesAt.data.toList.drop 24 = dktX19_brushesAt_1 := dk_seg dksX19_brushesAt_0 24 rfl rfl
theorem dksX19_brushesAt_2 : cX19_brushesAt.data.toList.drop 47 = dktX19_brushesAt_2 := dk_seg dksX19_brushesAt_1 23 rfl rfl
theorem dksX19_brushesAt_3 : cX19_brushesAt.data.toList.drop 70 = dktX19_brushesAt_3 := dk_seg dksX19_brushesAt_2 23 rfl rfl
theorem dksX19_brushesAt_4 : cX19_brushesAt.data.toList.drop 94 = dktX19_brushesAt_4 := dk_seg dksX19_brushesAt_3 24 rfl rfl
theorem dksX19_brushesAt_5 : cX19_brushesAt.data.toList.drop 118 = dktX19_brushesAt_5 := dk_seg dksX19_brushesAt_4 24 rfl rfl
theorem dksX19_brushesAt_6 : cX19_brushesAt.data.toList.drop 142 = dktX19_brushesAt_6 := dk_seg dksX19_brushesAt_5 24 rfl rfl
theorem dksX19_brushesAt_7 : cX19_brushesAt.data.toList.drop 166 = dktX19_brushesAt_7 := dk_seg dksX19_brushesAt_6 24 rfl rfl
theorem dksX19_brushesAt_8 : cX19_brushesAt.data.toList.drop 188 = dktX19_brushesAt_8 := dk_seg dksX19_brushesAt_7 22 rfl rfl
theorem dksX19_brushesAt_9 : cX19_brushesAt.data.toList.drop 211 = dktX19_brushesAt_9 := dk_seg dksX19_brushesAt_8 23 rfl rfl
theorem dX19_brushesAt_0 : decode cX19_brushesAt 0 = .ok (.aload_n 0, 1) := dk_42 (dk_at dksX19_brushesAt_0 0 rfl rfl)
theorem dX19_brushesAt_1 : decode cX19_brushesAt 1 = .ok (.getfield 45, 3) := dk_180 0 45 (dk_at dksX19_brushesAt_0 1 rfl rfl)
theorem dX19_brushesAt_4 : decode cX19_brushesAt 4 = .ok (.iload_n 1, 1) := dk_27 (dk_at dksX19_brushesAt_0 4 rfl rfl)
theorem dX19_brushesAt_5 : decode cX19_brushesAt 5 = .ok (.iaload, 1) := dk_46 (dk_at dksX19_brushesAt_0 5 rfl rfl)
theorem dX19_brushesAt_6 : decode cX19_brushesAt 6 = .ok (.istore_n 3, 1) := dk_62 (dk_at dksX19_brushesAt_0 6 rfl rfl)
theorem dX19_brushesAt_7 : decode cX19_brushesAt 7 = .ok (.aload_n 0, 1) := dk_42 (dk_at dksX19_brushesAt_0 7 rfl rfl)
theorem dX19_brushesAt_8 : decode cX19_brushesAt 8 = .ok (.getfield 48, 3) := dk_180 0 48 (dk_at dksX19_brushesAt_0 8 rfl rfl)
theorem dX19_brushesAt_11 : decode cX19_brushesAt 11 = .ok (.iload_n 1, 1) := dk_27 (dk_at dksX19_brushesAt_0 11 rfl rfl)
theorem dX19_brushesAt_12 : decode cX19_brushesAt 12 = .ok (.iaload, 1) := dk_46 (dk_at dksX19_brushesAt_0 12 rfl rfl)
theorem dX19_brushesAt_13 : decode cX19_brushesAt 13 = .ok (.bipush 8, 2) := dk_16 8 (dk_at dksX19_brushesAt_0 13 rfl rfl)
theorem dX19_brushesAt_15 : decode cX19_brushesAt 15 = .ok (.if_icmp .ge 62, 3) := dk_162 0 62 (dk_at dksX19_brushesAt_0 15 rfl rfl)
theorem dX19_brushesAt_18 : decode cX19_brushesAt 18 = .ok (.aload_n 0, 1) := dk_42 (dk_at dksX19_brushesAt_0 18 rfl rfl)
theorem dX19_brushesAt_19 : decode cX19_brushesAt 19 = .ok (.iload_n 1, 1) := dk_27 (dk_at dksX19_brushesAt_0 19 rfl rfl)
theorem dX19_brushesAt_20 : decode cX19_brushesAt 20 = .ok (.invokevirtual 428, 3) := dk_182 1 172 (dk_at dksX19_brushesAt_0 20 rfl rfl)
theorem dX19_brushesAt_23 : decode cX19_brushesAt 23 = .ok (.iconst 1, 1) := dk_4 (dk_at dksX19_brushesAt_0 23 rfl rfl)
theorem dX19_brushesAt_24 : decode cX19_brushesAt 24 = .ok (.if_icmp .ne 53, 3) := dk_160 0 53 (dk_at dksX19_brushesAt_1 0 rfl rfl)
theorem dX19_brushesAt_27 : decode cX19_brushesAt 27 = .ok (.iconst 0, 1) := dk_3 (dk_at dksX19_brushesAt_1 3 rfl rfl)
theorem dX19_brushesAt_28 : decode cX19_brushesAt 28 = .ok (.istore 4, 2) := dk_54 4 (dk_at dksX19_brushesAt_1 4 rfl rfl)
theorem dX19_brushesAt_30 : decode cX19_brushesAt 30 = .ok (.aload_n 0, 1) := dk_42 (dk_at dksX19_brushesAt_1 6 rfl rfl)
theorem dX19_brushesAt_31 : decode cX19_brushesAt 31 = .ok (.getfield 54, 3) := dk_180 0 54 (dk_at dksX19_brushesAt_1 7 rfl rfl)
theorem dX19_brushesAt_34 : decode cX19_brushesAt 34 = .ok (.iload 4, 2) := dk_21 4 (dk_at dksX19_brushesAt_1 10 rfl rfl)
theorem dX19_brushesAt_36 : decode cX19_brushesAt 36 = .ok (.iaload, 1) := dk_46 (dk_at dksX19_brushesAt_1 12 rfl rfl)
theorem dX19_brushesAt_37 : decode cX19_brushesAt 37 = .ok (.bipush (-2), 2) := dk_16 254 (dk_at dksX19_brushesAt_1 13 rfl rfl)
theorem dX19_brushesAt_39 : decode cX19_brushesAt 39 = .ok (.if_icmp .eq 24, 3) := dk_159 0 24 (dk_at dksX19_brushesAt_1 15 rfl rfl)
theorem dX19_brushesAt_42 : decode cX19_brushesAt 42 = .ok (.aload_n 0, 1) := dk_42 (dk_at dksX19_brushesAt_1 18 rfl rfl)
theorem dX19_brushesAt_43 : decode cX19_brushesAt 43 = .ok (.getfield 33, 3) := dk_180 0 33 (dk_at dksX19_brushesAt_1 19 rfl rfl)
theorem dX19_brushesAt_46 : decode cX19_brushesAt 46 = .ok (.aload_n 0, 1) := dk_42 (dk_at dksX19_brushesAt_1 22 rfl rfl)
theorem dX19_brushesAt_47 : decode cX19_brushesAt 47 = .ok (.getfield 54, 3) := dk_180 0 54 (dk_at dksX19_brushesAt_2 0 rfl rfl)
theorem dX19_brushesAt_50 : decode cX19_brushesAt 50 = .ok (.iload 4, 2) := dk_21 4 (dk_at dksX19_brushesAt_2 3 rfl rfl)
theorem dX19_brushesAt_52 : decode cX19_brushesAt 52 = .ok (.iaload, 1) := dk_46 (dk_at dksX19_brushesAt_2 5 rfl rfl)
theorem dX19_brushesAt_53 : decode cX19_brushesAt 53 = .ok (.iaload, 1) := dk_46 (dk_at dksX19_brushesAt_2 6 rfl rfl)
theorem dX19_brushesAt_54 : decode cX19_brushesAt 54 = .ok (.aload_n 0, 1) := dk_42 (dk_at dksX19_brushesAt_2 7 rfl rfl)
theorem dX19_brushesAt_55 : decode cX19_brushesAt 55 = .ok (.getfield 33, 3) := dk_180 0 33 (dk_at dksX19_brushesAt_2 8 rfl rfl)
theorem dX19_brushesAt_58 : decode cX19_brushesAt 58 = .ok (.iload_n 3, 1) := dk_29 (dk_at dksX19_brushesAt_2 11 rfl rfl)
theorem dX19_brushesAt_59 : decode cX19_brushesAt 59 = .ok (.iaload, 1) := dk_46 (dk_at dksX19_brushesAt_2 12 rfl rfl)
theorem dX19_brushesAt_60 : decode cX19_brushesAt 60 = .ok (.if_icmp .eq 9, 3) := dk_159 0 9 (dk_at dksX19_brushesAt_2 13 rfl rfl)
theorem dX19_brushesAt_63 : decode cX19_brushesAt 63 = .ok (.iinc 4 1, 3) := dk_132 4 1 (dk_at dksX19_brushesAt_2 16 rfl rfl)
theorem dX19_brushesAt_66 : decode cX19_brushesAt 66 = .ok (.goto (-36), 3) := dk_167 255 220 (dk_at dksX19_brushesAt_2 19 rfl rfl)
theorem dX19_brushesAt_69 : decode cX19_brushesAt 69 = .ok (.aload_n 0, 1) := dk_42 (dk_at dksX19_brushesAt_2 22 rfl rfl)
theorem dX19_brushesAt_70 : decode cX19_brushesAt 70 = .ok (.getfield 54, 3) := dk_180 0 54 (dk_at dksX19_brushesAt_3 0 rfl rfl)
theorem dX19_brushesAt_73 : decode cX19_brushesAt 73 = .ok (.iload 4, 2) := dk_21 4 (dk_at dksX19_brushesAt_3 3 rfl rfl)
theorem dX19_brushesAt_75 : decode cX19_brushesAt 75 = .ok (.iaload, 1) := dk_46 (dk_at dksX19_brushesAt_3 5 rfl rfl)
theorem dX19_brushesAt_76 : decode cX19_brushesAt 76 = .ok (.istore_n 3, 1) := dk_62 (dk_at dksX19_brushesAt_3 6 rfl rfl)
theorem dX19_brushesAt_77 : decode cX19_brushesAt 77 = .ok (.aload_n 0, 1) := dk_42 (dk_at dksX19_brushesAt_3 7 rfl rfl)
theorem dX19_brushesAt_78 : decode cX19_brushesAt 78 = .ok (.getfield 48, 3) := dk_180 0 48 (dk_at dksX19_brushesAt_3 8 rfl rfl)
theorem dX19_brushesAt_81 : decode cX19_brushesAt 81 = .ok (.iload_n 1, 1) := dk_27 (dk_at dksX19_brushesAt_3 11 rfl rfl)
theorem dX19_brushesAt_82 : decode cX19_brushesAt 82 = .ok (.iaload, 1) := dk_46 (dk_at dksX19_brushesAt_3 12 rfl rfl)
theorem dX19_brushesAt_83 : decode cX19_brushesAt 83 = .ok (.bipush 8, 2) := dk_16 8 (dk_at dksX19_brushesAt_3 13 rfl rfl)
theorem dX19_brushesAt_85 : decode cX19_brushesAt 85 = .ok (.if_icmp .ge 51, 3) := dk_162 0 51 (dk_at dksX19_brushesAt_3 15 rfl rfl)
theorem dX19_brushesAt_88 : decode cX19_brushesAt 88 = .ok (.aload_n 0, 1) := dk_42 (dk_at dksX19_brushesAt_3 18 rfl rfl)
theorem dX19_brushesAt_89 : decode cX19_brushesAt 89 = .ok (.iload_n 1, 1) := dk_27 (dk_at dksX19_brushesAt_3 19 rfl rfl)
theorem dX19_brushesAt_90 : decode cX19_brushesAt 90 = .ok (.invokevirtual 428, 3) := dk_182 1 172 (dk_at dksX19_brushesAt_3 20 rfl rfl)
theorem dX19_brushesAt_93 : decode cX19_brushesAt 93 = .ok (.iconst 2, 1) := dk_5 (dk_at dksX19_brushesAt_3 23 rfl rfl)
theorem dX19_brushesAt_94 : decode cX19_brushesAt 94 = .ok (.if_icmp .ne 42, 3) := dk_160 0 42 (dk_at dksX19_brushesAt_4 0 rfl rfl)
theorem dX19_brushesAt_97 : decode cX19_brushesAt 97 = .ok (.aload_n 0, 1) := dk_42 (dk_at dksX19_brushesAt_4 3 rfl rfl)
theorem dX19_brushesAt_98 : decode cX19_brushesAt 98 = .ok (.getfield 51, 3) := dk_180 0 51 (dk_at dksX19_brushesAt_4 4 rfl rfl)
theorem dX19_brushesAt_101 : decode cX19_brushesAt 101 = .ok (.iload_n 1, 1) := dk_27 (dk_at dksX19_brushesAt_4 7 rfl rfl)
theorem dX19_brushesAt_102 : decode cX19_brushesAt 102 = .ok (.iaload, 1) := dk_46 (dk_at dksX19_brushesAt_4 8 rfl rfl)
theorem dX19_brushesAt_103 : decode cX19_brushesAt 103 = .ok (.bipush 8, 2) := dk_16 8 (dk_at dksX19_brushesAt_4 9 rfl rfl)
theorem dX19_brushesAt_105 : decode cX19_brushesAt 105 = .ok (.if_icmp .ge 31, 3) := dk_162 0 31 (dk_at dksX19_brushesAt_4 11 rfl rfl)
theorem dX19_brushesAt_108 : decode cX19_brushesAt 108 = .ok (.aload_n 0, 1) := dk_42 (dk_at dksX19_brushesAt_4 14 rfl rfl)
theorem dX19_brushesAt_109 : decode cX19_brushesAt 109 = .ok (.getfield 54, 3) := dk_180 0 54 (dk_at dksX19_brushesAt_4 15 rfl rfl)
theorem dX19_brushesAt_112 : decode cX19_brushesAt 112 = .ok (.aload_n 0, 1) := dk_42 (dk_at dksX19_brushesAt_4 18 rfl rfl)
theorem dX19_brushesAt_113 : decode cX19_brushesAt 113 = .ok (.getfield 51, 3) := dk_180 0 51 (dk_at dksX19_brushesAt_4 19 rfl rfl)
theorem dX19_brushesAt_116 : decode cX19_brushesAt 116 = .ok (.iload_n 1, 1) := dk_27 (dk_at dksX19_brushesAt_4 22 rfl rfl)
theorem dX19_brushesAt_117 : decode cX19_brushesAt 117 = .ok (.iaload, 1) := dk_46 (dk_at dksX19_brushesAt_4 23 rfl rfl)
theorem dX19_brushesAt_118 : decode cX19_brushesAt 118 = .ok (.iaload, 1) := dk_46 (dk_at dksX19_brushesAt_5 0 rfl rfl)
theorem dX19_brushesAt_119 : decode cX19_brushesAt 119 = .ok (.bipush (-2), 2) := dk_16 254 (dk_at dksX19_brushesAt_5 1 rfl rfl)
theorem dX19_brushesAt_121 : decode cX19_brushesAt 121 = .ok (.if_icmp .eq 15, 3) := dk_159 0 15 (dk_at dksX19_brushesAt_5 3 rfl rfl)
theorem dX19_brushesAt_124 : decode cX19_brushesAt 124 = .ok (.aload_n 0, 1) := dk_42 (dk_at dksX19_brushesAt_5 6 rfl rfl)
theorem dX19_brushesAt_125 : decode cX19_brushesAt 125 = .ok (.getfield 54, 3) := dk_180 0 54 (dk_at dksX19_brushesAt_5 7 rfl rfl)
theorem dX19_brushesAt_128 : decode cX19_brushesAt 128 = .ok (.aload_n 0, 1) := dk_42 (dk_at dksX19_brushesAt_5 10 rfl rfl)
theorem dX19_brushesAt_129 : decode cX19_brushesAt 129 = .ok (.getfield 51, 3) := dk_180 0 51 (dk_at dksX19_brushesAt_5 11 rfl rfl)
theorem dX19_brushesAt_132 : decode cX19_brushesAt 132 = .ok (.iload_n 1, 1) := dk_27 (dk_at dksX19_brushesAt_5 14 rfl rfl)
theorem dX19_brushesAt_133 : decode cX19_brushesAt 133 = .ok (.iaload, 1) := dk_46 (dk_at dksX19_brushesAt_5 15 rfl rfl)
theorem dX19_brushesAt_134 : decode cX19_brushesAt 134 = .ok (.iaload, 1) := dk_46 (dk_at dksX19_brushesAt_5 16 rfl rfl)
theorem dX19_brushesAt_135 : decode cX19_brushesAt 135 = .ok (.istore_n 3, 1) := dk_62 (dk_at dksX19_brushesAt_5 17 rfl rfl)
theorem dX19_brushesAt_136 : decode cX19_brushesAt 136 = .ok (.aload_n 0, 1) := dk_42 (dk_at dksX19_brushesAt_5 18 rfl rfl)
theorem dX19_brushesAt_137 : decode cX19_brushesAt 137 = .ok (.getfield 63, 3) := dk_180 0 63 (dk_at dksX19_brushesAt_5 19 rfl rfl)
theorem dX19_brushesAt_140 : decode cX19_brushesAt 140 = .ok (.bipush 7, 2) := dk_16 7 (dk_at dksX19_brushesAt_5 22 rfl rfl)
theorem dX19_brushesAt_142 : decode cX19_brushesAt 142 = .ok (.iload_n 2, 1) := dk_28 (dk_at dksX19_brushesAt_6 0 rfl rfl)
theorem dX19_brushesAt_143 : decode cX19_brushesAt 143 = .ok (.imul, 1) := dk_104 (dk_at dksX19_brushesAt_6 1 rfl rfl)
theorem dX19_brushesAt_144 : decode cX19_brushesAt 144 = .ok (.iload_n 1, 1) := dk_27 (dk_at dksX19_brushesAt_6 2 rfl rfl)
theorem dX19_brushesAt_145 : decode cX19_brushesAt 145 = .ok (.iadd, 1) := dk_96 (dk_at dksX19_brushesAt_6 3 rfl rfl)
theorem dX19_brushesAt_146 : decode cX19_brushesAt 146 = .ok (.iload_n 3, 1) := dk_29 (dk_at dksX19_brushesAt_6 4 rfl rfl)
theorem dX19_brushesAt_147 : decode cX19_brushesAt 147 = .ok (.iastore, 1) := dk_79 (dk_at dksX19_brushesAt_6 5 rfl rfl)
theorem dX19_brushesAt_148 : decode cX19_brushesAt 148 = .ok (.aload_n 0, 1) := dk_42 (dk_at dksX19_brushesAt_6 6 rfl rfl)
theorem dX19_brushesAt_149 : decode cX19_brushesAt 149 = .ok (.getfield 42, 3) := dk_180 0 42 (dk_at dksX19_brushesAt_6 7 rfl rfl)
theorem dX19_brushesAt_152 : decode cX19_brushesAt 152 = .ok (.iload_n 3, 1) := dk_29 (dk_at dksX19_brushesAt_6 10 rfl rfl)
theorem dX19_brushesAt_153 : decode cX19_brushesAt 153 = .ok (.dup2, 1) := dk_92 (dk_at dksX19_brushesAt_6 11 rfl rfl)
theorem dX19_brushesAt_154 : decode cX19_brushesAt 154 = .ok (.iaload, 1) := dk_46 (dk_at dksX19_brushesAt_6 12 rfl rfl)
theorem dX19_brushesAt_155 : decode cX19_brushesAt 155 = .ok (.aload_n 0, 1) := dk_42 (dk_at dksX19_brushesAt_6 13 rfl rfl)
theorem dX19_brushesAt_156 : decode cX19_brushesAt 156 = .ok (.getfield 363, 3) := dk_180 1 107 (dk_at dksX19_brushesAt_6 14 rfl rfl)
theorem dX19_brushesAt_159 : decode cX19_brushesAt 159 = .ok (.getfield 304, 3) := dk_180 1 48 (dk_at dksX19_brushesAt_6 17 rfl rfl)
theorem dX19_brushesAt_162 : decode cX19_brushesAt 162 = .ok (.iload_n 1, 1) := dk_27 (dk_at dksX19_brushesAt_6 20 rfl rfl)
theorem dX19_brushesAt_163 : decode cX19_brushesAt 163 = .ok (.iaload, 1) := dk_46 (dk_at dksX19_brushesAt_6 21 rfl rfl)
theorem dX19_brushesAt_164 : decode cX19_brushesAt 164 = .ok (.iadd, 1) := dk_96 (dk_at dksX19_brushesAt_6 22 rfl rfl)
theorem dX19_brushesAt_165 : decode cX19_brushesAt 165 = .ok (.iastore, 1) := dk_79 (dk_at dksX19_brushesAt_6 23 rfl rfl)
theorem dX19_brushesAt_166 : decode cX19_brushesAt 166 = .ok (.aload_n 0, 1) := dk_42 (dk_at dksX19_brushesAt_7 0 rfl rfl)
theorem dX19_brushesAt_167 : decode cX19_brushesAt 167 = .ok (.iload_n 1, 1) := dk_27 (dk_at dksX19_brushesAt_7 1 rfl rfl)
theorem dX19_brushesAt_168 : decode cX19_brushesAt 168 = .ok (.invokevirtual 428, 3) := dk_182 1 172 (dk_at dksX19_brushesAt_7 2 rfl rfl)
theorem dX19_brushesAt_171 : decode cX19_brushesAt 171 = .ok (.iconst 3, 1) := dk_6 (dk_at dksX19_brushesAt_7 5 rfl rfl)
theorem dX19_brushesAt_172 : decode cX19_brushesAt 172 = .ok (.if_icmp .ne 14, 3) := dk_160 0 14 (dk_at dksX19_brushesAt_7 6 rfl rfl)
theorem dX19_brushesAt_175 : decode cX19_brushesAt 175 = .ok (.aload_n 0, 1) := dk_42 (dk_at dksX19_brushesAt_7 9 rfl rfl)
theorem dX19_brushesAt_176 : decode cX19_brushesAt 176 = .ok (.getfield 48, 3) := dk_180 0 48 (dk_at dksX19_brushesAt_7 10 rfl rfl)
theorem dX19_brushesAt_179 : decode cX19_brushesAt 179 = .ok (.iload_n 1, 1) := dk_27 (dk_at dksX19_brushesAt_7 13 rfl rfl)
theorem dX19_brushesAt_180 : decode cX19_brushesAt 180 = .ok (.iaload, 1) := dk_46 (dk_at dksX19_brushesAt_7 14 rfl rfl)
theorem dX19_brushesAt_181 : decode cX19_brushesAt 181 = .ok (.bipush 8, 2) := dk_16 8 (dk_at dksX19_brushesAt_7 15 rfl rfl)
theorem dX19_brushesAt_183 : decode cX19_brushesAt 183 = .ok (.if_icmp .lt 4, 3) := dk_161 0 4 (dk_at dksX19_brushesAt_7 17 rfl rfl)
theorem dX19_brushesAt_186 : decode cX19_brushesAt 186 = .ok (.return_, 1) := dk_177 (dk_at dksX19_brushesAt_7 20 rfl rfl)
theorem dX19_brushesAt_187 : decode cX19_brushesAt 187 = .ok (.aload_n 0, 1) := dk_42 (dk_at dksX19_brushesAt_7 21 rfl rfl)
theorem dX19_brushesAt_188 : decode cX19_brushesAt 188 = .ok (.getfield 54, 3) := dk_180 0 54 (dk_at dksX19_brushesAt_8 0 rfl rfl)
theorem dX19_brushesAt_191 : decode cX19_brushesAt 191 = .ok (.aload_n 0, 1) := dk_42 (dk_at dksX19_brushesAt_8 3 rfl rfl)
theorem dX19_brushesAt_192 : decode cX19_brushesAt 192 = .ok (.getfield 48, 3) := dk_180 0 48 (dk_at dksX19_brushesAt_8 4 rfl rfl)
theorem dX19_brushesAt_195 : decode cX19_brushesAt 195 = .ok (.iload_n 1, 1) := dk_27 (dk_at dksX19_brushesAt_8 7 rfl rfl)
theorem dX19_brushesAt_196 : decode cX19_brushesAt 196 = .ok (.iaload, 1) := dk_46 (dk_at dksX19_brushesAt_8 8 rfl rfl)
theorem dX19_brushesAt_197 : decode cX19_brushesAt 197 = .ok (.bipush (-2), 2) := dk_16 254 (dk_at dksX19_brushesAt_8 9 rfl rfl)
theorem dX19_brushesAt_199 : decode cX19_brushesAt 199 = .ok (.iastore, 1) := dk_79 (dk_at dksX19_brushesAt_8 11 rfl rfl)
theorem dX19_brushesAt_200 : decode cX19_brushesAt 200 = .ok (.aload_n 0, 1) := dk_42 (dk_at dksX19_brushesAt_8 12 rfl rfl)
theorem dX19_brushesAt_201 : decode cX19_brushesAt 201 = .ok (.getfield 48, 3) := dk_180 0 48 (dk_at dksX19_brushesAt_8 13 rfl rfl)
theorem dX19_brushesAt_204 : decode cX19_brushesAt 204 = .ok (.iload_n 1, 1) := dk_27 (dk_at dksX19_brushesAt_8 16 rfl rfl)
theorem dX19_brushesAt_205 : decode cX19_brushesAt 205 = .ok (.aload_n 0, 1) := dk_42 (dk_at dksX19_brushesAt_8 17 rfl rfl)
theorem dX19_brushesAt_206 : decode cX19_brushesAt 206 = .ok (.invokevirtual 425, 3) := dk_182 1 169 (dk_at dksX19_brushesAt_8 18 rfl rfl)
theorem dX19_brushesAt_209 : decode cX19_brushesAt 209 = .ok (.iastore, 1) := dk_79 (dk_at dksX19_brushesAt_8 21 rfl rfl)
theorem dX19_brushesAt_210 : decode cX19_brushesAt 210 = .ok (.aload_n 0, 1) := dk_42 (dk_at dksX19_brushesAt_8 22 rfl rfl)
theorem dX19_brushesAt_211 : decode cX19_brushesAt 211 = .ok (.getfield 54, 3) := dk_180 0 54 (dk_at dksX19_brushesAt_9 0 rfl rfl)
theorem dX19_brushesAt_214 : decode cX19_brushesAt 214 = .ok (.aload_n 0, 1) := dk_42 (dk_at dksX19_brushesAt_9 3 rfl rfl)
theorem dX19_brushesAt_215 : decode cX19_brushesAt 215 = .ok (.getfield 48, 3) := dk_180 0 48 (dk_at dksX19_brushesAt_9 4 rfl rfl)
theorem dX19_brushesAt_218 : decode cX19_brushesAt 218 = .ok (.iload_n 1, 1) := dk_27 (dk_at dksX19_brushesAt_9 7 rfl rfl)
theorem dX19_brushesAt_219 : decode cX19_brushesAt 219 = .ok (.iaload, 1) := dk_46 (dk_at dksX19_brushesAt_9 8 rfl rfl)
theorem dX19_brushesAt_220 : decode cX19_brushesAt 220 = .ok (.iload_n 3, 1) := dk_29 (dk_at dksX19_brushesAt_9 9 rfl rfl)
theorem dX19_brushesAt_221 : decode cX19_brushesAt 221 = .ok (.iastore, 1) := dk_79 (dk_at dksX19_brushesAt_9 10 rfl rfl)
theorem dX19_brushesAt_222 : decode cX19_brushesAt 222 = .ok (.return_, 1) := dk_177 (dk_at dksX19_brushesAt_9 11 rfl rfl)
abbrev cX19_kindOf : ByteArray := prog_24_method_38_code
def yX19_kindOf : MethodName := ⟨RX19, "kindOf", "(I)I"⟩
def dkwX19_kindOf_0 : List UInt8 := [42, 180, 1, 115, 2, 160, 0, 14, 42, 180, 0, 21, 3, 27, 96, 46, 167, 0, 7, 42, 180, 1, 115, 172]
abbrev dktX19_kindOf_0 : List UInt8 := dkwX19_kindOf_0 ++ []
theorem dksX19_kindOf_0 : cX19_kindOf.data.toList.drop 0 = dktX19_kindOf_0 := by decide +kernel
theorem dX19_kindOf_0 : decode cX19_kindOf 0 = .ok (.aload_n 0, 1) := dk_42 (dk_at dksX19_kindOf_0 0 rfl rfl)
theorem dX19_kindOf_1 : decode cX19_kindOf 1 = .ok (.getfield 371, 3) := dk_180 1 115 (dk_at dksX19_kindOf_0 1 rfl rfl)
theorem dX19_kindOf_4 : decode cX19_kindOf 4 = .ok (.iconst (-1), 1) := dk_2 (dk_at dksX19_kindOf_0 4 rfl rfl)
theorem dX19_kindOf_5 : decode cX19_kindOf 5 = .ok (.if_icmp .ne 14, 3) := dk_160 0 14 (dk_at dksX19_kindOf_0 5 rfl rfl)
theorem dX19_kindOf_8 : decode cX19_kindOf 8 = .ok (.aload_n 0, 1) := dk_42 (dk_at dksX19_kindOf_0 8 rfl rfl)
theorem dX19_kindOf_9 : decode cX19_kindOf 9 = .ok (.getfield 21, 3) := dk_180 0 21 (dk_at dksX19_kindOf_0 9 rfl rfl)
theorem dX19_kindOf_12 : decode cX19_kindOf 12 = .ok (.iconst 0, 1) := dk_3 (dk_at dksX19_kindOf_0 12 rfl rfl)
theorem dX19_kindOf_13 : decode cX19_kindOf 13 = .ok (.iload_n 1, 1) := dk_27 (dk_at dksX19_kindOf_0 13 rfl rfl)
theorem dX19_kindOf_14 : decode cX19_kindOf 14 = .ok (.iadd, 1) := dk_96 (dk_at dksX19_kindOf_0 14 rfl rfl)
theorem dX19_kindOf_15 : decode cX19_kindOf 15 = .ok (.iaload, 1) := dk_46 (dk_at dksX19_kindOf_0 15 rfl rfl)
theorem dX19_kindOf_16 : decode cX19_kindOf 16 = .ok (.goto 7, 3) := dk_167 0 7 (dk_at dksX19_kindOf_0 16 rfl rfl)
theorem dX19_kindOf_19 : decode cX19_kindOf 19 = .ok (.aload_n 0, 1) := dk_42 (dk_at dksX19_kindOf_0 19 rfl rfl)
theorem dX19_kindOf_20 : decode cX19_kindOf 20 = .ok (.getfield 371, 3) := dk_180 1 115 (dk_at dksX19_kindOf_0 20 rfl rfl)
theorem dX19_kindOf_23 : decode cX19_kindOf 23 = .ok (.ireturn, 1) := dk_172 (dk_at dksX19_kindOf_0 23 rfl rfl)
abbrev cX19_brush : ByteArray := prog_24_method_60_code
def yX19_brush : MethodName := ⟨RX19, "brush", "(II)I"⟩
def dkwX19_brush_6 : List UInt8 := [180, 0, 42, 27, 46, 182, 0, 98, 172]
abbrev dktX19_brush_6 : List UInt8 := dkwX19_brush_6 ++ []
def dkwX19_brush_5 : List UInt8 := [180, 0, 36, 27, 46, 182, 0, 98, 172, 42, 42, 180, 0, 39, 27, 46, 182, 0, 98, 172, 42, 42]
abbrev dktX19_brush_5 : List UInt8 := dkwX19_brush_5 ++ dktX19_brush_6
def dkwX19_brush_4 : List UInt8 := [42, 42, 180, 0, 30, 27, 46, 182, 0, 98, 172, 42, 42, 180, 0, 33, 27, 46, 182, 0, 98, 172, 42, 42]
abbrev dktX19_brush_4 : List UInt8 := dkwX19_brush_4 ++ dktX19_brush_5
def dkwX19_brush_3 : List UInt8 := [170, 0, 0, 0, 0, 74, 0, 0, 0, 0, 0, 0, 0, 3, 0, 0, 0, 30, 0, 0, 0, 41, 0, 0, 0, 52, 0, 0, 0, 63]
abbrev dktX19_brush_3 : List UInt8 := dkwX19_brush_3 ++ dktX19_brush_4
def dkwX19_brush_2 : List UInt8 := [182, 0, 94, 172, 28]
abbrev dktX19_brush_2 : List UInt8 := dkwX19_brush_2 ++ dktX19_brush_3
def dkwX19_brush_1 : List UInt8 := [182, 0, 94, 172, 42, 182, 1, 191, 27, 155, 0, 11, 27, 42, 180, 1, 127, 161, 0, 9, 42, 4]
abbrev dktX19_brush_1 : List UInt8 := dkwX19_brush_1 ++ dktX19_brush_2
def dkwX19_brush_0 : List UInt8 := [42, 3, 181, 0, 88, 42, 180, 1, 107, 198, 0, 12, 28, 3, 7, 184, 0, 169, 154, 0, 9, 42, 4]
abbrev dktX19_brush_0 : List UInt8 := dkwX19_brush_0 ++ dktX19_brush_1
theorem dksX19_brush_0 : cX19_brush.data.toList.drop 0 = dktX19_brush_0 := by decide +kernel
theorem dksX19_brush_1 : cX19_brush.data.toList.drop 23 = dktX19_brush_1 := dk_seg dksX19_brush_0 23 rfl rfl
theorem dksX19_brush_2 : cX19_brush.data.toList.drop 45 = dktX19_brush_2 := dk_seg dksX19_brush_1 22 rfl rfl
theorem dksX19_brush_3 : cX19_brush.data.toList.drop 50 = dktX19_brush_3 := dk_seg dksX19_brush_2 5 rfl rfl
theorem dksX19_brush_4 : cX19_brush.data.toList.drop 80 = dktX19_brush_4 := dk_seg dksX19_brush_3 30 rfl rfl
theorem dksX19_brush_5 : cX19_brush.data.toList.drop 104 = dktX19_brush_5 := dk_seg dksX19_brush_4 24 rfl rfl
theorem dksX19_brush_6 : cX19_brush.data.toList.drop 126 = dktX19_brush_6 := dk_seg dksX19_brush_5 22 rfl rfl
theorem dX19_brush_0 : decode cX19_brush 0 = .ok (.aload_n 0, 1) := dk_42 (dk_at dksX19_brush_0 0 rfl rfl)
theorem dX19_brush_1 : decode cX19_brush 1 = .ok (.iconst 0, 1) := dk_3 (dk_at dksX19_brush_0 1 rfl rfl)
theorem dX19_brush_2 : decode cX19_brush 2 = .ok (.putfield 88, 3) := dk_181 0 88 (dk_at dksX19_brush_0 2 rfl rfl)
theorem dX19_brush_5 : decode cX19_brush 5 = .ok (.aload_n 0, 1) := dk_42 (dk_at dksX19_brush_0 5 rfl rfl)
theorem dX19_brush_6 : decode cX19_brush 6 = .ok (.getfield 363, 3) := dk_180 1 107 (dk_at dksX19_brush_0 6 rfl rfl)
theorem dX19_brush_9 : decode cX19_brush 9 = .ok (.ifnull 12, 3) := dk_198 0 12 (dk_at dksX19_brush_0 9 rfl rfl)
theorem dX19_brush_12 : decode cX19_brush 12 = .ok (.iload_n 2, 1) := dk_28 (dk_at dksX19_brush_0 12 rfl rfl)
theorem dX19_brush_13 : decode cX19_brush 13 = .ok (.iconst 0, 1) := dk_3 (dk_at dksX19_brush_0 13 rfl rfl)
theorem dX19_brush_14 : decode cX19_brush 14 = .ok (.iconst 4, 1) := dk_7 (dk_at dksX19_brush_0 14 rfl rfl)
theorem dX19_brush_15 : decode cX19_brush 15 = .ok (.invokestatic 169, 3) := dk_184 0 169 (dk_at dksX19_brush_0 15 rfl rfl)
theorem dX19_brush_18 : decode cX19_brush 18 = .ok (.ifCond .ne 9, 3) := dk_154 0 9 (dk_at dksX19_brush_0 18 rfl rfl)
theorem dX19_brush_21 : decode cX19_brush 21 = .ok (.aload_n 0, 1) := dk_42 (dk_at dksX19_brush_0 21 rfl rfl)
theorem dX19_brush_22 : decode cX19_brush 22 = .ok (.iconst 1, 1) := dk_4 (dk_at dksX19_brush_0 22 rfl rfl)
theorem dX19_brush_23 : decode cX19_brush 23 = .ok (.invokevirtual 94, 3) := dk_182 0 94 (dk_at dksX19_brush_1 0 rfl rfl)
theorem dX19_brush_26 : decode cX19_brush 26 = .ok (.ireturn, 1) := dk_172 (dk_at dksX19_brush_1 3 rfl rfl)
theorem dX19_brush_27 : decode cX19_brush 27 = .ok (.aload_n 0, 1) := dk_42 (dk_at dksX19_brush_1 4 rfl rfl)
theorem dX19_brush_28 : decode cX19_brush 28 = .ok (.invokevirtual 447, 3) := dk_182 1 191 (dk_at dksX19_brush_1 5 rfl rfl)
theorem dX19_brush_31 : decode cX19_brush 31 = .ok (.iload_n 1, 1) := dk_27 (dk_at dksX19_brush_1 8 rfl rfl)
theorem dX19_brush_32 : decode cX19_brush 32 = .ok (.ifCond .lt 11, 3) := dk_155 0 11 (dk_at dksX19_brush_1 9 rfl rfl)
theorem dX19_brush_35 : decode cX19_brush 35 = .ok (.iload_n 1, 1) := dk_27 (dk_at dksX19_brush_1 12 rfl rfl)
theorem dX19_brush_36 : decode cX19_brush 36 = .ok (.aload_n 0, 1) := dk_42 (dk_at dksX19_brush_1 13 rfl rfl)
theorem dX19_brush_37 : decode cX19_brush 37 = .ok (.getfield 383, 3) := dk_180 1 127 (dk_at dksX19_brush_1 14 rfl rfl)
theorem dX19_brush_40 : decode cX19_brush 40 = .ok (.if_icmp .lt 9, 3) := dk_161 0 9 (dk_at dksX19_brush_1 17 rfl rfl)
theorem dX19_brush_43 : decode cX19_brush 43 = .ok (.aload_n 0, 1) := dk_42 (dk_at dksX19_brush_1 20 rfl rfl)
theorem dX19_brush_44 : decode cX19_brush 44 = .ok (.iconst 1, 1) := dk_4 (dk_at dksX19_brush_1 21 rfl rfl)
theorem dX19_brush_45 : decode cX19_brush 45 = .ok (.invokevirtual 94, 3) := dk_182 0 94 (dk_at dksX19_brush_2 0 rfl rfl)
theorem dX19_brush_48 : decode cX19_brush 48 = .ok (.ireturn, 1) := dk_172 (dk_at dksX19_brush_2 3 rfl rfl)
theorem dX19_brush_49 : decode cX19_brush 49 = .ok (.iload_n 2, 1) := dk_28 (dk_at dksX19_brush_2 4 rfl rfl)
theorem dX19_brush_50 : decode cX19_brush 50 = .ok (.tableswitch 74 0 3 #[30, 41, 52, 63], 30) := by decide +kernel
theorem dX19_brush_80 : decode cX19_brush 80 = .ok (.aload_n 0, 1) := dk_42 (dk_at dksX19_brush_4 0 rfl rfl)
theorem dX19_brush_81 : decode cX19_brush 81 = .ok (.aload_n 0, 1) := dk_42 (dk_at dksX19_brush_4 1 rfl rfl)
theorem dX19_brush_82 : decode cX19_brush 82 = .ok (.getfield 30, 3) := dk_180 0 30 (dk_at dksX19_brush_4 2 rfl rfl)
theorem dX19_brush_85 : decode cX19_brush 85 = .ok (.iload_n 1, 1) := dk_27 (dk_at dksX19_brush_4 5 rfl rfl)
theorem dX19_brush_86 : decode cX19_brush 86 = .ok (.iaload, 1) := dk_46 (dk_at dksX19_brush_4 6 rfl rfl)
theorem dX19_brush_87 : decode cX19_brush 87 = .ok (.invokevirtual 98, 3) := dk_182 0 98 (dk_at dksX19_brush_4 7 rfl rfl)
theorem dX19_brush_90 : decode cX19_brush 90 = .ok (.ireturn, 1) := dk_172 (dk_at dksX19_brush_4 10 rfl rfl)
theorem dX19_brush_91 : decode cX19_brush 91 = .ok (.aload_n 0, 1) := dk_42 (dk_at dksX19_brush_4 11 rfl rfl)
theorem dX19_brush_92 : decode cX19_brush 92 = .ok (.aload_n 0, 1) := dk_42 (dk_at dksX19_brush_4 12 rfl rfl)
theorem dX19_brush_93 : decode cX19_brush 93 = .ok (.getfield 33, 3) := dk_180 0 33 (dk_at dksX19_brush_4 13 rfl rfl)
theorem dX19_brush_96 : decode cX19_brush 96 = .ok (.iload_n 1, 1) := dk_27 (dk_at dksX19_brush_4 16 rfl rfl)
theorem dX19_brush_97 : decode cX19_brush 97 = .ok (.iaload, 1) := dk_46 (dk_at dksX19_brush_4 17 rfl rfl)
theorem dX19_brush_98 : decode cX19_brush 98 = .ok (.invokevirtual 98, 3) := dk_182 0 98 (dk_at dksX19_brush_4 18 rfl rfl)
theorem dX19_brush_101 : decode cX19_brush 101 = .ok (.ireturn, 1) := dk_172 (dk_at dksX19_brush_4 21 rfl rfl)
theorem dX19_brush_102 : decode cX19_brush 102 = .ok (.aload_n 0, 1) := dk_42 (dk_at dksX19_brush_4 22 rfl rfl)
theorem dX19_brush_103 : decode cX19_brush 103 = .ok (.aload_n 0, 1) := dk_42 (dk_at dksX19_brush_4 23 rfl rfl)
theorem dX19_brush_104 : decode cX19_brush 104 = .ok (.getfield 36, 3) := dk_180 0 36 (dk_at dksX19_brush_5 0 rfl rfl)
theorem dX19_brush_107 : decode cX19_brush 107 = .ok (.iload_n 1, 1) := dk_27 (dk_at dksX19_brush_5 3 rfl rfl)
theorem dX19_brush_108 : decode cX19_brush 108 = .ok (.iaload, 1) := dk_46 (dk_at dksX19_brush_5 4 rfl rfl)
theorem dX19_brush_109 : decode cX19_brush 109 = .ok (.invokevirtual 98, 3) := dk_182 0 98 (dk_at dksX19_brush_5 5 rfl rfl)
theorem dX19_brush_112 : decode cX19_brush 112 = .ok (.ireturn, 1) := dk_172 (dk_at dksX19_brush_5 8 rfl rfl)
theorem dX19_brush_113 : decode cX19_brush 113 = .ok (.aload_n 0, 1) := dk_42 (dk_at dksX19_brush_5 9 rfl rfl)
theorem dX19_brush_114 : decode cX19_brush 114 = .ok (.aload_n 0, 1) := dk_42 (dk_at dksX19_brush_5 10 rfl rfl)
theorem dX19_brush_115 : decode cX19_brush 115 = .ok (.getfield 39, 3) := dk_180 0 39 (dk_at dksX19_brush_5 11 rfl rfl)
theorem dX19_brush_118 : decode cX19_brush 118 = .ok (.iload_n 1, 1) := dk_27 (dk_at dksX19_brush_5 14 rfl rfl)
theorem dX19_brush_119 : decode cX19_brush 119 = .ok (.iaload, 1) := dk_46 (dk_at dksX19_brush_5 15 rfl rfl)
theorem dX19_brush_120 : decode cX19_brush 120 = .ok (.invokevirtual 98, 3) := dk_182 0 98 (dk_at dksX19_brush_5 16 rfl rfl)
theorem dX19_brush_123 : decode cX19_brush 123 = .ok (.ireturn, 1) := dk_172 (dk_at dksX19_brush_5 19 rfl rfl)
theorem dX19_brush_124 : decode cX19_brush 124 = .ok (.aload_n 0, 1) := dk_42 (dk_at dksX19_brush_5 20 rfl rfl)
theorem dX19_brush_125 : decode cX19_brush 125 = .ok (.aload_n 0, 1) := dk_42 (dk_at dksX19_brush_5 21 rfl rfl)
theorem dX19_brush_126 : decode cX19_brush 126 = .ok (.getfield 42, 3) := dk_180 0 42 (dk_at dksX19_brush_6 0 rfl rfl)
theorem dX19_brush_129 : decode cX19_brush 129 = .ok (.iload_n 1, 1) := dk_27 (dk_at dksX19_brush_6 3 rfl rfl)
theorem dX19_brush_130 : decode cX19_brush 130 = .ok (.iaload, 1) := dk_46 (dk_at dksX19_brush_6 4 rfl rfl)
theorem dX19_brush_131 : decode cX19_brush 131 = .ok (.invokevirtual 98, 3) := dk_182 0 98 (dk_at dksX19_brush_6 5 rfl rfl)
theorem dX19_brush_134 : decode cX19_brush 134 = .ok (.ireturn, 1) := dk_172 (dk_at dksX19_brush_6 8 rfl rfl)
abbrev cX19_at : ByteArray := prog_24_method_62_code
def yX19_at : MethodName := ⟨RX19, "at", "(II)I"⟩
def dkwX19_at_1 : List UInt8 := [182, 0, 94, 172, 42, 182, 1, 191, 42, 42, 27, 28, 182, 1, 197, 182, 0, 98, 172]
abbrev dktX19_at_1 : List UInt8 := dkwX19_at_1 ++ []
def dkwX19_at_0 : List UInt8 := [42, 3, 181, 0, 88, 42, 42, 28, 182, 1, 194, 27, 182, 1, 181, 62, 29, 158, 0, 9, 42, 29]
abbrev dktX19_at_0 : List UInt8 := dkwX19_at_0 ++ dktX19_at_1
theorem dksX19_at_0 : cX19_at.data.toList.drop 0 = dktX19_at_0 := by decide +kernel
theorem dksX19_at_1 : cX19_at.data.toList.drop 22 = dktX19_at_1 := dk_seg dksX19_at_0 22 rfl rfl
theorem dX19_at_0 : decode cX19_at 0 = .ok (.aload_n 0, 1) := dk_42 (dk_at dksX19_at_0 0 rfl rfl)
theorem dX19_at_1 : decode cX19_at 1 = .ok (.iconst 0, 1) := dk_3 (dk_at dksX19_at_0 1 rfl rfl)
theorem dX19_at_2 : decode cX19_at 2 = .ok (.putfield 88, 3) := dk_181 0 88 (dk_at dksX19_at_0 2 rfl rfl)
theorem dX19_at_5 : decode cX19_at 5 = .ok (.aload_n 0, 1) := dk_42 (dk_at dksX19_at_0 5 rfl rfl)
theorem dX19_at_6 : decode cX19_at 6 = .ok (.aload_n 0, 1) := dk_42 (dk_at dksX19_at_0 6 rfl rfl)
theorem dX19_at_7 : decode cX19_at 7 = .ok (.iload_n 2, 1) := dk_28 (dk_at dksX19_at_0 7 rfl rfl)
theorem dX19_at_8 : decode cX19_at 8 = .ok (.invokevirtual 450, 3) := dk_182 1 194 (dk_at dksX19_at_0 8 rfl rfl)
theorem dX19_at_11 : decode cX19_at 11 = .ok (.iload_n 1, 1) := dk_27 (dk_at dksX19_at_0 11 rfl rfl)
theorem dX19_at_12 : decode cX19_at 12 = .ok (.invokevirtual 437, 3) := dk_182 1 181 (dk_at dksX19_at_0 12 rfl rfl)
theorem dX19_at_15 : decode cX19_at 15 = .ok (.istore_n 3, 1) := dk_62 (dk_at dksX19_at_0 15 rfl rfl)
theorem dX19_at_16 : decode cX19_at 16 = .ok (.iload_n 3, 1) := dk_29 (dk_at dksX19_at_0 16 rfl rfl)
theorem dX19_at_17 : decode cX19_at 17 = .ok (.ifCond .le 9, 3) := dk_158 0 9 (dk_at dksX19_at_0 17 rfl rfl)
theorem dX19_at_20 : decode cX19_at 20 = .ok (.aload_n 0, 1) := dk_42 (dk_at dksX19_at_0 20 rfl rfl)
theorem dX19_at_21 : decode cX19_at 21 = .ok (.iload_n 3, 1) := dk_29 (dk_at dksX19_at_0 21 rfl rfl)
theorem dX19_at_22 : decode cX19_at 22 = .ok (.invokevirtual 94, 3) := dk_182 0 94 (dk_at dksX19_at_1 0 rfl rfl)
theorem dX19_at_25 : decode cX19_at 25 = .ok (.ireturn, 1) := dk_172 (dk_at dksX19_at_1 3 rfl rfl)
theorem dX19_at_26 : decode cX19_at 26 = .ok (.aload_n 0, 1) := dk_42 (dk_at dksX19_at_1 4 rfl rfl)
theorem dX19_at_27 : decode cX19_at 27 = .ok (.invokevirtual 447, 3) := dk_182 1 191 (dk_at dksX19_at_1 5 rfl rfl)
theorem dX19_at_30 : decode cX19_at 30 = .ok (.aload_n 0, 1) := dk_42 (dk_at dksX19_at_1 8 rfl rfl)
theorem dX19_at_31 : decode cX19_at 31 = .ok (.aload_n 0, 1) := dk_42 (dk_at dksX19_at_1 9 rfl rfl)
theorem dX19_at_32 : decode cX19_at 32 = .ok (.iload_n 1, 1) := dk_27 (dk_at dksX19_at_1 10 rfl rfl)
theorem dX19_at_33 : decode cX19_at 33 = .ok (.iload_n 2, 1) := dk_28 (dk_at dksX19_at_1 11 rfl rfl)
theorem dX19_at_34 : decode cX19_at 34 = .ok (.invokevirtual 453, 3) := dk_182 1 197 (dk_at dksX19_at_1 12 rfl rfl)
theorem dX19_at_37 : decode cX19_at 37 = .ok (.invokevirtual 98, 3) := dk_182 0 98 (dk_at dksX19_at_1 15 rfl rfl)
theorem dX19_at_40 : decode cX19_at 40 = .ok (.ireturn, 1) := dk_172 (dk_at dksX19_at_1 18 rfl rfl)
abbrev cX19_isPlace : ByteArray := prog_24_method_52_code
def yX19_isPlace : MethodName := ⟨RX19, "isPlace", "(I)Z"⟩
def dkwX19_isPlace_1 : List UInt8 := [167, 0, 4, 3, 172]
abbrev dktX19_isPlace_1 : List UInt8 := dkwX19_isPlace_1 ++ []
def dkwX19_isPlace_0 : List UInt8 := [42, 180, 1, 107, 198, 0, 22, 27, 155, 0, 18, 27, 42, 180, 1, 107, 180, 0, 251, 162, 0, 7, 4]
abbrev dktX19_isPlace_0 : List UInt8 := dkwX19_isPlace_0 ++ dktX19_isPlace_1
theorem dksX19_isPlace_0 : cX19_isPlace.data.toList.drop 0 = dktX19_isPlace_0 := by decide +kernel
theorem dksX19_isPlace_1 : cX19_isPlace.data.toList.drop 23 = dktX19_isPlace_1 := dk_seg dksX19_isPlace_0 23 rfl rfl
theorem dX19_isPlace_0 : decode cX19_isPlace 0 = .ok (.aload_n 0, 1) := dk_42 (dk_at dksX19_isPlace_0 0 rfl rfl)
theorem dX19_isPlace_1 : decode cX19_isPlace 1 = .ok (.getfield 363, 3) := dk_180 1 107 (dk_at dksX19_isPlace_0 1 rfl rfl)
theorem dX19_isPlace_4 : decode cX19_isPlace 4 = .ok (.ifnull 22, 3) := dk_198 0 22 (dk_at dksX19_isPlace_0 4 rfl rfl)
theorem dX19_isPlace_7 : decode cX19_isPlace 7 = .ok (.iload_n 1, 1) := dk_27 (dk_at dksX19_isPlace_0 7 rfl rfl)
theorem dX19_isPlace_8 : decode cX19_isPlace 8 = .ok (.ifCond .lt 18, 3) := dk_155 0 18 (dk_at dksX19_isPlace_0 8 rfl rfl)
theorem dX19_isPlace_11 : decode cX19_isPlace 11 = .ok (.iload_n 1, 1) := dk_27 (dk_at dksX19_isPlace_0 11 rfl rfl)
theorem dX19_isPlace_12 : decode cX19_isPlace 12 = .ok (.aload_n 0, 1) := dk_42 (dk_at dksX19_isPlace_0 12 rfl rfl)
theorem dX19_isPlace_13 : decode cX19_isPlace 13 = .ok (.getfield 363, 3) := dk_180 1 107 (dk_at dksX19_isPlace_0 13 rfl rfl)
theorem dX19_isPlace_16 : decode cX19_isPlace 16 = .ok (.getfield 251, 3) := dk_180 0 251 (dk_at dksX19_isPlace_0 16 rfl rfl)
theorem dX19_isPlace_19 : decode cX19_isPlace 19 = .ok (.if_icmp .ge 7, 3) := dk_162 0 7 (dk_at dksX19_isPlace_0 19 rfl rfl)
theorem dX19_isPlace_22 : decode cX19_isPlace 22 = .ok (.iconst 1, 1) := dk_4 (dk_at dksX19_isPlace_0 22 rfl rfl)
theorem dX19_isPlace_23 : decode cX19_isPlace 23 = .ok (.goto 4, 3) := dk_167 0 4 (dk_at dksX19_isPlace_1 0 rfl rfl)
theorem dX19_isPlace_26 : decode cX19_isPlace 26 = .ok (.iconst 0, 1) := dk_3 (dk_at dksX19_isPlace_1 3 rfl rfl)
theorem dX19_isPlace_27 : decode cX19_isPlace 27 = .ok (.ireturn, 1) := dk_172 (dk_at dksX19_isPlace_1 4 rfl rfl)
abbrev cX19_standsIn : ByteArray := prog_24_method_61_code
def yX19_standsIn : MethodName := ⟨RX19, "standsIn", "(II)I"⟩
def dkwX19_standsIn_0 : List UInt8 := [42, 180, 0, 57, 16, 8, 27, 104, 28, 96, 46, 172]
abbrev dktX19_standsIn_0 : List UInt8 := dkwX19_standsIn_0 ++ []
theorem dksX19_standsIn_0 : cX19_standsIn.data.toList.drop 0 = dktX19_standsIn_0 := by decide +kernel
theorem dX19_standsIn_0 : decode cX19_standsIn 0 = .ok (.aload_n 0, 1) := dk_42 (dk_at dksX19_standsIn_0 0 rfl rfl)
theorem dX19_standsIn_1 : decode cX19_standsIn 1 = .ok (.getfield 57, 3) := dk_180 0 57 (dk_at dksX19_standsIn_0 1 rfl rfl)
theorem dX19_standsIn_4 : decode cX19_standsIn 4 = .ok (.bipush 8, 2) := dk_16 8 (dk_at dksX19_standsIn_0 4 rfl rfl)
theorem dX19_standsIn_6 : decode cX19_standsIn 6 = .ok (.iload_n 1, 1) := dk_27 (dk_at dksX19_standsIn_0 6 rfl rfl)
theorem dX19_standsIn_7 : decode cX19_standsIn 7 = .ok (.imul, 1) := dk_104 (dk_at dksX19_standsIn_0 7 rfl rfl)
theorem dX19_standsIn_8 : decode cX19_standsIn 8 = .ok (.iload_n 2, 1) := dk_28 (dk_at dksX19_standsIn_0 8 rfl rfl)
theorem dX19_standsIn_9 : decode cX19_standsIn 9 = .ok (.iadd, 1) := dk_96 (dk_at dksX19_standsIn_0 9 rfl rfl)
theorem dX19_standsIn_10 : decode cX19_standsIn 10 = .ok (.iaload, 1) := dk_46 (dk_at dksX19_standsIn_0 10 rfl rfl)
theorem dX19_standsIn_11 : decode cX19_standsIn 11 = .ok (.ireturn, 1) := dk_172 (dk_at dksX19_standsIn_0 11 rfl rfl)
abbrev cX19_colour : ByteArray := prog_24_method_63_code
def yX19_colour : MethodName := ⟨RX19, "colour", "(II)I"⟩
def dkwX19_colour_1 : List UInt8 := [182, 0, 94, 172, 42, 182, 1, 191, 42, 42, 27, 28, 182, 1, 200, 182, 0, 98, 172]
abbrev dktX19_colour_1 : List UInt8 := dkwX19_colour_1 ++ []
def dkwX19_colour_0 : List UInt8 := [42, 3, 181, 0, 88, 42, 42, 28, 182, 1, 194, 27, 182, 1, 181, 62, 29, 158, 0, 9, 42, 29]
abbrev dktX19_colour_0 : List UInt8 := dkwX19_colour_0 ++ dktX19_colour_1
theorem dksX19_colour_0 : cX19_colour.data.toList.drop 0 = dktX19_colour_0 := by decide +kernel
theorem dksX19_colour_1 : cX19_colour.data.toList.drop 22 = dktX19_colour_1 := dk_seg dksX19_colour_0 22 rfl rfl
theorem dX19_colour_0 : decode cX19_colour 0 = .ok (.aload_n 0, 1) := dk_42 (dk_at dksX19_colour_0 0 rfl rfl)
theorem dX19_colour_1 : decode cX19_colour 1 = .ok (.iconst 0, 1) := dk_3 (dk_at dksX19_colour_0 1 rfl rfl)
theorem dX19_colour_2 : decode cX19_colour 2 = .ok (.putfield 88, 3) := dk_181 0 88 (dk_at dksX19_colour_0 2 rfl rfl)
theorem dX19_colour_5 : decode cX19_colour 5 = .ok (.aload_n 0, 1) := dk_42 (dk_at dksX19_colour_0 5 rfl rfl)
theorem dX19_colour_6 : decode cX19_colour 6 = .ok (.aload_n 0, 1) := dk_42 (dk_at dksX19_colour_0 6 rfl rfl)
theorem dX19_colour_7 : decode cX19_colour 7 = .ok (.iload_n 2, 1) := dk_28 (dk_at dksX19_colour_0 7 rfl rfl)
theorem dX19_colour_8 : decode cX19_colour 8 = .ok (.invokevirtual 450, 3) := dk_182 1 194 (dk_at dksX19_colour_0 8 rfl rfl)
theorem dX19_colour_11 : decode cX19_colour 11 = .ok (.iload_n 1, 1) := dk_27 (dk_at dksX19_colour_0 11 rfl rfl)
theorem dX19_colour_12 : decode cX19_colour 12 = .ok (.invokevirtual 437, 3) := dk_182 1 181 (dk_at dksX19_colour_0 12 rfl rfl)
theorem dX19_colour_15 : decode cX19_colour 15 = .ok (.istore_n 3, 1) := dk_62 (dk_at dksX19_colour_0 15 rfl rfl)
theorem dX19_colour_16 : decode cX19_colour 16 = .ok (.iload_n 3, 1) := dk_29 (dk_at dksX19_colour_0 16 rfl rfl)
theorem dX19_colour_17 : decode cX19_colour 17 = .ok (.ifCond .le 9, 3) := dk_158 0 9 (dk_at dksX19_colour_0 17 rfl rfl)
theorem dX19_colour_20 : decode cX19_colour 20 = .ok (.aload_n 0, 1) := dk_42 (dk_at dksX19_colour_0 20 rfl rfl)
theorem dX19_colour_21 : decode cX19_colour 21 = .ok (.iload_n 3, 1) := dk_29 (dk_at dksX19_colour_0 21 rfl rfl)
theorem dX19_colour_22 : decode cX19_colour 22 = .ok (.invokevirtual 94, 3) := dk_182 0 94 (dk_at dksX19_colour_1 0 rfl rfl)
theorem dX19_colour_25 : decode cX19_colour 25 = .ok (.ireturn, 1) := dk_172 (dk_at dksX19_colour_1 3 rfl rfl)
theorem dX19_colour_26 : decode cX19_colour 26 = .ok (.aload_n 0, 1) := dk_42 (dk_at dksX19_colour_1 4 rfl rfl)
theorem dX19_colour_27 : decode cX19_colour 27 = .ok (.invokevirtual 447, 3) := dk_182 1 191 (dk_at dksX19_colour_1 5 rfl rfl)
theorem dX19_colour_30 : decode cX19_colour 30 = .ok (.aload_n 0, 1) := dk_42 (dk_at dksX19_colour_1 8 rfl rfl)
theorem dX19_colour_31 : decode cX19_colour 31 = .ok (.aload_n 0, 1) := dk_42 (dk_at dksX19_colour_1 9 rfl rfl)
theorem dX19_colour_32 : decode cX19_colour 32 = .ok (.iload_n 1, 1) := dk_27 (dk_at dksX19_colour_1 10 rfl rfl)
theorem dX19_colour_33 : decode cX19_colour 33 = .ok (.iload_n 2, 1) := dk_28 (dk_at dksX19_colour_1 11 rfl rfl)
theorem dX19_colour_34 : decode cX19_colour 34 = .ok (.invokevirtual 456, 3) := dk_182 1 200 (dk_at dksX19_colour_1 12 rfl rfl)
theorem dX19_colour_37 : decode cX19_colour 37 = .ok (.invokevirtual 98, 3) := dk_182 0 98 (dk_at dksX19_colour_1 15 rfl rfl)
theorem dX19_colour_40 : decode cX19_colour 40 = .ok (.ireturn, 1) := dk_172 (dk_at dksX19_colour_1 18 rfl rfl)
abbrev cX19_colourIn : ByteArray := prog_24_method_64_code
def yX19_colourIn : MethodName := ⟨RX19, "colourIn", "(II)I"⟩
def dkwX19_colourIn_1 : List UInt8 := [182, 1, 197, 46, 172]
abbrev dktX19_colourIn_1 : List UInt8 := dkwX19_colourIn_1 ++ []
def dkwX19_colourIn_0 : List UInt8 := [42, 27, 28, 182, 1, 197, 16, 254, 160, 0, 8, 16, 254, 167, 0, 14, 42, 180, 0, 33, 42, 27, 28]
abbrev dktX19_colourIn_0 : List UInt8 := dkwX19_colourIn_0 ++ dktX19_colourIn_1
theorem dksX19_colourIn_0 : cX19_colourIn.data.toList.drop 0 = dktX19_colourIn_0 := by decide +kernel
theorem dksX19_colourIn_1 : cX19_colourIn.data.toList.drop 23 = dktX19_colourIn_1 := dk_seg dksX19_colourIn_0 23 rfl rfl
theorem dX19_colourIn_0 : decode cX19_colourIn 0 = .ok (.aload_n 0, 1) := dk_42 (dk_at dksX19_colourIn_0 0 rfl rfl)
theorem dX19_colourIn_1 : decode cX19_colourIn 1 = .ok (.iload_n 1, 1) := dk_27 (dk_at dksX19_colourIn_0 1 rfl rfl)
theorem dX19_colourIn_2 : decode cX19_colourIn 2 = .ok (.iload_n 2, 1) := dk_28 (dk_at dksX19_colourIn_0 2 rfl rfl)
theorem dX19_colourIn_3 : decode cX19_colourIn 3 = .ok (.invokevirtual 453, 3) := dk_182 1 197 (dk_at dksX19_colourIn_0 3 rfl rfl)
theorem dX19_colourIn_6 : decode cX19_colourIn 6 = .ok (.bipush (-2), 2) := dk_16 254 (dk_at dksX19_colourIn_0 6 rfl rfl)
theorem dX19_colourIn_8 : decode cX19_colourIn 8 = .ok (.if_icmp .ne 8, 3) := dk_160 0 8 (dk_at dksX19_colourIn_0 8 rfl rfl)
theorem dX19_colourIn_11 : decode cX19_colourIn 11 = .ok (.bipush (-2), 2) := dk_16 254 (dk_at dksX19_colourIn_0 11 rfl rfl)
theorem dX19_colourIn_13 : decode cX19_colourIn 13 = .ok (.goto 14, 3) := dk_167 0 14 (dk_at dksX19_colourIn_0 13 rfl rfl)
theorem dX19_colourIn_16 : decode cX19_colourIn 16 = .ok (.aload_n 0, 1) := dk_42 (dk_at dksX19_colourIn_0 16 rfl rfl)
theorem dX19_colourIn_17 : decode cX19_colourIn 17 = .ok (.getfield 33, 3) := dk_180 0 33 (dk_at dksX19_colourIn_0 17 rfl rfl)
theorem dX19_colourIn_20 : decode cX19_colourIn 20 = .ok (.aload_n 0, 1) := dk_42 (dk_at dksX19_colourIn_0 20 rfl rfl)
theorem dX19_colourIn_21 : decode cX19_colourIn 21 = .ok (.iload_n 1, 1) := dk_27 (dk_at dksX19_colourIn_0 21 rfl rfl)
theorem dX19_colourIn_22 : decode cX19_colourIn 22 = .ok (.iload_n 2, 1) := dk_28 (dk_at dksX19_colourIn_0 22 rfl rfl)
theorem dX19_colourIn_23 : decode cX19_colourIn 23 = .ok (.invokevirtual 453, 3) := dk_182 1 197 (dk_at dksX19_colourIn_1 0 rfl rfl)
theorem dX19_colourIn_26 : decode cX19_colourIn 26 = .ok (.iaload, 1) := dk_46 (dk_at dksX19_colourIn_1 3 rfl rfl)
theorem dX19_colourIn_27 : decode cX19_colourIn 27 = .ok (.ireturn, 1) := dk_172 (dk_at dksX19_colourIn_1 4 rfl rfl)
abbrev cX19_whose : ByteArray := prog_24_method_65_code
def yX19_whose : MethodName := ⟨RX19, "whose", "(II)I"⟩
def dkwX19_whose_2 : List UInt8 := [167, 0, 14, 42, 180, 0, 30, 42, 27, 28, 182, 1, 197, 46, 182, 0, 98, 172]
abbrev dktX19_whose_2 : List UInt8 := dkwX19_whose_2 ++ []
def dkwX19_whose_1 : List UInt8 := [182, 0, 94, 172, 42, 182, 1, 191, 42, 42, 27, 28, 182, 1, 197, 16, 254, 160, 0, 8, 16, 254]
abbrev dktX19_whose_1 : List UInt8 := dkwX19_whose_1 ++ dktX19_whose_2
def dkwX19_whose_0 : List UInt8 := [42, 3, 181, 0, 88, 42, 42, 28, 182, 1, 194, 27, 182, 1, 181, 62, 29, 158, 0, 9, 42, 29]
abbrev dktX19_whose_0 : List UInt8 := dkwX19_whose_0 ++ dktX19_whose_1
theorem dksX19_whose_0 : cX19_whose.data.toList.drop 0 = dktX19_whose_0 := by decide +kernel
theorem dksX19_whose_1 : cX19_whose.data.toList.drop 22 = dktX19_whose_1 := dk_seg dksX19_whose_0 22 rfl rfl
theorem dksX19_whose_2 : cX19_whose.data.toList.drop 44 = dktX19_whose_2 := dk_seg dksX19_whose_1 22 rfl rfl
theorem dX19_whose_0 : decode cX19_whose 0 = .ok (.aload_n 0, 1) := dk_42 (dk_at dksX19_whose_0 0 rfl rfl)
theorem dX19_whose_1 : decode cX19_whose 1 = .ok (.iconst 0, 1) := dk_3 (dk_at dksX19_whose_0 1 rfl rfl)
theorem dX19_whose_2 : decode cX19_whose 2 = .ok (.putfield 88, 3) := dk_181 0 88 (dk_at dksX19_whose_0 2 rfl rfl)
theorem dX19_whose_5 : decode cX19_whose 5 = .ok (.aload_n 0, 1) := dk_42 (dk_at dksX19_whose_0 5 rfl rfl)
theorem dX19_whose_6 : decode cX19_whose 6 = .ok (.aload_n 0, 1) := dk_42 (dk_at dksX19_whose_0 6 rfl rfl)
theorem dX19_whose_7 : decode cX19_whose 7 = .ok (.iload_n 2, 1) := dk_28 (dk_at dksX19_whose_0 7 rfl rfl)
theorem dX19_whose_8 : decode cX19_whose 8 = .ok (.invokevirtual 450, 3) := dk_182 1 194 (dk_at dksX19_whose_0 8 rfl rfl)
theorem dX19_whose_11 : decode cX19_whose 11 = .ok (.iload_n 1, 1) := dk_27 (dk_at dksX19_whose_0 11 rfl rfl)
theorem dX19_whose_12 : decode cX19_whose 12 = .ok (.invokevirtual 437, 3) := dk_182 1 181 (dk_at dksX19_whose_0 12 rfl rfl)
theorem dX19_whose_15 : decode cX19_whose 15 = .ok (.istore_n 3, 1) := dk_62 (dk_at dksX19_whose_0 15 rfl rfl)
theorem dX19_whose_16 : decode cX19_whose 16 = .ok (.iload_n 3, 1) := dk_29 (dk_at dksX19_whose_0 16 rfl rfl)
theorem dX19_whose_17 : decode cX19_whose 17 = .ok (.ifCond .le 9, 3) := dk_158 0 9 (dk_at dksX19_whose_0 17 rfl rfl)
theorem dX19_whose_20 : decode cX19_whose 20 = .ok (.aload_n 0, 1) := dk_42 (dk_at dksX19_whose_0 20 rfl rfl)
theorem dX19_whose_21 : decode cX19_whose 21 = .ok (.iload_n 3, 1) := dk_29 (dk_at dksX19_whose_0 21 rfl rfl)
theorem dX19_whose_22 : decode cX19_whose 22 = .ok (.invokevirtual 94, 3) := dk_182 0 94 (dk_at dksX19_whose_1 0 rfl rfl)
theorem dX19_whose_25 : decode cX19_whose 25 = .ok (.ireturn, 1) := dk_172 (dk_at dksX19_whose_1 3 rfl rfl)
theorem dX19_whose_26 : decode cX19_whose 26 = .ok (.aload_n 0, 1) := dk_42 (dk_at dksX19_whose_1 4 rfl rfl)
theorem dX19_whose_27 : decode cX19_whose 27 = .ok (.invokevirtual 447, 3) := dk_182 1 191 (dk_at dksX19_whose_1 5 rfl rfl)
theorem dX19_whose_30 : decode cX19_whose 30 = .ok (.aload_n 0, 1) := dk_42 (dk_at dksX19_whose_1 8 rfl rfl)
theorem dX19_whose_31 : decode cX19_whose 31 = .ok (.aload_n 0, 1) := dk_42 (dk_at dksX19_whose_1 9 rfl rfl)
theorem dX19_whose_32 : decode cX19_whose 32 = .ok (.iload_n 1, 1) := dk_27 (dk_at dksX19_whose_1 10 rfl rfl)
theorem dX19_whose_33 : decode cX19_whose 33 = .ok (.iload_n 2, 1) := dk_28 (dk_at dksX19_whose_1 11 rfl rfl)
theorem dX19_whose_34 : decode cX19_whose 34 = .ok (.invokevirtual 453, 3) := dk_182 1 197 (dk_at dksX19_whose_1 12 rfl rfl)
theorem dX19_whose_37 : decode cX19_whose 37 = .ok (.bipush (-2), 2) := dk_16 254 (dk_at dksX19_whose_1 15 rfl rfl)
theorem dX19_whose_39 : decode cX19_whose 39 = .ok (.if_icmp .ne 8, 3) := dk_160 0 8 (dk_at dksX19_whose_1 17 rfl rfl)
theorem dX19_whose_42 : decode cX19_whose 42 = .ok (.bipush (-2), 2) := dk_16 254 (dk_at dksX19_whose_1 20 rfl rfl)
theorem dX19_whose_44 : decode cX19_whose 44 = .ok (.goto 14, 3) := dk_167 0 14 (dk_at dksX19_whose_2 0 rfl rfl)
theorem dX19_whose_47 : decode cX19_whose 47 = .ok (.aload_n 0, 1) := dk_42 (dk_at dksX19_whose_2 3 rfl rfl)
theorem dX19_whose_48 : decode cX19_whose 48 = .ok (.getfield 30, 3) := dk_180 0 30 (dk_at dksX19_whose_2 4 rfl rfl)
theorem dX19_whose_51 : decode cX19_whose 51 = .ok (.aload_n 0, 1) := dk_42 (dk_at dksX19_whose_2 7 rfl rfl)
theorem dX19_whose_52 : decode cX19_whose 52 = .ok (.iload_n 1, 1) := dk_27 (dk_at dksX19_whose_2 8 rfl rfl)
theorem dX19_whose_53 : decode cX19_whose 53 = .ok (.iload_n 2, 1) := dk_28 (dk_at dksX19_whose_2 9 rfl rfl)
theorem dX19_whose_54 : decode cX19_whose 54 = .ok (.invokevirtual 453, 3) := dk_182 1 197 (dk_at dksX19_whose_2 10 rfl rfl)
theorem dX19_whose_57 : decode cX19_whose 57 = .ok (.iaload, 1) := dk_46 (dk_at dksX19_whose_2 13 rfl rfl)
theorem dX19_whose_58 : decode cX19_whose 58 = .ok (.invokevirtual 98, 3) := dk_182 0 98 (dk_at dksX19_whose_2 14 rfl rfl)
theorem dX19_whose_61 : decode cX19_whose 61 = .ok (.ireturn, 1) := dk_172 (dk_at dksX19_whose_2 17 rfl rfl)
abbrev cX19_place : ByteArray := prog_24_method_66_code
def yX19_place : MethodName := ⟨RX19, "place", "(II)I"⟩
def dkwX19_place_2 : List UInt8 := [16, 10, 160, 0, 8, 16, 254, 167, 0, 5, 21, 4, 182, 0, 98, 172]
abbrev dktX19_place_2 : List UInt8 := dkwX19_place_2 ++ []
def dkwX19_place_1 : List UInt8 := [182, 0, 94, 172, 42, 182, 1, 191, 42, 180, 0, 60, 16, 7, 27, 104, 28, 96, 46, 54, 4, 42, 21, 4]
abbrev dktX19_place_1 : List UInt8 := dkwX19_place_1 ++ dktX19_place_2
def dkwX19_place_0 : List UInt8 := [42, 3, 181, 0, 88, 42, 42, 28, 182, 1, 178, 27, 182, 1, 181, 62, 29, 158, 0, 9, 42, 29]
abbrev dktX19_place_0 : List UInt8 := dkwX19_place_0 ++ dktX19_place_1
theorem dksX19_place_0 : cX19_place.data.toList.drop 0 = dktX19_place_0 := by decide +kernel
theorem dksX19_place_1 : cX19_place.data.toList.drop 22 = dktX19_place_1 := dk_seg dksX19_place_0 22 rfl rfl
theorem dksX19_place_2 : cX19_place.data.toList.drop 46 = dktX19_place_2 := dk_seg dksX19_place_1 24 rfl rfl
theorem dX19_place_0 : decode cX19_place 0 = .ok (.aload_n 0, 1) := dk_42 (dk_at dksX19_place_0 0 rfl rfl)
theorem dX19_place_1 : decode cX19_place 1 = .ok (.iconst 0, 1) := dk_3 (dk_at dksX19_place_0 1 rfl rfl)
theorem dX19_place_2 : decode cX19_place 2 = .ok (.putfield 88, 3) := dk_181 0 88 (dk_at dksX19_place_0 2 rfl rfl)
theorem dX19_place_5 : decode cX19_place 5 = .ok (.aload_n 0, 1) := dk_42 (dk_at dksX19_place_0 5 rfl rfl)
theorem dX19_place_6 : decode cX19_place 6 = .ok (.aload_n 0, 1) := dk_42 (dk_at dksX19_place_0 6 rfl rfl)
theorem dX19_place_7 : decode cX19_place 7 = .ok (.iload_n 2, 1) := dk_28 (dk_at dksX19_place_0 7 rfl rfl)
theorem dX19_place_8 : decode cX19_place 8 = .ok (.invokevirtual 434, 3) := dk_182 1 178 (dk_at dksX19_place_0 8 rfl rfl)
theorem dX19_place_11 : decode cX19_place 11 = .ok (.iload_n 1, 1) := dk_27 (dk_at dksX19_place_0 11 rfl rfl)
theorem dX19_place_12 : decode cX19_place 12 = .ok (.invokevirtual 437, 3) := dk_182 1 181 (dk_at dksX19_place_0 12 rfl rfl)
theorem dX19_place_15 : decode cX19_place 15 = .ok (.istore_n 3, 1) := dk_62 (dk_at dksX19_place_0 15 rfl rfl)
theorem dX19_place_16 : decode cX19_place 16 = .ok (.iload_n 3, 1) := dk_29 (dk_at dksX19_place_0 16 rfl rfl)
theorem dX19_place_17 : decode cX19_place 17 = .ok (.ifCond .le 9, 3) := dk_158 0 9 (dk_at dksX19_place_0 17 rfl rfl)
theorem dX19_place_20 : decode cX19_place 20 = .ok (.aload_n 0, 1) := dk_42 (dk_at dksX19_place_0 20 rfl rfl)
theorem dX19_place_21 : decode cX19_place 21 = .ok (.iload_n 3, 1) := dk_29 (dk_at dksX19_place_0 21 rfl rfl)
theorem dX19_place_22 : decode cX19_place 22 = .ok (.invokevirtual 94, 3) := dk_182 0 94 (dk_at dksX19_place_1 0 rfl rfl)
theorem dX19_place_25 : decode cX19_place 25 = .ok (.ireturn, 1) := dk_172 (dk_at dksX19_place_1 3 rfl rfl)
theorem dX19_place_26 : decode cX19_place 26 = .ok (.aload_n 0, 1) := dk_42 (dk_at dksX19_place_1 4 rfl rfl)
theorem dX19_place_27 : decode cX19_place 27 = .ok (.invokevirtual 447, 3) := dk_182 1 191 (dk_at dksX19_place_1 5 rfl rfl)
theorem dX19_place_30 : decode cX19_place 30 = .ok (.aload_n 0, 1) := dk_42 (dk_at dksX19_place_1 8 rfl rfl)
theorem dX19_place_31 : decode cX19_place 31 = .ok (.getfield 60, 3) := dk_180 0 60 (dk_at dksX19_place_1 9 rfl rfl)
theorem dX19_place_34 : decode cX19_place 34 = .ok (.bipush 7, 2) := dk_16 7 (dk_at dksX19_place_1 12 rfl rfl)
theorem dX19_place_36 : decode cX19_place 36 = .ok (.iload_n 1, 1) := dk_27 (dk_at dksX19_place_1 14 rfl rfl)
theorem dX19_place_37 : decode cX19_place 37 = .ok (.imul, 1) := dk_104 (dk_at dksX19_place_1 15 rfl rfl)
theorem dX19_place_38 : decode cX19_place 38 = .ok (.iload_n 2, 1) := dk_28 (dk_at dksX19_place_1 16 rfl rfl)
theorem dX19_place_39 : decode cX19_place 39 = .ok (.iadd, 1) := dk_96 (dk_at dksX19_place_1 17 rfl rfl)
theorem dX19_place_40 : decode cX19_place 40 = .ok (.iaload, 1) := dk_46 (dk_at dksX19_place_1 18 rfl rfl)
theorem dX19_place_41 : decode cX19_place 41 = .ok (.istore 4, 2) := dk_54 4 (dk_at dksX19_place_1 19 rfl rfl)
theorem dX19_place_43 : decode cX19_place 43 = .ok (.aload_n 0, 1) := dk_42 (dk_at dksX19_place_1 21 rfl rfl)
theorem dX19_place_44 : decode cX19_place 44 = .ok (.iload 4, 2) := dk_21 4 (dk_at dksX19_place_1 22 rfl rfl)
theorem dX19_place_46 : decode cX19_place 46 = .ok (.bipush 10, 2) := dk_16 10 (dk_at dksX19_place_2 0 rfl rfl)
theorem dX19_place_48 : decode cX19_place 48 = .ok (.if_icmp .ne 8, 3) := dk_160 0 8 (dk_at dksX19_place_2 2 rfl rfl)
theorem dX19_place_51 : decode cX19_place 51 = .ok (.bipush (-2), 2) := dk_16 254 (dk_at dksX19_place_2 5 rfl rfl)
theorem dX19_place_53 : decode cX19_place 53 = .ok (.goto 5, 3) := dk_167 0 5 (dk_at dksX19_place_2 7 rfl rfl)
theorem dX19_place_56 : decode cX19_place 56 = .ok (.iload 4, 2) := dk_21 4 (dk_at dksX19_place_2 10 rfl rfl)
theorem dX19_place_58 : decode cX19_place 58 = .ok (.invokevirtual 98, 3) := dk_182 0 98 (dk_at dksX19_place_2 12 rfl rfl)
theorem dX19_place_61 : decode cX19_place 61 = .ok (.ireturn, 1) := dk_172 (dk_at dksX19_place_2 15 rfl rfl)
abbrev cX19_many : ByteArray := prog_24_method_68_code
def yX19_many : MethodName := ⟨RX19, "many", "(I)I"⟩
def dkwX19_many_1 : List UInt8 := [182, 1, 191, 42, 42, 27, 182, 1, 203, 182, 0, 98, 172]
abbrev dktX19_many_1 : List UInt8 := dkwX19_many_1 ++ []
def dkwX19_many_0 : List UInt8 := [42, 3, 181, 0, 88, 42, 4, 27, 182, 1, 181, 61, 28, 158, 0, 9, 42, 28, 182, 0, 94, 172, 42]
abbrev dktX19_many_0 : List UInt8 := dkwX19_many_0 ++ dktX19_many_1
theorem dksX19_many_0 : cX19_many.data.toList.drop 0 = dktX19_many_0 := by decide +kernel
theorem dksX19_many_1 : cX19_many.data.toList.drop 23 = dktX19_many_1 := dk_seg dksX19_many_0 23 rfl rfl
theorem dX19_many_0 : decode cX19_many 0 = .ok (.aload_n 0, 1) := dk_42 (dk_at dksX19_many_0 0 rfl rfl)
theorem dX19_many_1 : decode cX19_many 1 = .ok (.iconst 0, 1) := dk_3 (dk_at dksX19_many_0 1 rfl rfl)
theorem dX19_many_2 : decode cX19_many 2 = .ok (.putfield 88, 3) := dk_181 0 88 (dk_at dksX19_many_0 2 rfl rfl)
theorem dX19_many_5 : decode cX19_many 5 = .ok (.aload_n 0, 1) := dk_42 (dk_at dksX19_many_0 5 rfl rfl)
theorem dX19_many_6 : decode cX19_many 6 = .ok (.iconst 1, 1) := dk_4 (dk_at dksX19_many_0 6 rfl rfl)
theorem dX19_many_7 : decode cX19_many 7 = .ok (.iload_n 1, 1) := dk_27 (dk_at dksX19_many_0 7 rfl rfl)
theorem dX19_many_8 : decode cX19_many 8 = .ok (.invokevirtual 437, 3) := dk_182 1 181 (dk_at dksX19_many_0 8 rfl rfl)
theorem dX19_many_11 : decode cX19_many 11 = .ok (.istore_n 2, 1) := dk_61 (dk_at dksX19_many_0 11 rfl rfl)
theorem dX19_many_12 : decode cX19_many 12 = .ok (.iload_n 2, 1) := dk_28 (dk_at dksX19_many_0 12 rfl rfl)
theorem dX19_many_13 : decode cX19_many 13 = .ok (.ifCond .le 9, 3) := dk_158 0 9 (dk_at dksX19_many_0 13 rfl rfl)
theorem dX19_many_16 : decode cX19_many 16 = .ok (.aload_n 0, 1) := dk_42 (dk_at dksX19_many_0 16 rfl rfl)
theorem dX19_many_17 : decode cX19_many 17 = .ok (.iload_n 2, 1) := dk_28 (dk_at dksX19_many_0 17 rfl rfl)
theorem dX19_many_18 : decode cX19_many 18 = .ok (.invokevirtual 94, 3) := dk_182 0 94 (dk_at dksX19_many_0 18 rfl rfl)
theorem dX19_many_21 : decode cX19_many 21 = .ok (.ireturn, 1) := dk_172 (dk_at dksX19_many_0 21 rfl rfl)
theorem dX19_many_22 : decode cX19_many 22 = .ok (.aload_n 0, 1) := dk_42 (dk_at dksX19_many_0 22 rfl rfl)
theorem dX19_many_23 : decode cX19_many 23 = .ok (.invokevirtual 447, 3) := dk_182 1 191 (dk_at dksX19_many_1 0 rfl rfl)
theorem dX19_many_26 : decode cX19_many 26 = .ok (.aload_n 0, 1) := dk_42 (dk_at dksX19_many_1 3 rfl rfl)
theorem dX19_many_27 : decode cX19_many 27 = .ok (.aload_n 0, 1) := dk_42 (dk_at dksX19_many_1 4 rfl rfl)
theorem dX19_many_28 : decode cX19_many 28 = .ok (.iload_n 1, 1) := dk_27 (dk_at dksX19_many_1 5 rfl rfl)
theorem dX19_many_29 : decode cX19_many 29 = .ok (.invokevirtual 459, 3) := dk_182 1 203 (dk_at dksX19_many_1 6 rfl rfl)
theorem dX19_many_32 : decode cX19_many 32 = .ok (.invokevirtual 98, 3) := dk_182 0 98 (dk_at dksX19_many_1 9 rfl rfl)
theorem dX19_many_35 : decode cX19_many 35 = .ok (.ireturn, 1) := dk_172 (dk_at dksX19_many_1 12 rfl rfl)
abbrev cX19_there : ByteArray := prog_24_method_67_code
def yX19_there : MethodName := ⟨RX19, "there", "(I)I"⟩
def dkwX19_there_1 : List UInt8 := [160, 0, 7, 3, 167, 0, 4, 4, 96, 61, 132, 3, 1, 167, 255, 223, 28, 172]
abbrev dktX19_there_1 : List UInt8 := dkwX19_there_1 ++ []
def dkwX19_there_0 : List UInt8 := [3, 61, 3, 62, 29, 42, 180, 1, 107, 180, 0, 251, 162, 0, 28, 28, 42, 27, 29, 182, 1, 197, 16, 254]
abbrev dktX19_there_0 : List UInt8 := dkwX19_there_0 ++ dktX19_there_1
theorem dksX19_there_0 : cX19_there.data.toList.drop 0 = dktX19_there_0 := by decide +kernel
theorem dksX19_there_1 : cX19_there.data.toList.drop 24 = dktX19_there_1 := dk_seg dksX19_there_0 24 rfl rfl
theorem dX19_there_0 : decode cX19_there 0 = .ok (.iconst 0, 1) := dk_3 (dk_at dksX19_there_0 0 rfl rfl)
theorem dX19_there_1 : decode cX19_there 1 = .ok (.istore_n 2, 1) := dk_61 (dk_at dksX19_there_0 1 rfl rfl)
theorem dX19_there_2 : decode cX19_there 2 = .ok (.iconst 0, 1) := dk_3 (dk_at dksX19_there_0 2 rfl rfl)
theorem dX19_there_3 : decode cX19_there 3 = .ok (.istore_n 3, 1) := dk_62 (dk_at dksX19_there_0 3 rfl rfl)
theorem dX19_there_4 : decode cX19_there 4 = .ok (.iload_n 3, 1) := dk_29 (dk_at dksX19_there_0 4 rfl rfl)
theorem dX19_there_5 : decode cX19_there 5 = .ok (.aload_n 0, 1) := dk_42 (dk_at dksX19_there_0 5 rfl rfl)
theorem dX19_there_6 : decode cX19_there 6 = .ok (.getfield 363, 3) := dk_180 1 107 (dk_at dksX19_there_0 6 rfl rfl)
theorem dX19_there_9 : decode cX19_there 9 = .ok (.getfield 251, 3) := dk_180 0 251 (dk_at dksX19_there_0 9 rfl rfl)
theorem dX19_there_12 : decode cX19_there 12 = .ok (.if_icmp .ge 28, 3) := dk_162 0 28 (dk_at dksX19_there_0 12 rfl rfl)
theorem dX19_there_15 : decode cX19_there 15 = .ok (.iload_n 2, 1) := dk_28 (dk_at dksX19_there_0 15 rfl rfl)
theorem dX19_there_16 : decode cX19_there 16 = .ok (.aload_n 0, 1) := dk_42 (dk_at dksX19_there_0 16 rfl rfl)
theorem dX19_there_17 : decode cX19_there 17 = .ok (.iload_n 1, 1) := dk_27 (dk_at dksX19_there_0 17 rfl rfl)
theorem dX19_there_18 : decode cX19_there 18 = .ok (.iload_n 3, 1) := dk_29 (dk_at dksX19_there_0 18 rfl rfl)
theorem dX19_there_19 : decode cX19_there 19 = .ok (.invokevirtual 453, 3) := dk_182 1 197 (dk_at dksX19_there_0 19 rfl rfl)
theorem dX19_there_22 : decode cX19_there 22 = .ok (.bipush (-2), 2) := dk_16 254 (dk_at dksX19_there_0 22 rfl rfl)
theorem dX19_there_24 : decode cX19_there 24 = .ok (.if_icmp .ne 7, 3) := dk_160 0 7 (dk_at dksX19_there_1 0 rfl rfl)
theorem dX19_there_27 : decode cX19_there 27 = .ok (.iconst 0, 1) := dk_3 (dk_at dksX19_there_1 3 rfl rfl)
theorem dX19_there_28 : decode cX19_there 28 = .ok (.goto 4, 3) := dk_167 0 4 (dk_at dksX19_there_1 4 rfl rfl)
theorem dX19_there_31 : decode cX19_there 31 = .ok (.iconst 1, 1) := dk_4 (dk_at dksX19_there_1 7 rfl rfl)
theorem dX19_there_32 : decode cX19_there 32 = .ok (.iadd, 1) := dk_96 (dk_at dksX19_there_1 8 rfl rfl)
theorem dX19_there_33 : decode cX19_there 33 = .ok (.istore_n 2, 1) := dk_61 (dk_at dksX19_there_1 9 rfl rfl)
theorem dX19_there_34 : decode cX19_there 34 = .ok (.iinc 3 1, 3) := dk_132 3 1 (dk_at dksX19_there_1 10 rfl rfl)
theorem dX19_there_37 : decode cX19_there 37 = .ok (.goto (-33), 3) := dk_167 255 223 (dk_at dksX19_there_1 13 rfl rfl)
theorem dX19_there_40 : decode cX19_there 40 = .ok (.iload_n 2, 1) := dk_28 (dk_at dksX19_there_1 16 rfl rfl)
theorem dX19_there_41 : decode cX19_there 41 = .ok (.ireturn, 1) := dk_172 (dk_at dksX19_there_1 17 rfl rfl)
abbrev cX19_full : ByteArray := prog_24_method_69_code
def yX19_full : MethodName := ⟨RX19, "full", "()I"⟩
def dkwX19_full_3 : List UInt8 := [132, 2, 1, 167, 255, 220, 132, 1, 1, 167, 255, 201, 42, 16, 254, 182, 0, 98, 172]
abbrev dktX19_full_3 : List UInt8 := dkwX19_full_3 ++ []
def dkwX19_full_2 : List UInt8 := [42, 180, 0, 60, 16, 7, 27, 104, 28, 96, 46, 16, 8, 160, 0, 9, 42, 27, 182, 0, 98, 172]
abbrev dktX19_full_2 : List UInt8 := dkwX19_full_2 ++ dktX19_full_3
def dkwX19_full_1 : List UInt8 := [27, 42, 180, 1, 107, 180, 0, 200, 162, 0, 50, 3, 61, 28, 42, 180, 1, 107, 180, 0, 219, 162, 0, 31]
abbrev dktX19_full_1 : List UInt8 := dkwX19_full_1 ++ dktX19_full_2
def dkwX19_full_0 : List UInt8 := [42, 3, 181, 0, 88, 42, 180, 1, 107, 199, 0, 9, 42, 4, 182, 0, 94, 172, 42, 182, 1, 191, 3, 60]
abbrev dktX19_full_0 : List UInt8 := dkwX19_full_0 ++ dktX19_full_1
theorem dksX19_full_0 : cX19_full.data.toList.drop 0 = dktX19_full_0 := by decide +kernel
theorem dksX19_full_1 : cX19_full.data.toList.drop 24 = dktX19_full_1 := dk_seg dksX19_full_0 24 rfl rfl
theorem dksX19_full_2 : cX19_full.data.toList.drop 48 = dktX19_full_2 := dk_seg dksX19_full_1 24 rfl rfl
theorem dksX19_full_3 : cX19_full.data.toList.drop 70 = dktX19_full_3 := dk_seg dksX19_full_2 22 rfl rfl
theorem dX19_full_0 : decode cX19_full 0 = .ok (.aload_n 0, 1) := dk_42 (dk_at dksX19_full_0 0 rfl rfl)
theorem dX19_full_1 : decode cX19_full 1 = .ok (.iconst 0, 1) := dk_3 (dk_at dksX19_full_0 1 rfl rfl)
theorem dX19_full_2 : decode cX19_full 2 = .ok (.putfield 88, 3) := dk_181 0 88 (dk_at dksX19_full_0 2 rfl rfl)
theorem dX19_full_5 : decode cX19_full 5 = .ok (.aload_n 0, 1) := dk_42 (dk_at dksX19_full_0 5 rfl rfl)
theorem dX19_full_6 : decode cX19_full 6 = .ok (.getfield 363, 3) := dk_180 1 107 (dk_at dksX19_full_0 6 rfl rfl)
theorem dX19_full_9 : decode cX19_full 9 = .ok (.ifnonnull 9, 3) := dk_199 0 9 (dk_at dksX19_full_0 9 rfl rfl)
theorem dX19_full_12 : decode cX19_full 12 = .ok (.aload_n 0, 1) := dk_42 (dk_at dksX19_full_0 12 rfl rfl)
theorem dX19_full_13 : decode cX19_full 13 = .ok (.iconst 1, 1) := dk_4 (dk_at dksX19_full_0 13 rfl rfl)
theorem dX19_full_14 : decode cX19_full 14 = .ok (.invokevirtual 94, 3) := dk_182 0 94 (dk_at dksX19_full_0 14 rfl rfl)
theorem dX19_full_17 : decode cX19_full 17 = .ok (.ireturn, 1) := dk_172 (dk_at dksX19_full_0 17 rfl rfl)
theorem dX19_full_18 : decode cX19_full 18 = .ok (.aload_n 0, 1) := dk_42 (dk_at dksX19_full_0 18 rfl rfl)
theorem dX19_full_19 : decode cX19_full 19 = .ok (.invokevirtual 447, 3) := dk_182 1 191 (dk_at dksX19_full_0 19 rfl rfl)
theorem dX19_full_22 : decode cX19_full 22 = .ok (.iconst 0, 1) := dk_3 (dk_at dksX19_full_0 22 rfl rfl)
theorem dX19_full_23 : decode cX19_full 23 = .ok (.istore_n 1, 1) := dk_60 (dk_at dksX19_full_0 23 rfl rfl)
theorem dX19_full_24 : decode cX19_full 24 = .ok (.iload_n 1, 1) := dk_27 (dk_at dksX19_full_1 0 rfl rfl)
theorem dX19_full_25 : decode cX19_full 25 = .ok (.aload_n 0, 1) := dk_42 (dk_at dksX19_full_1 1 rfl rfl)
theorem dX19_full_26 : decode cX19_full 26 = .ok (.getfield 363, 3) := dk_180 1 107 (dk_at dksX19_full_1 2 rfl rfl)
theorem dX19_full_29 : decode cX19_full 29 = .ok (.getfield 200, 3) := dk_180 0 200 (dk_at dksX19_full_1 5 rfl rfl)
theorem dX19_full_32 : decode cX19_full 32 = .ok (.if_icmp .ge 50, 3) := dk_162 0 50 (dk_at dksX19_full_1 8 rfl rfl)
theorem dX19_full_35 : decode cX19_full 35 = .ok (.iconst 0, 1) := dk_3 (dk_at dksX19_full_1 11 rfl rfl)
theorem dX19_full_36 : decode cX19_full 36 = .ok (.istore_n 2, 1) := dk_61 (dk_at dksX19_full_1 12 rfl rfl)
theorem dX19_full_37 : decode cX19_full 37 = .ok (.iload_n 2, 1) := dk_28 (dk_at dksX19_full_1 13 rfl rfl)
theorem dX19_full_38 : decode cX19_full 38 = .ok (.aload_n 0, 1) := dk_42 (dk_at dksX19_full_1 14 rfl rfl)
theorem dX19_full_39 : decode cX19_full 39 = .ok (.getfield 363, 3) := dk_180 1 107 (dk_at dksX19_full_1 15 rfl rfl)
theorem dX19_full_42 : decode cX19_full 42 = .ok (.getfield 219, 3) := dk_180 0 219 (dk_at dksX19_full_1 18 rfl rfl)
theorem dX19_full_45 : decode cX19_full 45 = .ok (.if_icmp .ge 31, 3) := dk_162 0 31 (dk_at dksX19_full_1 21 rfl rfl)
theorem dX19_full_48 : decode cX19_full 48 = .ok (.aload_n 0, 1) := dk_42 (dk_at dksX19_full_2 0 rfl rfl)
theorem dX19_full_49 : decode cX19_full 49 = .ok (.getfield 60, 3) := dk_180 0 60 (dk_at dksX19_full_2 1 rfl rfl)
theorem dX19_full_52 : decode cX19_full 52 = .ok (.bipush 7, 2) := dk_16 7 (dk_at dksX19_full_2 4 rfl rfl)
theorem dX19_full_54 : decode cX19_full 54 = .ok (.iload_n 1, 1) := dk_27 (dk_at dksX19_full_2 6 rfl rfl)
theorem dX19_full_55 : decode cX19_full 55 = .ok (.imul, 1) := dk_104 (dk_at dksX19_full_2 7 rfl rfl)
theorem dX19_full_56 : decode cX19_full 56 = .ok (.iload_n 2, 1) := dk_28 (dk_at dksX19_full_2 8 rfl rfl)
theorem dX19_full_57 : decode cX19_full 57 = .ok (.iadd, 1) := dk_96 (dk_at dksX19_full_2 9 rfl rfl)
theorem dX19_full_58 : decode cX19_full 58 = .ok (.iaload, 1) := dk_46 (dk_at dksX19_full_2 10 rfl rfl)
theorem dX19_full_59 : decode cX19_full 59 = .ok (.bipush 8, 2) := dk_16 8 (dk_at dksX19_full_2 11 rfl rfl)
theorem dX19_full_61 : decode cX19_full 61 = .ok (.if_icmp .ne 9, 3) := dk_160 0 9 (dk_at dksX19_full_2 13 rfl rfl)
theorem dX19_full_64 : decode cX19_full 64 = .ok (.aload_n 0, 1) := dk_42 (dk_at dksX19_full_2 16 rfl rfl)
theorem dX19_full_65 : decode cX19_full 65 = .ok (.iload_n 1, 1) := dk_27 (dk_at dksX19_full_2 17 rfl rfl)
theorem dX19_full_66 : decode cX19_full 66 = .ok (.invokevirtual 98, 3) := dk_182 0 98 (dk_at dksX19_full_2 18 rfl rfl)
theorem dX19_full_69 : decode cX19_full 69 = .ok (.ireturn, 1) := dk_172 (dk_at dksX19_full_2 21 rfl rfl)
theorem dX19_full_70 : decode cX19_full 70 = .ok (.iinc 2 1, 3) := dk_132 2 1 (dk_at dksX19_full_3 0 rfl rfl)
theorem dX19_full_73 : decode cX19_full 73 = .ok (.goto (-36), 3) := dk_167 255 220 (dk_at dksX19_full_3 3 rfl rfl)
theorem dX19_full_76 : decode cX19_full 76 = .ok (.iinc 1 1, 3) := dk_132 1 1 (dk_at dksX19_full_3 6 rfl rfl)
theorem dX19_full_79 : decode cX19_full 79 = .ok (.goto (-55), 3) := dk_167 255 201 (dk_at dksX19_full_3 9 rfl rfl)
theorem dX19_full_82 : decode cX19_full 82 = .ok (.aload_n 0, 1) := dk_42 (dk_at dksX19_full_3 12 rfl rfl)
theorem dX19_full_83 : decode cX19_full 83 = .ok (.bipush (-2), 2) := dk_16 254 (dk_at dksX19_full_3 13 rfl rfl)
theorem dX19_full_85 : decode cX19_full 85 = .ok (.invokevirtual 98, 3) := dk_182 0 98 (dk_at dksX19_full_3 15 rfl rfl)
theorem dX19_full_88 : decode cX19_full 88 = .ok (.ireturn, 1) := dk_172 (dk_at dksX19_full_3 18 rfl rfl)
abbrev cX19_uses : ByteArray := prog_24_method_71_code
def yX19_uses : MethodName := ⟨RX19, "uses", "(II)I"⟩
def dkwX19_uses_1 : List UInt8 := [182, 0, 94, 172, 42, 182, 1, 191, 42, 42, 27, 28, 182, 1, 206, 182, 0, 98, 172]
abbrev dktX19_uses_1 : List UInt8 := dkwX19_uses_1 ++ []
def dkwX19_uses_0 : List UInt8 := [42, 3, 181, 0, 88, 42, 42, 28, 182, 1, 178, 27, 182, 1, 181, 62, 29, 158, 0, 9, 42, 29]
abbrev dktX19_uses_0 : List UInt8 := dkwX19_uses_0 ++ dktX19_uses_1
theorem dksX19_uses_0 : cX19_uses.data.toList.drop 0 = dktX19_uses_0 := by decide +kernel
theorem dksX19_uses_1 : cX19_uses.data.toList.drop 22 = dktX19_uses_1 := dk_seg dksX19_uses_0 22 rfl rfl
theorem dX19_uses_0 : decode cX19_uses 0 = .ok (.aload_n 0, 1) := dk_42 (dk_at dksX19_uses_0 0 rfl rfl)
theorem dX19_uses_1 : decode cX19_uses 1 = .ok (.iconst 0, 1) := dk_3 (dk_at dksX19_uses_0 1 rfl rfl)
theorem dX19_uses_2 : decode cX19_uses 2 = .ok (.putfield 88, 3) := dk_181 0 88 (dk_at dksX19_uses_0 2 rfl rfl)
theorem dX19_uses_5 : decode cX19_uses 5 = .ok (.aload_n 0, 1) := dk_42 (dk_at dksX19_uses_0 5 rfl rfl)
theorem dX19_uses_6 : decode cX19_uses 6 = .ok (.aload_n 0, 1) := dk_42 (dk_at dksX19_uses_0 6 rfl rfl)
theorem dX19_uses_7 : decode cX19_uses 7 = .ok (.iload_n 2, 1) := dk_28 (dk_at dksX19_uses_0 7 rfl rfl)
theorem dX19_uses_8 : decode cX19_uses 8 = .ok (.invokevirtual 434, 3) := dk_182 1 178 (dk_at dksX19_uses_0 8 rfl rfl)
theorem dX19_uses_11 : decode cX19_uses 11 = .ok (.iload_n 1, 1) := dk_27 (dk_at dksX19_uses_0 11 rfl rfl)
theorem dX19_uses_12 : decode cX19_uses 12 = .ok (.invokevirtual 437, 3) := dk_182 1 181 (dk_at dksX19_uses_0 12 rfl rfl)
theorem dX19_uses_15 : decode cX19_uses 15 = .ok (.istore_n 3, 1) := dk_62 (dk_at dksX19_uses_0 15 rfl rfl)
theorem dX19_uses_16 : decode cX19_uses 16 = .ok (.iload_n 3, 1) := dk_29 (dk_at dksX19_uses_0 16 rfl rfl)
theorem dX19_uses_17 : decode cX19_uses 17 = .ok (.ifCond .le 9, 3) := dk_158 0 9 (dk_at dksX19_uses_0 17 rfl rfl)
theorem dX19_uses_20 : decode cX19_uses 20 = .ok (.aload_n 0, 1) := dk_42 (dk_at dksX19_uses_0 20 rfl rfl)
theorem dX19_uses_21 : decode cX19_uses 21 = .ok (.iload_n 3, 1) := dk_29 (dk_at dksX19_uses_0 21 rfl rfl)
theorem dX19_uses_22 : decode cX19_uses 22 = .ok (.invokevirtual 94, 3) := dk_182 0 94 (dk_at dksX19_uses_1 0 rfl rfl)
theorem dX19_uses_25 : decode cX19_uses 25 = .ok (.ireturn, 1) := dk_172 (dk_at dksX19_uses_1 3 rfl rfl)
theorem dX19_uses_26 : decode cX19_uses 26 = .ok (.aload_n 0, 1) := dk_42 (dk_at dksX19_uses_1 4 rfl rfl)
theorem dX19_uses_27 : decode cX19_uses 27 = .ok (.invokevirtual 447, 3) := dk_182 1 191 (dk_at dksX19_uses_1 5 rfl rfl)
theorem dX19_uses_30 : decode cX19_uses 30 = .ok (.aload_n 0, 1) := dk_42 (dk_at dksX19_uses_1 8 rfl rfl)
theorem dX19_uses_31 : decode cX19_uses 31 = .ok (.aload_n 0, 1) := dk_42 (dk_at dksX19_uses_1 9 rfl rfl)
theorem dX19_uses_32 : decode cX19_uses 32 = .ok (.iload_n 1, 1) := dk_27 (dk_at dksX19_uses_1 10 rfl rfl)
theorem dX19_uses_33 : decode cX19_uses 33 = .ok (.iload_n 2, 1) := dk_28 (dk_at dksX19_uses_1 11 rfl rfl)
theorem dX19_uses_34 : decode cX19_uses 34 = .ok (.invokevirtual 462, 3) := dk_182 1 206 (dk_at dksX19_uses_1 12 rfl rfl)
theorem dX19_uses_37 : decode cX19_uses 37 = .ok (.invokevirtual 98, 3) := dk_182 0 98 (dk_at dksX19_uses_1 15 rfl rfl)
theorem dX19_uses_40 : decode cX19_uses 40 = .ok (.ireturn, 1) := dk_172 (dk_at dksX19_uses_1 18 rfl rfl)
abbrev cX19_useOf : ByteArray := prog_24_method_70_code
def yX19_useOf : MethodName := ⟨RX19, "useOf", "(II)I"⟩
def dkwX19_useOf_0 : List UInt8 := [42, 180, 0, 63, 16, 7, 27, 104, 28, 96, 46, 172]
abbrev dktX19_useOf_0 : List UInt8 := dkwX19_useOf_0 ++ []
theorem dksX19_useOf_0 : cX19_useOf.data.toList.drop 0 = dktX19_useOf_0 := by decide +kernel
theorem dX19_useOf_0 : decode cX19_useOf 0 = .ok (.aload_n 0, 1) := dk_42 (dk_at dksX19_useOf_0 0 rfl rfl)
theorem dX19_useOf_1 : decode cX19_useOf 1 = .ok (.getfield 63, 3) := dk_180 0 63 (dk_at dksX19_useOf_0 1 rfl rfl)
theorem dX19_useOf_4 : decode cX19_useOf 4 = .ok (.bipush 7, 2) := dk_16 7 (dk_at dksX19_useOf_0 4 rfl rfl)
theorem dX19_useOf_6 : decode cX19_useOf 6 = .ok (.iload_n 1, 1) := dk_27 (dk_at dksX19_useOf_0 6 rfl rfl)
theorem dX19_useOf_7 : decode cX19_useOf 7 = .ok (.imul, 1) := dk_104 (dk_at dksX19_useOf_0 7 rfl rfl)
theorem dX19_useOf_8 : decode cX19_useOf 8 = .ok (.iload_n 2, 1) := dk_28 (dk_at dksX19_useOf_0 8 rfl rfl)
theorem dX19_useOf_9 : decode cX19_useOf 9 = .ok (.iadd, 1) := dk_96 (dk_at dksX19_useOf_0 9 rfl rfl)
theorem dX19_useOf_10 : decode cX19_useOf 10 = .ok (.iaload, 1) := dk_46 (dk_at dksX19_useOf_0 10 rfl rfl)
theorem dX19_useOf_11 : decode cX19_useOf 11 = .ok (.ireturn, 1) := dk_172 (dk_at dksX19_useOf_0 11 rfl rfl)
abbrev cX19_wet : ByteArray := prog_24_method_72_code
def yX19_wet : MethodName := ⟨RX19, "wet", "(II)I"⟩
def dkwX19_wet_4 : List UInt8 := [167, 255, 201, 42, 21, 4, 153, 0, 7, 4, 167, 0, 4, 3, 182, 0, 98, 172]
abbrev dktX19_wet_4 : List UInt8 := dkwX19_wet_4 ++ []
def dkwX19_wet_3 : List UInt8 := [182, 1, 206, 42, 27, 28, 182, 1, 197, 160, 0, 7, 4, 167, 0, 4, 3, 54, 4, 132, 5, 1]
abbrev dktX19_wet_3 : List UInt8 := dkwX19_wet_3 ++ dktX19_wet_4
def dkwX19_wet_2 : List UInt8 := [162, 0, 49, 21, 4, 154, 0, 31, 42, 27, 21, 5, 182, 1, 206, 16, 254, 159, 0, 23, 42, 27, 21, 5]
abbrev dktX19_wet_2 : List UInt8 := dkwX19_wet_2 ++ dktX19_wet_3
def dkwX19_wet_1 : List UInt8 := [182, 0, 94, 172, 42, 182, 1, 191, 3, 54, 4, 3, 54, 5, 21, 5, 42, 180, 1, 107, 180, 0, 219]
abbrev dktX19_wet_1 : List UInt8 := dkwX19_wet_1 ++ dktX19_wet_2
def dkwX19_wet_0 : List UInt8 := [42, 3, 181, 0, 88, 42, 42, 28, 182, 1, 194, 27, 182, 1, 181, 62, 29, 158, 0, 9, 42, 29]
abbrev dktX19_wet_0 : List UInt8 := dkwX19_wet_0 ++ dktX19_wet_1
theorem dksX19_wet_0 : cX19_wet.data.toList.drop 0 = dktX19_wet_0 := by decide +kernel
theorem dksX19_wet_1 : cX19_wet.data.toList.drop 22 = dktX19_wet_1 := dk_seg dksX19_wet_0 22 rfl rfl
theorem dksX19_wet_2 : cX19_wet.data.toList.drop 45 = dktX19_wet_2 := dk_seg dksX19_wet_1 23 rfl rfl
theorem dksX19_wet_3 : cX19_wet.data.toList.drop 69 = dktX19_wet_3 := dk_seg dksX19_wet_2 24 rfl rfl
theorem dksX19_wet_4 : cX19_wet.data.toList.drop 91 = dktX19_wet_4 := dk_seg dksX19_wet_3 22 rfl rfl
theorem dX19_wet_0 : decode cX19_wet 0 = .ok (.aload_n 0, 1) := dk_42 (dk_at dksX19_wet_0 0 rfl rfl)
theorem dX19_wet_1 : decode cX19_wet 1 = .ok (.iconst 0, 1) := dk_3 (dk_at dksX19_wet_0 1 rfl rfl)
theorem dX19_wet_2 : decode cX19_wet 2 = .ok (.putfield 88, 3) := dk_181 0 88 (dk_at dksX19_wet_0 2 rfl rfl)
theorem dX19_wet_5 : decode cX19_wet 5 = .ok (.aload_n 0, 1) := dk_42 (dk_at dksX19_wet_0 5 rfl rfl)
theorem dX19_wet_6 : decode cX19_wet 6 = .ok (.aload_n 0, 1) := dk_42 (dk_at dksX19_wet_0 6 rfl rfl)
theorem dX19_wet_7 : decode cX19_wet 7 = .ok (.iload_n 2, 1) := dk_28 (dk_at dksX19_wet_0 7 rfl rfl)
theorem dX19_wet_8 : decode cX19_wet 8 = .ok (.invokevirtual 450, 3) := dk_182 1 194 (dk_at dksX19_wet_0 8 rfl rfl)
theorem dX19_wet_11 : decode cX19_wet 11 = .ok (.iload_n 1, 1) := dk_27 (dk_at dksX19_wet_0 11 rfl rfl)
theorem dX19_wet_12 : decode cX19_wet 12 = .ok (.invokevirtual 437, 3) := dk_182 1 181 (dk_at dksX19_wet_0 12 rfl rfl)
theorem dX19_wet_15 : decode cX19_wet 15 = .ok (.istore_n 3, 1) := dk_62 (dk_at dksX19_wet_0 15 rfl rfl)
theorem dX19_wet_16 : decode cX19_wet 16 = .ok (.iload_n 3, 1) := dk_29 (dk_at dksX19_wet_0 16 rfl rfl)
theorem dX19_wet_17 : decode cX19_wet 17 = .ok (.ifCond .le 9, 3) := dk_158 0 9 (dk_at dksX19_wet_0 17 rfl rfl)
theorem dX19_wet_20 : decode cX19_wet 20 = .ok (.aload_n 0, 1) := dk_42 (dk_at dksX19_wet_0 20 rfl rfl)
theorem dX19_wet_21 : decode cX19_wet 21 = .ok (.iload_n 3, 1) := dk_29 (dk_at dksX19_wet_0 21 rfl rfl)
theorem dX19_wet_22 : decode cX19_wet 22 = .ok (.invokevirtual 94, 3) := dk_182 0 94 (dk_at dksX19_wet_1 0 rfl rfl)
theorem dX19_wet_25 : decode cX19_wet 25 = .ok (.ireturn, 1) := dk_172 (dk_at dksX19_wet_1 3 rfl rfl)
theorem dX19_wet_26 : decode cX19_wet 26 = .ok (.aload_n 0, 1) := dk_42 (dk_at dksX19_wet_1 4 rfl rfl)
theorem dX19_wet_27 : decode cX19_wet 27 = .ok (.invokevirtual 447, 3) := dk_182 1 191 (dk_at dksX19_wet_1 5 rfl rfl)
theorem dX19_wet_30 : decode cX19_wet 30 = .ok (.iconst 0, 1) := dk_3 (dk_at dksX19_wet_1 8 rfl rfl)
theorem dX19_wet_31 : decode cX19_wet 31 = .ok (.istore 4, 2) := dk_54 4 (dk_at dksX19_wet_1 9 rfl rfl)
theorem dX19_wet_33 : decode cX19_wet 33 = .ok (.iconst 0, 1) := dk_3 (dk_at dksX19_wet_1 11 rfl rfl)
theorem dX19_wet_34 : decode cX19_wet 34 = .ok (.istore 5, 2) := dk_54 5 (dk_at dksX19_wet_1 12 rfl rfl)
theorem dX19_wet_36 : decode cX19_wet 36 = .ok (.iload 5, 2) := dk_21 5 (dk_at dksX19_wet_1 14 rfl rfl)
theorem dX19_wet_38 : decode cX19_wet 38 = .ok (.aload_n 0, 1) := dk_42 (dk_at dksX19_wet_1 16 rfl rfl)
theorem dX19_wet_39 : decode cX19_wet 39 = .ok (.getfield 363, 3) := dk_180 1 107 (dk_at dksX19_wet_1 17 rfl rfl)
theorem dX19_wet_42 : decode cX19_wet 42 = .ok (.getfield 219, 3) := dk_180 0 219 (dk_at dksX19_wet_1 20 rfl rfl)
theorem dX19_wet_45 : decode cX19_wet 45 = .ok (.if_icmp .ge 49, 3) := dk_162 0 49 (dk_at dksX19_wet_2 0 rfl rfl)
theorem dX19_wet_48 : decode cX19_wet 48 = .ok (.iload 4, 2) := dk_21 4 (dk_at dksX19_wet_2 3 rfl rfl)
theorem dX19_wet_50 : decode cX19_wet 50 = .ok (.ifCond .ne 31, 3) := dk_154 0 31 (dk_at dksX19_wet_2 5 rfl rfl)
theorem dX19_wet_53 : decode cX19_wet 53 = .ok (.aload_n 0, 1) := dk_42 (dk_at dksX19_wet_2 8 rfl rfl)
theorem dX19_wet_54 : decode cX19_wet 54 = .ok (.iload_n 1, 1) := dk_27 (dk_at dksX19_wet_2 9 rfl rfl)
theorem dX19_wet_55 : decode cX19_wet 55 = .ok (.iload 5, 2) := dk_21 5 (dk_at dksX19_wet_2 10 rfl rfl)
theorem dX19_wet_57 : decode cX19_wet 57 = .ok (.invokevirtual 462, 3) := dk_182 1 206 (dk_at dksX19_wet_2 12 rfl rfl)
theorem dX19_wet_60 : decode cX19_wet 60 = .ok (.bipush (-2), 2) := dk_16 254 (dk_at dksX19_wet_2 15 rfl rfl)
theorem dX19_wet_62 : decode cX19_wet 62 = .ok (.if_icmp .eq 23, 3) := dk_159 0 23 (dk_at dksX19_wet_2 17 rfl rfl)
theorem dX19_wet_65 : decode cX19_wet 65 = .ok (.aload_n 0, 1) := dk_42 (dk_at dksX19_wet_2 20 rfl rfl)
theorem dX19_wet_66 : decode cX19_wet 66 = .ok (.iload_n 1, 1) := dk_27 (dk_at dksX19_wet_2 21 rfl rfl)
theorem dX19_wet_67 : decode cX19_wet 67 = .ok (.iload 5, 2) := dk_21 5 (dk_at dksX19_wet_2 22 rfl rfl)
theorem dX19_wet_69 : decode cX19_wet 69 = .ok (.invokevirtual 462, 3) := dk_182 1 206 (dk_at dksX19_wet_3 0 rfl rfl)
theorem dX19_wet_72 : decode cX19_wet 72 = .ok (.aload_n 0, 1) := dk_42 (dk_at dksX19_wet_3 3 rfl rfl)
theorem dX19_wet_73 : decode cX19_wet 73 = .ok (.iload_n 1, 1) := dk_27 (dk_at dksX19_wet_3 4 rfl rfl)
theorem dX19_wet_74 : decode cX19_wet 74 = .ok (.iload_n 2, 1) := dk_28 (dk_at dksX19_wet_3 5 rfl rfl)
theorem dX19_wet_75 : decode cX19_wet 75 = .ok (.invokevirtual 453, 3) := dk_182 1 197 (dk_at dksX19_wet_3 6 rfl rfl)
theorem dX19_wet_78 : decode cX19_wet 78 = .ok (.if_icmp .ne 7, 3) := dk_160 0 7 (dk_at dksX19_wet_3 9 rfl rfl)
theorem dX19_wet_81 : decode cX19_wet 81 = .ok (.iconst 1, 1) := dk_4 (dk_at dksX19_wet_3 12 rfl rfl)
theorem dX19_wet_82 : decode cX19_wet 82 = .ok (.goto 4, 3) := dk_167 0 4 (dk_at dksX19_wet_3 13 rfl rfl)
theorem dX19_wet_85 : decode cX19_wet 85 = .ok (.iconst 0, 1) := dk_3 (dk_at dksX19_wet_3 16 rfl rfl)
theorem dX19_wet_86 : decode cX19_wet 86 = .ok (.istore 4, 2) := dk_54 4 (dk_at dksX19_wet_3 17 rfl rfl)
theorem dX19_wet_88 : decode cX19_wet 88 = .ok (.iinc 5 1, 3) := dk_132 5 1 (dk_at dksX19_wet_3 19 rfl rfl)
theorem dX19_wet_91 : decode cX19_wet 91 = .ok (.goto (-55), 3) := dk_167 255 201 (dk_at dksX19_wet_4 0 rfl rfl)
theorem dX19_wet_94 : decode cX19_wet 94 = .ok (.aload_n 0, 1) := dk_42 (dk_at dksX19_wet_4 3 rfl rfl)
theorem dX19_wet_95 : decode cX19_wet 95 = .ok (.iload 4, 2) := dk_21 4 (dk_at dksX19_wet_4 4 rfl rfl)
theorem dX19_wet_97 : decode cX19_wet 97 = .ok (.ifCond .eq 7, 3) := dk_153 0 7 (dk_at dksX19_wet_4 6 rfl rfl)
theorem dX19_wet_100 : decode cX19_wet 100 = .ok (.iconst 1, 1) := dk_4 (dk_at dksX19_wet_4 9 rfl rfl)
theorem dX19_wet_101 : decode cX19_wet 101 = .ok (.goto 4, 3) := dk_167 0 4 (dk_at dksX19_wet_4 10 rfl rfl)
theorem dX19_wet_104 : decode cX19_wet 104 = .ok (.iconst 0, 1) := dk_3 (dk_at dksX19_wet_4 13 rfl rfl)
theorem dX19_wet_105 : decode cX19_wet 105 = .ok (.invokevirtual 98, 3) := dk_182 0 98 (dk_at dksX19_wet_4 14 rfl rfl)
theorem dX19_wet_108 : decode cX19_wet 108 = .ok (.ireturn, 1) := dk_172 (dk_at dksX19_wet_4 17 rfl rfl)
abbrev cX19_shared : ByteArray := prog_24_method_76_code
def yX19_shared : MethodName := ⟨RX19, "shared", "(I)I"⟩
def dkwX19_shared_1 : List UInt8 := [182, 1, 191, 42, 42, 27, 182, 1, 212, 182, 0, 98, 172]
abbrev dktX19_shared_1 : List UInt8 := dkwX19_shared_1 ++ []
def dkwX19_shared_0 : List UInt8 := [42, 3, 181, 0, 88, 42, 4, 27, 182, 1, 181, 61, 28, 158, 0, 9, 42, 28, 182, 0, 94, 172, 42]
abbrev dktX19_shared_0 : List UInt8 := dkwX19_shared_0 ++ dktX19_shared_1
theorem dksX19_shared_0 : cX19_shared.data.toList.drop 0 = dktX19_shared_0 := by decide +kernel
theorem dksX19_shared_1 : cX19_shared.data.toList.drop 23 = dktX19_shared_1 := dk_seg dksX19_shared_0 23 rfl rfl
theorem dX19_shared_0 : decode cX19_shared 0 = .ok (.aload_n 0, 1) := dk_42 (dk_at dksX19_shared_0 0 rfl rfl)
theorem dX19_shared_1 : decode cX19_shared 1 = .ok (.iconst 0, 1) := dk_3 (dk_at dksX19_shared_0 1 rfl rfl)
theorem dX19_shared_2 : decode cX19_shared 2 = .ok (.putfield 88, 3) := dk_181 0 88 (dk_at dksX19_shared_0 2 rfl rfl)
theorem dX19_shared_5 : decode cX19_shared 5 = .ok (.aload_n 0, 1) := dk_42 (dk_at dksX19_shared_0 5 rfl rfl)
theorem dX19_shared_6 : decode cX19_shared 6 = .ok (.iconst 1, 1) := dk_4 (dk_at dksX19_shared_0 6 rfl rfl)
theorem dX19_shared_7 : decode cX19_shared 7 = .ok (.iload_n 1, 1) := dk_27 (dk_at dksX19_shared_0 7 rfl rfl)
theorem dX19_shared_8 : decode cX19_shared 8 = .ok (.invokevirtual 437, 3) := dk_182 1 181 (dk_at dksX19_shared_0 8 rfl rfl)
theorem dX19_shared_11 : decode cX19_shared 11 = .ok (.istore_n 2, 1) := dk_61 (dk_at dksX19_shared_0 11 rfl rfl)
theorem dX19_shared_12 : decode cX19_shared 12 = .ok (.iload_n 2, 1) := dk_28 (dk_at dksX19_shared_0 12 rfl rfl)
theorem dX19_shared_13 : decode cX19_shared 13 = .ok (.ifCond .le 9, 3) := dk_158 0 9 (dk_at dksX19_shared_0 13 rfl rfl)
theorem dX19_shared_16 : decode cX19_shared 16 = .ok (.aload_n 0, 1) := dk_42 (dk_at dksX19_shared_0 16 rfl rfl)
theorem dX19_shared_17 : decode cX19_shared 17 = .ok (.iload_n 2, 1) := dk_28 (dk_at dksX19_shared_0 17 rfl rfl)
theorem dX19_shared_18 : decode cX19_shared 18 = .ok (.invokevirtual 94, 3) := dk_182 0 94 (dk_at dksX19_shared_0 18 rfl rfl)
theorem dX19_shared_21 : decode cX19_shared 21 = .ok (.ireturn, 1) := dk_172 (dk_at dksX19_shared_0 21 rfl rfl)
theorem dX19_shared_22 : decode cX19_shared 22 = .ok (.aload_n 0, 1) := dk_42 (dk_at dksX19_shared_0 22 rfl rfl)
theorem dX19_shared_23 : decode cX19_shared 23 = .ok (.invokevirtual 447, 3) := dk_182 1 191 (dk_at dksX19_shared_1 0 rfl rfl)
theorem dX19_shared_26 : decode cX19_shared 26 = .ok (.aload_n 0, 1) := dk_42 (dk_at dksX19_shared_1 3 rfl rfl)
theorem dX19_shared_27 : decode cX19_shared 27 = .ok (.aload_n 0, 1) := dk_42 (dk_at dksX19_shared_1 4 rfl rfl)
theorem dX19_shared_28 : decode cX19_shared 28 = .ok (.iload_n 1, 1) := dk_27 (dk_at dksX19_shared_1 5 rfl rfl)
theorem dX19_shared_29 : decode cX19_shared 29 = .ok (.invokevirtual 468, 3) := dk_182 1 212 (dk_at dksX19_shared_1 6 rfl rfl)
theorem dX19_shared_32 : decode cX19_shared 32 = .ok (.invokevirtual 98, 3) := dk_182 0 98 (dk_at dksX19_shared_1 9 rfl rfl)
theorem dX19_shared_35 : decode cX19_shared 35 = .ok (.ireturn, 1) := dk_172 (dk_at dksX19_shared_1 12 rfl rfl)
abbrev cX19_sharedIn : ByteArray := prog_24_method_74_code
def yX19_sharedIn : MethodName := ⟨RX19, "sharedIn", "(I)I"⟩
def dkwX19_sharedIn_1 : List UInt8 := [153, 0, 7, 4, 167, 0, 4, 3, 96, 61, 132, 3, 1, 167, 255, 225, 28, 172]
abbrev dktX19_sharedIn_1 : List UInt8 := dkwX19_sharedIn_1 ++ []
def dkwX19_sharedIn_0 : List UInt8 := [3, 61, 3, 62, 29, 42, 180, 1, 107, 180, 0, 219, 162, 0, 26, 28, 42, 27, 29, 182, 1, 209]
abbrev dktX19_sharedIn_0 : List UInt8 := dkwX19_sharedIn_0 ++ dktX19_sharedIn_1
theorem dksX19_sharedIn_0 : cX19_sharedIn.data.toList.drop 0 = dktX19_sharedIn_0 := by decide +kernel
theorem dksX19_sharedIn_1 : cX19_sharedIn.data.toList.drop 22 = dktX19_sharedIn_1 := dk_seg dksX19_sharedIn_0 22 rfl rfl
theorem dX19_sharedIn_0 : decode cX19_sharedIn 0 = .ok (.iconst 0, 1) := dk_3 (dk_at dksX19_sharedIn_0 0 rfl rfl)
theorem dX19_sharedIn_1 : decode cX19_sharedIn 1 = .ok (.istore_n 2, 1) := dk_61 (dk_at dksX19_sharedIn_0 1 rfl rfl)
theorem dX19_sharedIn_2 : decode cX19_sharedIn 2 = .ok (.iconst 0, 1) := dk_3 (dk_at dksX19_sharedIn_0 2 rfl rfl)
theorem dX19_sharedIn_3 : decode cX19_sharedIn 3 = .ok (.istore_n 3, 1) := dk_62 (dk_at dksX19_sharedIn_0 3 rfl rfl)
theorem dX19_sharedIn_4 : decode cX19_sharedIn 4 = .ok (.iload_n 3, 1) := dk_29 (dk_at dksX19_sharedIn_0 4 rfl rfl)
theorem dX19_sharedIn_5 : decode cX19_sharedIn 5 = .ok (.aload_n 0, 1) := dk_42 (dk_at dksX19_sharedIn_0 5 rfl rfl)
theorem dX19_sharedIn_6 : decode cX19_sharedIn 6 = .ok (.getfield 363, 3) := dk_180 1 107 (dk_at dksX19_sharedIn_0 6 rfl rfl)
theorem dX19_sharedIn_9 : decode cX19_sharedIn 9 = .ok (.getfield 219, 3) := dk_180 0 219 (dk_at dksX19_sharedIn_0 9 rfl rfl)
theorem dX19_sharedIn_12 : decode cX19_sharedIn 12 = .ok (.if_icmp .ge 26, 3) := dk_162 0 26 (dk_at dksX19_sharedIn_0 12 rfl rfl)
theorem dX19_sharedIn_15 : decode cX19_sharedIn 15 = .ok (.iload_n 2, 1) := dk_28 (dk_at dksX19_sharedIn_0 15 rfl rfl)
theorem dX19_sharedIn_16 : decode cX19_sharedIn 16 = .ok (.aload_n 0, 1) := dk_42 (dk_at dksX19_sharedIn_0 16 rfl rfl)
theorem dX19_sharedIn_17 : decode cX19_sharedIn 17 = .ok (.iload_n 1, 1) := dk_27 (dk_at dksX19_sharedIn_0 17 rfl rfl)
theorem dX19_sharedIn_18 : decode cX19_sharedIn 18 = .ok (.iload_n 3, 1) := dk_29 (dk_at dksX19_sharedIn_0 18 rfl rfl)
theorem dX19_sharedIn_19 : decode cX19_sharedIn 19 = .ok (.invokevirtual 465, 3) := dk_182 1 209 (dk_at dksX19_sharedIn_0 19 rfl rfl)
theorem dX19_sharedIn_22 : decode cX19_sharedIn 22 = .ok (.ifCond .eq 7, 3) := dk_153 0 7 (dk_at dksX19_sharedIn_1 0 rfl rfl)
theorem dX19_sharedIn_25 : decode cX19_sharedIn 25 = .ok (.iconst 1, 1) := dk_4 (dk_at dksX19_sharedIn_1 3 rfl rfl)
theorem dX19_sharedIn_26 : decode cX19_sharedIn 26 = .ok (.goto 4, 3) := dk_167 0 4 (dk_at dksX19_sharedIn_1 4 rfl rfl)
theorem dX19_sharedIn_29 : decode cX19_sharedIn 29 = .ok (.iconst 0, 1) := dk_3 (dk_at dksX19_sharedIn_1 7 rfl rfl)
theorem dX19_sharedIn_30 : decode cX19_sharedIn 30 = .ok (.iadd, 1) := dk_96 (dk_at dksX19_sharedIn_1 8 rfl rfl)
theorem dX19_sharedIn_31 : decode cX19_sharedIn 31 = .ok (.istore_n 2, 1) := dk_61 (dk_at dksX19_sharedIn_1 9 rfl rfl)
theorem dX19_sharedIn_32 : decode cX19_sharedIn 32 = .ok (.iinc 3 1, 3) := dk_132 3 1 (dk_at dksX19_sharedIn_1 10 rfl rfl)
theorem dX19_sharedIn_35 : decode cX19_sharedIn 35 = .ok (.goto (-31), 3) := dk_167 255 225 (dk_at dksX19_sharedIn_1 13 rfl rfl)
theorem dX19_sharedIn_38 : decode cX19_sharedIn 38 = .ok (.iload_n 2, 1) := dk_28 (dk_at dksX19_sharedIn_1 16 rfl rfl)
theorem dX19_sharedIn_39 : decode cX19_sharedIn 39 = .ok (.ireturn, 1) := dk_172 (dk_at dksX19_sharedIn_1 17 rfl rfl)
abbrev cX19_isShared : ByteArray := prog_24_method_73_code
def yX19_isShared : MethodName := ⟨RX19, "isShared", "(II)Z"⟩
def dkwX19_isShared_1 : List UInt8 := [159, 0, 7, 4, 167, 0, 4, 3, 172]
abbrev dktX19_isShared_1 : List UInt8 := dkwX19_isShared_1 ++ []
def dkwX19_isShared_0 : List UInt8 := [42, 27, 28, 182, 1, 206, 16, 254, 159, 0, 22, 42, 180, 0, 30, 42, 27, 28, 182, 1, 206, 46, 28]
abbrev dktX19_isShared_0 : List UInt8 := dkwX19_isShared_0 ++ dktX19_isShared_1
theorem dksX19_isShared_0 : cX19_isShared.data.toList.drop 0 = dktX19_isShared_0 := by decide +kernel
theorem dksX19_isShared_1 : cX19_isShared.data.toList.drop 23 = dktX19_isShared_1 := dk_seg dksX19_isShared_0 23 rfl rfl
theorem dX19_isShared_0 : decode cX19_isShared 0 = .ok (.aload_n 0, 1) := dk_42 (dk_at dksX19_isShared_0 0 rfl rfl)
theorem dX19_isShared_1 : decode cX19_isShared 1 = .ok (.iload_n 1, 1) := dk_27 (dk_at dksX19_isShared_0 1 rfl rfl)
theorem dX19_isShared_2 : decode cX19_isShared 2 = .ok (.iload_n 2, 1) := dk_28 (dk_at dksX19_isShared_0 2 rfl rfl)
theorem dX19_isShared_3 : decode cX19_isShared 3 = .ok (.invokevirtual 462, 3) := dk_182 1 206 (dk_at dksX19_isShared_0 3 rfl rfl)
theorem dX19_isShared_6 : decode cX19_isShared 6 = .ok (.bipush (-2), 2) := dk_16 254 (dk_at dksX19_isShared_0 6 rfl rfl)
theorem dX19_isShared_8 : decode cX19_isShared 8 = .ok (.if_icmp .eq 22, 3) := dk_159 0 22 (dk_at dksX19_isShared_0 8 rfl rfl)
theorem dX19_isShared_11 : decode cX19_isShared 11 = .ok (.aload_n 0, 1) := dk_42 (dk_at dksX19_isShared_0 11 rfl rfl)
theorem dX19_isShared_12 : decode cX19_isShared 12 = .ok (.getfield 30, 3) := dk_180 0 30 (dk_at dksX19_isShared_0 12 rfl rfl)
theorem dX19_isShared_15 : decode cX19_isShared 15 = .ok (.aload_n 0, 1) := dk_42 (dk_at dksX19_isShared_0 15 rfl rfl)
theorem dX19_isShared_16 : decode cX19_isShared 16 = .ok (.iload_n 1, 1) := dk_27 (dk_at dksX19_isShared_0 16 rfl rfl)
theorem dX19_isShared_17 : decode cX19_isShared 17 = .ok (.iload_n 2, 1) := dk_28 (dk_at dksX19_isShared_0 17 rfl rfl)
theorem dX19_isShared_18 : decode cX19_isShared 18 = .ok (.invokevirtual 462, 3) := dk_182 1 206 (dk_at dksX19_isShared_0 18 rfl rfl)
theorem dX19_isShared_21 : decode cX19_isShared 21 = .ok (.iaload, 1) := dk_46 (dk_at dksX19_isShared_0 21 rfl rfl)
theorem dX19_isShared_22 : decode cX19_isShared 22 = .ok (.iload_n 2, 1) := dk_28 (dk_at dksX19_isShared_0 22 rfl rfl)
theorem dX19_isShared_23 : decode cX19_isShared 23 = .ok (.if_icmp .eq 7, 3) := dk_159 0 7 (dk_at dksX19_isShared_1 0 rfl rfl)
theorem dX19_isShared_26 : decode cX19_isShared 26 = .ok (.iconst 1, 1) := dk_4 (dk_at dksX19_isShared_1 3 rfl rfl)
theorem dX19_isShared_27 : decode cX19_isShared 27 = .ok (.goto 4, 3) := dk_167 0 4 (dk_at dksX19_isShared_1 4 rfl rfl)
theorem dX19_isShared_30 : decode cX19_isShared 30 = .ok (.iconst 0, 1) := dk_3 (dk_at dksX19_isShared_1 7 rfl rfl)
theorem dX19_isShared_31 : decode cX19_isShared 31 = .ok (.ireturn, 1) := dk_172 (dk_at dksX19_isShared_1 8 rfl rfl)
abbrev cX19_sharedAll : ByteArray := prog_24_method_77_code
def yX19_sharedAll : MethodName := ⟨RX19, "sharedAll", "()I"⟩
def dkwX19_sharedAll_1 : List UInt8 := [182, 1, 215, 182, 0, 98, 172]
abbrev dktX19_sharedAll_1 : List UInt8 := dkwX19_sharedAll_1 ++ []
def dkwX19_sharedAll_0 : List UInt8 := [42, 3, 181, 0, 88, 42, 180, 1, 107, 199, 0, 9, 42, 4, 182, 0, 94, 172, 42, 182, 1, 191, 42, 42]
abbrev dktX19_sharedAll_0 : List UInt8 := dkwX19_sharedAll_0 ++ dktX19_sharedAll_1
theorem dksX19_sharedAll_0 : cX19_sharedAll.data.toList.drop 0 = dktX19_sharedAll_0 := by decide +kernel
theorem dksX19_sharedAll_1 : cX19_sharedAll.data.toList.drop 24 = dktX19_sharedAll_1 := dk_seg dksX19_sharedAll_0 24 rfl rfl
theorem dX19_sharedAll_0 : decode cX19_sharedAll 0 = .ok (.aload_n 0, 1) := dk_42 (dk_at dksX19_sharedAll_0 0 rfl rfl)
theorem dX19_sharedAll_1 : decode cX19_sharedAll 1 = .ok (.iconst 0, 1) := dk_3 (dk_at dksX19_sharedAll_0 1 rfl rfl)
theorem dX19_sharedAll_2 : decode cX19_sharedAll 2 = .ok (.putfield 88, 3) := dk_181 0 88 (dk_at dksX19_sharedAll_0 2 rfl rfl)
theorem dX19_sharedAll_5 : decode cX19_sharedAll 5 = .ok (.aload_n 0, 1) := dk_42 (dk_at dksX19_sharedAll_0 5 rfl rfl)
theorem dX19_sharedAll_6 : decode cX19_sharedAll 6 = .ok (.getfield 363, 3) := dk_180 1 107 (dk_at dksX19_sharedAll_0 6 rfl rfl)
theorem dX19_sharedAll_9 : decode cX19_sharedAll 9 = .ok (.ifnonnull 9, 3) := dk_199 0 9 (dk_at dksX19_sharedAll_0 9 rfl rfl)
theorem dX19_sharedAll_12 : decode cX19_sharedAll 12 = .ok (.aload_n 0, 1) := dk_42 (dk_at dksX19_sharedAll_0 12 rfl rfl)
theorem dX19_sharedAll_13 : decode cX19_sharedAll 13 = .ok (.iconst 1, 1) := dk_4 (dk_at dksX19_sharedAll_0 13 rfl rfl)
theorem dX19_sharedAll_14 : decode cX19_sharedAll 14 = .ok (.invokevirtual 94, 3) := dk_182 0 94 (dk_at dksX19_sharedAll_0 14 rfl rfl)
theorem dX19_sharedAll_17 : decode cX19_sharedAll 17 = .ok (.ireturn, 1) := dk_172 (dk_at dksX19_sharedAll_0 17 rfl rfl)
theorem dX19_sharedAll_18 : decode cX19_sharedAll 18 = .ok (.aload_n 0, 1) := dk_42 (dk_at dksX19_sharedAll_0 18 rfl rfl)
theorem dX19_sharedAll_19 : decode cX19_sharedAll 19 = .ok (.invokevirtual 447, 3) := dk_182 1 191 (dk_at dksX19_sharedAll_0 19 rfl rfl)
theorem dX19_sharedAll_22 : decode cX19_sharedAll 22 = .ok (.aload_n 0, 1) := dk_42 (dk_at dksX19_sharedAll_0 22 rfl rfl)
theorem dX19_sharedAll_23 : decode cX19_sharedAll 23 = .ok (.aload_n 0, 1) := dk_42 (dk_at dksX19_sharedAll_0 23 rfl rfl)
theorem dX19_sharedAll_24 : decode cX19_sharedAll 24 = .ok (.invokevirtual 471, 3) := dk_182 1 215 (dk_at dksX19_sharedAll_1 0 rfl rfl)
theorem dX19_sharedAll_27 : decode cX19_sharedAll 27 = .ok (.invokevirtual 98, 3) := dk_182 0 98 (dk_at dksX19_sharedAll_1 3 rfl rfl)
theorem dX19_sharedAll_30 : decode cX19_sharedAll 30 = .ok (.ireturn, 1) := dk_172 (dk_at dksX19_sharedAll_1 6 rfl rfl)
abbrev cX19_sharedInAll : ByteArray := prog_24_method_75_code
def yX19_sharedInAll : MethodName := ⟨RX19, "sharedInAll", "()I"⟩
def dkwX19_sharedInAll_1 : List UInt8 := [132, 2, 1, 167, 255, 234, 27, 172]
abbrev dktX19_sharedInAll_1 : List UInt8 := dkwX19_sharedInAll_1 ++ []
def dkwX19_sharedInAll_0 : List UInt8 := [3, 60, 3, 61, 28, 42, 180, 1, 107, 180, 0, 200, 162, 0, 17, 27, 42, 28, 182, 1, 212, 96, 60]
abbrev dktX19_sharedInAll_0 : List UInt8 := dkwX19_sharedInAll_0 ++ dktX19_sharedInAll_1
theorem dksX19_sharedInAll_0 : cX19_sharedInAll.data.toList.drop 0 = dktX19_sharedInAll_0 := by decide +kernel
theorem dksX19_sharedInAll_1 : cX19_sharedInAll.data.toList.drop 23 = dktX19_sharedInAll_1 := dk_seg dksX19_sharedInAll_0 23 rfl rfl
theorem dX19_sharedInAll_0 : decode cX19_sharedInAll 0 = .ok (.iconst 0, 1) := dk_3 (dk_at dksX19_sharedInAll_0 0 rfl rfl)
theorem dX19_sharedInAll_1 : decode cX19_sharedInAll 1 = .ok (.istore_n 1, 1) := dk_60 (dk_at dksX19_sharedInAll_0 1 rfl rfl)
theorem dX19_sharedInAll_2 : decode cX19_sharedInAll 2 = .ok (.iconst 0, 1) := dk_3 (dk_at dksX19_sharedInAll_0 2 rfl rfl)
theorem dX19_sharedInAll_3 : decode cX19_sharedInAll 3 = .ok (.istore_n 2, 1) := dk_61 (dk_at dksX19_sharedInAll_0 3 rfl rfl)
theorem dX19_sharedInAll_4 : decode cX19_sharedInAll 4 = .ok (.iload_n 2, 1) := dk_28 (dk_at dksX19_sharedInAll_0 4 rfl rfl)
theorem dX19_sharedInAll_5 : decode cX19_sharedInAll 5 = .ok (.aload_n 0, 1) := dk_42 (dk_at dksX19_sharedInAll_0 5 rfl rfl)
theorem dX19_sharedInAll_6 : decode cX19_sharedInAll 6 = .ok (.getfield 363, 3) := dk_180 1 107 (dk_at dksX19_sharedInAll_0 6 rfl rfl)
theorem dX19_sharedInAll_9 : decode cX19_sharedInAll 9 = .ok (.getfield 200, 3) := dk_180 0 200 (dk_at dksX19_sharedInAll_0 9 rfl rfl)
theorem dX19_sharedInAll_12 : decode cX19_sharedInAll 12 = .ok (.if_icmp .ge 17, 3) := dk_162 0 17 (dk_at dksX19_sharedInAll_0 12 rfl rfl)
theorem dX19_sharedInAll_15 : decode cX19_sharedInAll 15 = .ok (.iload_n 1, 1) := dk_27 (dk_at dksX19_sharedInAll_0 15 rfl rfl)
theorem dX19_sharedInAll_16 : decode cX19_sharedInAll 16 = .ok (.aload_n 0, 1) := dk_42 (dk_at dksX19_sharedInAll_0 16 rfl rfl)
theorem dX19_sharedInAll_17 : decode cX19_sharedInAll 17 = .ok (.iload_n 2, 1) := dk_28 (dk_at dksX19_sharedInAll_0 17 rfl rfl)
theorem dX19_sharedInAll_18 : decode cX19_sharedInAll 18 = .ok (.invokevirtual 468, 3) := dk_182 1 212 (dk_at dksX19_sharedInAll_0 18 rfl rfl)
theorem dX19_sharedInAll_21 : decode cX19_sharedInAll 21 = .ok (.iadd, 1) := dk_96 (dk_at dksX19_sharedInAll_0 21 rfl rfl)
theorem dX19_sharedInAll_22 : decode cX19_sharedInAll 22 = .ok (.istore_n 1, 1) := dk_60 (dk_at dksX19_sharedInAll_0 22 rfl rfl)
theorem dX19_sharedInAll_23 : decode cX19_sharedInAll 23 = .ok (.iinc 2 1, 3) := dk_132 2 1 (dk_at dksX19_sharedInAll_1 0 rfl rfl)
theorem dX19_sharedInAll_26 : decode cX19_sharedInAll 26 = .ok (.goto (-22), 3) := dk_167 255 234 (dk_at dksX19_sharedInAll_1 3 rfl rfl)
theorem dX19_sharedInAll_29 : decode cX19_sharedInAll 29 = .ok (.iload_n 1, 1) := dk_27 (dk_at dksX19_sharedInAll_1 6 rfl rfl)
theorem dX19_sharedInAll_30 : decode cX19_sharedInAll 30 = .ok (.ireturn, 1) := dk_172 (dk_at dksX19_sharedInAll_1 7 rfl rfl)
abbrev cX19_suffers : ByteArray := prog_24_method_78_code
def yX19_suffers : MethodName := ⟨RX19, "suffers", "(I)I"⟩
def dkwX19_suffers_4 : List UInt8 := [132, 3, 1, 167, 255, 187, 42, 28, 182, 0, 98, 172]
abbrev dktX19_suffers_4 : List UInt8 := dkwX19_suffers_4 ++ []
def dkwX19_suffers_3 : List UInt8 := [21, 4, 182, 1, 206, 46, 27, 160, 0, 7, 4, 167, 0, 4, 3, 96, 61, 132, 4, 1, 167, 255, 207]
abbrev dktX19_suffers_3 : List UInt8 := dkwX19_suffers_3 ++ dktX19_suffers_4
def dkwX19_suffers_2 : List UInt8 := [180, 0, 219, 162, 0, 43, 28, 42, 29, 21, 4, 182, 1, 209, 153, 0, 23, 42, 180, 0, 30, 42, 29]
abbrev dktX19_suffers_2 : List UInt8 := dkwX19_suffers_2 ++ dktX19_suffers_3
def dkwX19_suffers_1 : List UInt8 := [61, 3, 62, 29, 42, 180, 1, 107, 180, 0, 200, 162, 0, 64, 3, 54, 4, 21, 4, 42, 180, 1, 107]
abbrev dktX19_suffers_1 : List UInt8 := dkwX19_suffers_1 ++ dktX19_suffers_2
def dkwX19_suffers_0 : List UInt8 := [42, 3, 181, 0, 88, 42, 27, 182, 1, 178, 154, 0, 9, 42, 4, 182, 0, 94, 172, 42, 182, 1, 191, 3]
abbrev dktX19_suffers_0 : List UInt8 := dkwX19_suffers_0 ++ dktX19_suffers_1
theorem dksX19_suffers_0 : cX19_suffers.data.toList.drop 0 = dktX19_suffers_0 := by decide +kernel
theorem dksX19_suffers_1 : cX19_suffers.data.toList.drop 24 = dktX19_suffers_1 := dk_seg dksX19_suffers_0 24 rfl rfl
theorem dksX19_suffers_2 : cX19_suffers.data.toList.drop 47 = dktX19_suffers_2 := dk_seg dksX19_suffers_1 23 rfl rfl
theorem dksX19_suffers_3 : cX19_suffers.data.toList.drop 70 = dktX19_suffers_3 := dk_seg dksX19_suffers_2 23 rfl rfl
theorem dksX19_suffers_4 : cX19_suffers.data.toList.drop 93 = dktX19_suffers_4 := dk_seg dksX19_suffers_3 23 rfl rfl
theorem dX19_suffers_0 : decode cX19_suffers 0 = .ok (.aload_n 0, 1) := dk_42 (dk_at dksX19_suffers_0 0 rfl rfl)
theorem dX19_suffers_1 : decode cX19_suffers 1 = .ok (.iconst 0, 1) := dk_3 (dk_at dksX19_suffers_0 1 rfl rfl)
theorem dX19_suffers_2 : decode cX19_suffers 2 = .ok (.putfield 88, 3) := dk_181 0 88 (dk_at dksX19_suffers_0 2 rfl rfl)
theorem dX19_suffers_5 : decode cX19_suffers 5 = .ok (.aload_n 0, 1) := dk_42 (dk_at dksX19_suffers_0 5 rfl rfl)
theorem dX19_suffers_6 : decode cX19_suffers 6 = .ok (.iload_n 1, 1) := dk_27 (dk_at dksX19_suffers_0 6 rfl rfl)
theorem dX19_suffers_7 : decode cX19_suffers 7 = .ok (.invokevirtual 434, 3) := dk_182 1 178 (dk_at dksX19_suffers_0 7 rfl rfl)
theorem dX19_suffers_10 : decode cX19_suffers 10 = .ok (.ifCond .ne 9, 3) := dk_154 0 9 (dk_at dksX19_suffers_0 10 rfl rfl)
theorem dX19_suffers_13 : decode cX19_suffers 13 = .ok (.aload_n 0, 1) := dk_42 (dk_at dksX19_suffers_0 13 rfl rfl)
theorem dX19_suffers_14 : decode cX19_suffers 14 = .ok (.iconst 1, 1) := dk_4 (dk_at dksX19_suffers_0 14 rfl rfl)
theorem dX19_suffers_15 : decode cX19_suffers 15 = .ok (.invokevirtual 94, 3) := dk_182 0 94 (dk_at dksX19_suffers_0 15 rfl rfl)
theorem dX19_suffers_18 : decode cX19_suffers 18 = .ok (.ireturn, 1) := dk_172 (dk_at dksX19_suffers_0 18 rfl rfl)
theorem dX19_suffers_19 : decode cX19_suffers 19 = .ok (.aload_n 0, 1) := dk_42 (dk_at dksX19_suffers_0 19 rfl rfl)
theorem dX19_suffers_20 : decode cX19_suffers 20 = .ok (.invokevirtual 447, 3) := dk_182 1 191 (dk_at dksX19_suffers_0 20 rfl rfl)
theorem dX19_suffers_23 : decode cX19_suffers 23 = .ok (.iconst 0, 1) := dk_3 (dk_at dksX19_suffers_0 23 rfl rfl)
theorem dX19_suffers_24 : decode cX19_suffers 24 = .ok (.istore_n 2, 1) := dk_61 (dk_at dksX19_suffers_1 0 rfl rfl)
theorem dX19_suffers_25 : decode cX19_suffers 25 = .ok (.iconst 0, 1) := dk_3 (dk_at dksX19_suffers_1 1 rfl rfl)
theorem dX19_suffers_26 : decode cX19_suffers 26 = .ok (.istore_n 3, 1) := dk_62 (dk_at dksX19_suffers_1 2 rfl rfl)
theorem dX19_suffers_27 : decode cX19_suffers 27 = .ok (.iload_n 3, 1) := dk_29 (dk_at dksX19_suffers_1 3 rfl rfl)
theorem dX19_suffers_28 : decode cX19_suffers 28 = .ok (.aload_n 0, 1) := dk_42 (dk_at dksX19_suffers_1 4 rfl rfl)
theorem dX19_suffers_29 : decode cX19_suffers 29 = .ok (.getfield 363, 3) := dk_180 1 107 (dk_at dksX19_suffers_1 5 rfl rfl)
theorem dX19_suffers_32 : decode cX19_suffers 32 = .ok (.getfield 200, 3) := dk_180 0 200 (dk_at dksX19_suffers_1 8 rfl rfl)
theorem dX19_suffers_35 : decode cX19_suffers 35 = .ok (.if_icmp .ge 64, 3) := dk_162 0 64 (dk_at dksX19_suffers_1 11 rfl rfl)
theorem dX19_suffers_38 : decode cX19_suffers 38 = .ok (.iconst 0, 1) := dk_3 (dk_at dksX19_suffers_1 14 rfl rfl)
theorem dX19_suffers_39 : decode cX19_suffers 39 = .ok (.istore 4, 2) := dk_54 4 (dk_at dksX19_suffers_1 15 rfl rfl)
theorem dX19_suffers_41 : decode cX19_suffers 41 = .ok (.iload 4, 2) := dk_21 4 (dk_at dksX19_suffers_1 17 rfl rfl)
theorem dX19_suffers_43 : decode cX19_suffers 43 = .ok (.aload_n 0, 1) := dk_42 (dk_at dksX19_suffers_1 19 rfl rfl)
theorem dX19_suffers_44 : decode cX19_suffers 44 = .ok (.getfield 363, 3) := dk_180 1 107 (dk_at dksX19_suffers_1 20 rfl rfl)
theorem dX19_suffers_47 : decode cX19_suffers 47 = .ok (.getfield 219, 3) := dk_180 0 219 (dk_at dksX19_suffers_2 0 rfl rfl)
theorem dX19_suffers_50 : decode cX19_suffers 50 = .ok (.if_icmp .ge 43, 3) := dk_162 0 43 (dk_at dksX19_suffers_2 3 rfl rfl)
theorem dX19_suffers_53 : decode cX19_suffers 53 = .ok (.iload_n 2, 1) := dk_28 (dk_at dksX19_suffers_2 6 rfl rfl)
theorem dX19_suffers_54 : decode cX19_suffers 54 = .ok (.aload_n 0, 1) := dk_42 (dk_at dksX19_suffers_2 7 rfl rfl)
theorem dX19_suffers_55 : decode cX19_suffers 55 = .ok (.iload_n 3, 1) := dk_29 (dk_at dksX19_suffers_2 8 rfl rfl)
theorem dX19_suffers_56 : decode cX19_suffers 56 = .ok (.iload 4, 2) := dk_21 4 (dk_at dksX19_suffers_2 9 rfl rfl)
theorem dX19_suffers_58 : decode cX19_suffers 58 = .ok (.invokevirtual 465, 3) := dk_182 1 209 (dk_at dksX19_suffers_2 11 rfl rfl)
theorem dX19_suffers_61 : decode cX19_suffers 61 = .ok (.ifCond .eq 23, 3) := dk_153 0 23 (dk_at dksX19_suffers_2 14 rfl rfl)
theorem dX19_suffers_64 : decode cX19_suffers 64 = .ok (.aload_n 0, 1) := dk_42 (dk_at dksX19_suffers_2 17 rfl rfl)
theorem dX19_suffers_65 : decode cX19_suffers 65 = .ok (.getfield 30, 3) := dk_180 0 30 (dk_at dksX19_suffers_2 18 rfl rfl)
theorem dX19_suffers_68 : decode cX19_suffers 68 = .ok (.aload_n 0, 1) := dk_42 (dk_at dksX19_suffers_2 21 rfl rfl)
theorem dX19_suffers_69 : decode cX19_suffers 69 = .ok (.iload_n 3, 1) := dk_29 (dk_at dksX19_suffers_2 22 rfl rfl)
theorem dX19_suffers_70 : decode cX19_suffers 70 = .ok (.iload 4, 2) := dk_21 4 (dk_at dksX19_suffers_3 0 rfl rfl)
theorem dX19_suffers_72 : decode cX19_suffers 72 = .ok (.invokevirtual 462, 3) := dk_182 1 206 (dk_at dksX19_suffers_3 2 rfl rfl)
theorem dX19_suffers_75 : decode cX19_suffers 75 = .ok (.iaload, 1) := dk_46 (dk_at dksX19_suffers_3 5 rfl rfl)
theorem dX19_suffers_76 : decode cX19_suffers 76 = .ok (.iload_n 1, 1) := dk_27 (dk_at dksX19_suffers_3 6 rfl rfl)
theorem dX19_suffers_77 : decode cX19_suffers 77 = .ok (.if_icmp .ne 7, 3) := dk_160 0 7 (dk_at dksX19_suffers_3 7 rfl rfl)
theorem dX19_suffers_80 : decode cX19_suffers 80 = .ok (.iconst 1, 1) := dk_4 (dk_at dksX19_suffers_3 10 rfl rfl)
theorem dX19_suffers_81 : decode cX19_suffers 81 = .ok (.goto 4, 3) := dk_167 0 4 (dk_at dksX19_suffers_3 11 rfl rfl)
theorem dX19_suffers_84 : decode cX19_suffers 84 = .ok (.iconst 0, 1) := dk_3 (dk_at dksX19_suffers_3 14 rfl rfl)
theorem dX19_suffers_85 : decode cX19_suffers 85 = .ok (.iadd, 1) := dk_96 (dk_at dksX19_suffers_3 15 rfl rfl)
theorem dX19_suffers_86 : decode cX19_suffers 86 = .ok (.istore_n 2, 1) := dk_61 (dk_at dksX19_suffers_3 16 rfl rfl)
theorem dX19_suffers_87 : decode cX19_suffers 87 = .ok (.iinc 4 1, 3) := dk_132 4 1 (dk_at dksX19_suffers_3 17 rfl rfl)
theorem dX19_suffers_90 : decode cX19_suffers 90 = .ok (.goto (-49), 3) := dk_167 255 207 (dk_at dksX19_suffers_3 20 rfl rfl)
theorem dX19_suffers_93 : decode cX19_suffers 93 = .ok (.iinc 3 1, 3) := dk_132 3 1 (dk_at dksX19_suffers_4 0 rfl rfl)
theorem dX19_suffers_96 : decode cX19_suffers 96 = .ok (.goto (-69), 3) := dk_167 255 187 (dk_at dksX19_suffers_4 3 rfl rfl)
theorem dX19_suffers_99 : decode cX19_suffers 99 = .ok (.aload_n 0, 1) := dk_42 (dk_at dksX19_suffers_4 6 rfl rfl)
theorem dX19_suffers_100 : decode cX19_suffers 100 = .ok (.iload_n 2, 1) := dk_28 (dk_at dksX19_suffers_4 7 rfl rfl)
theorem dX19_suffers_101 : decode cX19_suffers 101 = .ok (.invokevirtual 98, 3) := dk_182 0 98 (dk_at dksX19_suffers_4 8 rfl rfl)
theorem dX19_suffers_104 : decode cX19_suffers 104 = .ok (.ireturn, 1) := dk_172 (dk_at dksX19_suffers_4 11 rfl rfl)
abbrev cX19_sins : ByteArray := prog_24_method_80_code
def yX19_sins : MethodName := ⟨RX19, "sins", "(I)I"⟩
def dkwX19_sins_1 : List UInt8 := [42, 27, 182, 1, 218, 182, 0, 98, 172]
abbrev dktX19_sins_1 : List UInt8 := dkwX19_sins_1 ++ []
def dkwX19_sins_0 : List UInt8 := [42, 3, 181, 0, 88, 42, 27, 182, 1, 178, 154, 0, 9, 42, 4, 182, 0, 94, 172, 42, 182, 1, 191, 42]
abbrev dktX19_sins_0 : List UInt8 := dkwX19_sins_0 ++ dktX19_sins_1
theorem dksX19_sins_0 : cX19_sins.data.toList.drop 0 = dktX19_sins_0 := by decide +kernel
theorem dksX19_sins_1 : cX19_sins.data.toList.drop 24 = dktX19_sins_1 := dk_seg dksX19_sins_0 24 rfl rfl
theorem dX19_sins_0 : decode cX19_sins 0 = .ok (.aload_n 0, 1) := dk_42 (dk_at dksX19_sins_0 0 rfl rfl)
theorem dX19_sins_1 : decode cX19_sins 1 = .ok (.iconst 0, 1) := dk_3 (dk_at dksX19_sins_0 1 rfl rfl)
theorem dX19_sins_2 : decode cX19_sins 2 = .ok (.putfield 88, 3) := dk_181 0 88 (dk_at dksX19_sins_0 2 rfl rfl)
theorem dX19_sins_5 : decode cX19_sins 5 = .ok (.aload_n 0, 1) := dk_42 (dk_at dksX19_sins_0 5 rfl rfl)
theorem dX19_sins_6 : decode cX19_sins 6 = .ok (.iload_n 1, 1) := dk_27 (dk_at dksX19_sins_0 6 rfl rfl)
theorem dX19_sins_7 : decode cX19_sins 7 = .ok (.invokevirtual 434, 3) := dk_182 1 178 (dk_at dksX19_sins_0 7 rfl rfl)
theorem dX19_sins_10 : decode cX19_sins 10 = .ok (.ifCond .ne 9, 3) := dk_154 0 9 (dk_at dksX19_sins_0 10 rfl rfl)
theorem dX19_sins_13 : decode cX19_sins 13 = .ok (.aload_n 0, 1) := dk_42 (dk_at dksX19_sins_0 13 rfl rfl)
theorem dX19_sins_14 : decode cX19_sins 14 = .ok (.iconst 1, 1) := dk_4 (dk_at dksX19_sins_0 14 rfl rfl)
theorem dX19_sins_15 : decode cX19_sins 15 = .ok (.invokevirtual 94, 3) := dk_182 0 94 (dk_at dksX19_sins_0 15 rfl rfl)
theorem dX19_sins_18 : decode cX19_sins 18 = .ok (.ireturn, 1) := dk_172 (dk_at dksX19_sins_0 18 rfl rfl)
theorem dX19_sins_19 : decode cX19_sins 19 = .ok (.aload_n 0, 1) := dk_42 (dk_at dksX19_sins_0 19 rfl rfl)
theorem dX19_sins_20 : decode cX19_sins 20 = .ok (.invokevirtual 447, 3) := dk_182 1 191 (dk_at dksX19_sins_0 20 rfl rfl)
theorem dX19_sins_23 : decode cX19_sins 23 = .ok (.aload_n 0, 1) := dk_42 (dk_at dksX19_sins_0 23 rfl rfl)
theorem dX19_sins_24 : decode cX19_sins 24 = .ok (.aload_n 0, 1) := dk_42 (dk_at dksX19_sins_1 0 rfl rfl)
theorem dX19_sins_25 : decode cX19_sins 25 = .ok (.iload_n 1, 1) := dk_27 (dk_at dksX19_sins_1 1 rfl rfl)
theorem dX19_sins_26 : decode cX19_sins 26 = .ok (.invokevirtual 474, 3) := dk_182 1 218 (dk_at dksX19_sins_1 2 rfl rfl)
theorem dX19_sins_29 : decode cX19_sins 29 = .ok (.invokevirtual 98, 3) := dk_182 0 98 (dk_at dksX19_sins_1 5 rfl rfl)
theorem dX19_sins_32 : decode cX19_sins 32 = .ok (.ireturn, 1) := dk_172 (dk_at dksX19_sins_1 8 rfl rfl)
abbrev cX19_sinsOf : ByteArray := prog_24_method_79_code
def yX19_sinsOf : MethodName := ⟨RX19, "sinsOf", "(I)I"⟩
def dkwX19_sinsOf_1 : List UInt8 := [153, 0, 7, 4, 167, 0, 4, 3, 96, 61, 132, 3, 1, 167, 255, 225, 28, 172]
abbrev dktX19_sinsOf_1 : List UInt8 := dkwX19_sinsOf_1 ++ []
def dkwX19_sinsOf_0 : List UInt8 := [3, 61, 3, 62, 29, 42, 180, 1, 107, 180, 0, 200, 162, 0, 26, 28, 42, 29, 27, 182, 1, 209]
abbrev dktX19_sinsOf_0 : List UInt8 := dkwX19_sinsOf_0 ++ dktX19_sinsOf_1
theorem dksX19_sinsOf_0 : cX19_sinsOf.data.toList.drop 0 = dktX19_sinsOf_0 := by decide +kernel
theorem dksX19_sinsOf_1 : cX19_sinsOf.data.toList.drop 22 = dktX19_sinsOf_1 := dk_seg dksX19_sinsOf_0 22 rfl rfl
theorem dX19_sinsOf_0 : decode cX19_sinsOf 0 = .ok (.iconst 0, 1) := dk_3 (dk_at dksX19_sinsOf_0 0 rfl rfl)
theorem dX19_sinsOf_1 : decode cX19_sinsOf 1 = .ok (.istore_n 2, 1) := dk_61 (dk_at dksX19_sinsOf_0 1 rfl rfl)
theorem dX19_sinsOf_2 : decode cX19_sinsOf 2 = .ok (.iconst 0, 1) := dk_3 (dk_at dksX19_sinsOf_0 2 rfl rfl)
theorem dX19_sinsOf_3 : decode cX19_sinsOf 3 = .ok (.istore_n 3, 1) := dk_62 (dk_at dksX19_sinsOf_0 3 rfl rfl)
theorem dX19_sinsOf_4 : decode cX19_sinsOf 4 = .ok (.iload_n 3, 1) := dk_29 (dk_at dksX19_sinsOf_0 4 rfl rfl)
theorem dX19_sinsOf_5 : decode cX19_sinsOf 5 = .ok (.aload_n 0, 1) := dk_42 (dk_at dksX19_sinsOf_0 5 rfl rfl)
theorem dX19_sinsOf_6 : decode cX19_sinsOf 6 = .ok (.getfield 363, 3) := dk_180 1 107 (dk_at dksX19_sinsOf_0 6 rfl rfl)
theorem dX19_sinsOf_9 : decode cX19_sinsOf 9 = .ok (.getfield 200, 3) := dk_180 0 200 (dk_at dksX19_sinsOf_0 9 rfl rfl)
theorem dX19_sinsOf_12 : decode cX19_sinsOf 12 = .ok (.if_icmp .ge 26, 3) := dk_162 0 26 (dk_at dksX19_sinsOf_0 12 rfl rfl)
theorem dX19_sinsOf_15 : decode cX19_sinsOf 15 = .ok (.iload_n 2, 1) := dk_28 (dk_at dksX19_sinsOf_0 15 rfl rfl)
theorem dX19_sinsOf_16 : decode cX19_sinsOf 16 = .ok (.aload_n 0, 1) := dk_42 (dk_at dksX19_sinsOf_0 16 rfl rfl)
theorem dX19_sinsOf_17 : decode cX19_sinsOf 17 = .ok (.iload_n 3, 1) := dk_29 (dk_at dksX19_sinsOf_0 17 rfl rfl)
theorem dX19_sinsOf_18 : decode cX19_sinsOf 18 = .ok (.iload_n 1, 1) := dk_27 (dk_at dksX19_sinsOf_0 18 rfl rfl)
theorem dX19_sinsOf_19 : decode cX19_sinsOf 19 = .ok (.invokevirtual 465, 3) := dk_182 1 209 (dk_at dksX19_sinsOf_0 19 rfl rfl)
theorem dX19_sinsOf_22 : decode cX19_sinsOf 22 = .ok (.ifCond .eq 7, 3) := dk_153 0 7 (dk_at dksX19_sinsOf_1 0 rfl rfl)
theorem dX19_sinsOf_25 : decode cX19_sinsOf 25 = .ok (.iconst 1, 1) := dk_4 (dk_at dksX19_sinsOf_1 3 rfl rfl)
theorem dX19_sinsOf_26 : decode cX19_sinsOf 26 = .ok (.goto 4, 3) := dk_167 0 4 (dk_at dksX19_sinsOf_1 4 rfl rfl)
theorem dX19_sinsOf_29 : decode cX19_sinsOf 29 = .ok (.iconst 0, 1) := dk_3 (dk_at dksX19_sinsOf_1 7 rfl rfl)
theorem dX19_sinsOf_30 : decode cX19_sinsOf 30 = .ok (.iadd, 1) := dk_96 (dk_at dksX19_sinsOf_1 8 rfl rfl)
theorem dX19_sinsOf_31 : decode cX19_sinsOf 31 = .ok (.istore_n 2, 1) := dk_61 (dk_at dksX19_sinsOf_1 9 rfl rfl)
theorem dX19_sinsOf_32 : decode cX19_sinsOf 32 = .ok (.iinc 3 1, 3) := dk_132 3 1 (dk_at dksX19_sinsOf_1 10 rfl rfl)
theorem dX19_sinsOf_35 : decode cX19_sinsOf 35 = .ok (.goto (-31), 3) := dk_167 255 225 (dk_at dksX19_sinsOf_1 13 rfl rfl)
theorem dX19_sinsOf_38 : decode cX19_sinsOf 38 = .ok (.iload_n 2, 1) := dk_28 (dk_at dksX19_sinsOf_1 16 rfl rfl)
theorem dX19_sinsOf_39 : decode cX19_sinsOf 39 = .ok (.ireturn, 1) := dk_172 (dk_at dksX19_sinsOf_1 17 rfl rfl)
abbrev cX19_alike : ByteArray := prog_24_method_83_code
def yX19_alike : MethodName := ⟨RX19, "alike", "(I)I"⟩
def dkwX19_alike_1 : List UInt8 := [182, 1, 191, 42, 42, 27, 182, 1, 221, 182, 0, 98, 172]
abbrev dktX19_alike_1 : List UInt8 := dkwX19_alike_1 ++ []
def dkwX19_alike_0 : List UInt8 := [42, 3, 181, 0, 88, 42, 4, 27, 182, 1, 181, 61, 28, 158, 0, 9, 42, 28, 182, 0, 94, 172, 42]
abbrev dktX19_alike_0 : List UInt8 := dkwX19_alike_0 ++ dktX19_alike_1
theorem dksX19_alike_0 : cX19_alike.data.toList.drop 0 = dktX19_alike_0 := by decide +kernel
theorem dksX19_alike_1 : cX19_alike.data.toList.drop 23 = dktX19_alike_1 := dk_seg dksX19_alike_0 23 rfl rfl
theorem dX19_alike_0 : decode cX19_alike 0 = .ok (.aload_n 0, 1) := dk_42 (dk_at dksX19_alike_0 0 rfl rfl)
theorem dX19_alike_1 : decode cX19_alike 1 = .ok (.iconst 0, 1) := dk_3 (dk_at dksX19_alike_0 1 rfl rfl)
theorem dX19_alike_2 : decode cX19_alike 2 = .ok (.putfield 88, 3) := dk_181 0 88 (dk_at dksX19_alike_0 2 rfl rfl)
theorem dX19_alike_5 : decode cX19_alike 5 = .ok (.aload_n 0, 1) := dk_42 (dk_at dksX19_alike_0 5 rfl rfl)
theorem dX19_alike_6 : decode cX19_alike 6 = .ok (.iconst 1, 1) := dk_4 (dk_at dksX19_alike_0 6 rfl rfl)
theorem dX19_alike_7 : decode cX19_alike 7 = .ok (.iload_n 1, 1) := dk_27 (dk_at dksX19_alike_0 7 rfl rfl)
theorem dX19_alike_8 : decode cX19_alike 8 = .ok (.invokevirtual 437, 3) := dk_182 1 181 (dk_at dksX19_alike_0 8 rfl rfl)
theorem dX19_alike_11 : decode cX19_alike 11 = .ok (.istore_n 2, 1) := dk_61 (dk_at dksX19_alike_0 11 rfl rfl)
theorem dX19_alike_12 : decode cX19_alike 12 = .ok (.iload_n 2, 1) := dk_28 (dk_at dksX19_alike_0 12 rfl rfl)
theorem dX19_alike_13 : decode cX19_alike 13 = .ok (.ifCond .le 9, 3) := dk_158 0 9 (dk_at dksX19_alike_0 13 rfl rfl)
theorem dX19_alike_16 : decode cX19_alike 16 = .ok (.aload_n 0, 1) := dk_42 (dk_at dksX19_alike_0 16 rfl rfl)
theorem dX19_alike_17 : decode cX19_alike 17 = .ok (.iload_n 2, 1) := dk_28 (dk_at dksX19_alike_0 17 rfl rfl)
theorem dX19_alike_18 : decode cX19_alike 18 = .ok (.invokevirtual 94, 3) := dk_182 0 94 (dk_at dksX19_alike_0 18 rfl rfl)
theorem dX19_alike_21 : decode cX19_alike 21 = .ok (.ireturn, 1) := dk_172 (dk_at dksX19_alike_0 21 rfl rfl)
theorem dX19_alike_22 : decode cX19_alike 22 = .ok (.aload_n 0, 1) := dk_42 (dk_at dksX19_alike_0 22 rfl rfl)
theorem dX19_alike_23 : decode cX19_alike 23 = .ok (.invokevirtual 447, 3) := dk_182 1 191 (dk_at dksX19_alike_1 0 rfl rfl)
theorem dX19_alike_26 : decode cX19_alike 26 = .ok (.aload_n 0, 1) := dk_42 (dk_at dksX19_alike_1 3 rfl rfl)
theorem dX19_alike_27 : decode cX19_alike 27 = .ok (.aload_n 0, 1) := dk_42 (dk_at dksX19_alike_1 4 rfl rfl)
theorem dX19_alike_28 : decode cX19_alike 28 = .ok (.iload_n 1, 1) := dk_27 (dk_at dksX19_alike_1 5 rfl rfl)
theorem dX19_alike_29 : decode cX19_alike 29 = .ok (.invokevirtual 477, 3) := dk_182 1 221 (dk_at dksX19_alike_1 6 rfl rfl)
theorem dX19_alike_32 : decode cX19_alike 32 = .ok (.invokevirtual 98, 3) := dk_182 0 98 (dk_at dksX19_alike_1 9 rfl rfl)
theorem dX19_alike_35 : decode cX19_alike 35 = .ok (.ireturn, 1) := dk_172 (dk_at dksX19_alike_1 12 rfl rfl)
abbrev cX19_alikeIn : ByteArray := prog_24_method_81_code
def yX19_alikeIn : MethodName := ⟨RX19, "alikeIn", "(I)I"⟩
def dkwX19_alikeIn_3 : List UInt8 := [167, 255, 192, 28, 172]
abbrev dktX19_alikeIn_3 : List UInt8 := dkwX19_alikeIn_3 ++ []
def dkwX19_alikeIn_2 : List UInt8 := [182, 1, 200, 160, 0, 7, 4, 167, 0, 4, 3, 96, 61, 132, 4, 1, 167, 255, 212, 132, 3, 1]
abbrev dktX19_alikeIn_2 : List UInt8 := dkwX19_alikeIn_2 ++ dktX19_alikeIn_3
def dkwX19_alikeIn_1 : List UInt8 := [28, 42, 27, 29, 182, 1, 200, 16, 254, 159, 0, 23, 42, 27, 29, 182, 1, 200, 42, 27, 21, 4]
abbrev dktX19_alikeIn_1 : List UInt8 := dkwX19_alikeIn_1 ++ dktX19_alikeIn_2
def dkwX19_alikeIn_0 : List UInt8 := [3, 61, 3, 62, 29, 42, 180, 1, 107, 180, 0, 251, 162, 0, 59, 3, 54, 4, 21, 4, 29, 162, 0, 44]
abbrev dktX19_alikeIn_0 : List UInt8 := dkwX19_alikeIn_0 ++ dktX19_alikeIn_1
theorem dksX19_alikeIn_0 : cX19_alikeIn.data.toList.drop 0 = dktX19_alikeIn_0 := by decide +kernel
theorem dksX19_alikeIn_1 : cX19_alikeIn.data.toList.drop 24 = dktX19_alikeIn_1 := dk_seg dksX19_alikeIn_0 24 rfl rfl
theorem dksX19_alikeIn_2 : cX19_alikeIn.data.toList.drop 46 = dktX19_alikeIn_2 := dk_seg dksX19_alikeIn_1 22 rfl rfl
theorem dksX19_alikeIn_3 : cX19_alikeIn.data.toList.drop 68 = dktX19_alikeIn_3 := dk_seg dksX19_alikeIn_2 22 rfl rfl
theorem dX19_alikeIn_0 : decode cX19_alikeIn 0 = .ok (.iconst 0, 1) := dk_3 (dk_at dksX19_alikeIn_0 0 rfl rfl)
theorem dX19_alikeIn_1 : decode cX19_alikeIn 1 = .ok (.istore_n 2, 1) := dk_61 (dk_at dksX19_alikeIn_0 1 rfl rfl)
theorem dX19_alikeIn_2 : decode cX19_alikeIn 2 = .ok (.iconst 0, 1) := dk_3 (dk_at dksX19_alikeIn_0 2 rfl rfl)
theorem dX19_alikeIn_3 : decode cX19_alikeIn 3 = .ok (.istore_n 3, 1) := dk_62 (dk_at dksX19_alikeIn_0 3 rfl rfl)
theorem dX19_alikeIn_4 : decode cX19_alikeIn 4 = .ok (.iload_n 3, 1) := dk_29 (dk_at dksX19_alikeIn_0 4 rfl rfl)
theorem dX19_alikeIn_5 : decode cX19_alikeIn 5 = .ok (.aload_n 0, 1) := dk_42 (dk_at dksX19_alikeIn_0 5 rfl rfl)
theorem dX19_alikeIn_6 : decode cX19_alikeIn 6 = .ok (.getfield 363, 3) := dk_180 1 107 (dk_at dksX19_alikeIn_0 6 rfl rfl)
theorem dX19_alikeIn_9 : decode cX19_alikeIn 9 = .ok (.getfield 251, 3) := dk_180 0 251 (dk_at dksX19_alikeIn_0 9 rfl rfl)
theorem dX19_alikeIn_12 : decode cX19_alikeIn 12 = .ok (.if_icmp .ge 59, 3) := dk_162 0 59 (dk_at dksX19_alikeIn_0 12 rfl rfl)
theorem dX19_alikeIn_15 : decode cX19_alikeIn 15 = .ok (.iconst 0, 1) := dk_3 (dk_at dksX19_alikeIn_0 15 rfl rfl)
theorem dX19_alikeIn_16 : decode cX19_alikeIn 16 = .ok (.istore 4, 2) := dk_54 4 (dk_at dksX19_alikeIn_0 16 rfl rfl)
theorem dX19_alikeIn_18 : decode cX19_alikeIn 18 = .ok (.iload 4, 2) := dk_21 4 (dk_at dksX19_alikeIn_0 18 rfl rfl)
theorem dX19_alikeIn_20 : decode cX19_alikeIn 20 = .ok (.iload_n 3, 1) := dk_29 (dk_at dksX19_alikeIn_0 20 rfl rfl)
theorem dX19_alikeIn_21 : decode cX19_alikeIn 21 = .ok (.if_icmp .ge 44, 3) := dk_162 0 44 (dk_at dksX19_alikeIn_0 21 rfl rfl)
theorem dX19_alikeIn_24 : decode cX19_alikeIn 24 = .ok (.iload_n 2, 1) := dk_28 (dk_at dksX19_alikeIn_1 0 rfl rfl)
theorem dX19_alikeIn_25 : decode cX19_alikeIn 25 = .ok (.aload_n 0, 1) := dk_42 (dk_at dksX19_alikeIn_1 1 rfl rfl)
theorem dX19_alikeIn_26 : decode cX19_alikeIn 26 = .ok (.iload_n 1, 1) := dk_27 (dk_at dksX19_alikeIn_1 2 rfl rfl)
theorem dX19_alikeIn_27 : decode cX19_alikeIn 27 = .ok (.iload_n 3, 1) := dk_29 (dk_at dksX19_alikeIn_1 3 rfl rfl)
theorem dX19_alikeIn_28 : decode cX19_alikeIn 28 = .ok (.invokevirtual 456, 3) := dk_182 1 200 (dk_at dksX19_alikeIn_1 4 rfl rfl)
theorem dX19_alikeIn_31 : decode cX19_alikeIn 31 = .ok (.bipush (-2), 2) := dk_16 254 (dk_at dksX19_alikeIn_1 7 rfl rfl)
theorem dX19_alikeIn_33 : decode cX19_alikeIn 33 = .ok (.if_icmp .eq 23, 3) := dk_159 0 23 (dk_at dksX19_alikeIn_1 9 rfl rfl)
theorem dX19_alikeIn_36 : decode cX19_alikeIn 36 = .ok (.aload_n 0, 1) := dk_42 (dk_at dksX19_alikeIn_1 12 rfl rfl)
theorem dX19_alikeIn_37 : decode cX19_alikeIn 37 = .ok (.iload_n 1, 1) := dk_27 (dk_at dksX19_alikeIn_1 13 rfl rfl)
theorem dX19_alikeIn_38 : decode cX19_alikeIn 38 = .ok (.iload_n 3, 1) := dk_29 (dk_at dksX19_alikeIn_1 14 rfl rfl)
theorem dX19_alikeIn_39 : decode cX19_alikeIn 39 = .ok (.invokevirtual 456, 3) := dk_182 1 200 (dk_at dksX19_alikeIn_1 15 rfl rfl)
theorem dX19_alikeIn_42 : decode cX19_alikeIn 42 = .ok (.aload_n 0, 1) := dk_42 (dk_at dksX19_alikeIn_1 18 rfl rfl)
theorem dX19_alikeIn_43 : decode cX19_alikeIn 43 = .ok (.iload_n 1, 1) := dk_27 (dk_at dksX19_alikeIn_1 19 rfl rfl)
theorem dX19_alikeIn_44 : decode cX19_alikeIn 44 = .ok (.iload 4, 2) := dk_21 4 (dk_at dksX19_alikeIn_1 20 rfl rfl)
theorem dX19_alikeIn_46 : decode cX19_alikeIn 46 = .ok (.invokevirtual 456, 3) := dk_182 1 200 (dk_at dksX19_alikeIn_2 0 rfl rfl)
theorem dX19_alikeIn_49 : decode cX19_alikeIn 49 = .ok (.if_icmp .ne 7, 3) := dk_160 0 7 (dk_at dksX19_alikeIn_2 3 rfl rfl)
theorem dX19_alikeIn_52 : decode cX19_alikeIn 52 = .ok (.iconst 1, 1) := dk_4 (dk_at dksX19_alikeIn_2 6 rfl rfl)
theorem dX19_alikeIn_53 : decode cX19_alikeIn 53 = .ok (.goto 4, 3) := dk_167 0 4 (dk_at dksX19_alikeIn_2 7 rfl rfl)
theorem dX19_alikeIn_56 : decode cX19_alikeIn 56 = .ok (.iconst 0, 1) := dk_3 (dk_at dksX19_alikeIn_2 10 rfl rfl)
theorem dX19_alikeIn_57 : decode cX19_alikeIn 57 = .ok (.iadd, 1) := dk_96 (dk_at dksX19_alikeIn_2 11 rfl rfl)
theorem dX19_alikeIn_58 : decode cX19_alikeIn 58 = .ok (.istore_n 2, 1) := dk_61 (dk_at dksX19_alikeIn_2 12 rfl rfl)
theorem dX19_alikeIn_59 : decode cX19_alikeIn 59 = .ok (.iinc 4 1, 3) := dk_132 4 1 (dk_at dksX19_alikeIn_2 13 rfl rfl)
theorem dX19_alikeIn_62 : decode cX19_alikeIn 62 = .ok (.goto (-44), 3) := dk_167 255 212 (dk_at dksX19_alikeIn_2 16 rfl rfl)
theorem dX19_alikeIn_65 : decode cX19_alikeIn 65 = .ok (.iinc 3 1, 3) := dk_132 3 1 (dk_at dksX19_alikeIn_2 19 rfl rfl)
theorem dX19_alikeIn_68 : decode cX19_alikeIn 68 = .ok (.goto (-64), 3) := dk_167 255 192 (dk_at dksX19_alikeIn_3 0 rfl rfl)
theorem dX19_alikeIn_71 : decode cX19_alikeIn 71 = .ok (.iload_n 2, 1) := dk_28 (dk_at dksX19_alikeIn_3 3 rfl rfl)
theorem dX19_alikeIn_72 : decode cX19_alikeIn 72 = .ok (.ireturn, 1) := dk_172 (dk_at dksX19_alikeIn_3 4 rfl rfl)
abbrev cX19_alikeDays : ByteArray := prog_24_method_84_code
def yX19_alikeDays : MethodName := ⟨RX19, "alikeDays", "()I"⟩
def dkwX19_alikeDays_1 : List UInt8 := [182, 1, 224, 182, 0, 98, 172]
abbrev dktX19_alikeDays_1 : List UInt8 := dkwX19_alikeDays_1 ++ []
def dkwX19_alikeDays_0 : List UInt8 := [42, 3, 181, 0, 88, 42, 180, 1, 107, 199, 0, 9, 42, 4, 182, 0, 94, 172, 42, 182, 1, 191, 42, 42]
abbrev dktX19_alikeDays_0 : List UInt8 := dkwX19_alikeDays_0 ++ dktX19_alikeDays_1
theorem dksX19_alikeDays_0 : cX19_alikeDays.data.toList.drop 0 = dktX19_alikeDays_0 := by decide +kernel
theorem dksX19_alikeDays_1 : cX19_alikeDays.data.toList.drop 24 = dktX19_alikeDays_1 := dk_seg dksX19_alikeDays_0 24 rfl rfl
theorem dX19_alikeDays_0 : decode cX19_alikeDays 0 = .ok (.aload_n 0, 1) := dk_42 (dk_at dksX19_alikeDays_0 0 rfl rfl)
theorem dX19_alikeDays_1 : decode cX19_alikeDays 1 = .ok (.iconst 0, 1) := dk_3 (dk_at dksX19_alikeDays_0 1 rfl rfl)
theorem dX19_alikeDays_2 : decode cX19_alikeDays 2 = .ok (.putfield 88, 3) := dk_181 0 88 (dk_at dksX19_alikeDays_0 2 rfl rfl)
theorem dX19_alikeDays_5 : decode cX19_alikeDays 5 = .ok (.aload_n 0, 1) := dk_42 (dk_at dksX19_alikeDays_0 5 rfl rfl)
theorem dX19_alikeDays_6 : decode cX19_alikeDays 6 = .ok (.getfield 363, 3) := dk_180 1 107 (dk_at dksX19_alikeDays_0 6 rfl rfl)
theorem dX19_alikeDays_9 : decode cX19_alikeDays 9 = .ok (.ifnonnull 9, 3) := dk_199 0 9 (dk_at dksX19_alikeDays_0 9 rfl rfl)
theorem dX19_alikeDays_12 : decode cX19_alikeDays 12 = .ok (.aload_n 0, 1) := dk_42 (dk_at dksX19_alikeDays_0 12 rfl rfl)
theorem dX19_alikeDays_13 : decode cX19_alikeDays 13 = .ok (.iconst 1, 1) := dk_4 (dk_at dksX19_alikeDays_0 13 rfl rfl)
theorem dX19_alikeDays_14 : decode cX19_alikeDays 14 = .ok (.invokevirtual 94, 3) := dk_182 0 94 (dk_at dksX19_alikeDays_0 14 rfl rfl)
theorem dX19_alikeDays_17 : decode cX19_alikeDays 17 = .ok (.ireturn, 1) := dk_172 (dk_at dksX19_alikeDays_0 17 rfl rfl)
theorem dX19_alikeDays_18 : decode cX19_alikeDays 18 = .ok (.aload_n 0, 1) := dk_42 (dk_at dksX19_alikeDays_0 18 rfl rfl)
theorem dX19_alikeDays_19 : decode cX19_alikeDays 19 = .ok (.invokevirtual 447, 3) := dk_182 1 191 (dk_at dksX19_alikeDays_0 19 rfl rfl)
theorem dX19_alikeDays_22 : decode cX19_alikeDays 22 = .ok (.aload_n 0, 1) := dk_42 (dk_at dksX19_alikeDays_0 22 rfl rfl)
theorem dX19_alikeDays_23 : decode cX19_alikeDays 23 = .ok (.aload_n 0, 1) := dk_42 (dk_at dksX19_alikeDays_0 23 rfl rfl)
theorem dX19_alikeDays_24 : decode cX19_alikeDays 24 = .ok (.invokevirtual 480, 3) := dk_182 1 224 (dk_at dksX19_alikeDays_1 0 rfl rfl)
theorem dX19_alikeDays_27 : decode cX19_alikeDays 27 = .ok (.invokevirtual 98, 3) := dk_182 0 98 (dk_at dksX19_alikeDays_1 3 rfl rfl)
theorem dX19_alikeDays_30 : decode cX19_alikeDays 30 = .ok (.ireturn, 1) := dk_172 (dk_at dksX19_alikeDays_1 6 rfl rfl)
abbrev cX19_alikeInAll : ByteArray := prog_24_method_82_code
def yX19_alikeInAll : MethodName := ⟨RX19, "alikeInAll", "()I"⟩
def dkwX19_alikeInAll_1 : List UInt8 := [4, 167, 0, 4, 3, 96, 60, 132, 2, 1, 167, 255, 226, 27, 172]
abbrev dktX19_alikeInAll_1 : List UInt8 := dkwX19_alikeInAll_1 ++ []
def dkwX19_alikeInAll_0 : List UInt8 := [3, 60, 3, 61, 28, 42, 180, 1, 107, 180, 0, 200, 162, 0, 25, 27, 42, 28, 182, 1, 221, 158, 0, 7]
abbrev dktX19_alikeInAll_0 : List UInt8 := dkwX19_alikeInAll_0 ++ dktX19_alikeInAll_1
theorem dksX19_alikeInAll_0 : cX19_alikeInAll.data.toList.drop 0 = dktX19_alikeInAll_0 := by decide +kernel
theorem dksX19_alikeInAll_1 : cX19_alikeInAll.data.toList.drop 24 = dktX19_alikeInAll_1 := dk_seg dksX19_alikeInAll_0 24 rfl rfl
theorem dX19_alikeInAll_0 : decode cX19_alikeInAll 0 = .ok (.iconst 0, 1) := dk_3 (dk_at dksX19_alikeInAll_0 0 rfl rfl)
theorem dX19_alikeInAll_1 : decode cX19_alikeInAll 1 = .ok (.istore_n 1, 1) := dk_60 (dk_at dksX19_alikeInAll_0 1 rfl rfl)
theorem dX19_alikeInAll_2 : decode cX19_alikeInAll 2 = .ok (.iconst 0, 1) := dk_3 (dk_at dksX19_alikeInAll_0 2 rfl rfl)
theorem dX19_alikeInAll_3 : decode cX19_alikeInAll 3 = .ok (.istore_n 2, 1) := dk_61 (dk_at dksX19_alikeInAll_0 3 rfl rfl)
theorem dX19_alikeInAll_4 : decode cX19_alikeInAll 4 = .ok (.iload_n 2, 1) := dk_28 (dk_at dksX19_alikeInAll_0 4 rfl rfl)
theorem dX19_alikeInAll_5 : decode cX19_alikeInAll 5 = .ok (.aload_n 0, 1) := dk_42 (dk_at dksX19_alikeInAll_0 5 rfl rfl)
theorem dX19_alikeInAll_6 : decode cX19_alikeInAll 6 = .ok (.getfield 363, 3) := dk_180 1 107 (dk_at dksX19_alikeInAll_0 6 rfl rfl)
theorem dX19_alikeInAll_9 : decode cX19_alikeInAll 9 = .ok (.getfield 200, 3) := dk_180 0 200 (dk_at dksX19_alikeInAll_0 9 rfl rfl)
theorem dX19_alikeInAll_12 : decode cX19_alikeInAll 12 = .ok (.if_icmp .ge 25, 3) := dk_162 0 25 (dk_at dksX19_alikeInAll_0 12 rfl rfl)
theorem dX19_alikeInAll_15 : decode cX19_alikeInAll 15 = .ok (.iload_n 1, 1) := dk_27 (dk_at dksX19_alikeInAll_0 15 rfl rfl)
theorem dX19_alikeInAll_16 : decode cX19_alikeInAll 16 = .ok (.aload_n 0, 1) := dk_42 (dk_at dksX19_alikeInAll_0 16 rfl rfl)
theorem dX19_alikeInAll_17 : decode cX19_alikeInAll 17 = .ok (.iload_n 2, 1) := dk_28 (dk_at dksX19_alikeInAll_0 17 rfl rfl)
theorem dX19_alikeInAll_18 : decode cX19_alikeInAll 18 = .ok (.invokevirtual 477, 3) := dk_182 1 221 (dk_at dksX19_alikeInAll_0 18 rfl rfl)
theorem dX19_alikeInAll_21 : decode cX19_alikeInAll 21 = .ok (.ifCond .le 7, 3) := dk_158 0 7 (dk_at dksX19_alikeInAll_0 21 rfl rfl)
theorem dX19_alikeInAll_24 : decode cX19_alikeInAll 24 = .ok (.iconst 1, 1) := dk_4 (dk_at dksX19_alikeInAll_1 0 rfl rfl)
theorem dX19_alikeInAll_25 : decode cX19_alikeInAll 25 = .ok (.goto 4, 3) := dk_167 0 4 (dk_at dksX19_alikeInAll_1 1 rfl rfl)
theorem dX19_alikeInAll_28 : decode cX19_alikeInAll 28 = .ok (.iconst 0, 1) := dk_3 (dk_at dksX19_alikeInAll_1 4 rfl rfl)
theorem dX19_alikeInAll_29 : decode cX19_alikeInAll 29 = .ok (.iadd, 1) := dk_96 (dk_at dksX19_alikeInAll_1 5 rfl rfl)
theorem dX19_alikeInAll_30 : decode cX19_alikeInAll 30 = .ok (.istore_n 1, 1) := dk_60 (dk_at dksX19_alikeInAll_1 6 rfl rfl)
theorem dX19_alikeInAll_31 : decode cX19_alikeInAll 31 = .ok (.iinc 2 1, 3) := dk_132 2 1 (dk_at dksX19_alikeInAll_1 7 rfl rfl)
theorem dX19_alikeInAll_34 : decode cX19_alikeInAll 34 = .ok (.goto (-30), 3) := dk_167 255 226 (dk_at dksX19_alikeInAll_1 10 rfl rfl)
theorem dX19_alikeInAll_37 : decode cX19_alikeInAll 37 = .ok (.iload_n 1, 1) := dk_27 (dk_at dksX19_alikeInAll_1 13 rfl rfl)
theorem dX19_alikeInAll_38 : decode cX19_alikeInAll 38 = .ok (.ireturn, 1) := dk_172 (dk_at dksX19_alikeInAll_1 14 rfl rfl)
abbrev cX19_notches : ByteArray := prog_24_method_85_code
def yX19_notches : MethodName := ⟨RX19, "notches", "()I"⟩
def dkwX19_notches_5 : List UInt8 := [167, 255, 165, 3, 61, 4, 28, 120, 27, 162, 0, 9, 132, 2, 1, 167, 255, 246, 42, 28, 182, 0, 98, 172]
abbrev dktX19_notches_5 : List UInt8 := dkwX19_notches_5 ++ []
def dkwX19_notches_4 : List UInt8 := [21, 4, 27, 164, 0, 8, 21, 4, 167, 0, 4, 27, 60, 132, 3, 1, 167, 255, 184, 132, 2, 1]
abbrev dktX19_notches_4 : List UInt8 := dkwX19_notches_4 ++ dktX19_notches_5
def dkwX19_notches_3 : List UInt8 := [28, 21, 5, 182, 1, 200, 29, 160, 0, 7, 4, 167, 0, 4, 3, 96, 54, 4, 132, 5, 1, 167, 255, 220]
abbrev dktX19_notches_3 : List UInt8 := dkwX19_notches_3 ++ dktX19_notches_4
def dkwX19_notches_2 : List UInt8 := [162, 0, 67, 3, 54, 4, 3, 54, 5, 21, 5, 42, 180, 1, 107, 180, 0, 251, 162, 0, 30, 21, 4, 42]
abbrev dktX19_notches_2 : List UInt8 := dkwX19_notches_2 ++ dktX19_notches_3
def dkwX19_notches_1 : List UInt8 := [3, 61, 28, 42, 180, 1, 107, 180, 0, 200, 162, 0, 86, 3, 62, 29, 42, 180, 1, 107, 180, 0, 253]
abbrev dktX19_notches_1 : List UInt8 := dkwX19_notches_1 ++ dktX19_notches_2
def dkwX19_notches_0 : List UInt8 := [42, 3, 181, 0, 88, 42, 180, 1, 107, 199, 0, 9, 42, 4, 182, 0, 94, 172, 42, 182, 1, 191, 3, 60]
abbrev dktX19_notches_0 : List UInt8 := dkwX19_notches_0 ++ dktX19_notches_1
theorem dksX19_notches_0 : cX19_notches.data.toList.drop 0 = dktX19_notches_0 := by decide +kernel
theorem dksX19_notches_1 : cX19_notches.data.toList.drop 24 = dktX19_notches_1 := dk_seg dksX19_notches_0 24 rfl rfl
theorem dksX19_notches_2 : cX19_notches.data.toList.drop 47 = dktX19_notches_2 := dk_seg dksX19_notches_1 23 rfl rfl
theorem dksX19_notches_3 : cX19_notches.data.toList.drop 71 = dktX19_notches_3 := dk_seg dksX19_notches_2 24 rfl rfl
theorem dksX19_notches_4 : cX19_notches.data.toList.drop 95 = dktX19_notches_4 := dk_seg dksX19_notches_3 24 rfl rfl
theorem dksX19_notches_5 : cX19_notches.data.toList.drop 117 = dktX19_notches_5 := dk_seg dksX19_notches_4 22 rfl rfl
theorem dX19_notches_0 : decode cX19_notches 0 = .ok (.aload_n 0, 1) := dk_42 (dk_at dksX19_notches_0 0 rfl rfl)
theorem dX19_notches_1 : decode cX19_notches 1 = .ok (.iconst 0, 1) := dk_3 (dk_at dksX19_notches_0 1 rfl rfl)
theorem dX19_notches_2 : decode cX19_notches 2 = .ok (.putfield 88, 3) := dk_181 0 88 (dk_at dksX19_notches_0 2 rfl rfl)
theorem dX19_notches_5 : decode cX19_notches 5 = .ok (.aload_n 0, 1) := dk_42 (dk_at dksX19_notches_0 5 rfl rfl)
theorem dX19_notches_6 : decode cX19_notches 6 = .ok (.getfield 363, 3) := dk_180 1 107 (dk_at dksX19_notches_0 6 rfl rfl)
theorem dX19_notches_9 : decode cX19_notches 9 = .ok (.ifnonnull 9, 3) := dk_199 0 9 (dk_at dksX19_notches_0 9 rfl rfl)
theorem dX19_notches_12 : decode cX19_notches 12 = .ok (.aload_n 0, 1) := dk_42 (dk_at dksX19_notches_0 12 rfl rfl)
theorem dX19_notches_13 : decode cX19_notches 13 = .ok (.iconst 1, 1) := dk_4 (dk_at dksX19_notches_0 13 rfl rfl)
theorem dX19_notches_14 : decode cX19_notches 14 = .ok (.invokevirtual 94, 3) := dk_182 0 94 (dk_at dksX19_notches_0 14 rfl rfl)
theorem dX19_notches_17 : decode cX19_notches 17 = .ok (.ireturn, 1) := dk_172 (dk_at dksX19_notches_0 17 rfl rfl)
theorem dX19_notches_18 : decode cX19_notches 18 = .ok (.aload_n 0, 1) := dk_42 (dk_at dksX19_notches_0 18 rfl rfl)
theorem dX19_notches_19 : decode cX19_notches 19 = .ok (.invokevirtual 447, 3) := dk_182 1 191 (dk_at dksX19_notches_0 19 rfl rfl)
theorem dX19_notches_22 : decode cX19_notches 22 = .ok (.iconst 0, 1) := dk_3 (dk_at dksX19_notches_0 22 rfl rfl)
theorem dX19_notches_23 : decode cX19_notches 23 = .ok (.istore_n 1, 1) := dk_60 (dk_at dksX19_notches_0 23 rfl rfl)
theorem dX19_notches_24 : decode cX19_notches 24 = .ok (.iconst 0, 1) := dk_3 (dk_at dksX19_notches_1 0 rfl rfl)
theorem dX19_notches_25 : decode cX19_notches 25 = .ok (.istore_n 2, 1) := dk_61 (dk_at dksX19_notches_1 1 rfl rfl)
theorem dX19_notches_26 : decode cX19_notches 26 = .ok (.iload_n 2, 1) := dk_28 (dk_at dksX19_notches_1 2 rfl rfl)
theorem dX19_notches_27 : decode cX19_notches 27 = .ok (.aload_n 0, 1) := dk_42 (dk_at dksX19_notches_1 3 rfl rfl)
theorem dX19_notches_28 : decode cX19_notches 28 = .ok (.getfield 363, 3) := dk_180 1 107 (dk_at dksX19_notches_1 4 rfl rfl)
theorem dX19_notches_31 : decode cX19_notches 31 = .ok (.getfield 200, 3) := dk_180 0 200 (dk_at dksX19_notches_1 7 rfl rfl)
theorem dX19_notches_34 : decode cX19_notches 34 = .ok (.if_icmp .ge 86, 3) := dk_162 0 86 (dk_at dksX19_notches_1 10 rfl rfl)
theorem dX19_notches_37 : decode cX19_notches 37 = .ok (.iconst 0, 1) := dk_3 (dk_at dksX19_notches_1 13 rfl rfl)
theorem dX19_notches_38 : decode cX19_notches 38 = .ok (.istore_n 3, 1) := dk_62 (dk_at dksX19_notches_1 14 rfl rfl)
theorem dX19_notches_39 : decode cX19_notches 39 = .ok (.iload_n 3, 1) := dk_29 (dk_at dksX19_notches_1 15 rfl rfl)
theorem dX19_notches_40 : decode cX19_notches 40 = .ok (.aload_n 0, 1) := dk_42 (dk_at dksX19_notches_1 16 rfl rfl)
theorem dX19_notches_41 : decode cX19_notches 41 = .ok (.getfield 363, 3) := dk_180 1 107 (dk_at dksX19_notches_1 17 rfl rfl)
theorem dX19_notches_44 : decode cX19_notches 44 = .ok (.getfield 253, 3) := dk_180 0 253 (dk_at dksX19_notches_1 20 rfl rfl)
theorem dX19_notches_47 : decode cX19_notches 47 = .ok (.if_icmp .ge 67, 3) := dk_162 0 67 (dk_at dksX19_notches_2 0 rfl rfl)
theorem dX19_notches_50 : decode cX19_notches 50 = .ok (.iconst 0, 1) := dk_3 (dk_at dksX19_notches_2 3 rfl rfl)
theorem dX19_notches_51 : decode cX19_notches 51 = .ok (.istore 4, 2) := dk_54 4 (dk_at dksX19_notches_2 4 rfl rfl)
theorem dX19_notches_53 : decode cX19_notches 53 = .ok (.iconst 0, 1) := dk_3 (dk_at dksX19_notches_2 6 rfl rfl)
theorem dX19_notches_54 : decode cX19_notches 54 = .ok (.istore 5, 2) := dk_54 5 (dk_at dksX19_notches_2 7 rfl rfl)
theorem dX19_notches_56 : decode cX19_notches 56 = .ok (.iload 5, 2) := dk_21 5 (dk_at dksX19_notches_2 9 rfl rfl)
theorem dX19_notches_58 : decode cX19_notches 58 = .ok (.aload_n 0, 1) := dk_42 (dk_at dksX19_notches_2 11 rfl rfl)
theorem dX19_notches_59 : decode cX19_notches 59 = .ok (.getfield 363, 3) := dk_180 1 107 (dk_at dksX19_notches_2 12 rfl rfl)
theorem dX19_notches_62 : decode cX19_notches 62 = .ok (.getfield 251, 3) := dk_180 0 251 (dk_at dksX19_notches_2 15 rfl rfl)
theorem dX19_notches_65 : decode cX19_notches 65 = .ok (.if_icmp .ge 30, 3) := dk_162 0 30 (dk_at dksX19_notches_2 18 rfl rfl)
theorem dX19_notches_68 : decode cX19_notches 68 = .ok (.iload 4, 2) := dk_21 4 (dk_at dksX19_notches_2 21 rfl rfl)
theorem dX19_notches_70 : decode cX19_notches 70 = .ok (.aload_n 0, 1) := dk_42 (dk_at dksX19_notches_2 23 rfl rfl)
theorem dX19_notches_71 : decode cX19_notches 71 = .ok (.iload_n 2, 1) := dk_28 (dk_at dksX19_notches_3 0 rfl rfl)
theorem dX19_notches_72 : decode cX19_notches 72 = .ok (.iload 5, 2) := dk_21 5 (dk_at dksX19_notches_3 1 rfl rfl)
theorem dX19_notches_74 : decode cX19_notches 74 = .ok (.invokevirtual 456, 3) := dk_182 1 200 (dk_at dksX19_notches_3 3 rfl rfl)
theorem dX19_notches_77 : decode cX19_notches 77 = .ok (.iload_n 3, 1) := dk_29 (dk_at dksX19_notches_3 6 rfl rfl)
theorem dX19_notches_78 : decode cX19_notches 78 = .ok (.if_icmp .ne 7, 3) := dk_160 0 7 (dk_at dksX19_notches_3 7 rfl rfl)
theorem dX19_notches_81 : decode cX19_notches 81 = .ok (.iconst 1, 1) := dk_4 (dk_at dksX19_notches_3 10 rfl rfl)
theorem dX19_notches_82 : decode cX19_notches 82 = .ok (.goto 4, 3) := dk_167 0 4 (dk_at dksX19_notches_3 11 rfl rfl)
theorem dX19_notches_85 : decode cX19_notches 85 = .ok (.iconst 0, 1) := dk_3 (dk_at dksX19_notches_3 14 rfl rfl)
theorem dX19_notches_86 : decode cX19_notches 86 = .ok (.iadd, 1) := dk_96 (dk_at dksX19_notches_3 15 rfl rfl)
theorem dX19_notches_87 : decode cX19_notches 87 = .ok (.istore 4, 2) := dk_54 4 (dk_at dksX19_notches_3 16 rfl rfl)
theorem dX19_notches_89 : decode cX19_notches 89 = .ok (.iinc 5 1, 3) := dk_132 5 1 (dk_at dksX19_notches_3 18 rfl rfl)
theorem dX19_notches_92 : decode cX19_notches 92 = .ok (.goto (-36), 3) := dk_167 255 220 (dk_at dksX19_notches_3 21 rfl rfl)
theorem dX19_notches_95 : decode cX19_notches 95 = .ok (.iload 4, 2) := dk_21 4 (dk_at dksX19_notches_4 0 rfl rfl)
theorem dX19_notches_97 : decode cX19_notches 97 = .ok (.iload_n 1, 1) := dk_27 (dk_at dksX19_notches_4 2 rfl rfl)
theorem dX19_notches_98 : decode cX19_notches 98 = .ok (.if_icmp .le 8, 3) := dk_164 0 8 (dk_at dksX19_notches_4 3 rfl rfl)
theorem dX19_notches_101 : decode cX19_notches 101 = .ok (.iload 4, 2) := dk_21 4 (dk_at dksX19_notches_4 6 rfl rfl)
theorem dX19_notches_103 : decode cX19_notches 103 = .ok (.goto 4, 3) := dk_167 0 4 (dk_at dksX19_notches_4 8 rfl rfl)
theorem dX19_notches_106 : decode cX19_notches 106 = .ok (.iload_n 1, 1) := dk_27 (dk_at dksX19_notches_4 11 rfl rfl)
theorem dX19_notches_107 : decode cX19_notches 107 = .ok (.istore_n 1, 1) := dk_60 (dk_at dksX19_notches_4 12 rfl rfl)
theorem dX19_notches_108 : decode cX19_notches 108 = .ok (.iinc 3 1, 3) := dk_132 3 1 (dk_at dksX19_notches_4 13 rfl rfl)
theorem dX19_notches_111 : decode cX19_notches 111 = .ok (.goto (-72), 3) := dk_167 255 184 (dk_at dksX19_notches_4 16 rfl rfl)
theorem dX19_notches_114 : decode cX19_notches 114 = .ok (.iinc 2 1, 3) := dk_132 2 1 (dk_at dksX19_notches_4 19 rfl rfl)
theorem dX19_notches_117 : decode cX19_notches 117 = .ok (.goto (-91), 3) := dk_167 255 165 (dk_at dksX19_notches_5 0 rfl rfl)
theorem dX19_notches_120 : decode cX19_notches 120 = .ok (.iconst 0, 1) := dk_3 (dk_at dksX19_notches_5 3 rfl rfl)
theorem dX19_notches_121 : decode cX19_notches 121 = .ok (.istore_n 2, 1) := dk_61 (dk_at dksX19_notches_5 4 rfl rfl)
theorem dX19_notches_122 : decode cX19_notches 122 = .ok (.iconst 1, 1) := dk_4 (dk_at dksX19_notches_5 5 rfl rfl)
theorem dX19_notches_123 : decode cX19_notches 123 = .ok (.iload_n 2, 1) := dk_28 (dk_at dksX19_notches_5 6 rfl rfl)
theorem dX19_notches_124 : decode cX19_notches 124 = .ok (.ishl, 1) := dk_120 (dk_at dksX19_notches_5 7 rfl rfl)
theorem dX19_notches_125 : decode cX19_notches 125 = .ok (.iload_n 1, 1) := dk_27 (dk_at dksX19_notches_5 8 rfl rfl)
theorem dX19_notches_126 : decode cX19_notches 126 = .ok (.if_icmp .ge 9, 3) := dk_162 0 9 (dk_at dksX19_notches_5 9 rfl rfl)
theorem dX19_notches_129 : decode cX19_notches 129 = .ok (.iinc 2 1, 3) := dk_132 2 1 (dk_at dksX19_notches_5 12 rfl rfl)
theorem dX19_notches_132 : decode cX19_notches 132 = .ok (.goto (-10), 3) := dk_167 255 246 (dk_at dksX19_notches_5 15 rfl rfl)
theorem dX19_notches_135 : decode cX19_notches 135 = .ok (.aload_n 0, 1) := dk_42 (dk_at dksX19_notches_5 18 rfl rfl)
theorem dX19_notches_136 : decode cX19_notches 136 = .ok (.iload_n 2, 1) := dk_28 (dk_at dksX19_notches_5 19 rfl rfl)
theorem dX19_notches_137 : decode cX19_notches 137 = .ok (.invokevirtual 98, 3) := dk_182 0 98 (dk_at dksX19_notches_5 20 rfl rfl)
theorem dX19_notches_140 : decode cX19_notches 140 = .ok (.ireturn, 1) := dk_172 (dk_at dksX19_notches_5 23 rfl rfl)
abbrev cX19_byHabit : ByteArray := prog_24_method_88_code
def yX19_byHabit : MethodName := ⟨RX19, "byHabit", "(I)I"⟩
def dkwX19_byHabit_1 : List UInt8 := [182, 1, 227, 182, 0, 98, 167, 0, 8, 42, 4, 182, 0, 94, 172]
abbrev dktX19_byHabit_1 : List UInt8 := dkwX19_byHabit_1 ++ []
def dkwX19_byHabit_0 : List UInt8 := [42, 3, 181, 0, 88, 42, 180, 1, 107, 198, 0, 24, 27, 3, 5, 184, 0, 169, 153, 0, 15, 42, 42, 27]
abbrev dktX19_byHabit_0 : List UInt8 := dkwX19_byHabit_0 ++ dktX19_byHabit_1
theorem dksX19_byHabit_0 : cX19_byHabit.data.toList.drop 0 = dktX19_byHabit_0 := by decide +kernel
theorem dksX19_byHabit_1 : cX19_byHabit.data.toList.drop 24 = dktX19_byHabit_1 := dk_seg dksX19_byHabit_0 24 rfl rfl
theorem dX19_byHabit_0 : decode cX19_byHabit 0 = .ok (.aload_n 0, 1) := dk_42 (dk_at dksX19_byHabit_0 0 rfl rfl)
theorem dX19_byHabit_1 : decode cX19_byHabit 1 = .ok (.iconst 0, 1) := dk_3 (dk_at dksX19_byHabit_0 1 rfl rfl)
theorem dX19_byHabit_2 : decode cX19_byHabit 2 = .ok (.putfield 88, 3) := dk_181 0 88 (dk_at dksX19_byHabit_0 2 rfl rfl)
theorem dX19_byHabit_5 : decode cX19_byHabit 5 = .ok (.aload_n 0, 1) := dk_42 (dk_at dksX19_byHabit_0 5 rfl rfl)
theorem dX19_byHabit_6 : decode cX19_byHabit 6 = .ok (.getfield 363, 3) := dk_180 1 107 (dk_at dksX19_byHabit_0 6 rfl rfl)
theorem dX19_byHabit_9 : decode cX19_byHabit 9 = .ok (.ifnull 24, 3) := dk_198 0 24 (dk_at dksX19_byHabit_0 9 rfl rfl)
theorem dX19_byHabit_12 : decode cX19_byHabit 12 = .ok (.iload_n 1, 1) := dk_27 (dk_at dksX19_byHabit_0 12 rfl rfl)
theorem dX19_byHabit_13 : decode cX19_byHabit 13 = .ok (.iconst 0, 1) := dk_3 (dk_at dksX19_byHabit_0 13 rfl rfl)
theorem dX19_byHabit_14 : decode cX19_byHabit 14 = .ok (.iconst 2, 1) := dk_5 (dk_at dksX19_byHabit_0 14 rfl rfl)
theorem dX19_byHabit_15 : decode cX19_byHabit 15 = .ok (.invokestatic 169, 3) := dk_184 0 169 (dk_at dksX19_byHabit_0 15 rfl rfl)
theorem dX19_byHabit_18 : decode cX19_byHabit 18 = .ok (.ifCond .eq 15, 3) := dk_153 0 15 (dk_at dksX19_byHabit_0 18 rfl rfl)
theorem dX19_byHabit_21 : decode cX19_byHabit 21 = .ok (.aload_n 0, 1) := dk_42 (dk_at dksX19_byHabit_0 21 rfl rfl)
theorem dX19_byHabit_22 : decode cX19_byHabit 22 = .ok (.aload_n 0, 1) := dk_42 (dk_at dksX19_byHabit_0 22 rfl rfl)
theorem dX19_byHabit_23 : decode cX19_byHabit 23 = .ok (.iload_n 1, 1) := dk_27 (dk_at dksX19_byHabit_0 23 rfl rfl)
theorem dX19_byHabit_24 : decode cX19_byHabit 24 = .ok (.invokevirtual 483, 3) := dk_182 1 227 (dk_at dksX19_byHabit_1 0 rfl rfl)
theorem dX19_byHabit_27 : decode cX19_byHabit 27 = .ok (.invokevirtual 98, 3) := dk_182 0 98 (dk_at dksX19_byHabit_1 3 rfl rfl)
theorem dX19_byHabit_30 : decode cX19_byHabit 30 = .ok (.goto 8, 3) := dk_167 0 8 (dk_at dksX19_byHabit_1 6 rfl rfl)
theorem dX19_byHabit_33 : decode cX19_byHabit 33 = .ok (.aload_n 0, 1) := dk_42 (dk_at dksX19_byHabit_1 9 rfl rfl)
theorem dX19_byHabit_34 : decode cX19_byHabit 34 = .ok (.iconst 1, 1) := dk_4 (dk_at dksX19_byHabit_1 10 rfl rfl)
theorem dX19_byHabit_35 : decode cX19_byHabit 35 = .ok (.invokevirtual 94, 3) := dk_182 0 94 (dk_at dksX19_byHabit_1 11 rfl rfl)
theorem dX19_byHabit_38 : decode cX19_byHabit 38 = .ok (.ireturn, 1) := dk_172 (dk_at dksX19_byHabit_1 14 rfl rfl)
abbrev cX19_daysByHabit : ByteArray := prog_24_method_86_code
def yX19_daysByHabit : MethodName := ⟨RX19, "daysByHabit", "(I)I"⟩
def dkwX19_daysByHabit_0 : List UInt8 := [42, 2, 181, 1, 121, 42, 27, 181, 1, 118, 42, 2, 181, 1, 115, 42, 182, 1, 124, 42, 182, 1, 224, 172]
abbrev dktX19_daysByHabit_0 : List UInt8 := dkwX19_daysByHabit_0 ++ []
theorem dksX19_daysByHabit_0 : cX19_daysByHabit.data.toList.drop 0 = dktX19_daysByHabit_0 := by decide +kernel
theorem dX19_daysByHabit_0 : decode cX19_daysByHabit 0 = .ok (.aload_n 0, 1) := dk_42 (dk_at dksX19_daysByHabit_0 0 rfl rfl)
theorem dX19_daysByHabit_1 : decode cX19_daysByHabit 1 = .ok (.iconst (-1), 1) := dk_2 (dk_at dksX19_daysByHabit_0 1 rfl rfl)
theorem dX19_daysByHabit_2 : decode cX19_daysByHabit 2 = .ok (.putfield 377, 3) := dk_181 1 121 (dk_at dksX19_daysByHabit_0 2 rfl rfl)
theorem dX19_daysByHabit_5 : decode cX19_daysByHabit 5 = .ok (.aload_n 0, 1) := dk_42 (dk_at dksX19_daysByHabit_0 5 rfl rfl)
theorem dX19_daysByHabit_6 : decode cX19_daysByHabit 6 = .ok (.iload_n 1, 1) := dk_27 (dk_at dksX19_daysByHabit_0 6 rfl rfl)
theorem dX19_daysByHabit_7 : decode cX19_daysByHabit 7 = .ok (.putfield 374, 3) := dk_181 1 118 (dk_at dksX19_daysByHabit_0 7 rfl rfl)
theorem dX19_daysByHabit_10 : decode cX19_daysByHabit 10 = .ok (.aload_n 0, 1) := dk_42 (dk_at dksX19_daysByHabit_0 10 rfl rfl)
theorem dX19_daysByHabit_11 : decode cX19_daysByHabit 11 = .ok (.iconst (-1), 1) := dk_2 (dk_at dksX19_daysByHabit_0 11 rfl rfl)
theorem dX19_daysByHabit_12 : decode cX19_daysByHabit 12 = .ok (.putfield 371, 3) := dk_181 1 115 (dk_at dksX19_daysByHabit_0 12 rfl rfl)
theorem dX19_daysByHabit_15 : decode cX19_daysByHabit 15 = .ok (.aload_n 0, 1) := dk_42 (dk_at dksX19_daysByHabit_0 15 rfl rfl)
theorem dX19_daysByHabit_16 : decode cX19_daysByHabit 16 = .ok (.invokevirtual 380, 3) := dk_182 1 124 (dk_at dksX19_daysByHabit_0 16 rfl rfl)
theorem dX19_daysByHabit_19 : decode cX19_daysByHabit 19 = .ok (.aload_n 0, 1) := dk_42 (dk_at dksX19_daysByHabit_0 19 rfl rfl)
theorem dX19_daysByHabit_20 : decode cX19_daysByHabit 20 = .ok (.invokevirtual 480, 3) := dk_182 1 224 (dk_at dksX19_daysByHabit_0 20 rfl rfl)
theorem dX19_daysByHabit_23 : decode cX19_daysByHabit 23 = .ok (.ireturn, 1) := dk_172 (dk_at dksX19_daysByHabit_0 23 rfl rfl)
abbrev cX19_bestHabit : ByteArray := prog_24_method_89_code
def yX19_bestHabit : MethodName := ⟨RX19, "bestHabit", "()I"⟩
def dkwX19_bestHabit_2 : List UInt8 := [42, 27, 182, 0, 98, 172]
abbrev dktX19_bestHabit_2 : List UInt8 := dkwX19_bestHabit_2 ++ []
def dkwX19_bestHabit_1 : List UInt8 := [163, 0, 24, 42, 28, 182, 1, 227, 42, 27, 182, 1, 227, 162, 0, 5, 28, 60, 132, 2, 1, 167, 255, 233]
abbrev dktX19_bestHabit_1 : List UInt8 := dkwX19_bestHabit_1 ++ dktX19_bestHabit_2
def dkwX19_bestHabit_0 : List UInt8 := [42, 3, 181, 0, 88, 42, 180, 1, 107, 199, 0, 9, 42, 4, 182, 0, 94, 172, 3, 60, 4, 61, 28, 5]
abbrev dktX19_bestHabit_0 : List UInt8 := dkwX19_bestHabit_0 ++ dktX19_bestHabit_1
theorem dksX19_bestHabit_0 : cX19_bestHabit.data.toList.drop 0 = dktX19_bestHabit_0 := by decide +kernel
theorem dksX19_bestHabit_1 : cX19_bestHabit.data.toList.drop 24 = dktX19_bestHabit_1 := dk_seg dksX19_bestHabit_0 24 rfl rfl
theorem dksX19_bestHabit_2 : cX19_bestHabit.data.toList.drop 48 = dktX19_bestHabit_2 := dk_seg dksX19_bestHabit_1 24 rfl rfl
theorem dX19_bestHabit_0 : decode cX19_bestHabit 0 = .ok (.aload_n 0, 1) := dk_42 (dk_at dksX19_bestHabit_0 0 rfl rfl)
theorem dX19_bestHabit_1 : decode cX19_bestHabit 1 = .ok (.iconst 0, 1) := dk_3 (dk_at dksX19_bestHabit_0 1 rfl rfl)
theorem dX19_bestHabit_2 : decode cX19_bestHabit 2 = .ok (.putfield 88, 3) := dk_181 0 88 (dk_at dksX19_bestHabit_0 2 rfl rfl)
theorem dX19_bestHabit_5 : decode cX19_bestHabit 5 = .ok (.aload_n 0, 1) := dk_42 (dk_at dksX19_bestHabit_0 5 rfl rfl)
theorem dX19_bestHabit_6 : decode cX19_bestHabit 6 = .ok (.getfield 363, 3) := dk_180 1 107 (dk_at dksX19_bestHabit_0 6 rfl rfl)
theorem dX19_bestHabit_9 : decode cX19_bestHabit 9 = .ok (.ifnonnull 9, 3) := dk_199 0 9 (dk_at dksX19_bestHabit_0 9 rfl rfl)
theorem dX19_bestHabit_12 : decode cX19_bestHabit 12 = .ok (.aload_n 0, 1) := dk_42 (dk_at dksX19_bestHabit_0 12 rfl rfl)
theorem dX19_bestHabit_13 : decode cX19_bestHabit 13 = .ok (.iconst 1, 1) := dk_4 (dk_at dksX19_bestHabit_0 13 rfl rfl)
theorem dX19_bestHabit_14 : decode cX19_bestHabit 14 = .ok (.invokevirtual 94, 3) := dk_182 0 94 (dk_at dksX19_bestHabit_0 14 rfl rfl)
theorem dX19_bestHabit_17 : decode cX19_bestHabit 17 = .ok (.ireturn, 1) := dk_172 (dk_at dksX19_bestHabit_0 17 rfl rfl)
theorem dX19_bestHabit_18 : decode cX19_bestHabit 18 = .ok (.iconst 0, 1) := dk_3 (dk_at dksX19_bestHabit_0 18 rfl rfl)
theorem dX19_bestHabit_19 : decode cX19_bestHabit 19 = .ok (.istore_n 1, 1) := dk_60 (dk_at dksX19_bestHabit_0 19 rfl rfl)
theorem dX19_bestHabit_20 : decode cX19_bestHabit 20 = .ok (.iconst 1, 1) := dk_4 (dk_at dksX19_bestHabit_0 20 rfl rfl)
theorem dX19_bestHabit_21 : decode cX19_bestHabit 21 = .ok (.istore_n 2, 1) := dk_61 (dk_at dksX19_bestHabit_0 21 rfl rfl)
theorem dX19_bestHabit_22 : decode cX19_bestHabit 22 = .ok (.iload_n 2, 1) := dk_28 (dk_at dksX19_bestHabit_0 22 rfl rfl)
theorem dX19_bestHabit_23 : decode cX19_bestHabit 23 = .ok (.iconst 2, 1) := dk_5 (dk_at dksX19_bestHabit_0 23 rfl rfl)
theorem dX19_bestHabit_24 : decode cX19_bestHabit 24 = .ok (.if_icmp .gt 24, 3) := dk_163 0 24 (dk_at dksX19_bestHabit_1 0 rfl rfl)
theorem dX19_bestHabit_27 : decode cX19_bestHabit 27 = .ok (.aload_n 0, 1) := dk_42 (dk_at dksX19_bestHabit_1 3 rfl rfl)
theorem dX19_bestHabit_28 : decode cX19_bestHabit 28 = .ok (.iload_n 2, 1) := dk_28 (dk_at dksX19_bestHabit_1 4 rfl rfl)
theorem dX19_bestHabit_29 : decode cX19_bestHabit 29 = .ok (.invokevirtual 483, 3) := dk_182 1 227 (dk_at dksX19_bestHabit_1 5 rfl rfl)
theorem dX19_bestHabit_32 : decode cX19_bestHabit 32 = .ok (.aload_n 0, 1) := dk_42 (dk_at dksX19_bestHabit_1 8 rfl rfl)
theorem dX19_bestHabit_33 : decode cX19_bestHabit 33 = .ok (.iload_n 1, 1) := dk_27 (dk_at dksX19_bestHabit_1 9 rfl rfl)
theorem dX19_bestHabit_34 : decode cX19_bestHabit 34 = .ok (.invokevirtual 483, 3) := dk_182 1 227 (dk_at dksX19_bestHabit_1 10 rfl rfl)
theorem dX19_bestHabit_37 : decode cX19_bestHabit 37 = .ok (.if_icmp .ge 5, 3) := dk_162 0 5 (dk_at dksX19_bestHabit_1 13 rfl rfl)
theorem dX19_bestHabit_40 : decode cX19_bestHabit 40 = .ok (.iload_n 2, 1) := dk_28 (dk_at dksX19_bestHabit_1 16 rfl rfl)
theorem dX19_bestHabit_41 : decode cX19_bestHabit 41 = .ok (.istore_n 1, 1) := dk_60 (dk_at dksX19_bestHabit_1 17 rfl rfl)
theorem dX19_bestHabit_42 : decode cX19_bestHabit 42 = .ok (.iinc 2 1, 3) := dk_132 2 1 (dk_at dksX19_bestHabit_1 18 rfl rfl)
theorem dX19_bestHabit_45 : decode cX19_bestHabit 45 = .ok (.goto (-23), 3) := dk_167 255 233 (dk_at dksX19_bestHabit_1 21 rfl rfl)
theorem dX19_bestHabit_48 : decode cX19_bestHabit 48 = .ok (.aload_n 0, 1) := dk_42 (dk_at dksX19_bestHabit_2 0 rfl rfl)
theorem dX19_bestHabit_49 : decode cX19_bestHabit 49 = .ok (.iload_n 1, 1) := dk_27 (dk_at dksX19_bestHabit_2 1 rfl rfl)
theorem dX19_bestHabit_50 : decode cX19_bestHabit 50 = .ok (.invokevirtual 98, 3) := dk_182 0 98 (dk_at dksX19_bestHabit_2 2 rfl rfl)
theorem dX19_bestHabit_53 : decode cX19_bestHabit 53 = .ok (.ireturn, 1) := dk_172 (dk_at dksX19_bestHabit_2 5 rfl rfl)
abbrev cX19_byKind : ByteArray := prog_24_method_90_code
def yX19_byKind : MethodName := ⟨RX19, "byKind", "(I)I"⟩
def dkwX19_byKind_1 : List UInt8 := [182, 1, 230, 182, 0, 98, 167, 0, 8, 42, 4, 182, 0, 94, 172]
abbrev dktX19_byKind_1 : List UInt8 := dkwX19_byKind_1 ++ []
def dkwX19_byKind_0 : List UInt8 := [42, 3, 181, 0, 88, 42, 180, 1, 107, 198, 0, 24, 27, 3, 6, 184, 0, 169, 153, 0, 15, 42, 42, 27]
abbrev dktX19_byKind_0 : List UInt8 := dkwX19_byKind_0 ++ dktX19_byKind_1
theorem dksX19_byKind_0 : cX19_byKind.data.toList.drop 0 = dktX19_byKind_0 := by decide +kernel
theorem dksX19_byKind_1 : cX19_byKind.data.toList.drop 24 = dktX19_byKind_1 := dk_seg dksX19_byKind_0 24 rfl rfl
theorem dX19_byKind_0 : decode cX19_byKind 0 = .ok (.aload_n 0, 1) := dk_42 (dk_at dksX19_byKind_0 0 rfl rfl)
theorem dX19_byKind_1 : decode cX19_byKind 1 = .ok (.iconst 0, 1) := dk_3 (dk_at dksX19_byKind_0 1 rfl rfl)
theorem dX19_byKind_2 : decode cX19_byKind 2 = .ok (.putfield 88, 3) := dk_181 0 88 (dk_at dksX19_byKind_0 2 rfl rfl)
theorem dX19_byKind_5 : decode cX19_byKind 5 = .ok (.aload_n 0, 1) := dk_42 (dk_at dksX19_byKind_0 5 rfl rfl)
theorem dX19_byKind_6 : decode cX19_byKind 6 = .ok (.getfield 363, 3) := dk_180 1 107 (dk_at dksX19_byKind_0 6 rfl rfl)
theorem dX19_byKind_9 : decode cX19_byKind 9 = .ok (.ifnull 24, 3) := dk_198 0 24 (dk_at dksX19_byKind_0 9 rfl rfl)
theorem dX19_byKind_12 : decode cX19_byKind 12 = .ok (.iload_n 1, 1) := dk_27 (dk_at dksX19_byKind_0 12 rfl rfl)
theorem dX19_byKind_13 : decode cX19_byKind 13 = .ok (.iconst 0, 1) := dk_3 (dk_at dksX19_byKind_0 13 rfl rfl)
theorem dX19_byKind_14 : decode cX19_byKind 14 = .ok (.iconst 3, 1) := dk_6 (dk_at dksX19_byKind_0 14 rfl rfl)
theorem dX19_byKind_15 : decode cX19_byKind 15 = .ok (.invokestatic 169, 3) := dk_184 0 169 (dk_at dksX19_byKind_0 15 rfl rfl)
theorem dX19_byKind_18 : decode cX19_byKind 18 = .ok (.ifCond .eq 15, 3) := dk_153 0 15 (dk_at dksX19_byKind_0 18 rfl rfl)
theorem dX19_byKind_21 : decode cX19_byKind 21 = .ok (.aload_n 0, 1) := dk_42 (dk_at dksX19_byKind_0 21 rfl rfl)
theorem dX19_byKind_22 : decode cX19_byKind 22 = .ok (.aload_n 0, 1) := dk_42 (dk_at dksX19_byKind_0 22 rfl rfl)
theorem dX19_byKind_23 : decode cX19_byKind 23 = .ok (.iload_n 1, 1) := dk_27 (dk_at dksX19_byKind_0 23 rfl rfl)
theorem dX19_byKind_24 : decode cX19_byKind 24 = .ok (.invokevirtual 486, 3) := dk_182 1 230 (dk_at dksX19_byKind_1 0 rfl rfl)
theorem dX19_byKind_27 : decode cX19_byKind 27 = .ok (.invokevirtual 98, 3) := dk_182 0 98 (dk_at dksX19_byKind_1 3 rfl rfl)
theorem dX19_byKind_30 : decode cX19_byKind 30 = .ok (.goto 8, 3) := dk_167 0 8 (dk_at dksX19_byKind_1 6 rfl rfl)
theorem dX19_byKind_33 : decode cX19_byKind 33 = .ok (.aload_n 0, 1) := dk_42 (dk_at dksX19_byKind_1 9 rfl rfl)
theorem dX19_byKind_34 : decode cX19_byKind 34 = .ok (.iconst 1, 1) := dk_4 (dk_at dksX19_byKind_1 10 rfl rfl)
theorem dX19_byKind_35 : decode cX19_byKind 35 = .ok (.invokevirtual 94, 3) := dk_182 0 94 (dk_at dksX19_byKind_1 11 rfl rfl)
theorem dX19_byKind_38 : decode cX19_byKind 38 = .ok (.ireturn, 1) := dk_172 (dk_at dksX19_byKind_1 14 rfl rfl)
abbrev cX19_sharedByKind : ByteArray := prog_24_method_87_code
def yX19_sharedByKind : MethodName := ⟨RX19, "sharedByKind", "(I)I"⟩
def dkwX19_sharedByKind_0 : List UInt8 := [42, 2, 181, 1, 121, 42, 2, 181, 1, 118, 42, 27, 181, 1, 115, 42, 182, 1, 124, 42, 182, 1, 215, 172]
abbrev dktX19_sharedByKind_0 : List UInt8 := dkwX19_sharedByKind_0 ++ []
theorem dksX19_sharedByKind_0 : cX19_sharedByKind.data.toList.drop 0 = dktX19_sharedByKind_0 := by decide +kernel
theorem dX19_sharedByKind_0 : decode cX19_sharedByKind 0 = .ok (.aload_n 0, 1) := dk_42 (dk_at dksX19_sharedByKind_0 0 rfl rfl)
theorem dX19_sharedByKind_1 : decode cX19_sharedByKind 1 = .ok (.iconst (-1), 1) := dk_2 (dk_at dksX19_sharedByKind_0 1 rfl rfl)
theorem dX19_sharedByKind_2 : decode cX19_sharedByKind 2 = .ok (.putfield 377, 3) := dk_181 1 121 (dk_at dksX19_sharedByKind_0 2 rfl rfl)
theorem dX19_sharedByKind_5 : decode cX19_sharedByKind 5 = .ok (.aload_n 0, 1) := dk_42 (dk_at dksX19_sharedByKind_0 5 rfl rfl)
theorem dX19_sharedByKind_6 : decode cX19_sharedByKind 6 = .ok (.iconst (-1), 1) := dk_2 (dk_at dksX19_sharedByKind_0 6 rfl rfl)
theorem dX19_sharedByKind_7 : decode cX19_sharedByKind 7 = .ok (.putfield 374, 3) := dk_181 1 118 (dk_at dksX19_sharedByKind_0 7 rfl rfl)
theorem dX19_sharedByKind_10 : decode cX19_sharedByKind 10 = .ok (.aload_n 0, 1) := dk_42 (dk_at dksX19_sharedByKind_0 10 rfl rfl)
theorem dX19_sharedByKind_11 : decode cX19_sharedByKind 11 = .ok (.iload_n 1, 1) := dk_27 (dk_at dksX19_sharedByKind_0 11 rfl rfl)
theorem dX19_sharedByKind_12 : decode cX19_sharedByKind 12 = .ok (.putfield 371, 3) := dk_181 1 115 (dk_at dksX19_sharedByKind_0 12 rfl rfl)
theorem dX19_sharedByKind_15 : decode cX19_sharedByKind 15 = .ok (.aload_n 0, 1) := dk_42 (dk_at dksX19_sharedByKind_0 15 rfl rfl)
theorem dX19_sharedByKind_16 : decode cX19_sharedByKind 16 = .ok (.invokevirtual 380, 3) := dk_182 1 124 (dk_at dksX19_sharedByKind_0 16 rfl rfl)
theorem dX19_sharedByKind_19 : decode cX19_sharedByKind 19 = .ok (.aload_n 0, 1) := dk_42 (dk_at dksX19_sharedByKind_0 19 rfl rfl)
theorem dX19_sharedByKind_20 : decode cX19_sharedByKind 20 = .ok (.invokevirtual 471, 3) := dk_182 1 215 (dk_at dksX19_sharedByKind_0 20 rfl rfl)
theorem dX19_sharedByKind_23 : decode cX19_sharedByKind 23 = .ok (.ireturn, 1) := dk_172 (dk_at dksX19_sharedByKind_0 23 rfl rfl)
abbrev cX19_bestKind : ByteArray := prog_24_method_91_code
def yX19_bestKind : MethodName := ⟨RX19, "bestKind", "()I"⟩
def dkwX19_bestKind_2 : List UInt8 := [42, 27, 182, 0, 98, 172]
abbrev dktX19_bestKind_2 : List UInt8 := dkwX19_bestKind_2 ++ []
def dkwX19_bestKind_1 : List UInt8 := [163, 0, 24, 42, 28, 182, 1, 230, 42, 27, 182, 1, 230, 162, 0, 5, 28, 60, 132, 2, 1, 167, 255, 233]
abbrev dktX19_bestKind_1 : List UInt8 := dkwX19_bestKind_1 ++ dktX19_bestKind_2
def dkwX19_bestKind_0 : List UInt8 := [42, 3, 181, 0, 88, 42, 180, 1, 107, 199, 0, 9, 42, 4, 182, 0, 94, 172, 3, 60, 4, 61, 28, 6]
abbrev dktX19_bestKind_0 : List UInt8 := dkwX19_bestKind_0 ++ dktX19_bestKind_1
theorem dksX19_bestKind_0 : cX19_bestKind.data.toList.drop 0 = dktX19_bestKind_0 := by decide +kernel
theorem dksX19_bestKind_1 : cX19_bestKind.data.toList.drop 24 = dktX19_bestKind_1 := dk_seg dksX19_bestKind_0 24 rfl rfl
theorem dksX19_bestKind_2 : cX19_bestKind.data.toList.drop 48 = dktX19_bestKind_2 := dk_seg dksX19_bestKind_1 24 rfl rfl
theorem dX19_bestKind_0 : decode cX19_bestKind 0 = .ok (.aload_n 0, 1) := dk_42 (dk_at dksX19_bestKind_0 0 rfl rfl)
theorem dX19_bestKind_1 : decode cX19_bestKind 1 = .ok (.iconst 0, 1) := dk_3 (dk_at dksX19_bestKind_0 1 rfl rfl)
theorem dX19_bestKind_2 : decode cX19_bestKind 2 = .ok (.putfield 88, 3) := dk_181 0 88 (dk_at dksX19_bestKind_0 2 rfl rfl)
theorem dX19_bestKind_5 : decode cX19_bestKind 5 = .ok (.aload_n 0, 1) := dk_42 (dk_at dksX19_bestKind_0 5 rfl rfl)
theorem dX19_bestKind_6 : decode cX19_bestKind 6 = .ok (.getfield 363, 3) := dk_180 1 107 (dk_at dksX19_bestKind_0 6 rfl rfl)
theorem dX19_bestKind_9 : decode cX19_bestKind 9 = .ok (.ifnonnull 9, 3) := dk_199 0 9 (dk_at dksX19_bestKind_0 9 rfl rfl)
theorem dX19_bestKind_12 : decode cX19_bestKind 12 = .ok (.aload_n 0, 1) := dk_42 (dk_at dksX19_bestKind_0 12 rfl rfl)
theorem dX19_bestKind_13 : decode cX19_bestKind 13 = .ok (.iconst 1, 1) := dk_4 (dk_at dksX19_bestKind_0 13 rfl rfl)
theorem dX19_bestKind_14 : decode cX19_bestKind 14 = .ok (.invokevirtual 94, 3) := dk_182 0 94 (dk_at dksX19_bestKind_0 14 rfl rfl)
theorem dX19_bestKind_17 : decode cX19_bestKind 17 = .ok (.ireturn, 1) := dk_172 (dk_at dksX19_bestKind_0 17 rfl rfl)
theorem dX19_bestKind_18 : decode cX19_bestKind 18 = .ok (.iconst 0, 1) := dk_3 (dk_at dksX19_bestKind_0 18 rfl rfl)
theorem dX19_bestKind_19 : decode cX19_bestKind 19 = .ok (.istore_n 1, 1) := dk_60 (dk_at dksX19_bestKind_0 19 rfl rfl)
theorem dX19_bestKind_20 : decode cX19_bestKind 20 = .ok (.iconst 1, 1) := dk_4 (dk_at dksX19_bestKind_0 20 rfl rfl)
theorem dX19_bestKind_21 : decode cX19_bestKind 21 = .ok (.istore_n 2, 1) := dk_61 (dk_at dksX19_bestKind_0 21 rfl rfl)
theorem dX19_bestKind_22 : decode cX19_bestKind 22 = .ok (.iload_n 2, 1) := dk_28 (dk_at dksX19_bestKind_0 22 rfl rfl)
theorem dX19_bestKind_23 : decode cX19_bestKind 23 = .ok (.iconst 3, 1) := dk_6 (dk_at dksX19_bestKind_0 23 rfl rfl)
theorem dX19_bestKind_24 : decode cX19_bestKind 24 = .ok (.if_icmp .gt 24, 3) := dk_163 0 24 (dk_at dksX19_bestKind_1 0 rfl rfl)
theorem dX19_bestKind_27 : decode cX19_bestKind 27 = .ok (.aload_n 0, 1) := dk_42 (dk_at dksX19_bestKind_1 3 rfl rfl)
theorem dX19_bestKind_28 : decode cX19_bestKind 28 = .ok (.iload_n 2, 1) := dk_28 (dk_at dksX19_bestKind_1 4 rfl rfl)
theorem dX19_bestKind_29 : decode cX19_bestKind 29 = .ok (.invokevirtual 486, 3) := dk_182 1 230 (dk_at dksX19_bestKind_1 5 rfl rfl)
theorem dX19_bestKind_32 : decode cX19_bestKind 32 = .ok (.aload_n 0, 1) := dk_42 (dk_at dksX19_bestKind_1 8 rfl rfl)
theorem dX19_bestKind_33 : decode cX19_bestKind 33 = .ok (.iload_n 1, 1) := dk_27 (dk_at dksX19_bestKind_1 9 rfl rfl)
theorem dX19_bestKind_34 : decode cX19_bestKind 34 = .ok (.invokevirtual 486, 3) := dk_182 1 230 (dk_at dksX19_bestKind_1 10 rfl rfl)
theorem dX19_bestKind_37 : decode cX19_bestKind 37 = .ok (.if_icmp .ge 5, 3) := dk_162 0 5 (dk_at dksX19_bestKind_1 13 rfl rfl)
theorem dX19_bestKind_40 : decode cX19_bestKind 40 = .ok (.iload_n 2, 1) := dk_28 (dk_at dksX19_bestKind_1 16 rfl rfl)
theorem dX19_bestKind_41 : decode cX19_bestKind 41 = .ok (.istore_n 1, 1) := dk_60 (dk_at dksX19_bestKind_1 17 rfl rfl)
theorem dX19_bestKind_42 : decode cX19_bestKind 42 = .ok (.iinc 2 1, 3) := dk_132 2 1 (dk_at dksX19_bestKind_1 18 rfl rfl)
theorem dX19_bestKind_45 : decode cX19_bestKind 45 = .ok (.goto (-23), 3) := dk_167 255 233 (dk_at dksX19_bestKind_1 21 rfl rfl)
theorem dX19_bestKind_48 : decode cX19_bestKind 48 = .ok (.aload_n 0, 1) := dk_42 (dk_at dksX19_bestKind_2 0 rfl rfl)
theorem dX19_bestKind_49 : decode cX19_bestKind 49 = .ok (.iload_n 1, 1) := dk_27 (dk_at dksX19_bestKind_2 1 rfl rfl)
theorem dX19_bestKind_50 : decode cX19_bestKind 50 = .ok (.invokevirtual 98, 3) := dk_182 0 98 (dk_at dksX19_bestKind_2 2 rfl rfl)
theorem dX19_bestKind_53 : decode cX19_bestKind 53 = .ok (.ireturn, 1) := dk_172 (dk_at dksX19_bestKind_2 5 rfl rfl)
abbrev cX19_colours : ByteArray := prog_24_method_96_code
def yX19_colours : MethodName := ⟨RX19, "colours", "()I"⟩
def dkwX19_colours_1 : List UInt8 := [182, 1, 242, 182, 0, 98, 172]
abbrev dktX19_colours_1 : List UInt8 := dkwX19_colours_1 ++ []
def dkwX19_colours_0 : List UInt8 := [42, 3, 181, 0, 88, 42, 180, 1, 107, 199, 0, 11, 42, 4, 182, 0, 94, 167, 0, 11, 42, 42]
abbrev dktX19_colours_0 : List UInt8 := dkwX19_colours_0 ++ dktX19_colours_1
theorem dksX19_colours_0 : cX19_colours.data.toList.drop 0 = dktX19_colours_0 := by decide +kernel
theorem dksX19_colours_1 : cX19_colours.data.toList.drop 22 = dktX19_colours_1 := dk_seg dksX19_colours_0 22 rfl rfl
theorem dX19_colours_0 : decode cX19_colours 0 = .ok (.aload_n 0, 1) := dk_42 (dk_at dksX19_colours_0 0 rfl rfl)
theorem dX19_colours_1 : decode cX19_colours 1 = .ok (.iconst 0, 1) := dk_3 (dk_at dksX19_colours_0 1 rfl rfl)
theorem dX19_colours_2 : decode cX19_colours 2 = .ok (.putfield 88, 3) := dk_181 0 88 (dk_at dksX19_colours_0 2 rfl rfl)
theorem dX19_colours_5 : decode cX19_colours 5 = .ok (.aload_n 0, 1) := dk_42 (dk_at dksX19_colours_0 5 rfl rfl)
theorem dX19_colours_6 : decode cX19_colours 6 = .ok (.getfield 363, 3) := dk_180 1 107 (dk_at dksX19_colours_0 6 rfl rfl)
theorem dX19_colours_9 : decode cX19_colours 9 = .ok (.ifnonnull 11, 3) := dk_199 0 11 (dk_at dksX19_colours_0 9 rfl rfl)
theorem dX19_colours_12 : decode cX19_colours 12 = .ok (.aload_n 0, 1) := dk_42 (dk_at dksX19_colours_0 12 rfl rfl)
theorem dX19_colours_13 : decode cX19_colours 13 = .ok (.iconst 1, 1) := dk_4 (dk_at dksX19_colours_0 13 rfl rfl)
theorem dX19_colours_14 : decode cX19_colours 14 = .ok (.invokevirtual 94, 3) := dk_182 0 94 (dk_at dksX19_colours_0 14 rfl rfl)
theorem dX19_colours_17 : decode cX19_colours 17 = .ok (.goto 11, 3) := dk_167 0 11 (dk_at dksX19_colours_0 17 rfl rfl)
theorem dX19_colours_20 : decode cX19_colours 20 = .ok (.aload_n 0, 1) := dk_42 (dk_at dksX19_colours_0 20 rfl rfl)
theorem dX19_colours_21 : decode cX19_colours 21 = .ok (.aload_n 0, 1) := dk_42 (dk_at dksX19_colours_0 21 rfl rfl)
theorem dX19_colours_22 : decode cX19_colours 22 = .ok (.invokevirtual 498, 3) := dk_182 1 242 (dk_at dksX19_colours_1 0 rfl rfl)
theorem dX19_colours_25 : decode cX19_colours 25 = .ok (.invokevirtual 98, 3) := dk_182 0 98 (dk_at dksX19_colours_1 3 rfl rfl)
theorem dX19_colours_28 : decode cX19_colours 28 = .ok (.ireturn, 1) := dk_172 (dk_at dksX19_colours_1 6 rfl rfl)
abbrev cX19_fewestColours : ByteArray := prog_24_method_95_code
def yX19_fewestColours : MethodName := ⟨RX19, "fewestColours", "()I"⟩
def dkwX19_fewestColours_0 : List UInt8 := [4, 60, 42, 27, 182, 1, 239, 154, 0, 9, 132, 1, 1, 167, 255, 245, 27, 172]
abbrev dktX19_fewestColours_0 : List UInt8 := dkwX19_fewestColours_0 ++ []
theorem dksX19_fewestColours_0 : cX19_fewestColours.data.toList.drop 0 = dktX19_fewestColours_0 := by decide +kernel
theorem dX19_fewestColours_0 : decode cX19_fewestColours 0 = .ok (.iconst 1, 1) := dk_4 (dk_at dksX19_fewestColours_0 0 rfl rfl)
theorem dX19_fewestColours_1 : decode cX19_fewestColours 1 = .ok (.istore_n 1, 1) := dk_60 (dk_at dksX19_fewestColours_0 1 rfl rfl)
theorem dX19_fewestColours_2 : decode cX19_fewestColours 2 = .ok (.aload_n 0, 1) := dk_42 (dk_at dksX19_fewestColours_0 2 rfl rfl)
theorem dX19_fewestColours_3 : decode cX19_fewestColours 3 = .ok (.iload_n 1, 1) := dk_27 (dk_at dksX19_fewestColours_0 3 rfl rfl)
theorem dX19_fewestColours_4 : decode cX19_fewestColours 4 = .ok (.invokevirtual 495, 3) := dk_182 1 239 (dk_at dksX19_fewestColours_0 4 rfl rfl)
theorem dX19_fewestColours_7 : decode cX19_fewestColours 7 = .ok (.ifCond .ne 9, 3) := dk_154 0 9 (dk_at dksX19_fewestColours_0 7 rfl rfl)
theorem dX19_fewestColours_10 : decode cX19_fewestColours 10 = .ok (.iinc 1 1, 3) := dk_132 1 1 (dk_at dksX19_fewestColours_0 10 rfl rfl)
theorem dX19_fewestColours_13 : decode cX19_fewestColours 13 = .ok (.goto (-11), 3) := dk_167 255 245 (dk_at dksX19_fewestColours_0 13 rfl rfl)
theorem dX19_fewestColours_16 : decode cX19_fewestColours 16 = .ok (.iload_n 1, 1) := dk_27 (dk_at dksX19_fewestColours_0 16 rfl rfl)
theorem dX19_fewestColours_17 : decode cX19_fewestColours 17 = .ok (.ireturn, 1) := dk_172 (dk_at dksX19_fewestColours_0 17 rfl rfl)
abbrev cX19_gives : ByteArray := prog_24_method_94_code
def yX19_gives : MethodName := ⟨RX19, "gives", "(I)Z"⟩
def dkwX19_gives_3 : List UInt8 := [28, 182, 1, 236, 153, 255, 203, 132, 2, 1, 167, 255, 197, 28, 155, 0, 7, 4, 167, 0, 4, 3, 172]
abbrev dktX19_gives_3 : List UInt8 := dkwX19_gives_3 ++ []
def dkwX19_gives_2 : List UInt8 := [42, 180, 0, 66, 28, 46, 27, 160, 0, 16, 42, 180, 0, 66, 28, 2, 79, 132, 2, 255, 167, 255, 211, 42]
abbrev dktX19_gives_2 : List UInt8 := dkwX19_gives_2 ++ dktX19_gives_3
def dkwX19_gives_1 : List UInt8 := [155, 0, 61, 28, 42, 180, 1, 107, 180, 0, 219, 162, 0, 50, 42, 180, 0, 66, 28, 92, 46, 4, 96, 79]
abbrev dktX19_gives_1 : List UInt8 := dkwX19_gives_1 ++ dktX19_gives_2
def dkwX19_gives_0 : List UInt8 := [3, 61, 3, 62, 29, 16, 7, 162, 0, 16, 42, 180, 0, 66, 29, 2, 79, 132, 3, 1, 167, 255, 240, 28]
abbrev dktX19_gives_0 : List UInt8 := dkwX19_gives_0 ++ dktX19_gives_1
theorem dksX19_gives_0 : cX19_gives.data.toList.drop 0 = dktX19_gives_0 := by decide +kernel
theorem dksX19_gives_1 : cX19_gives.data.toList.drop 24 = dktX19_gives_1 := dk_seg dksX19_gives_0 24 rfl rfl
theorem dksX19_gives_2 : cX19_gives.data.toList.drop 48 = dktX19_gives_2 := dk_seg dksX19_gives_1 24 rfl rfl
theorem dksX19_gives_3 : cX19_gives.data.toList.drop 72 = dktX19_gives_3 := dk_seg dksX19_gives_2 24 rfl rfl
theorem dX19_gives_0 : decode cX19_gives 0 = .ok (.iconst 0, 1) := dk_3 (dk_at dksX19_gives_0 0 rfl rfl)
theorem dX19_gives_1 : decode cX19_gives 1 = .ok (.istore_n 2, 1) := dk_61 (dk_at dksX19_gives_0 1 rfl rfl)
theorem dX19_gives_2 : decode cX19_gives 2 = .ok (.iconst 0, 1) := dk_3 (dk_at dksX19_gives_0 2 rfl rfl)
theorem dX19_gives_3 : decode cX19_gives 3 = .ok (.istore_n 3, 1) := dk_62 (dk_at dksX19_gives_0 3 rfl rfl)
theorem dX19_gives_4 : decode cX19_gives 4 = .ok (.iload_n 3, 1) := dk_29 (dk_at dksX19_gives_0 4 rfl rfl)
theorem dX19_gives_5 : decode cX19_gives 5 = .ok (.bipush 7, 2) := dk_16 7 (dk_at dksX19_gives_0 5 rfl rfl)
theorem dX19_gives_7 : decode cX19_gives 7 = .ok (.if_icmp .ge 16, 3) := dk_162 0 16 (dk_at dksX19_gives_0 7 rfl rfl)
theorem dX19_gives_10 : decode cX19_gives 10 = .ok (.aload_n 0, 1) := dk_42 (dk_at dksX19_gives_0 10 rfl rfl)
theorem dX19_gives_11 : decode cX19_gives 11 = .ok (.getfield 66, 3) := dk_180 0 66 (dk_at dksX19_gives_0 11 rfl rfl)
theorem dX19_gives_14 : decode cX19_gives 14 = .ok (.iload_n 3, 1) := dk_29 (dk_at dksX19_gives_0 14 rfl rfl)
theorem dX19_gives_15 : decode cX19_gives 15 = .ok (.iconst (-1), 1) := dk_2 (dk_at dksX19_gives_0 15 rfl rfl)
theorem dX19_gives_16 : decode cX19_gives 16 = .ok (.iastore, 1) := dk_79 (dk_at dksX19_gives_0 16 rfl rfl)
theorem dX19_gives_17 : decode cX19_gives 17 = .ok (.iinc 3 1, 3) := dk_132 3 1 (dk_at dksX19_gives_0 17 rfl rfl)
theorem dX19_gives_20 : decode cX19_gives 20 = .ok (.goto (-16), 3) := dk_167 255 240 (dk_at dksX19_gives_0 20 rfl rfl)
theorem dX19_gives_23 : decode cX19_gives 23 = .ok (.iload_n 2, 1) := dk_28 (dk_at dksX19_gives_0 23 rfl rfl)
theorem dX19_gives_24 : decode cX19_gives 24 = .ok (.ifCond .lt 61, 3) := dk_155 0 61 (dk_at dksX19_gives_1 0 rfl rfl)
theorem dX19_gives_27 : decode cX19_gives 27 = .ok (.iload_n 2, 1) := dk_28 (dk_at dksX19_gives_1 3 rfl rfl)
theorem dX19_gives_28 : decode cX19_gives 28 = .ok (.aload_n 0, 1) := dk_42 (dk_at dksX19_gives_1 4 rfl rfl)
theorem dX19_gives_29 : decode cX19_gives 29 = .ok (.getfield 363, 3) := dk_180 1 107 (dk_at dksX19_gives_1 5 rfl rfl)
theorem dX19_gives_32 : decode cX19_gives 32 = .ok (.getfield 219, 3) := dk_180 0 219 (dk_at dksX19_gives_1 8 rfl rfl)
theorem dX19_gives_35 : decode cX19_gives 35 = .ok (.if_icmp .ge 50, 3) := dk_162 0 50 (dk_at dksX19_gives_1 11 rfl rfl)
theorem dX19_gives_38 : decode cX19_gives 38 = .ok (.aload_n 0, 1) := dk_42 (dk_at dksX19_gives_1 14 rfl rfl)
theorem dX19_gives_39 : decode cX19_gives 39 = .ok (.getfield 66, 3) := dk_180 0 66 (dk_at dksX19_gives_1 15 rfl rfl)
theorem dX19_gives_42 : decode cX19_gives 42 = .ok (.iload_n 2, 1) := dk_28 (dk_at dksX19_gives_1 18 rfl rfl)
theorem dX19_gives_43 : decode cX19_gives 43 = .ok (.dup2, 1) := dk_92 (dk_at dksX19_gives_1 19 rfl rfl)
theorem dX19_gives_44 : decode cX19_gives 44 = .ok (.iaload, 1) := dk_46 (dk_at dksX19_gives_1 20 rfl rfl)
theorem dX19_gives_45 : decode cX19_gives 45 = .ok (.iconst 1, 1) := dk_4 (dk_at dksX19_gives_1 21 rfl rfl)
theorem dX19_gives_46 : decode cX19_gives 46 = .ok (.iadd, 1) := dk_96 (dk_at dksX19_gives_1 22 rfl rfl)
theorem dX19_gives_47 : decode cX19_gives 47 = .ok (.iastore, 1) := dk_79 (dk_at dksX19_gives_1 23 rfl rfl)
theorem dX19_gives_48 : decode cX19_gives 48 = .ok (.aload_n 0, 1) := dk_42 (dk_at dksX19_gives_2 0 rfl rfl)
theorem dX19_gives_49 : decode cX19_gives 49 = .ok (.getfield 66, 3) := dk_180 0 66 (dk_at dksX19_gives_2 1 rfl rfl)
theorem dX19_gives_52 : decode cX19_gives 52 = .ok (.iload_n 2, 1) := dk_28 (dk_at dksX19_gives_2 4 rfl rfl)
theorem dX19_gives_53 : decode cX19_gives 53 = .ok (.iaload, 1) := dk_46 (dk_at dksX19_gives_2 5 rfl rfl)
theorem dX19_gives_54 : decode cX19_gives 54 = .ok (.iload_n 1, 1) := dk_27 (dk_at dksX19_gives_2 6 rfl rfl)
theorem dX19_gives_55 : decode cX19_gives 55 = .ok (.if_icmp .ne 16, 3) := dk_160 0 16 (dk_at dksX19_gives_2 7 rfl rfl)
theorem dX19_gives_58 : decode cX19_gives 58 = .ok (.aload_n 0, 1) := dk_42 (dk_at dksX19_gives_2 10 rfl rfl)
theorem dX19_gives_59 : decode cX19_gives 59 = .ok (.getfield 66, 3) := dk_180 0 66 (dk_at dksX19_gives_2 11 rfl rfl)
theorem dX19_gives_62 : decode cX19_gives 62 = .ok (.iload_n 2, 1) := dk_28 (dk_at dksX19_gives_2 14 rfl rfl)
theorem dX19_gives_63 : decode cX19_gives 63 = .ok (.iconst (-1), 1) := dk_2 (dk_at dksX19_gives_2 15 rfl rfl)
theorem dX19_gives_64 : decode cX19_gives 64 = .ok (.iastore, 1) := dk_79 (dk_at dksX19_gives_2 16 rfl rfl)
theorem dX19_gives_65 : decode cX19_gives 65 = .ok (.iinc 2 (-1), 3) := dk_132 2 255 (dk_at dksX19_gives_2 17 rfl rfl)
theorem dX19_gives_68 : decode cX19_gives 68 = .ok (.goto (-45), 3) := dk_167 255 211 (dk_at dksX19_gives_2 20 rfl rfl)
theorem dX19_gives_71 : decode cX19_gives 71 = .ok (.aload_n 0, 1) := dk_42 (dk_at dksX19_gives_2 23 rfl rfl)
theorem dX19_gives_72 : decode cX19_gives 72 = .ok (.iload_n 2, 1) := dk_28 (dk_at dksX19_gives_3 0 rfl rfl)
theorem dX19_gives_73 : decode cX19_gives 73 = .ok (.invokevirtual 492, 3) := dk_182 1 236 (dk_at dksX19_gives_3 1 rfl rfl)
theorem dX19_gives_76 : decode cX19_gives 76 = .ok (.ifCond .eq (-53), 3) := dk_153 255 203 (dk_at dksX19_gives_3 4 rfl rfl)
theorem dX19_gives_79 : decode cX19_gives 79 = .ok (.iinc 2 1, 3) := dk_132 2 1 (dk_at dksX19_gives_3 7 rfl rfl)
theorem dX19_gives_82 : decode cX19_gives 82 = .ok (.goto (-59), 3) := dk_167 255 197 (dk_at dksX19_gives_3 10 rfl rfl)
theorem dX19_gives_85 : decode cX19_gives 85 = .ok (.iload_n 2, 1) := dk_28 (dk_at dksX19_gives_3 13 rfl rfl)
theorem dX19_gives_86 : decode cX19_gives 86 = .ok (.ifCond .lt 7, 3) := dk_155 0 7 (dk_at dksX19_gives_3 14 rfl rfl)
theorem dX19_gives_89 : decode cX19_gives 89 = .ok (.iconst 1, 1) := dk_4 (dk_at dksX19_gives_3 17 rfl rfl)
theorem dX19_gives_90 : decode cX19_gives 90 = .ok (.goto 4, 3) := dk_167 0 4 (dk_at dksX19_gives_3 18 rfl rfl)
theorem dX19_gives_93 : decode cX19_gives 93 = .ok (.iconst 0, 1) := dk_3 (dk_at dksX19_gives_3 21 rfl rfl)
theorem dX19_gives_94 : decode cX19_gives 94 = .ok (.ireturn, 1) := dk_172 (dk_at dksX19_gives_3 22 rfl rfl)
abbrev cX19_isGood : ByteArray := prog_24_method_93_code
def yX19_isGood : MethodName := ⟨RX19, "isGood", "(I)Z"⟩
def dkwX19_isGood_1 : List UInt8 := [28, 182, 1, 233, 153, 0, 5, 3, 172, 132, 2, 1, 167, 255, 222, 4, 172]
abbrev dktX19_isGood_1 : List UInt8 := dkwX19_isGood_1 ++ []
def dkwX19_isGood_0 : List UInt8 := [3, 61, 28, 27, 162, 0, 35, 42, 180, 0, 66, 28, 46, 42, 180, 0, 66, 27, 46, 160, 0, 14, 42, 27]
abbrev dktX19_isGood_0 : List UInt8 := dkwX19_isGood_0 ++ dktX19_isGood_1
theorem dksX19_isGood_0 : cX19_isGood.data.toList.drop 0 = dktX19_isGood_0 := by decide +kernel
theorem dksX19_isGood_1 : cX19_isGood.data.toList.drop 24 = dktX19_isGood_1 := dk_seg dksX19_isGood_0 24 rfl rfl
theorem dX19_isGood_0 : decode cX19_isGood 0 = .ok (.iconst 0, 1) := dk_3 (dk_at dksX19_isGood_0 0 rfl rfl)
theorem dX19_isGood_1 : decode cX19_isGood 1 = .ok (.istore_n 2, 1) := dk_61 (dk_at dksX19_isGood_0 1 rfl rfl)
theorem dX19_isGood_2 : decode cX19_isGood 2 = .ok (.iload_n 2, 1) := dk_28 (dk_at dksX19_isGood_0 2 rfl rfl)
theorem dX19_isGood_3 : decode cX19_isGood 3 = .ok (.iload_n 1, 1) := dk_27 (dk_at dksX19_isGood_0 3 rfl rfl)
theorem dX19_isGood_4 : decode cX19_isGood 4 = .ok (.if_icmp .ge 35, 3) := dk_162 0 35 (dk_at dksX19_isGood_0 4 rfl rfl)
theorem dX19_isGood_7 : decode cX19_isGood 7 = .ok (.aload_n 0, 1) := dk_42 (dk_at dksX19_isGood_0 7 rfl rfl)
theorem dX19_isGood_8 : decode cX19_isGood 8 = .ok (.getfield 66, 3) := dk_180 0 66 (dk_at dksX19_isGood_0 8 rfl rfl)
theorem dX19_isGood_11 : decode cX19_isGood 11 = .ok (.iload_n 2, 1) := dk_28 (dk_at dksX19_isGood_0 11 rfl rfl)
theorem dX19_isGood_12 : decode cX19_isGood 12 = .ok (.iaload, 1) := dk_46 (dk_at dksX19_isGood_0 12 rfl rfl)
theorem dX19_isGood_13 : decode cX19_isGood 13 = .ok (.aload_n 0, 1) := dk_42 (dk_at dksX19_isGood_0 13 rfl rfl)
theorem dX19_isGood_14 : decode cX19_isGood 14 = .ok (.getfield 66, 3) := dk_180 0 66 (dk_at dksX19_isGood_0 14 rfl rfl)
theorem dX19_isGood_17 : decode cX19_isGood 17 = .ok (.iload_n 1, 1) := dk_27 (dk_at dksX19_isGood_0 17 rfl rfl)
theorem dX19_isGood_18 : decode cX19_isGood 18 = .ok (.iaload, 1) := dk_46 (dk_at dksX19_isGood_0 18 rfl rfl)
theorem dX19_isGood_19 : decode cX19_isGood 19 = .ok (.if_icmp .ne 14, 3) := dk_160 0 14 (dk_at dksX19_isGood_0 19 rfl rfl)
theorem dX19_isGood_22 : decode cX19_isGood 22 = .ok (.aload_n 0, 1) := dk_42 (dk_at dksX19_isGood_0 22 rfl rfl)
theorem dX19_isGood_23 : decode cX19_isGood 23 = .ok (.iload_n 1, 1) := dk_27 (dk_at dksX19_isGood_0 23 rfl rfl)
theorem dX19_isGood_24 : decode cX19_isGood 24 = .ok (.iload_n 2, 1) := dk_28 (dk_at dksX19_isGood_1 0 rfl rfl)
theorem dX19_isGood_25 : decode cX19_isGood 25 = .ok (.invokevirtual 489, 3) := dk_182 1 233 (dk_at dksX19_isGood_1 1 rfl rfl)
theorem dX19_isGood_28 : decode cX19_isGood 28 = .ok (.ifCond .eq 5, 3) := dk_153 0 5 (dk_at dksX19_isGood_1 4 rfl rfl)
theorem dX19_isGood_31 : decode cX19_isGood 31 = .ok (.iconst 0, 1) := dk_3 (dk_at dksX19_isGood_1 7 rfl rfl)
theorem dX19_isGood_32 : decode cX19_isGood 32 = .ok (.ireturn, 1) := dk_172 (dk_at dksX19_isGood_1 8 rfl rfl)
theorem dX19_isGood_33 : decode cX19_isGood 33 = .ok (.iinc 2 1, 3) := dk_132 2 1 (dk_at dksX19_isGood_1 9 rfl rfl)
theorem dX19_isGood_36 : decode cX19_isGood 36 = .ok (.goto (-34), 3) := dk_167 255 222 (dk_at dksX19_isGood_1 12 rfl rfl)
theorem dX19_isGood_39 : decode cX19_isGood 39 = .ok (.iconst 1, 1) := dk_4 (dk_at dksX19_isGood_1 15 rfl rfl)
theorem dX19_isGood_40 : decode cX19_isGood 40 = .ok (.ireturn, 1) := dk_172 (dk_at dksX19_isGood_1 16 rfl rfl)
abbrev cX19_areTogether : ByteArray := prog_24_method_92_code
def yX19_areTogether : MethodName := ⟨RX19, "areTogether", "(II)Z"⟩
def dkwX19_areTogether_2 : List UInt8 := [172]
abbrev dktX19_areTogether_2 : List UInt8 := dkwX19_areTogether_2 ++ []
def dkwX19_areTogether_1 : List UInt8 := [153, 0, 17, 42, 180, 1, 107, 28, 29, 182, 1, 142, 153, 0, 5, 4, 172, 132, 3, 1, 167, 255, 216, 3]
abbrev dktX19_areTogether_1 : List UInt8 := dkwX19_areTogether_1 ++ dktX19_areTogether_2
def dkwX19_areTogether_0 : List UInt8 := [3, 62, 29, 42, 180, 1, 107, 180, 0, 200, 162, 0, 35, 42, 180, 1, 107, 27, 29, 182, 1, 142]
abbrev dktX19_areTogether_0 : List UInt8 := dkwX19_areTogether_0 ++ dktX19_areTogether_1
theorem dksX19_areTogether_0 : cX19_areTogether.data.toList.drop 0 = dktX19_areTogether_0 := by decide +kernel
theorem dksX19_areTogether_1 : cX19_areTogether.data.toList.drop 22 = dktX19_areTogether_1 := dk_seg dksX19_areTogether_0 22 rfl rfl
theorem dksX19_areTogether_2 : cX19_areTogether.data.toList.drop 46 = dktX19_areTogether_2 := dk_seg dksX19_areTogether_1 24 rfl rfl
theorem dX19_areTogether_0 : decode cX19_areTogether 0 = .ok (.iconst 0, 1) := dk_3 (dk_at dksX19_areTogether_0 0 rfl rfl)
theorem dX19_areTogether_1 : decode cX19_areTogether 1 = .ok (.istore_n 3, 1) := dk_62 (dk_at dksX19_areTogether_0 1 rfl rfl)
theorem dX19_areTogether_2 : decode cX19_areTogether 2 = .ok (.iload_n 3, 1) := dk_29 (dk_at dksX19_areTogether_0 2 rfl rfl)
theorem dX19_areTogether_3 : decode cX19_areTogether 3 = .ok (.aload_n 0, 1) := dk_42 (dk_at dksX19_areTogether_0 3 rfl rfl)
theorem dX19_areTogether_4 : decode cX19_areTogether 4 = .ok (.getfield 363, 3) := dk_180 1 107 (dk_at dksX19_areTogether_0 4 rfl rfl)
theorem dX19_areTogether_7 : decode cX19_areTogether 7 = .ok (.getfield 200, 3) := dk_180 0 200 (dk_at dksX19_areTogether_0 7 rfl rfl)
theorem dX19_areTogether_10 : decode cX19_areTogether 10 = .ok (.if_icmp .ge 35, 3) := dk_162 0 35 (dk_at dksX19_areTogether_0 10 rfl rfl)
theorem dX19_areTogether_13 : decode cX19_areTogether 13 = .ok (.aload_n 0, 1) := dk_42 (dk_at dksX19_areTogether_0 13 rfl rfl)
theorem dX19_areTogether_14 : decode cX19_areTogether 14 = .ok (.getfield 363, 3) := dk_180 1 107 (dk_at dksX19_areTogether_0 14 rfl rfl)
theorem dX19_areTogether_17 : decode cX19_areTogether 17 = .ok (.iload_n 1, 1) := dk_27 (dk_at dksX19_areTogether_0 17 rfl rfl)
theorem dX19_areTogether_18 : decode cX19_areTogether 18 = .ok (.iload_n 3, 1) := dk_29 (dk_at dksX19_areTogether_0 18 rfl rfl)
theorem dX19_areTogether_19 : decode cX19_areTogether 19 = .ok (.invokevirtual 398, 3) := dk_182 1 142 (dk_at dksX19_areTogether_0 19 rfl rfl)
theorem dX19_areTogether_22 : decode cX19_areTogether 22 = .ok (.ifCond .eq 17, 3) := dk_153 0 17 (dk_at dksX19_areTogether_1 0 rfl rfl)
theorem dX19_areTogether_25 : decode cX19_areTogether 25 = .ok (.aload_n 0, 1) := dk_42 (dk_at dksX19_areTogether_1 3 rfl rfl)
theorem dX19_areTogether_26 : decode cX19_areTogether 26 = .ok (.getfield 363, 3) := dk_180 1 107 (dk_at dksX19_areTogether_1 4 rfl rfl)
theorem dX19_areTogether_29 : decode cX19_areTogether 29 = .ok (.iload_n 2, 1) := dk_28 (dk_at dksX19_areTogether_1 7 rfl rfl)
theorem dX19_areTogether_30 : decode cX19_areTogether 30 = .ok (.iload_n 3, 1) := dk_29 (dk_at dksX19_areTogether_1 8 rfl rfl)
theorem dX19_areTogether_31 : decode cX19_areTogether 31 = .ok (.invokevirtual 398, 3) := dk_182 1 142 (dk_at dksX19_areTogether_1 9 rfl rfl)
theorem dX19_areTogether_34 : decode cX19_areTogether 34 = .ok (.ifCond .eq 5, 3) := dk_153 0 5 (dk_at dksX19_areTogether_1 12 rfl rfl)
theorem dX19_areTogether_37 : decode cX19_areTogether 37 = .ok (.iconst 1, 1) := dk_4 (dk_at dksX19_areTogether_1 15 rfl rfl)
theorem dX19_areTogether_38 : decode cX19_areTogether 38 = .ok (.ireturn, 1) := dk_172 (dk_at dksX19_areTogether_1 16 rfl rfl)
theorem dX19_areTogether_39 : decode cX19_areTogether 39 = .ok (.iinc 3 1, 3) := dk_132 3 1 (dk_at dksX19_areTogether_1 17 rfl rfl)
theorem dX19_areTogether_42 : decode cX19_areTogether 42 = .ok (.goto (-40), 3) := dk_167 255 216 (dk_at dksX19_areTogether_1 20 rfl rfl)
theorem dX19_areTogether_45 : decode cX19_areTogether 45 = .ok (.iconst 0, 1) := dk_3 (dk_at dksX19_areTogether_1 23 rfl rfl)
theorem dX19_areTogether_46 : decode cX19_areTogether 46 = .ok (.ireturn, 1) := dk_172 (dk_at dksX19_areTogether_2 0 rfl rfl)
abbrev cX19_colourOf : ByteArray := prog_24_method_97_code
def yX19_colourOf : MethodName := ⟨RX19, "colourOf", "(I)I"⟩
def dkwX19_colourOf_1 : List UInt8 := [42, 42, 180, 0, 66, 27, 46, 182, 0, 98, 172]
abbrev dktX19_colourOf_1 : List UInt8 := dkwX19_colourOf_1 ++ []
def dkwX19_colourOf_0 : List UInt8 := [42, 3, 181, 0, 88, 42, 27, 182, 1, 178, 154, 0, 9, 42, 4, 182, 0, 94, 172, 42, 182, 1, 242, 87]
abbrev dktX19_colourOf_0 : List UInt8 := dkwX19_colourOf_0 ++ dktX19_colourOf_1
theorem dksX19_colourOf_0 : cX19_colourOf.data.toList.drop 0 = dktX19_colourOf_0 := by decide +kernel
theorem dksX19_colourOf_1 : cX19_colourOf.data.toList.drop 24 = dktX19_colourOf_1 := dk_seg dksX19_colourOf_0 24 rfl rfl
theorem dX19_colourOf_0 : decode cX19_colourOf 0 = .ok (.aload_n 0, 1) := dk_42 (dk_at dksX19_colourOf_0 0 rfl rfl)
theorem dX19_colourOf_1 : decode cX19_colourOf 1 = .ok (.iconst 0, 1) := dk_3 (dk_at dksX19_colourOf_0 1 rfl rfl)
theorem dX19_colourOf_2 : decode cX19_colourOf 2 = .ok (.putfield 88, 3) := dk_181 0 88 (dk_at dksX19_colourOf_0 2 rfl rfl)
theorem dX19_colourOf_5 : decode cX19_colourOf 5 = .ok (.aload_n 0, 1) := dk_42 (dk_at dksX19_colourOf_0 5 rfl rfl)
theorem dX19_colourOf_6 : decode cX19_colourOf 6 = .ok (.iload_n 1, 1) := dk_27 (dk_at dksX19_colourOf_0 6 rfl rfl)
theorem dX19_colourOf_7 : decode cX19_colourOf 7 = .ok (.invokevirtual 434, 3) := dk_182 1 178 (dk_at dksX19_colourOf_0 7 rfl rfl)
theorem dX19_colourOf_10 : decode cX19_colourOf 10 = .ok (.ifCond .ne 9, 3) := dk_154 0 9 (dk_at dksX19_colourOf_0 10 rfl rfl)
theorem dX19_colourOf_13 : decode cX19_colourOf 13 = .ok (.aload_n 0, 1) := dk_42 (dk_at dksX19_colourOf_0 13 rfl rfl)
theorem dX19_colourOf_14 : decode cX19_colourOf 14 = .ok (.iconst 1, 1) := dk_4 (dk_at dksX19_colourOf_0 14 rfl rfl)
theorem dX19_colourOf_15 : decode cX19_colourOf 15 = .ok (.invokevirtual 94, 3) := dk_182 0 94 (dk_at dksX19_colourOf_0 15 rfl rfl)
theorem dX19_colourOf_18 : decode cX19_colourOf 18 = .ok (.ireturn, 1) := dk_172 (dk_at dksX19_colourOf_0 18 rfl rfl)
theorem dX19_colourOf_19 : decode cX19_colourOf 19 = .ok (.aload_n 0, 1) := dk_42 (dk_at dksX19_colourOf_0 19 rfl rfl)
theorem dX19_colourOf_20 : decode cX19_colourOf 20 = .ok (.invokevirtual 498, 3) := dk_182 1 242 (dk_at dksX19_colourOf_0 20 rfl rfl)
theorem dX19_colourOf_23 : decode cX19_colourOf 23 = .ok (.pop, 1) := dk_87 (dk_at dksX19_colourOf_0 23 rfl rfl)
theorem dX19_colourOf_24 : decode cX19_colourOf 24 = .ok (.aload_n 0, 1) := dk_42 (dk_at dksX19_colourOf_1 0 rfl rfl)
theorem dX19_colourOf_25 : decode cX19_colourOf 25 = .ok (.aload_n 0, 1) := dk_42 (dk_at dksX19_colourOf_1 1 rfl rfl)
theorem dX19_colourOf_26 : decode cX19_colourOf 26 = .ok (.getfield 66, 3) := dk_180 0 66 (dk_at dksX19_colourOf_1 2 rfl rfl)
theorem dX19_colourOf_29 : decode cX19_colourOf 29 = .ok (.iload_n 1, 1) := dk_27 (dk_at dksX19_colourOf_1 5 rfl rfl)
theorem dX19_colourOf_30 : decode cX19_colourOf 30 = .ok (.iaload, 1) := dk_46 (dk_at dksX19_colourOf_1 6 rfl rfl)
theorem dX19_colourOf_31 : decode cX19_colourOf 31 = .ok (.invokevirtual 98, 3) := dk_182 0 98 (dk_at dksX19_colourOf_1 7 rfl rfl)
theorem dX19_colourOf_34 : decode cX19_colourOf 34 = .ok (.ireturn, 1) := dk_172 (dk_at dksX19_colourOf_1 10 rfl rfl)
abbrev cX19_judge : ByteArray := prog_24_method_100_code
def yX19_judge : MethodName := ⟨RX19, "judge", "()I"⟩
def dkwX19_judge_1 : List UInt8 := [182, 1, 248, 182, 0, 98, 172]
abbrev dktX19_judge_1 : List UInt8 := dkwX19_judge_1 ++ []
def dkwX19_judge_0 : List UInt8 := [42, 3, 181, 0, 88, 42, 180, 1, 107, 199, 0, 9, 42, 4, 182, 0, 94, 172, 42, 182, 1, 191, 42, 42]
abbrev dktX19_judge_0 : List UInt8 := dkwX19_judge_0 ++ dktX19_judge_1
theorem dksX19_judge_0 : cX19_judge.data.toList.drop 0 = dktX19_judge_0 := by decide +kernel
theorem dksX19_judge_1 : cX19_judge.data.toList.drop 24 = dktX19_judge_1 := dk_seg dksX19_judge_0 24 rfl rfl
theorem dX19_judge_0 : decode cX19_judge 0 = .ok (.aload_n 0, 1) := dk_42 (dk_at dksX19_judge_0 0 rfl rfl)
theorem dX19_judge_1 : decode cX19_judge 1 = .ok (.iconst 0, 1) := dk_3 (dk_at dksX19_judge_0 1 rfl rfl)
theorem dX19_judge_2 : decode cX19_judge 2 = .ok (.putfield 88, 3) := dk_181 0 88 (dk_at dksX19_judge_0 2 rfl rfl)
theorem dX19_judge_5 : decode cX19_judge 5 = .ok (.aload_n 0, 1) := dk_42 (dk_at dksX19_judge_0 5 rfl rfl)
theorem dX19_judge_6 : decode cX19_judge 6 = .ok (.getfield 363, 3) := dk_180 1 107 (dk_at dksX19_judge_0 6 rfl rfl)
theorem dX19_judge_9 : decode cX19_judge 9 = .ok (.ifnonnull 9, 3) := dk_199 0 9 (dk_at dksX19_judge_0 9 rfl rfl)
theorem dX19_judge_12 : decode cX19_judge 12 = .ok (.aload_n 0, 1) := dk_42 (dk_at dksX19_judge_0 12 rfl rfl)
theorem dX19_judge_13 : decode cX19_judge 13 = .ok (.iconst 1, 1) := dk_4 (dk_at dksX19_judge_0 13 rfl rfl)
theorem dX19_judge_14 : decode cX19_judge 14 = .ok (.invokevirtual 94, 3) := dk_182 0 94 (dk_at dksX19_judge_0 14 rfl rfl)
theorem dX19_judge_17 : decode cX19_judge 17 = .ok (.ireturn, 1) := dk_172 (dk_at dksX19_judge_0 17 rfl rfl)
theorem dX19_judge_18 : decode cX19_judge 18 = .ok (.aload_n 0, 1) := dk_42 (dk_at dksX19_judge_0 18 rfl rfl)
theorem dX19_judge_19 : decode cX19_judge 19 = .ok (.invokevirtual 447, 3) := dk_182 1 191 (dk_at dksX19_judge_0 19 rfl rfl)
theorem dX19_judge_22 : decode cX19_judge 22 = .ok (.aload_n 0, 1) := dk_42 (dk_at dksX19_judge_0 22 rfl rfl)
theorem dX19_judge_23 : decode cX19_judge 23 = .ok (.aload_n 0, 1) := dk_42 (dk_at dksX19_judge_0 23 rfl rfl)
theorem dX19_judge_24 : decode cX19_judge 24 = .ok (.invokevirtual 504, 3) := dk_182 1 248 (dk_at dksX19_judge_1 0 rfl rfl)
theorem dX19_judge_27 : decode cX19_judge 27 = .ok (.invokevirtual 98, 3) := dk_182 0 98 (dk_at dksX19_judge_1 3 rfl rfl)
theorem dX19_judge_30 : decode cX19_judge 30 = .ok (.ireturn, 1) := dk_172 (dk_at dksX19_judge_1 6 rfl rfl)
abbrev cX19_firstWrong : ByteArray := prog_24_method_99_code
def yX19_firstWrong : MethodName := ⟨RX19, "firstWrong", "()I"⟩
def dkwX19_firstWrong_1 : List UInt8 := [172, 132, 1, 1, 167, 255, 230, 16, 254, 172]
abbrev dktX19_firstWrong_1 : List UInt8 := dkwX19_firstWrong_1 ++ []
def dkwX19_firstWrong_0 : List UInt8 := [3, 60, 27, 42, 180, 1, 107, 180, 1, 80, 162, 0, 21, 42, 27, 182, 1, 245, 16, 254, 159, 0, 5, 27]
abbrev dktX19_firstWrong_0 : List UInt8 := dkwX19_firstWrong_0 ++ dktX19_firstWrong_1
theorem dksX19_firstWrong_0 : cX19_firstWrong.data.toList.drop 0 = dktX19_firstWrong_0 := by decide +kernel
theorem dksX19_firstWrong_1 : cX19_firstWrong.data.toList.drop 24 = dktX19_firstWrong_1 := dk_seg dksX19_firstWrong_0 24 rfl rfl
theorem dX19_firstWrong_0 : decode cX19_firstWrong 0 = .ok (.iconst 0, 1) := dk_3 (dk_at dksX19_firstWrong_0 0 rfl rfl)
theorem dX19_firstWrong_1 : decode cX19_firstWrong 1 = .ok (.istore_n 1, 1) := dk_60 (dk_at dksX19_firstWrong_0 1 rfl rfl)
theorem dX19_firstWrong_2 : decode cX19_firstWrong 2 = .ok (.iload_n 1, 1) := dk_27 (dk_at dksX19_firstWrong_0 2 rfl rfl)
theorem dX19_firstWrong_3 : decode cX19_firstWrong 3 = .ok (.aload_n 0, 1) := dk_42 (dk_at dksX19_firstWrong_0 3 rfl rfl)
theorem dX19_firstWrong_4 : decode cX19_firstWrong 4 = .ok (.getfield 363, 3) := dk_180 1 107 (dk_at dksX19_firstWrong_0 4 rfl rfl)
theorem dX19_firstWrong_7 : decode cX19_firstWrong 7 = .ok (.getfield 336, 3) := dk_180 1 80 (dk_at dksX19_firstWrong_0 7 rfl rfl)
theorem dX19_firstWrong_10 : decode cX19_firstWrong 10 = .ok (.if_icmp .ge 21, 3) := dk_162 0 21 (dk_at dksX19_firstWrong_0 10 rfl rfl)
theorem dX19_firstWrong_13 : decode cX19_firstWrong 13 = .ok (.aload_n 0, 1) := dk_42 (dk_at dksX19_firstWrong_0 13 rfl rfl)
theorem dX19_firstWrong_14 : decode cX19_firstWrong 14 = .ok (.iload_n 1, 1) := dk_27 (dk_at dksX19_firstWrong_0 14 rfl rfl)
theorem dX19_firstWrong_15 : decode cX19_firstWrong 15 = .ok (.invokevirtual 501, 3) := dk_182 1 245 (dk_at dksX19_firstWrong_0 15 rfl rfl)
theorem dX19_firstWrong_18 : decode cX19_firstWrong 18 = .ok (.bipush (-2), 2) := dk_16 254 (dk_at dksX19_firstWrong_0 18 rfl rfl)
theorem dX19_firstWrong_20 : decode cX19_firstWrong 20 = .ok (.if_icmp .eq 5, 3) := dk_159 0 5 (dk_at dksX19_firstWrong_0 20 rfl rfl)
theorem dX19_firstWrong_23 : decode cX19_firstWrong 23 = .ok (.iload_n 1, 1) := dk_27 (dk_at dksX19_firstWrong_0 23 rfl rfl)
theorem dX19_firstWrong_24 : decode cX19_firstWrong 24 = .ok (.ireturn, 1) := dk_172 (dk_at dksX19_firstWrong_1 0 rfl rfl)
theorem dX19_firstWrong_25 : decode cX19_firstWrong 25 = .ok (.iinc 1 1, 3) := dk_132 1 1 (dk_at dksX19_firstWrong_1 1 rfl rfl)
theorem dX19_firstWrong_28 : decode cX19_firstWrong 28 = .ok (.goto (-26), 3) := dk_167 255 230 (dk_at dksX19_firstWrong_1 4 rfl rfl)
theorem dX19_firstWrong_31 : decode cX19_firstWrong 31 = .ok (.bipush (-2), 2) := dk_16 254 (dk_at dksX19_firstWrong_1 7 rfl rfl)
theorem dX19_firstWrong_33 : decode cX19_firstWrong 33 = .ok (.ireturn, 1) := dk_172 (dk_at dksX19_firstWrong_1 9 rfl rfl)
abbrev cX19_wrongPlace : ByteArray := prog_24_method_98_code
def yX19_wrongPlace : MethodName := ⟨RX19, "wrongPlace", "(I)I"⟩
def dkwX19_wrongPlace_2 : List UInt8 := [132, 2, 1, 167, 255, 209, 16, 254, 172]
abbrev dktX19_wrongPlace_2 : List UInt8 := dkwX19_wrongPlace_2 ++ []
def dkwX19_wrongPlace_1 : List UInt8 := [182, 1, 200, 42, 180, 1, 107, 180, 1, 83, 16, 8, 27, 104, 28, 96, 46, 159, 0, 5, 28, 172]
abbrev dktX19_wrongPlace_1 : List UInt8 := dkwX19_wrongPlace_1 ++ dktX19_wrongPlace_2
def dkwX19_wrongPlace_0 : List UInt8 := [3, 61, 28, 42, 180, 1, 107, 180, 0, 251, 162, 0, 42, 42, 42, 180, 1, 107, 180, 1, 85, 27, 46, 28]
abbrev dktX19_wrongPlace_0 : List UInt8 := dkwX19_wrongPlace_0 ++ dktX19_wrongPlace_1
theorem dksX19_wrongPlace_0 : cX19_wrongPlace.data.toList.drop 0 = dktX19_wrongPlace_0 := by decide +kernel
theorem dksX19_wrongPlace_1 : cX19_wrongPlace.data.toList.drop 24 = dktX19_wrongPlace_1 := dk_seg dksX19_wrongPlace_0 24 rfl rfl
theorem dksX19_wrongPlace_2 : cX19_wrongPlace.data.toList.drop 46 = dktX19_wrongPlace_2 := dk_seg dksX19_wrongPlace_1 22 rfl rfl
theorem dX19_wrongPlace_0 : decode cX19_wrongPlace 0 = .ok (.iconst 0, 1) := dk_3 (dk_at dksX19_wrongPlace_0 0 rfl rfl)
theorem dX19_wrongPlace_1 : decode cX19_wrongPlace 1 = .ok (.istore_n 2, 1) := dk_61 (dk_at dksX19_wrongPlace_0 1 rfl rfl)
theorem dX19_wrongPlace_2 : decode cX19_wrongPlace 2 = .ok (.iload_n 2, 1) := dk_28 (dk_at dksX19_wrongPlace_0 2 rfl rfl)
theorem dX19_wrongPlace_3 : decode cX19_wrongPlace 3 = .ok (.aload_n 0, 1) := dk_42 (dk_at dksX19_wrongPlace_0 3 rfl rfl)
theorem dX19_wrongPlace_4 : decode cX19_wrongPlace 4 = .ok (.getfield 363, 3) := dk_180 1 107 (dk_at dksX19_wrongPlace_0 4 rfl rfl)
theorem dX19_wrongPlace_7 : decode cX19_wrongPlace 7 = .ok (.getfield 251, 3) := dk_180 0 251 (dk_at dksX19_wrongPlace_0 7 rfl rfl)
theorem dX19_wrongPlace_10 : decode cX19_wrongPlace 10 = .ok (.if_icmp .ge 42, 3) := dk_162 0 42 (dk_at dksX19_wrongPlace_0 10 rfl rfl)
theorem dX19_wrongPlace_13 : decode cX19_wrongPlace 13 = .ok (.aload_n 0, 1) := dk_42 (dk_at dksX19_wrongPlace_0 13 rfl rfl)
theorem dX19_wrongPlace_14 : decode cX19_wrongPlace 14 = .ok (.aload_n 0, 1) := dk_42 (dk_at dksX19_wrongPlace_0 14 rfl rfl)
theorem dX19_wrongPlace_15 : decode cX19_wrongPlace 15 = .ok (.getfield 363, 3) := dk_180 1 107 (dk_at dksX19_wrongPlace_0 15 rfl rfl)
theorem dX19_wrongPlace_18 : decode cX19_wrongPlace 18 = .ok (.getfield 341, 3) := dk_180 1 85 (dk_at dksX19_wrongPlace_0 18 rfl rfl)
theorem dX19_wrongPlace_21 : decode cX19_wrongPlace 21 = .ok (.iload_n 1, 1) := dk_27 (dk_at dksX19_wrongPlace_0 21 rfl rfl)
theorem dX19_wrongPlace_22 : decode cX19_wrongPlace 22 = .ok (.iaload, 1) := dk_46 (dk_at dksX19_wrongPlace_0 22 rfl rfl)
theorem dX19_wrongPlace_23 : decode cX19_wrongPlace 23 = .ok (.iload_n 2, 1) := dk_28 (dk_at dksX19_wrongPlace_0 23 rfl rfl)
theorem dX19_wrongPlace_24 : decode cX19_wrongPlace 24 = .ok (.invokevirtual 456, 3) := dk_182 1 200 (dk_at dksX19_wrongPlace_1 0 rfl rfl)
theorem dX19_wrongPlace_27 : decode cX19_wrongPlace 27 = .ok (.aload_n 0, 1) := dk_42 (dk_at dksX19_wrongPlace_1 3 rfl rfl)
theorem dX19_wrongPlace_28 : decode cX19_wrongPlace 28 = .ok (.getfield 363, 3) := dk_180 1 107 (dk_at dksX19_wrongPlace_1 4 rfl rfl)
theorem dX19_wrongPlace_31 : decode cX19_wrongPlace 31 = .ok (.getfield 339, 3) := dk_180 1 83 (dk_at dksX19_wrongPlace_1 7 rfl rfl)
theorem dX19_wrongPlace_34 : decode cX19_wrongPlace 34 = .ok (.bipush 8, 2) := dk_16 8 (dk_at dksX19_wrongPlace_1 10 rfl rfl)
theorem dX19_wrongPlace_36 : decode cX19_wrongPlace 36 = .ok (.iload_n 1, 1) := dk_27 (dk_at dksX19_wrongPlace_1 12 rfl rfl)
theorem dX19_wrongPlace_37 : decode cX19_wrongPlace 37 = .ok (.imul, 1) := dk_104 (dk_at dksX19_wrongPlace_1 13 rfl rfl)
theorem dX19_wrongPlace_38 : decode cX19_wrongPlace 38 = .ok (.iload_n 2, 1) := dk_28 (dk_at dksX19_wrongPlace_1 14 rfl rfl)
theorem dX19_wrongPlace_39 : decode cX19_wrongPlace 39 = .ok (.iadd, 1) := dk_96 (dk_at dksX19_wrongPlace_1 15 rfl rfl)
theorem dX19_wrongPlace_40 : decode cX19_wrongPlace 40 = .ok (.iaload, 1) := dk_46 (dk_at dksX19_wrongPlace_1 16 rfl rfl)
theorem dX19_wrongPlace_41 : decode cX19_wrongPlace 41 = .ok (.if_icmp .eq 5, 3) := dk_159 0 5 (dk_at dksX19_wrongPlace_1 17 rfl rfl)
theorem dX19_wrongPlace_44 : decode cX19_wrongPlace 44 = .ok (.iload_n 2, 1) := dk_28 (dk_at dksX19_wrongPlace_1 20 rfl rfl)
theorem dX19_wrongPlace_45 : decode cX19_wrongPlace 45 = .ok (.ireturn, 1) := dk_172 (dk_at dksX19_wrongPlace_1 21 rfl rfl)
theorem dX19_wrongPlace_46 : decode cX19_wrongPlace 46 = .ok (.iinc 2 1, 3) := dk_132 2 1 (dk_at dksX19_wrongPlace_2 0 rfl rfl)
theorem dX19_wrongPlace_49 : decode cX19_wrongPlace 49 = .ok (.goto (-47), 3) := dk_167 255 209 (dk_at dksX19_wrongPlace_2 3 rfl rfl)
theorem dX19_wrongPlace_52 : decode cX19_wrongPlace 52 = .ok (.bipush (-2), 2) := dk_16 254 (dk_at dksX19_wrongPlace_2 6 rfl rfl)
theorem dX19_wrongPlace_54 : decode cX19_wrongPlace 54 = .ok (.ireturn, 1) := dk_172 (dk_at dksX19_wrongPlace_2 8 rfl rfl)
abbrev cX19_judgeAt : ByteArray := prog_24_method_101_code
def yX19_judgeAt : MethodName := ⟨RX19, "judgeAt", "(I)I"⟩
def dkwX19_judgeAt_1 : List UInt8 := [161, 0, 9, 42, 4, 182, 0, 94, 172, 42, 182, 1, 191, 42, 42, 27, 182, 1, 245, 182, 0, 98, 172]
abbrev dktX19_judgeAt_1 : List UInt8 := dkwX19_judgeAt_1 ++ []
def dkwX19_judgeAt_0 : List UInt8 := [42, 3, 181, 0, 88, 42, 180, 1, 107, 198, 0, 18, 27, 155, 0, 14, 27, 42, 180, 1, 107, 180, 1, 80]
abbrev dktX19_judgeAt_0 : List UInt8 := dkwX19_judgeAt_0 ++ dktX19_judgeAt_1
theorem dksX19_judgeAt_0 : cX19_judgeAt.data.toList.drop 0 = dktX19_judgeAt_0 := by decide +kernel
theorem dksX19_judgeAt_1 : cX19_judgeAt.data.toList.drop 24 = dktX19_judgeAt_1 := dk_seg dksX19_judgeAt_0 24 rfl rfl
theorem dX19_judgeAt_0 : decode cX19_judgeAt 0 = .ok (.aload_n 0, 1) := dk_42 (dk_at dksX19_judgeAt_0 0 rfl rfl)
theorem dX19_judgeAt_1 : decode cX19_judgeAt 1 = .ok (.iconst 0, 1) := dk_3 (dk_at dksX19_judgeAt_0 1 rfl rfl)
theorem dX19_judgeAt_2 : decode cX19_judgeAt 2 = .ok (.putfield 88, 3) := dk_181 0 88 (dk_at dksX19_judgeAt_0 2 rfl rfl)
theorem dX19_judgeAt_5 : decode cX19_judgeAt 5 = .ok (.aload_n 0, 1) := dk_42 (dk_at dksX19_judgeAt_0 5 rfl rfl)
theorem dX19_judgeAt_6 : decode cX19_judgeAt 6 = .ok (.getfield 363, 3) := dk_180 1 107 (dk_at dksX19_judgeAt_0 6 rfl rfl)
theorem dX19_judgeAt_9 : decode cX19_judgeAt 9 = .ok (.ifnull 18, 3) := dk_198 0 18 (dk_at dksX19_judgeAt_0 9 rfl rfl)
theorem dX19_judgeAt_12 : decode cX19_judgeAt 12 = .ok (.iload_n 1, 1) := dk_27 (dk_at dksX19_judgeAt_0 12 rfl rfl)
theorem dX19_judgeAt_13 : decode cX19_judgeAt 13 = .ok (.ifCond .lt 14, 3) := dk_155 0 14 (dk_at dksX19_judgeAt_0 13 rfl rfl)
theorem dX19_judgeAt_16 : decode cX19_judgeAt 16 = .ok (.iload_n 1, 1) := dk_27 (dk_at dksX19_judgeAt_0 16 rfl rfl)
theorem dX19_judgeAt_17 : decode cX19_judgeAt 17 = .ok (.aload_n 0, 1) := dk_42 (dk_at dksX19_judgeAt_0 17 rfl rfl)
theorem dX19_judgeAt_18 : decode cX19_judgeAt 18 = .ok (.getfield 363, 3) := dk_180 1 107 (dk_at dksX19_judgeAt_0 18 rfl rfl)
theorem dX19_judgeAt_21 : decode cX19_judgeAt 21 = .ok (.getfield 336, 3) := dk_180 1 80 (dk_at dksX19_judgeAt_0 21 rfl rfl)
theorem dX19_judgeAt_24 : decode cX19_judgeAt 24 = .ok (.if_icmp .lt 9, 3) := dk_161 0 9 (dk_at dksX19_judgeAt_1 0 rfl rfl)
theorem dX19_judgeAt_27 : decode cX19_judgeAt 27 = .ok (.aload_n 0, 1) := dk_42 (dk_at dksX19_judgeAt_1 3 rfl rfl)
theorem dX19_judgeAt_28 : decode cX19_judgeAt 28 = .ok (.iconst 1, 1) := dk_4 (dk_at dksX19_judgeAt_1 4 rfl rfl)
theorem dX19_judgeAt_29 : decode cX19_judgeAt 29 = .ok (.invokevirtual 94, 3) := dk_182 0 94 (dk_at dksX19_judgeAt_1 5 rfl rfl)
theorem dX19_judgeAt_32 : decode cX19_judgeAt 32 = .ok (.ireturn, 1) := dk_172 (dk_at dksX19_judgeAt_1 8 rfl rfl)
theorem dX19_judgeAt_33 : decode cX19_judgeAt 33 = .ok (.aload_n 0, 1) := dk_42 (dk_at dksX19_judgeAt_1 9 rfl rfl)
theorem dX19_judgeAt_34 : decode cX19_judgeAt 34 = .ok (.invokevirtual 447, 3) := dk_182 1 191 (dk_at dksX19_judgeAt_1 10 rfl rfl)
theorem dX19_judgeAt_37 : decode cX19_judgeAt 37 = .ok (.aload_n 0, 1) := dk_42 (dk_at dksX19_judgeAt_1 13 rfl rfl)
theorem dX19_judgeAt_38 : decode cX19_judgeAt 38 = .ok (.aload_n 0, 1) := dk_42 (dk_at dksX19_judgeAt_1 14 rfl rfl)
theorem dX19_judgeAt_39 : decode cX19_judgeAt 39 = .ok (.iload_n 1, 1) := dk_27 (dk_at dksX19_judgeAt_1 15 rfl rfl)
theorem dX19_judgeAt_40 : decode cX19_judgeAt 40 = .ok (.invokevirtual 501, 3) := dk_182 1 245 (dk_at dksX19_judgeAt_1 16 rfl rfl)
theorem dX19_judgeAt_43 : decode cX19_judgeAt 43 = .ok (.invokevirtual 98, 3) := dk_182 0 98 (dk_at dksX19_judgeAt_1 19 rfl rfl)
theorem dX19_judgeAt_46 : decode cX19_judgeAt 46 = .ok (.ireturn, 1) := dk_172 (dk_at dksX19_judgeAt_1 22 rfl rfl)
abbrev cX19_explains : ByteArray := prog_24_method_104_code
def yX19_explains : MethodName := ⟨RX19, "explains", "()I"⟩
def dkwX19_explains_1 : List UInt8 := [2, 182, 2, 7, 182, 0, 98, 172]
abbrev dktX19_explains_1 : List UInt8 := dkwX19_explains_1 ++ []
def dkwX19_explains_0 : List UInt8 := [42, 3, 181, 0, 88, 42, 182, 2, 4, 60, 27, 158, 0, 11, 42, 27, 182, 0, 94, 167, 0, 12, 42, 42]
abbrev dktX19_explains_0 : List UInt8 := dkwX19_explains_0 ++ dktX19_explains_1
theorem dksX19_explains_0 : cX19_explains.data.toList.drop 0 = dktX19_explains_0 := by decide +kernel
theorem dksX19_explains_1 : cX19_explains.data.toList.drop 24 = dktX19_explains_1 := dk_seg dksX19_explains_0 24 rfl rfl
theorem dX19_explains_0 : decode cX19_explains 0 = .ok (.aload_n 0, 1) := dk_42 (dk_at dksX19_explains_0 0 rfl rfl)
theorem dX19_explains_1 : decode cX19_explains 1 = .ok (.iconst 0, 1) := dk_3 (dk_at dksX19_explains_0 1 rfl rfl)
theorem dX19_explains_2 : decode cX19_explains 2 = .ok (.putfield 88, 3) := dk_181 0 88 (dk_at dksX19_explains_0 2 rfl rfl)
theorem dX19_explains_5 : decode cX19_explains 5 = .ok (.aload_n 0, 1) := dk_42 (dk_at dksX19_explains_0 5 rfl rfl)
theorem dX19_explains_6 : decode cX19_explains 6 = .ok (.invokevirtual 516, 3) := dk_182 2 4 (dk_at dksX19_explains_0 6 rfl rfl)
theorem dX19_explains_9 : decode cX19_explains 9 = .ok (.istore_n 1, 1) := dk_60 (dk_at dksX19_explains_0 9 rfl rfl)
theorem dX19_explains_10 : decode cX19_explains 10 = .ok (.iload_n 1, 1) := dk_27 (dk_at dksX19_explains_0 10 rfl rfl)
theorem dX19_explains_11 : decode cX19_explains 11 = .ok (.ifCond .le 11, 3) := dk_158 0 11 (dk_at dksX19_explains_0 11 rfl rfl)
theorem dX19_explains_14 : decode cX19_explains 14 = .ok (.aload_n 0, 1) := dk_42 (dk_at dksX19_explains_0 14 rfl rfl)
theorem dX19_explains_15 : decode cX19_explains 15 = .ok (.iload_n 1, 1) := dk_27 (dk_at dksX19_explains_0 15 rfl rfl)
theorem dX19_explains_16 : decode cX19_explains 16 = .ok (.invokevirtual 94, 3) := dk_182 0 94 (dk_at dksX19_explains_0 16 rfl rfl)
theorem dX19_explains_19 : decode cX19_explains 19 = .ok (.goto 12, 3) := dk_167 0 12 (dk_at dksX19_explains_0 19 rfl rfl)
theorem dX19_explains_22 : decode cX19_explains 22 = .ok (.aload_n 0, 1) := dk_42 (dk_at dksX19_explains_0 22 rfl rfl)
theorem dX19_explains_23 : decode cX19_explains 23 = .ok (.aload_n 0, 1) := dk_42 (dk_at dksX19_explains_0 23 rfl rfl)
theorem dX19_explains_24 : decode cX19_explains 24 = .ok (.iconst (-1), 1) := dk_2 (dk_at dksX19_explains_1 0 rfl rfl)
theorem dX19_explains_25 : decode cX19_explains 25 = .ok (.invokevirtual 519, 3) := dk_182 2 7 (dk_at dksX19_explains_1 1 rfl rfl)
theorem dX19_explains_28 : decode cX19_explains 28 = .ok (.invokevirtual 98, 3) := dk_182 0 98 (dk_at dksX19_explains_1 4 rfl rfl)
theorem dX19_explains_31 : decode cX19_explains 31 = .ok (.ireturn, 1) := dk_172 (dk_at dksX19_explains_1 7 rfl rfl)
abbrev cX19_refusesExplain : ByteArray := prog_24_method_103_code
def yX19_refusesExplain : MethodName := ⟨RX19, "refusesExplain", "()I"⟩
def dkwX19_refusesExplain_1 : List UInt8 := [167, 0, 4, 3, 172]
abbrev dktX19_refusesExplain_1 : List UInt8 := dkwX19_refusesExplain_1 ++ []
def dkwX19_refusesExplain_0 : List UInt8 := [42, 180, 1, 107, 199, 0, 5, 4, 172, 42, 182, 1, 191, 42, 182, 1, 248, 16, 254, 160, 0, 7, 8]
abbrev dktX19_refusesExplain_0 : List UInt8 := dkwX19_refusesExplain_0 ++ dktX19_refusesExplain_1
theorem dksX19_refusesExplain_0 : cX19_refusesExplain.data.toList.drop 0 = dktX19_refusesExplain_0 := by decide +kernel
theorem dksX19_refusesExplain_1 : cX19_refusesExplain.data.toList.drop 23 = dktX19_refusesExplain_1 := dk_seg dksX19_refusesExplain_0 23 rfl rfl
theorem dX19_refusesExplain_0 : decode cX19_refusesExplain 0 = .ok (.aload_n 0, 1) := dk_42 (dk_at dksX19_refusesExplain_0 0 rfl rfl)
theorem dX19_refusesExplain_1 : decode cX19_refusesExplain 1 = .ok (.getfield 363, 3) := dk_180 1 107 (dk_at dksX19_refusesExplain_0 1 rfl rfl)
theorem dX19_refusesExplain_4 : decode cX19_refusesExplain 4 = .ok (.ifnonnull 5, 3) := dk_199 0 5 (dk_at dksX19_refusesExplain_0 4 rfl rfl)
theorem dX19_refusesExplain_7 : decode cX19_refusesExplain 7 = .ok (.iconst 1, 1) := dk_4 (dk_at dksX19_refusesExplain_0 7 rfl rfl)
theorem dX19_refusesExplain_8 : decode cX19_refusesExplain 8 = .ok (.ireturn, 1) := dk_172 (dk_at dksX19_refusesExplain_0 8 rfl rfl)
theorem dX19_refusesExplain_9 : decode cX19_refusesExplain 9 = .ok (.aload_n 0, 1) := dk_42 (dk_at dksX19_refusesExplain_0 9 rfl rfl)
theorem dX19_refusesExplain_10 : decode cX19_refusesExplain 10 = .ok (.invokevirtual 447, 3) := dk_182 1 191 (dk_at dksX19_refusesExplain_0 10 rfl rfl)
theorem dX19_refusesExplain_13 : decode cX19_refusesExplain 13 = .ok (.aload_n 0, 1) := dk_42 (dk_at dksX19_refusesExplain_0 13 rfl rfl)
theorem dX19_refusesExplain_14 : decode cX19_refusesExplain 14 = .ok (.invokevirtual 504, 3) := dk_182 1 248 (dk_at dksX19_refusesExplain_0 14 rfl rfl)
theorem dX19_refusesExplain_17 : decode cX19_refusesExplain 17 = .ok (.bipush (-2), 2) := dk_16 254 (dk_at dksX19_refusesExplain_0 17 rfl rfl)
theorem dX19_refusesExplain_19 : decode cX19_refusesExplain 19 = .ok (.if_icmp .ne 7, 3) := dk_160 0 7 (dk_at dksX19_refusesExplain_0 19 rfl rfl)
theorem dX19_refusesExplain_22 : decode cX19_refusesExplain 22 = .ok (.iconst 5, 1) := dk_8 (dk_at dksX19_refusesExplain_0 22 rfl rfl)
theorem dX19_refusesExplain_23 : decode cX19_refusesExplain 23 = .ok (.goto 4, 3) := dk_167 0 4 (dk_at dksX19_refusesExplain_1 0 rfl rfl)
theorem dX19_refusesExplain_26 : decode cX19_refusesExplain 26 = .ok (.iconst 0, 1) := dk_3 (dk_at dksX19_refusesExplain_1 3 rfl rfl)
theorem dX19_refusesExplain_27 : decode cX19_refusesExplain 27 = .ok (.ireturn, 1) := dk_172 (dk_at dksX19_refusesExplain_1 4 rfl rfl)
abbrev cX19_explaining : ByteArray := prog_24_method_102_code
def yX19_explaining : MethodName := ⟨RX19, "explaining", "(I)I"⟩
def dkwX19_explaining_5 : List UInt8 := [132, 5, 1, 167, 255, 183, 132, 4, 1, 167, 255, 159, 132, 3, 1, 167, 255, 139, 28, 172]
abbrev dktX19_explaining_5 : List UInt8 := dkwX19_explaining_5 ++ []
def dkwX19_explaining_4 : List UInt8 := [160, 0, 20, 42, 29, 181, 1, 251, 42, 21, 4, 181, 1, 254, 42, 21, 5, 181, 2, 1, 132, 2, 1]
abbrev dktX19_explaining_4 : List UInt8 := dkwX19_explaining_4 ++ dktX19_explaining_5
def dkwX19_explaining_3 : List UInt8 := [21, 5, 181, 1, 151, 42, 182, 1, 124, 42, 182, 1, 248, 16, 254, 159, 0, 6, 167, 0, 28, 28, 27]
abbrev dktX19_explaining_3 : List UInt8 := dkwX19_explaining_3 ++ dktX19_explaining_4
def dkwX19_explaining_2 : List UInt8 := [21, 5, 42, 180, 1, 107, 180, 0, 251, 162, 0, 67, 42, 29, 181, 1, 121, 42, 21, 4, 181, 1, 148, 42]
abbrev dktX19_explaining_2 : List UInt8 := dkwX19_explaining_2 ++ dktX19_explaining_3
def dkwX19_explaining_1 : List UInt8 := [162, 0, 112, 3, 54, 4, 21, 4, 42, 180, 1, 107, 180, 0, 251, 162, 0, 91, 21, 4, 4, 96, 54, 5]
abbrev dktX19_explaining_1 : List UInt8 := dkwX19_explaining_1 ++ dktX19_explaining_2
def dkwX19_explaining_0 : List UInt8 := [3, 61, 42, 2, 181, 1, 118, 42, 2, 181, 1, 115, 3, 62, 29, 42, 180, 1, 107, 180, 0, 200]
abbrev dktX19_explaining_0 : List UInt8 := dkwX19_explaining_0 ++ dktX19_explaining_1
theorem dksX19_explaining_0 : cX19_explaining.data.toList.drop 0 = dktX19_explaining_0 := by decide +kernel
theorem dksX19_explaining_1 : cX19_explaining.data.toList.drop 22 = dktX19_explaining_1 := dk_seg dksX19_explaining_0 22 rfl rfl
theorem dksX19_explaining_2 : cX19_explaining.data.toList.drop 46 = dktX19_explaining_2 := dk_seg dksX19_explaining_1 24 rfl rfl
theorem dksX19_explaining_3 : cX19_explaining.data.toList.drop 70 = dktX19_explaining_3 := dk_seg dksX19_explaining_2 24 rfl rfl
theorem dksX19_explaining_4 : cX19_explaining.data.toList.drop 93 = dktX19_explaining_4 := dk_seg dksX19_explaining_3 23 rfl rfl
theorem dksX19_explaining_5 : cX19_explaining.data.toList.drop 116 = dktX19_explaining_5 := dk_seg dksX19_explaining_4 23 rfl rfl
theorem dX19_explaining_0 : decode cX19_explaining 0 = .ok (.iconst 0, 1) := dk_3 (dk_at dksX19_explaining_0 0 rfl rfl)
theorem dX19_explaining_1 : decode cX19_explaining 1 = .ok (.istore_n 2, 1) := dk_61 (dk_at dksX19_explaining_0 1 rfl rfl)
theorem dX19_explaining_2 : decode cX19_explaining 2 = .ok (.aload_n 0, 1) := dk_42 (dk_at dksX19_explaining_0 2 rfl rfl)
theorem dX19_explaining_3 : decode cX19_explaining 3 = .ok (.iconst (-1), 1) := dk_2 (dk_at dksX19_explaining_0 3 rfl rfl)
theorem dX19_explaining_4 : decode cX19_explaining 4 = .ok (.putfield 374, 3) := dk_181 1 118 (dk_at dksX19_explaining_0 4 rfl rfl)
theorem dX19_explaining_7 : decode cX19_explaining 7 = .ok (.aload_n 0, 1) := dk_42 (dk_at dksX19_explaining_0 7 rfl rfl)
theorem dX19_explaining_8 : decode cX19_explaining 8 = .ok (.iconst (-1), 1) := dk_2 (dk_at dksX19_explaining_0 8 rfl rfl)
theorem dX19_explaining_9 : decode cX19_explaining 9 = .ok (.putfield 371, 3) := dk_181 1 115 (dk_at dksX19_explaining_0 9 rfl rfl)
theorem dX19_explaining_12 : decode cX19_explaining 12 = .ok (.iconst 0, 1) := dk_3 (dk_at dksX19_explaining_0 12 rfl rfl)
theorem dX19_explaining_13 : decode cX19_explaining 13 = .ok (.istore_n 3, 1) := dk_62 (dk_at dksX19_explaining_0 13 rfl rfl)
theorem dX19_explaining_14 : decode cX19_explaining 14 = .ok (.iload_n 3, 1) := dk_29 (dk_at dksX19_explaining_0 14 rfl rfl)
theorem dX19_explaining_15 : decode cX19_explaining 15 = .ok (.aload_n 0, 1) := dk_42 (dk_at dksX19_explaining_0 15 rfl rfl)
theorem dX19_explaining_16 : decode cX19_explaining 16 = .ok (.getfield 363, 3) := dk_180 1 107 (dk_at dksX19_explaining_0 16 rfl rfl)
theorem dX19_explaining_19 : decode cX19_explaining 19 = .ok (.getfield 200, 3) := dk_180 0 200 (dk_at dksX19_explaining_0 19 rfl rfl)
theorem dX19_explaining_22 : decode cX19_explaining 22 = .ok (.if_icmp .ge 112, 3) := dk_162 0 112 (dk_at dksX19_explaining_1 0 rfl rfl)
theorem dX19_explaining_25 : decode cX19_explaining 25 = .ok (.iconst 0, 1) := dk_3 (dk_at dksX19_explaining_1 3 rfl rfl)
theorem dX19_explaining_26 : decode cX19_explaining 26 = .ok (.istore 4, 2) := dk_54 4 (dk_at dksX19_explaining_1 4 rfl rfl)
theorem dX19_explaining_28 : decode cX19_explaining 28 = .ok (.iload 4, 2) := dk_21 4 (dk_at dksX19_explaining_1 6 rfl rfl)
theorem dX19_explaining_30 : decode cX19_explaining 30 = .ok (.aload_n 0, 1) := dk_42 (dk_at dksX19_explaining_1 8 rfl rfl)
theorem dX19_explaining_31 : decode cX19_explaining 31 = .ok (.getfield 363, 3) := dk_180 1 107 (dk_at dksX19_explaining_1 9 rfl rfl)
theorem dX19_explaining_34 : decode cX19_explaining 34 = .ok (.getfield 251, 3) := dk_180 0 251 (dk_at dksX19_explaining_1 12 rfl rfl)
theorem dX19_explaining_37 : decode cX19_explaining 37 = .ok (.if_icmp .ge 91, 3) := dk_162 0 91 (dk_at dksX19_explaining_1 15 rfl rfl)
theorem dX19_explaining_40 : decode cX19_explaining 40 = .ok (.iload 4, 2) := dk_21 4 (dk_at dksX19_explaining_1 18 rfl rfl)
theorem dX19_explaining_42 : decode cX19_explaining 42 = .ok (.iconst 1, 1) := dk_4 (dk_at dksX19_explaining_1 20 rfl rfl)
theorem dX19_explaining_43 : decode cX19_explaining 43 = .ok (.iadd, 1) := dk_96 (dk_at dksX19_explaining_1 21 rfl rfl)
theorem dX19_explaining_44 : decode cX19_explaining 44 = .ok (.istore 5, 2) := dk_54 5 (dk_at dksX19_explaining_1 22 rfl rfl)
theorem dX19_explaining_46 : decode cX19_explaining 46 = .ok (.iload 5, 2) := dk_21 5 (dk_at dksX19_explaining_2 0 rfl rfl)
theorem dX19_explaining_48 : decode cX19_explaining 48 = .ok (.aload_n 0, 1) := dk_42 (dk_at dksX19_explaining_2 2 rfl rfl)
theorem dX19_explaining_49 : decode cX19_explaining 49 = .ok (.getfield 363, 3) := dk_180 1 107 (dk_at dksX19_explaining_2 3 rfl rfl)
theorem dX19_explaining_52 : decode cX19_explaining 52 = .ok (.getfield 251, 3) := dk_180 0 251 (dk_at dksX19_explaining_2 6 rfl rfl)
theorem dX19_explaining_55 : decode cX19_explaining 55 = .ok (.if_icmp .ge 67, 3) := dk_162 0 67 (dk_at dksX19_explaining_2 9 rfl rfl)
theorem dX19_explaining_58 : decode cX19_explaining 58 = .ok (.aload_n 0, 1) := dk_42 (dk_at dksX19_explaining_2 12 rfl rfl)
theorem dX19_explaining_59 : decode cX19_explaining 59 = .ok (.iload_n 3, 1) := dk_29 (dk_at dksX19_explaining_2 13 rfl rfl)
theorem dX19_explaining_60 : decode cX19_explaining 60 = .ok (.putfield 377, 3) := dk_181 1 121 (dk_at dksX19_explaining_2 14 rfl rfl)
theorem dX19_explaining_63 : decode cX19_explaining 63 = .ok (.aload_n 0, 1) := dk_42 (dk_at dksX19_explaining_2 17 rfl rfl)
theorem dX19_explaining_64 : decode cX19_explaining 64 = .ok (.iload 4, 2) := dk_21 4 (dk_at dksX19_explaining_2 18 rfl rfl)
theorem dX19_explaining_66 : decode cX19_explaining 66 = .ok (.putfield 404, 3) := dk_181 1 148 (dk_at dksX19_explaining_2 20 rfl rfl)
theorem dX19_explaining_69 : decode cX19_explaining 69 = .ok (.aload_n 0, 1) := dk_42 (dk_at dksX19_explaining_2 23 rfl rfl)
theorem dX19_explaining_70 : decode cX19_explaining 70 = .ok (.iload 5, 2) := dk_21 5 (dk_at dksX19_explaining_3 0 rfl rfl)
theorem dX19_explaining_72 : decode cX19_explaining 72 = .ok (.putfield 407, 3) := dk_181 1 151 (dk_at dksX19_explaining_3 2 rfl rfl)
theorem dX19_explaining_75 : decode cX19_explaining 75 = .ok (.aload_n 0, 1) := dk_42 (dk_at dksX19_explaining_3 5 rfl rfl)
theorem dX19_explaining_76 : decode cX19_explaining 76 = .ok (.invokevirtual 380, 3) := dk_182 1 124 (dk_at dksX19_explaining_3 6 rfl rfl)
theorem dX19_explaining_79 : decode cX19_explaining 79 = .ok (.aload_n 0, 1) := dk_42 (dk_at dksX19_explaining_3 9 rfl rfl)
theorem dX19_explaining_80 : decode cX19_explaining 80 = .ok (.invokevirtual 504, 3) := dk_182 1 248 (dk_at dksX19_explaining_3 10 rfl rfl)
theorem dX19_explaining_83 : decode cX19_explaining 83 = .ok (.bipush (-2), 2) := dk_16 254 (dk_at dksX19_explaining_3 13 rfl rfl)
theorem dX19_explaining_85 : decode cX19_explaining 85 = .ok (.if_icmp .eq 6, 3) := dk_159 0 6 (dk_at dksX19_explaining_3 15 rfl rfl)
theorem dX19_explaining_88 : decode cX19_explaining 88 = .ok (.goto 28, 3) := dk_167 0 28 (dk_at dksX19_explaining_3 18 rfl rfl)
theorem dX19_explaining_91 : decode cX19_explaining 91 = .ok (.iload_n 2, 1) := dk_28 (dk_at dksX19_explaining_3 21 rfl rfl)
theorem dX19_explaining_92 : decode cX19_explaining 92 = .ok (.iload_n 1, 1) := dk_27 (dk_at dksX19_explaining_3 22 rfl rfl)
theorem dX19_explaining_93 : decode cX19_explaining 93 = .ok (.if_icmp .ne 20, 3) := dk_160 0 20 (dk_at dksX19_explaining_4 0 rfl rfl)
theorem dX19_explaining_96 : decode cX19_explaining 96 = .ok (.aload_n 0, 1) := dk_42 (dk_at dksX19_explaining_4 3 rfl rfl)
theorem dX19_explaining_97 : decode cX19_explaining 97 = .ok (.iload_n 3, 1) := dk_29 (dk_at dksX19_explaining_4 4 rfl rfl)
theorem dX19_explaining_98 : decode cX19_explaining 98 = .ok (.putfield 507, 3) := dk_181 1 251 (dk_at dksX19_explaining_4 5 rfl rfl)
theorem dX19_explaining_101 : decode cX19_explaining 101 = .ok (.aload_n 0, 1) := dk_42 (dk_at dksX19_explaining_4 8 rfl rfl)
theorem dX19_explaining_102 : decode cX19_explaining 102 = .ok (.iload 4, 2) := dk_21 4 (dk_at dksX19_explaining_4 9 rfl rfl)
theorem dX19_explaining_104 : decode cX19_explaining 104 = .ok (.putfield 510, 3) := dk_181 1 254 (dk_at dksX19_explaining_4 11 rfl rfl)
theorem dX19_explaining_107 : decode cX19_explaining 107 = .ok (.aload_n 0, 1) := dk_42 (dk_at dksX19_explaining_4 14 rfl rfl)
theorem dX19_explaining_108 : decode cX19_explaining 108 = .ok (.iload 5, 2) := dk_21 5 (dk_at dksX19_explaining_4 15 rfl rfl)
theorem dX19_explaining_110 : decode cX19_explaining 110 = .ok (.putfield 513, 3) := dk_181 2 1 (dk_at dksX19_explaining_4 17 rfl rfl)
theorem dX19_explaining_113 : decode cX19_explaining 113 = .ok (.iinc 2 1, 3) := dk_132 2 1 (dk_at dksX19_explaining_4 20 rfl rfl)
theorem dX19_explaining_116 : decode cX19_explaining 116 = .ok (.iinc 5 1, 3) := dk_132 5 1 (dk_at dksX19_explaining_5 0 rfl rfl)
theorem dX19_explaining_119 : decode cX19_explaining 119 = .ok (.goto (-73), 3) := dk_167 255 183 (dk_at dksX19_explaining_5 3 rfl rfl)
theorem dX19_explaining_122 : decode cX19_explaining 122 = .ok (.iinc 4 1, 3) := dk_132 4 1 (dk_at dksX19_explaining_5 6 rfl rfl)
theorem dX19_explaining_125 : decode cX19_explaining 125 = .ok (.goto (-97), 3) := dk_167 255 159 (dk_at dksX19_explaining_5 9 rfl rfl)
theorem dX19_explaining_128 : decode cX19_explaining 128 = .ok (.iinc 3 1, 3) := dk_132 3 1 (dk_at dksX19_explaining_5 12 rfl rfl)
theorem dX19_explaining_131 : decode cX19_explaining 131 = .ok (.goto (-117), 3) := dk_167 255 139 (dk_at dksX19_explaining_5 15 rfl rfl)
theorem dX19_explaining_134 : decode cX19_explaining 134 = .ok (.iload_n 2, 1) := dk_28 (dk_at dksX19_explaining_5 18 rfl rfl)
theorem dX19_explaining_135 : decode cX19_explaining 135 = .ok (.ireturn, 1) := dk_172 (dk_at dksX19_explaining_5 19 rfl rfl)
abbrev cX19_explain : ByteArray := prog_24_method_105_code
def yX19_explain : MethodName := ⟨RX19, "explain", "(II)I"⟩
def dkwX19_explain_3 : List UInt8 := [180, 1, 254, 167, 0, 7, 42, 180, 2, 1, 182, 0, 98, 172]
abbrev dktX19_explain_3 : List UInt8 := dkwX19_explain_3 ++ []
def dkwX19_explain_2 : List UInt8 := [182, 0, 94, 172, 42, 28, 154, 0, 10, 42, 180, 1, 251, 167, 0, 19, 28, 4, 160, 0, 10, 42]
abbrev dktX19_explain_2 : List UInt8 := dkwX19_explain_2 ++ dktX19_explain_3
def dkwX19_explain_1 : List UInt8 := [158, 0, 9, 42, 29, 182, 0, 94, 172, 27, 155, 0, 12, 27, 42, 27, 182, 2, 7, 161, 0, 9, 42, 4]
abbrev dktX19_explain_1 : List UInt8 := dkwX19_explain_1 ++ dktX19_explain_2
def dkwX19_explain_0 : List UInt8 := [42, 3, 181, 0, 88, 28, 3, 5, 184, 0, 169, 153, 0, 10, 42, 182, 2, 4, 167, 0, 4, 4, 62, 29]
abbrev dktX19_explain_0 : List UInt8 := dkwX19_explain_0 ++ dktX19_explain_1
theorem dksX19_explain_0 : cX19_explain.data.toList.drop 0 = dktX19_explain_0 := by decide +kernel
theorem dksX19_explain_1 : cX19_explain.data.toList.drop 24 = dktX19_explain_1 := dk_seg dksX19_explain_0 24 rfl rfl
theorem dksX19_explain_2 : cX19_explain.data.toList.drop 48 = dktX19_explain_2 := dk_seg dksX19_explain_1 24 rfl rfl
theorem dksX19_explain_3 : cX19_explain.data.toList.drop 70 = dktX19_explain_3 := dk_seg dksX19_explain_2 22 rfl rfl
theorem dX19_explain_0 : decode cX19_explain 0 = .ok (.aload_n 0, 1) := dk_42 (dk_at dksX19_explain_0 0 rfl rfl)
theorem dX19_explain_1 : decode cX19_explain 1 = .ok (.iconst 0, 1) := dk_3 (dk_at dksX19_explain_0 1 rfl rfl)
theorem dX19_explain_2 : decode cX19_explain 2 = .ok (.putfield 88, 3) := dk_181 0 88 (dk_at dksX19_explain_0 2 rfl rfl)
theorem dX19_explain_5 : decode cX19_explain 5 = .ok (.iload_n 2, 1) := dk_28 (dk_at dksX19_explain_0 5 rfl rfl)
theorem dX19_explain_6 : decode cX19_explain 6 = .ok (.iconst 0, 1) := dk_3 (dk_at dksX19_explain_0 6 rfl rfl)
theorem dX19_explain_7 : decode cX19_explain 7 = .ok (.iconst 2, 1) := dk_5 (dk_at dksX19_explain_0 7 rfl rfl)
theorem dX19_explain_8 : decode cX19_explain 8 = .ok (.invokestatic 169, 3) := dk_184 0 169 (dk_at dksX19_explain_0 8 rfl rfl)
theorem dX19_explain_11 : decode cX19_explain 11 = .ok (.ifCond .eq 10, 3) := dk_153 0 10 (dk_at dksX19_explain_0 11 rfl rfl)
theorem dX19_explain_14 : decode cX19_explain 14 = .ok (.aload_n 0, 1) := dk_42 (dk_at dksX19_explain_0 14 rfl rfl)
theorem dX19_explain_15 : decode cX19_explain 15 = .ok (.invokevirtual 516, 3) := dk_182 2 4 (dk_at dksX19_explain_0 15 rfl rfl)
theorem dX19_explain_18 : decode cX19_explain 18 = .ok (.goto 4, 3) := dk_167 0 4 (dk_at dksX19_explain_0 18 rfl rfl)
theorem dX19_explain_21 : decode cX19_explain 21 = .ok (.iconst 1, 1) := dk_4 (dk_at dksX19_explain_0 21 rfl rfl)
theorem dX19_explain_22 : decode cX19_explain 22 = .ok (.istore_n 3, 1) := dk_62 (dk_at dksX19_explain_0 22 rfl rfl)
theorem dX19_explain_23 : decode cX19_explain 23 = .ok (.iload_n 3, 1) := dk_29 (dk_at dksX19_explain_0 23 rfl rfl)
theorem dX19_explain_24 : decode cX19_explain 24 = .ok (.ifCond .le 9, 3) := dk_158 0 9 (dk_at dksX19_explain_1 0 rfl rfl)
theorem dX19_explain_27 : decode cX19_explain 27 = .ok (.aload_n 0, 1) := dk_42 (dk_at dksX19_explain_1 3 rfl rfl)
theorem dX19_explain_28 : decode cX19_explain 28 = .ok (.iload_n 3, 1) := dk_29 (dk_at dksX19_explain_1 4 rfl rfl)
theorem dX19_explain_29 : decode cX19_explain 29 = .ok (.invokevirtual 94, 3) := dk_182 0 94 (dk_at dksX19_explain_1 5 rfl rfl)
theorem dX19_explain_32 : decode cX19_explain 32 = .ok (.ireturn, 1) := dk_172 (dk_at dksX19_explain_1 8 rfl rfl)
theorem dX19_explain_33 : decode cX19_explain 33 = .ok (.iload_n 1, 1) := dk_27 (dk_at dksX19_explain_1 9 rfl rfl)
theorem dX19_explain_34 : decode cX19_explain 34 = .ok (.ifCond .lt 12, 3) := dk_155 0 12 (dk_at dksX19_explain_1 10 rfl rfl)
theorem dX19_explain_37 : decode cX19_explain 37 = .ok (.iload_n 1, 1) := dk_27 (dk_at dksX19_explain_1 13 rfl rfl)
theorem dX19_explain_38 : decode cX19_explain 38 = .ok (.aload_n 0, 1) := dk_42 (dk_at dksX19_explain_1 14 rfl rfl)
theorem dX19_explain_39 : decode cX19_explain 39 = .ok (.iload_n 1, 1) := dk_27 (dk_at dksX19_explain_1 15 rfl rfl)
theorem dX19_explain_40 : decode cX19_explain 40 = .ok (.invokevirtual 519, 3) := dk_182 2 7 (dk_at dksX19_explain_1 16 rfl rfl)
theorem dX19_explain_43 : decode cX19_explain 43 = .ok (.if_icmp .lt 9, 3) := dk_161 0 9 (dk_at dksX19_explain_1 19 rfl rfl)
theorem dX19_explain_46 : decode cX19_explain 46 = .ok (.aload_n 0, 1) := dk_42 (dk_at dksX19_explain_1 22 rfl rfl)
theorem dX19_explain_47 : decode cX19_explain 47 = .ok (.iconst 1, 1) := dk_4 (dk_at dksX19_explain_1 23 rfl rfl)
theorem dX19_explain_48 : decode cX19_explain 48 = .ok (.invokevirtual 94, 3) := dk_182 0 94 (dk_at dksX19_explain_2 0 rfl rfl)
theorem dX19_explain_51 : decode cX19_explain 51 = .ok (.ireturn, 1) := dk_172 (dk_at dksX19_explain_2 3 rfl rfl)
theorem dX19_explain_52 : decode cX19_explain 52 = .ok (.aload_n 0, 1) := dk_42 (dk_at dksX19_explain_2 4 rfl rfl)
theorem dX19_explain_53 : decode cX19_explain 53 = .ok (.iload_n 2, 1) := dk_28 (dk_at dksX19_explain_2 5 rfl rfl)
theorem dX19_explain_54 : decode cX19_explain 54 = .ok (.ifCond .ne 10, 3) := dk_154 0 10 (dk_at dksX19_explain_2 6 rfl rfl)
theorem dX19_explain_57 : decode cX19_explain 57 = .ok (.aload_n 0, 1) := dk_42 (dk_at dksX19_explain_2 9 rfl rfl)
theorem dX19_explain_58 : decode cX19_explain 58 = .ok (.getfield 507, 3) := dk_180 1 251 (dk_at dksX19_explain_2 10 rfl rfl)
theorem dX19_explain_61 : decode cX19_explain 61 = .ok (.goto 19, 3) := dk_167 0 19 (dk_at dksX19_explain_2 13 rfl rfl)
theorem dX19_explain_64 : decode cX19_explain 64 = .ok (.iload_n 2, 1) := dk_28 (dk_at dksX19_explain_2 16 rfl rfl)
theorem dX19_explain_65 : decode cX19_explain 65 = .ok (.iconst 1, 1) := dk_4 (dk_at dksX19_explain_2 17 rfl rfl)
theorem dX19_explain_66 : decode cX19_explain 66 = .ok (.if_icmp .ne 10, 3) := dk_160 0 10 (dk_at dksX19_explain_2 18 rfl rfl)
theorem dX19_explain_69 : decode cX19_explain 69 = .ok (.aload_n 0, 1) := dk_42 (dk_at dksX19_explain_2 21 rfl rfl)
theorem dX19_explain_70 : decode cX19_explain 70 = .ok (.getfield 510, 3) := dk_180 1 254 (dk_at dksX19_explain_3 0 rfl rfl)
theorem dX19_explain_73 : decode cX19_explain 73 = .ok (.goto 7, 3) := dk_167 0 7 (dk_at dksX19_explain_3 3 rfl rfl)
theorem dX19_explain_76 : decode cX19_explain 76 = .ok (.aload_n 0, 1) := dk_42 (dk_at dksX19_explain_3 6 rfl rfl)
theorem dX19_explain_77 : decode cX19_explain 77 = .ok (.getfield 513, 3) := dk_180 2 1 (dk_at dksX19_explain_3 7 rfl rfl)
theorem dX19_explain_80 : decode cX19_explain 80 = .ok (.invokevirtual 98, 3) := dk_182 0 98 (dk_at dksX19_explain_3 10 rfl rfl)
theorem dX19_explain_83 : decode cX19_explain 83 = .ok (.ireturn, 1) := dk_172 (dk_at dksX19_explain_3 13 rfl rfl)
abbrev cX19_isTrue : ByteArray := prog_24_method_107_code
def yX19_isTrue : MethodName := ⟨RX19, "isTrue", "(I)I"⟩
def dkwX19_isTrue_2 : List UInt8 := [167, 0, 4, 3, 182, 0, 98, 172]
abbrev dktX19_isTrue_2 : List UInt8 := dkwX19_isTrue_2 ++ []
def dkwX19_isTrue_1 : List UInt8 := [161, 0, 9, 42, 4, 182, 0, 94, 172, 42, 182, 1, 191, 42, 42, 27, 182, 2, 10, 153, 0, 7, 4]
abbrev dktX19_isTrue_1 : List UInt8 := dkwX19_isTrue_1 ++ dktX19_isTrue_2
def dkwX19_isTrue_0 : List UInt8 := [42, 3, 181, 0, 88, 42, 180, 1, 107, 198, 0, 18, 27, 155, 0, 14, 27, 42, 180, 1, 107, 180, 1, 88]
abbrev dktX19_isTrue_0 : List UInt8 := dkwX19_isTrue_0 ++ dktX19_isTrue_1
theorem dksX19_isTrue_0 : cX19_isTrue.data.toList.drop 0 = dktX19_isTrue_0 := by decide +kernel
theorem dksX19_isTrue_1 : cX19_isTrue.data.toList.drop 24 = dktX19_isTrue_1 := dk_seg dksX19_isTrue_0 24 rfl rfl
theorem dksX19_isTrue_2 : cX19_isTrue.data.toList.drop 47 = dktX19_isTrue_2 := dk_seg dksX19_isTrue_1 23 rfl rfl
theorem dX19_isTrue_0 : decode cX19_isTrue 0 = .ok (.aload_n 0, 1) := dk_42 (dk_at dksX19_isTrue_0 0 rfl rfl)
theorem dX19_isTrue_1 : decode cX19_isTrue 1 = .ok (.iconst 0, 1) := dk_3 (dk_at dksX19_isTrue_0 1 rfl rfl)
theorem dX19_isTrue_2 : decode cX19_isTrue 2 = .ok (.putfield 88, 3) := dk_181 0 88 (dk_at dksX19_isTrue_0 2 rfl rfl)
theorem dX19_isTrue_5 : decode cX19_isTrue 5 = .ok (.aload_n 0, 1) := dk_42 (dk_at dksX19_isTrue_0 5 rfl rfl)
theorem dX19_isTrue_6 : decode cX19_isTrue 6 = .ok (.getfield 363, 3) := dk_180 1 107 (dk_at dksX19_isTrue_0 6 rfl rfl)
theorem dX19_isTrue_9 : decode cX19_isTrue 9 = .ok (.ifnull 18, 3) := dk_198 0 18 (dk_at dksX19_isTrue_0 9 rfl rfl)
theorem dX19_isTrue_12 : decode cX19_isTrue 12 = .ok (.iload_n 1, 1) := dk_27 (dk_at dksX19_isTrue_0 12 rfl rfl)
theorem dX19_isTrue_13 : decode cX19_isTrue 13 = .ok (.ifCond .lt 14, 3) := dk_155 0 14 (dk_at dksX19_isTrue_0 13 rfl rfl)
theorem dX19_isTrue_16 : decode cX19_isTrue 16 = .ok (.iload_n 1, 1) := dk_27 (dk_at dksX19_isTrue_0 16 rfl rfl)
theorem dX19_isTrue_17 : decode cX19_isTrue 17 = .ok (.aload_n 0, 1) := dk_42 (dk_at dksX19_isTrue_0 17 rfl rfl)
theorem dX19_isTrue_18 : decode cX19_isTrue 18 = .ok (.getfield 363, 3) := dk_180 1 107 (dk_at dksX19_isTrue_0 18 rfl rfl)
theorem dX19_isTrue_21 : decode cX19_isTrue 21 = .ok (.getfield 344, 3) := dk_180 1 88 (dk_at dksX19_isTrue_0 21 rfl rfl)
theorem dX19_isTrue_24 : decode cX19_isTrue 24 = .ok (.if_icmp .lt 9, 3) := dk_161 0 9 (dk_at dksX19_isTrue_1 0 rfl rfl)
theorem dX19_isTrue_27 : decode cX19_isTrue 27 = .ok (.aload_n 0, 1) := dk_42 (dk_at dksX19_isTrue_1 3 rfl rfl)
theorem dX19_isTrue_28 : decode cX19_isTrue 28 = .ok (.iconst 1, 1) := dk_4 (dk_at dksX19_isTrue_1 4 rfl rfl)
theorem dX19_isTrue_29 : decode cX19_isTrue 29 = .ok (.invokevirtual 94, 3) := dk_182 0 94 (dk_at dksX19_isTrue_1 5 rfl rfl)
theorem dX19_isTrue_32 : decode cX19_isTrue 32 = .ok (.ireturn, 1) := dk_172 (dk_at dksX19_isTrue_1 8 rfl rfl)
theorem dX19_isTrue_33 : decode cX19_isTrue 33 = .ok (.aload_n 0, 1) := dk_42 (dk_at dksX19_isTrue_1 9 rfl rfl)
theorem dX19_isTrue_34 : decode cX19_isTrue 34 = .ok (.invokevirtual 447, 3) := dk_182 1 191 (dk_at dksX19_isTrue_1 10 rfl rfl)
theorem dX19_isTrue_37 : decode cX19_isTrue 37 = .ok (.aload_n 0, 1) := dk_42 (dk_at dksX19_isTrue_1 13 rfl rfl)
theorem dX19_isTrue_38 : decode cX19_isTrue 38 = .ok (.aload_n 0, 1) := dk_42 (dk_at dksX19_isTrue_1 14 rfl rfl)
theorem dX19_isTrue_39 : decode cX19_isTrue 39 = .ok (.iload_n 1, 1) := dk_27 (dk_at dksX19_isTrue_1 15 rfl rfl)
theorem dX19_isTrue_40 : decode cX19_isTrue 40 = .ok (.invokevirtual 522, 3) := dk_182 2 10 (dk_at dksX19_isTrue_1 16 rfl rfl)
theorem dX19_isTrue_43 : decode cX19_isTrue 43 = .ok (.ifCond .eq 7, 3) := dk_153 0 7 (dk_at dksX19_isTrue_1 19 rfl rfl)
theorem dX19_isTrue_46 : decode cX19_isTrue 46 = .ok (.iconst 1, 1) := dk_4 (dk_at dksX19_isTrue_1 22 rfl rfl)
theorem dX19_isTrue_47 : decode cX19_isTrue 47 = .ok (.goto 4, 3) := dk_167 0 4 (dk_at dksX19_isTrue_2 0 rfl rfl)
theorem dX19_isTrue_50 : decode cX19_isTrue 50 = .ok (.iconst 0, 1) := dk_3 (dk_at dksX19_isTrue_2 3 rfl rfl)
theorem dX19_isTrue_51 : decode cX19_isTrue 51 = .ok (.invokevirtual 98, 3) := dk_182 0 98 (dk_at dksX19_isTrue_2 4 rfl rfl)
theorem dX19_isTrue_54 : decode cX19_isTrue 54 = .ok (.ireturn, 1) := dk_172 (dk_at dksX19_isTrue_2 7 rfl rfl)
abbrev cX19_holds : ByteArray := prog_24_method_106_code
def yX19_holds : MethodName := ⟨RX19, "holds", "(I)Z"⟩
def dkwX19_holds_1 : List UInt8 := [46, 96, 46, 42, 180, 1, 107, 180, 1, 97, 27, 46, 160, 0, 7, 4, 167, 0, 4, 3, 172]
abbrev dktX19_holds_1 : List UInt8 := dkwX19_holds_1 ++ []
def dkwX19_holds_0 : List UInt8 := [42, 180, 0, 60, 16, 7, 42, 180, 1, 107, 180, 1, 94, 27, 46, 104, 42, 180, 1, 107, 180, 1, 91, 27]
abbrev dktX19_holds_0 : List UInt8 := dkwX19_holds_0 ++ dktX19_holds_1
theorem dksX19_holds_0 : cX19_holds.data.toList.drop 0 = dktX19_holds_0 := by decide +kernel
theorem dksX19_holds_1 : cX19_holds.data.toList.drop 24 = dktX19_holds_1 := dk_seg dksX19_holds_0 24 rfl rfl
theorem dX19_holds_0 : decode cX19_holds 0 = .ok (.aload_n 0, 1) := dk_42 (dk_at dksX19_holds_0 0 rfl rfl)
theorem dX19_holds_1 : decode cX19_holds 1 = .ok (.getfield 60, 3) := dk_180 0 60 (dk_at dksX19_holds_0 1 rfl rfl)
theorem dX19_holds_4 : decode cX19_holds 4 = .ok (.bipush 7, 2) := dk_16 7 (dk_at dksX19_holds_0 4 rfl rfl)
theorem dX19_holds_6 : decode cX19_holds 6 = .ok (.aload_n 0, 1) := dk_42 (dk_at dksX19_holds_0 6 rfl rfl)
theorem dX19_holds_7 : decode cX19_holds 7 = .ok (.getfield 363, 3) := dk_180 1 107 (dk_at dksX19_holds_0 7 rfl rfl)
theorem dX19_holds_10 : decode cX19_holds 10 = .ok (.getfield 350, 3) := dk_180 1 94 (dk_at dksX19_holds_0 10 rfl rfl)
theorem dX19_holds_13 : decode cX19_holds 13 = .ok (.iload_n 1, 1) := dk_27 (dk_at dksX19_holds_0 13 rfl rfl)
theorem dX19_holds_14 : decode cX19_holds 14 = .ok (.iaload, 1) := dk_46 (dk_at dksX19_holds_0 14 rfl rfl)
theorem dX19_holds_15 : decode cX19_holds 15 = .ok (.imul, 1) := dk_104 (dk_at dksX19_holds_0 15 rfl rfl)
theorem dX19_holds_16 : decode cX19_holds 16 = .ok (.aload_n 0, 1) := dk_42 (dk_at dksX19_holds_0 16 rfl rfl)
theorem dX19_holds_17 : decode cX19_holds 17 = .ok (.getfield 363, 3) := dk_180 1 107 (dk_at dksX19_holds_0 17 rfl rfl)
theorem dX19_holds_20 : decode cX19_holds 20 = .ok (.getfield 347, 3) := dk_180 1 91 (dk_at dksX19_holds_0 20 rfl rfl)
theorem dX19_holds_23 : decode cX19_holds 23 = .ok (.iload_n 1, 1) := dk_27 (dk_at dksX19_holds_0 23 rfl rfl)
theorem dX19_holds_24 : decode cX19_holds 24 = .ok (.iaload, 1) := dk_46 (dk_at dksX19_holds_1 0 rfl rfl)
theorem dX19_holds_25 : decode cX19_holds 25 = .ok (.iadd, 1) := dk_96 (dk_at dksX19_holds_1 1 rfl rfl)
theorem dX19_holds_26 : decode cX19_holds 26 = .ok (.iaload, 1) := dk_46 (dk_at dksX19_holds_1 2 rfl rfl)
theorem dX19_holds_27 : decode cX19_holds 27 = .ok (.aload_n 0, 1) := dk_42 (dk_at dksX19_holds_1 3 rfl rfl)
theorem dX19_holds_28 : decode cX19_holds 28 = .ok (.getfield 363, 3) := dk_180 1 107 (dk_at dksX19_holds_1 4 rfl rfl)
theorem dX19_holds_31 : decode cX19_holds 31 = .ok (.getfield 353, 3) := dk_180 1 97 (dk_at dksX19_holds_1 7 rfl rfl)
theorem dX19_holds_34 : decode cX19_holds 34 = .ok (.iload_n 1, 1) := dk_27 (dk_at dksX19_holds_1 10 rfl rfl)
theorem dX19_holds_35 : decode cX19_holds 35 = .ok (.iaload, 1) := dk_46 (dk_at dksX19_holds_1 11 rfl rfl)
theorem dX19_holds_36 : decode cX19_holds 36 = .ok (.if_icmp .ne 7, 3) := dk_160 0 7 (dk_at dksX19_holds_1 12 rfl rfl)
theorem dX19_holds_39 : decode cX19_holds 39 = .ok (.iconst 1, 1) := dk_4 (dk_at dksX19_holds_1 15 rfl rfl)
theorem dX19_holds_40 : decode cX19_holds 40 = .ok (.goto 4, 3) := dk_167 0 4 (dk_at dksX19_holds_1 16 rfl rfl)
theorem dX19_holds_43 : decode cX19_holds 43 = .ok (.iconst 0, 1) := dk_3 (dk_at dksX19_holds_1 19 rfl rfl)
theorem dX19_holds_44 : decode cX19_holds 44 = .ok (.ireturn, 1) := dk_172 (dk_at dksX19_holds_1 20 rfl rfl)
abbrev cX19_wrongOnes : ByteArray := prog_24_method_108_code
def yX19_wrongOnes : MethodName := ⟨RX19, "wrongOnes", "()I"⟩
def dkwX19_wrongOnes_3 : List UInt8 := [182, 0, 98, 172]
abbrev dktX19_wrongOnes_3 : List UInt8 := dkwX19_wrongOnes_3 ++ []
def dkwX19_wrongOnes_2 : List UInt8 := [167, 0, 14, 4, 42, 180, 1, 107, 180, 1, 91, 28, 46, 120, 128, 60, 132, 2, 1, 167, 255, 216, 42, 27]
abbrev dktX19_wrongOnes_2 : List UInt8 := dkwX19_wrongOnes_2 ++ dktX19_wrongOnes_3
def dkwX19_wrongOnes_1 : List UInt8 := [3, 61, 28, 42, 180, 1, 107, 180, 1, 88, 162, 0, 35, 27, 42, 28, 182, 2, 10, 153, 0, 7, 3]
abbrev dktX19_wrongOnes_1 : List UInt8 := dkwX19_wrongOnes_1 ++ dktX19_wrongOnes_2
def dkwX19_wrongOnes_0 : List UInt8 := [42, 3, 181, 0, 88, 42, 180, 1, 107, 199, 0, 9, 42, 4, 182, 0, 94, 172, 42, 182, 1, 191, 3, 60]
abbrev dktX19_wrongOnes_0 : List UInt8 := dkwX19_wrongOnes_0 ++ dktX19_wrongOnes_1
theorem dksX19_wrongOnes_0 : cX19_wrongOnes.data.toList.drop 0 = dktX19_wrongOnes_0 := by decide +kernel
theorem dksX19_wrongOnes_1 : cX19_wrongOnes.data.toList.drop 24 = dktX19_wrongOnes_1 := dk_seg dksX19_wrongOnes_0 24 rfl rfl
theorem dksX19_wrongOnes_2 : cX19_wrongOnes.data.toList.drop 47 = dktX19_wrongOnes_2 := dk_seg dksX19_wrongOnes_1 23 rfl rfl
theorem dksX19_wrongOnes_3 : cX19_wrongOnes.data.toList.drop 71 = dktX19_wrongOnes_3 := dk_seg dksX19_wrongOnes_2 24 rfl rfl
theorem dX19_wrongOnes_0 : decode cX19_wrongOnes 0 = .ok (.aload_n 0, 1) := dk_42 (dk_at dksX19_wrongOnes_0 0 rfl rfl)
theorem dX19_wrongOnes_1 : decode cX19_wrongOnes 1 = .ok (.iconst 0, 1) := dk_3 (dk_at dksX19_wrongOnes_0 1 rfl rfl)
theorem dX19_wrongOnes_2 : decode cX19_wrongOnes 2 = .ok (.putfield 88, 3) := dk_181 0 88 (dk_at dksX19_wrongOnes_0 2 rfl rfl)
theorem dX19_wrongOnes_5 : decode cX19_wrongOnes 5 = .ok (.aload_n 0, 1) := dk_42 (dk_at dksX19_wrongOnes_0 5 rfl rfl)
theorem dX19_wrongOnes_6 : decode cX19_wrongOnes 6 = .ok (.getfield 363, 3) := dk_180 1 107 (dk_at dksX19_wrongOnes_0 6 rfl rfl)
theorem dX19_wrongOnes_9 : decode cX19_wrongOnes 9 = .ok (.ifnonnull 9, 3) := dk_199 0 9 (dk_at dksX19_wrongOnes_0 9 rfl rfl)
theorem dX19_wrongOnes_12 : decode cX19_wrongOnes 12 = .ok (.aload_n 0, 1) := dk_42 (dk_at dksX19_wrongOnes_0 12 rfl rfl)
theorem dX19_wrongOnes_13 : decode cX19_wrongOnes 13 = .ok (.iconst 1, 1) := dk_4 (dk_at dksX19_wrongOnes_0 13 rfl rfl)
theorem dX19_wrongOnes_14 : decode cX19_wrongOnes 14 = .ok (.invokevirtual 94, 3) := dk_182 0 94 (dk_at dksX19_wrongOnes_0 14 rfl rfl)
theorem dX19_wrongOnes_17 : decode cX19_wrongOnes 17 = .ok (.ireturn, 1) := dk_172 (dk_at dksX19_wrongOnes_0 17 rfl rfl)
theorem dX19_wrongOnes_18 : decode cX19_wrongOnes 18 = .ok (.aload_n 0, 1) := dk_42 (dk_at dksX19_wrongOnes_0 18 rfl rfl)
theorem dX19_wrongOnes_19 : decode cX19_wrongOnes 19 = .ok (.invokevirtual 447, 3) := dk_182 1 191 (dk_at dksX19_wrongOnes_0 19 rfl rfl)
theorem dX19_wrongOnes_22 : decode cX19_wrongOnes 22 = .ok (.iconst 0, 1) := dk_3 (dk_at dksX19_wrongOnes_0 22 rfl rfl)
theorem dX19_wrongOnes_23 : decode cX19_wrongOnes 23 = .ok (.istore_n 1, 1) := dk_60 (dk_at dksX19_wrongOnes_0 23 rfl rfl)
theorem dX19_wrongOnes_24 : decode cX19_wrongOnes 24 = .ok (.iconst 0, 1) := dk_3 (dk_at dksX19_wrongOnes_1 0 rfl rfl)
theorem dX19_wrongOnes_25 : decode cX19_wrongOnes 25 = .ok (.istore_n 2, 1) := dk_61 (dk_at dksX19_wrongOnes_1 1 rfl rfl)
theorem dX19_wrongOnes_26 : decode cX19_wrongOnes 26 = .ok (.iload_n 2, 1) := dk_28 (dk_at dksX19_wrongOnes_1 2 rfl rfl)
theorem dX19_wrongOnes_27 : decode cX19_wrongOnes 27 = .ok (.aload_n 0, 1) := dk_42 (dk_at dksX19_wrongOnes_1 3 rfl rfl)
theorem dX19_wrongOnes_28 : decode cX19_wrongOnes 28 = .ok (.getfield 363, 3) := dk_180 1 107 (dk_at dksX19_wrongOnes_1 4 rfl rfl)
theorem dX19_wrongOnes_31 : decode cX19_wrongOnes 31 = .ok (.getfield 344, 3) := dk_180 1 88 (dk_at dksX19_wrongOnes_1 7 rfl rfl)
theorem dX19_wrongOnes_34 : decode cX19_wrongOnes 34 = .ok (.if_icmp .ge 35, 3) := dk_162 0 35 (dk_at dksX19_wrongOnes_1 10 rfl rfl)
theorem dX19_wrongOnes_37 : decode cX19_wrongOnes 37 = .ok (.iload_n 1, 1) := dk_27 (dk_at dksX19_wrongOnes_1 13 rfl rfl)
theorem dX19_wrongOnes_38 : decode cX19_wrongOnes 38 = .ok (.aload_n 0, 1) := dk_42 (dk_at dksX19_wrongOnes_1 14 rfl rfl)
theorem dX19_wrongOnes_39 : decode cX19_wrongOnes 39 = .ok (.iload_n 2, 1) := dk_28 (dk_at dksX19_wrongOnes_1 15 rfl rfl)
theorem dX19_wrongOnes_40 : decode cX19_wrongOnes 40 = .ok (.invokevirtual 522, 3) := dk_182 2 10 (dk_at dksX19_wrongOnes_1 16 rfl rfl)
theorem dX19_wrongOnes_43 : decode cX19_wrongOnes 43 = .ok (.ifCond .eq 7, 3) := dk_153 0 7 (dk_at dksX19_wrongOnes_1 19 rfl rfl)
theorem dX19_wrongOnes_46 : decode cX19_wrongOnes 46 = .ok (.iconst 0, 1) := dk_3 (dk_at dksX19_wrongOnes_1 22 rfl rfl)
theorem dX19_wrongOnes_47 : decode cX19_wrongOnes 47 = .ok (.goto 14, 3) := dk_167 0 14 (dk_at dksX19_wrongOnes_2 0 rfl rfl)
theorem dX19_wrongOnes_50 : decode cX19_wrongOnes 50 = .ok (.iconst 1, 1) := dk_4 (dk_at dksX19_wrongOnes_2 3 rfl rfl)
theorem dX19_wrongOnes_51 : decode cX19_wrongOnes 51 = .ok (.aload_n 0, 1) := dk_42 (dk_at dksX19_wrongOnes_2 4 rfl rfl)
theorem dX19_wrongOnes_52 : decode cX19_wrongOnes 52 = .ok (.getfield 363, 3) := dk_180 1 107 (dk_at dksX19_wrongOnes_2 5 rfl rfl)
theorem dX19_wrongOnes_55 : decode cX19_wrongOnes 55 = .ok (.getfield 347, 3) := dk_180 1 91 (dk_at dksX19_wrongOnes_2 8 rfl rfl)
theorem dX19_wrongOnes_58 : decode cX19_wrongOnes 58 = .ok (.iload_n 2, 1) := dk_28 (dk_at dksX19_wrongOnes_2 11 rfl rfl)
theorem dX19_wrongOnes_59 : decode cX19_wrongOnes 59 = .ok (.iaload, 1) := dk_46 (dk_at dksX19_wrongOnes_2 12 rfl rfl)
theorem dX19_wrongOnes_60 : decode cX19_wrongOnes 60 = .ok (.ishl, 1) := dk_120 (dk_at dksX19_wrongOnes_2 13 rfl rfl)
theorem dX19_wrongOnes_61 : decode cX19_wrongOnes 61 = .ok (.ior, 1) := dk_128 (dk_at dksX19_wrongOnes_2 14 rfl rfl)
theorem dX19_wrongOnes_62 : decode cX19_wrongOnes 62 = .ok (.istore_n 1, 1) := dk_60 (dk_at dksX19_wrongOnes_2 15 rfl rfl)
theorem dX19_wrongOnes_63 : decode cX19_wrongOnes 63 = .ok (.iinc 2 1, 3) := dk_132 2 1 (dk_at dksX19_wrongOnes_2 16 rfl rfl)
theorem dX19_wrongOnes_66 : decode cX19_wrongOnes 66 = .ok (.goto (-40), 3) := dk_167 255 216 (dk_at dksX19_wrongOnes_2 19 rfl rfl)
theorem dX19_wrongOnes_69 : decode cX19_wrongOnes 69 = .ok (.aload_n 0, 1) := dk_42 (dk_at dksX19_wrongOnes_2 22 rfl rfl)
theorem dX19_wrongOnes_70 : decode cX19_wrongOnes 70 = .ok (.iload_n 1, 1) := dk_27 (dk_at dksX19_wrongOnes_2 23 rfl rfl)
theorem dX19_wrongOnes_71 : decode cX19_wrongOnes 71 = .ok (.invokevirtual 98, 3) := dk_182 0 98 (dk_at dksX19_wrongOnes_3 0 rfl rfl)
theorem dX19_wrongOnes_74 : decode cX19_wrongOnes 74 = .ok (.ireturn, 1) := dk_172 (dk_at dksX19_wrongOnes_3 3 rfl rfl)
abbrev cX19_pairings : ByteArray := prog_24_method_112_code
def yX19_pairings : MethodName := ⟨RX19, "pairings", "(I)I"⟩
def dkwX19_pairings_1 : List UInt8 := [182, 1, 191, 42, 42, 27, 3, 182, 2, 25, 182, 0, 98, 172]
abbrev dktX19_pairings_1 : List UInt8 := dkwX19_pairings_1 ++ []
def dkwX19_pairings_0 : List UInt8 := [42, 3, 181, 0, 88, 42, 4, 27, 182, 1, 181, 61, 28, 158, 0, 9, 42, 28, 182, 0, 94, 172, 42]
abbrev dktX19_pairings_0 : List UInt8 := dkwX19_pairings_0 ++ dktX19_pairings_1
theorem dksX19_pairings_0 : cX19_pairings.data.toList.drop 0 = dktX19_pairings_0 := by decide +kernel
theorem dksX19_pairings_1 : cX19_pairings.data.toList.drop 23 = dktX19_pairings_1 := dk_seg dksX19_pairings_0 23 rfl rfl
theorem dX19_pairings_0 : decode cX19_pairings 0 = .ok (.aload_n 0, 1) := dk_42 (dk_at dksX19_pairings_0 0 rfl rfl)
theorem dX19_pairings_1 : decode cX19_pairings 1 = .ok (.iconst 0, 1) := dk_3 (dk_at dksX19_pairings_0 1 rfl rfl)
theorem dX19_pairings_2 : decode cX19_pairings 2 = .ok (.putfield 88, 3) := dk_181 0 88 (dk_at dksX19_pairings_0 2 rfl rfl)
theorem dX19_pairings_5 : decode cX19_pairings 5 = .ok (.aload_n 0, 1) := dk_42 (dk_at dksX19_pairings_0 5 rfl rfl)
theorem dX19_pairings_6 : decode cX19_pairings 6 = .ok (.iconst 1, 1) := dk_4 (dk_at dksX19_pairings_0 6 rfl rfl)
theorem dX19_pairings_7 : decode cX19_pairings 7 = .ok (.iload_n 1, 1) := dk_27 (dk_at dksX19_pairings_0 7 rfl rfl)
theorem dX19_pairings_8 : decode cX19_pairings 8 = .ok (.invokevirtual 437, 3) := dk_182 1 181 (dk_at dksX19_pairings_0 8 rfl rfl)
theorem dX19_pairings_11 : decode cX19_pairings 11 = .ok (.istore_n 2, 1) := dk_61 (dk_at dksX19_pairings_0 11 rfl rfl)
theorem dX19_pairings_12 : decode cX19_pairings 12 = .ok (.iload_n 2, 1) := dk_28 (dk_at dksX19_pairings_0 12 rfl rfl)
theorem dX19_pairings_13 : decode cX19_pairings 13 = .ok (.ifCond .le 9, 3) := dk_158 0 9 (dk_at dksX19_pairings_0 13 rfl rfl)
theorem dX19_pairings_16 : decode cX19_pairings 16 = .ok (.aload_n 0, 1) := dk_42 (dk_at dksX19_pairings_0 16 rfl rfl)
theorem dX19_pairings_17 : decode cX19_pairings 17 = .ok (.iload_n 2, 1) := dk_28 (dk_at dksX19_pairings_0 17 rfl rfl)
theorem dX19_pairings_18 : decode cX19_pairings 18 = .ok (.invokevirtual 94, 3) := dk_182 0 94 (dk_at dksX19_pairings_0 18 rfl rfl)
theorem dX19_pairings_21 : decode cX19_pairings 21 = .ok (.ireturn, 1) := dk_172 (dk_at dksX19_pairings_0 21 rfl rfl)
theorem dX19_pairings_22 : decode cX19_pairings 22 = .ok (.aload_n 0, 1) := dk_42 (dk_at dksX19_pairings_0 22 rfl rfl)
theorem dX19_pairings_23 : decode cX19_pairings 23 = .ok (.invokevirtual 447, 3) := dk_182 1 191 (dk_at dksX19_pairings_1 0 rfl rfl)
theorem dX19_pairings_26 : decode cX19_pairings 26 = .ok (.aload_n 0, 1) := dk_42 (dk_at dksX19_pairings_1 3 rfl rfl)
theorem dX19_pairings_27 : decode cX19_pairings 27 = .ok (.aload_n 0, 1) := dk_42 (dk_at dksX19_pairings_1 4 rfl rfl)
theorem dX19_pairings_28 : decode cX19_pairings 28 = .ok (.iload_n 1, 1) := dk_27 (dk_at dksX19_pairings_1 5 rfl rfl)
theorem dX19_pairings_29 : decode cX19_pairings 29 = .ok (.iconst 0, 1) := dk_3 (dk_at dksX19_pairings_1 6 rfl rfl)
theorem dX19_pairings_30 : decode cX19_pairings 30 = .ok (.invokevirtual 537, 3) := dk_182 2 25 (dk_at dksX19_pairings_1 7 rfl rfl)
theorem dX19_pairings_33 : decode cX19_pairings 33 = .ok (.invokevirtual 98, 3) := dk_182 0 98 (dk_at dksX19_pairings_1 10 rfl rfl)
theorem dX19_pairings_36 : decode cX19_pairings 36 = .ok (.ireturn, 1) := dk_172 (dk_at dksX19_pairings_1 13 rfl rfl)
abbrev cX19_pairs : ByteArray := prog_24_method_111_code
def yX19_pairs : MethodName := ⟨RX19, "pairs", "(II)I"⟩
def dkwX19_pairs_12 : List UInt8 := [132, 4, 1, 167, 255, 34, 29, 172]
abbrev dktX19_pairs_12 : List UInt8 := dkwX19_pairs_12 ++ []
def dkwX19_pairs_11 : List UInt8 := [180, 0, 72, 21, 4, 2, 79, 132, 4, 255, 167, 0, 15, 42, 180, 0, 72, 21, 4, 21, 7, 79]
abbrev dktX19_pairs_11 : List UInt8 := dkwX19_pairs_11 ++ dktX19_pairs_12
def dkwX19_pairs_10 : List UInt8 := [21, 7, 159, 0, 9, 132, 7, 1, 167, 255, 193, 21, 7, 42, 180, 1, 107, 180, 0, 251, 160, 0, 17, 42]
abbrev dktX19_pairs_10 : List UInt8 := dkwX19_pairs_10 ++ dktX19_pairs_11
def dkwX19_pairs_9 : List UInt8 := [153, 0, 29, 28, 21, 6, 184, 2, 19, 153, 0, 26, 42, 180, 0, 60, 16, 7, 27, 104, 21, 6, 96, 46]
abbrev dktX19_pairs_9 : List UInt8 := dkwX19_pairs_9 ++ dktX19_pairs_10
def dkwX19_pairs_8 : List UInt8 := [162, 0, 57, 21, 5, 21, 7, 184, 2, 19, 154, 0, 41, 42, 27, 21, 6, 21, 7, 182, 2, 22]
abbrev dktX19_pairs_8 : List UInt8 := dkwX19_pairs_8 ++ dktX19_pairs_9
def dkwX19_pairs_7 : List UInt8 := [54, 6, 42, 180, 0, 72, 21, 4, 46, 4, 96, 54, 7, 21, 7, 42, 180, 1, 107, 180, 0, 251]
abbrev dktX19_pairs_7 : List UInt8 := dkwX19_pairs_7 ++ dktX19_pairs_8
def dkwX19_pairs_6 : List UInt8 := [180, 0, 72, 21, 6, 46, 120, 128, 54, 5, 132, 6, 1, 167, 255, 232, 42, 180, 0, 69, 21, 4, 46]
abbrev dktX19_pairs_6 : List UInt8 := dkwX19_pairs_6 ++ dktX19_pairs_7
def dkwX19_pairs_5 : List UInt8 := [132, 4, 255, 167, 255, 194, 3, 54, 5, 3, 54, 6, 21, 6, 21, 4, 162, 0, 23, 21, 5, 4, 42]
abbrev dktX19_pairs_5 : List UInt8 := dkwX19_pairs_5 ++ dktX19_pairs_6
def dkwX19_pairs_4 : List UInt8 := [21, 5, 46, 92, 46, 4, 42, 180, 0, 72, 21, 5, 46, 120, 128, 79, 132, 5, 1, 167, 255, 220]
abbrev dktX19_pairs_4 : List UInt8 := dkwX19_pairs_4 ++ dktX19_pairs_5
def dkwX19_pairs_3 : List UInt8 := [132, 3, 1, 3, 54, 5, 21, 5, 42, 180, 2, 13, 162, 0, 33, 42, 180, 0, 75, 42, 180, 0, 69]
abbrev dktX19_pairs_3 : List UInt8 := dkwX19_pairs_3 ++ dktX19_pairs_4
def dkwX19_pairs_2 : List UInt8 := [79, 132, 4, 1, 167, 255, 238, 3, 54, 4, 21, 4, 155, 0, 223, 21, 4, 42, 180, 2, 13, 160, 0, 54]
abbrev dktX19_pairs_2 : List UInt8 := dkwX19_pairs_2 ++ dktX19_pairs_3
def dkwX19_pairs_1 : List UInt8 := [79, 132, 4, 1, 167, 255, 238, 3, 54, 4, 21, 4, 16, 7, 162, 0, 17, 42, 180, 0, 72, 21, 4, 2]
abbrev dktX19_pairs_1 : List UInt8 := dkwX19_pairs_1 ++ dktX19_pairs_2
def dkwX19_pairs_0 : List UInt8 := [42, 27, 182, 2, 16, 3, 62, 3, 54, 4, 21, 4, 16, 7, 162, 0, 17, 42, 180, 0, 75, 21, 4, 3]
abbrev dktX19_pairs_0 : List UInt8 := dkwX19_pairs_0 ++ dktX19_pairs_1
theorem dksX19_pairs_0 : cX19_pairs.data.toList.drop 0 = dktX19_pairs_0 := by decide +kernel
theorem dksX19_pairs_1 : cX19_pairs.data.toList.drop 24 = dktX19_pairs_1 := dk_seg dksX19_pairs_0 24 rfl rfl
theorem dksX19_pairs_2 : cX19_pairs.data.toList.drop 48 = dktX19_pairs_2 := dk_seg dksX19_pairs_1 24 rfl rfl
theorem dksX19_pairs_3 : cX19_pairs.data.toList.drop 72 = dktX19_pairs_3 := dk_seg dksX19_pairs_2 24 rfl rfl
theorem dksX19_pairs_4 : cX19_pairs.data.toList.drop 95 = dktX19_pairs_4 := dk_seg dksX19_pairs_3 23 rfl rfl
theorem dksX19_pairs_5 : cX19_pairs.data.toList.drop 117 = dktX19_pairs_5 := dk_seg dksX19_pairs_4 22 rfl rfl
theorem dksX19_pairs_6 : cX19_pairs.data.toList.drop 140 = dktX19_pairs_6 := dk_seg dksX19_pairs_5 23 rfl rfl
theorem dksX19_pairs_7 : cX19_pairs.data.toList.drop 163 = dktX19_pairs_7 := dk_seg dksX19_pairs_6 23 rfl rfl
theorem dksX19_pairs_8 : cX19_pairs.data.toList.drop 185 = dktX19_pairs_8 := dk_seg dksX19_pairs_7 22 rfl rfl
theorem dksX19_pairs_9 : cX19_pairs.data.toList.drop 207 = dktX19_pairs_9 := dk_seg dksX19_pairs_8 22 rfl rfl
theorem dksX19_pairs_10 : cX19_pairs.data.toList.drop 231 = dktX19_pairs_10 := dk_seg dksX19_pairs_9 24 rfl rfl
theorem dksX19_pairs_11 : cX19_pairs.data.toList.drop 255 = dktX19_pairs_11 := dk_seg dksX19_pairs_10 24 rfl rfl
theorem dksX19_pairs_12 : cX19_pairs.data.toList.drop 277 = dktX19_pairs_12 := dk_seg dksX19_pairs_11 22 rfl rfl
theorem dX19_pairs_0 : decode cX19_pairs 0 = .ok (.aload_n 0, 1) := dk_42 (dk_at dksX19_pairs_0 0 rfl rfl)
theorem dX19_pairs_1 : decode cX19_pairs 1 = .ok (.iload_n 1, 1) := dk_27 (dk_at dksX19_pairs_0 1 rfl rfl)
theorem dX19_pairs_2 : decode cX19_pairs 2 = .ok (.invokevirtual 528, 3) := dk_182 2 16 (dk_at dksX19_pairs_0 2 rfl rfl)
theorem dX19_pairs_5 : decode cX19_pairs 5 = .ok (.iconst 0, 1) := dk_3 (dk_at dksX19_pairs_0 5 rfl rfl)
theorem dX19_pairs_6 : decode cX19_pairs 6 = .ok (.istore_n 3, 1) := dk_62 (dk_at dksX19_pairs_0 6 rfl rfl)
theorem dX19_pairs_7 : decode cX19_pairs 7 = .ok (.iconst 0, 1) := dk_3 (dk_at dksX19_pairs_0 7 rfl rfl)
theorem dX19_pairs_8 : decode cX19_pairs 8 = .ok (.istore 4, 2) := dk_54 4 (dk_at dksX19_pairs_0 8 rfl rfl)
theorem dX19_pairs_10 : decode cX19_pairs 10 = .ok (.iload 4, 2) := dk_21 4 (dk_at dksX19_pairs_0 10 rfl rfl)
theorem dX19_pairs_12 : decode cX19_pairs 12 = .ok (.bipush 7, 2) := dk_16 7 (dk_at dksX19_pairs_0 12 rfl rfl)
theorem dX19_pairs_14 : decode cX19_pairs 14 = .ok (.if_icmp .ge 17, 3) := dk_162 0 17 (dk_at dksX19_pairs_0 14 rfl rfl)
theorem dX19_pairs_17 : decode cX19_pairs 17 = .ok (.aload_n 0, 1) := dk_42 (dk_at dksX19_pairs_0 17 rfl rfl)
theorem dX19_pairs_18 : decode cX19_pairs 18 = .ok (.getfield 75, 3) := dk_180 0 75 (dk_at dksX19_pairs_0 18 rfl rfl)
theorem dX19_pairs_21 : decode cX19_pairs 21 = .ok (.iload 4, 2) := dk_21 4 (dk_at dksX19_pairs_0 21 rfl rfl)
theorem dX19_pairs_23 : decode cX19_pairs 23 = .ok (.iconst 0, 1) := dk_3 (dk_at dksX19_pairs_0 23 rfl rfl)
theorem dX19_pairs_24 : decode cX19_pairs 24 = .ok (.iastore, 1) := dk_79 (dk_at dksX19_pairs_1 0 rfl rfl)
theorem dX19_pairs_25 : decode cX19_pairs 25 = .ok (.iinc 4 1, 3) := dk_132 4 1 (dk_at dksX19_pairs_1 1 rfl rfl)
theorem dX19_pairs_28 : decode cX19_pairs 28 = .ok (.goto (-18), 3) := dk_167 255 238 (dk_at dksX19_pairs_1 4 rfl rfl)
theorem dX19_pairs_31 : decode cX19_pairs 31 = .ok (.iconst 0, 1) := dk_3 (dk_at dksX19_pairs_1 7 rfl rfl)
theorem dX19_pairs_32 : decode cX19_pairs 32 = .ok (.istore 4, 2) := dk_54 4 (dk_at dksX19_pairs_1 8 rfl rfl)
theorem dX19_pairs_34 : decode cX19_pairs 34 = .ok (.iload 4, 2) := dk_21 4 (dk_at dksX19_pairs_1 10 rfl rfl)
theorem dX19_pairs_36 : decode cX19_pairs 36 = .ok (.bipush 7, 2) := dk_16 7 (dk_at dksX19_pairs_1 12 rfl rfl)
theorem dX19_pairs_38 : decode cX19_pairs 38 = .ok (.if_icmp .ge 17, 3) := dk_162 0 17 (dk_at dksX19_pairs_1 14 rfl rfl)
theorem dX19_pairs_41 : decode cX19_pairs 41 = .ok (.aload_n 0, 1) := dk_42 (dk_at dksX19_pairs_1 17 rfl rfl)
theorem dX19_pairs_42 : decode cX19_pairs 42 = .ok (.getfield 72, 3) := dk_180 0 72 (dk_at dksX19_pairs_1 18 rfl rfl)
theorem dX19_pairs_45 : decode cX19_pairs 45 = .ok (.iload 4, 2) := dk_21 4 (dk_at dksX19_pairs_1 21 rfl rfl)
theorem dX19_pairs_47 : decode cX19_pairs 47 = .ok (.iconst (-1), 1) := dk_2 (dk_at dksX19_pairs_1 23 rfl rfl)
theorem dX19_pairs_48 : decode cX19_pairs 48 = .ok (.iastore, 1) := dk_79 (dk_at dksX19_pairs_2 0 rfl rfl)
theorem dX19_pairs_49 : decode cX19_pairs 49 = .ok (.iinc 4 1, 3) := dk_132 4 1 (dk_at dksX19_pairs_2 1 rfl rfl)
theorem dX19_pairs_52 : decode cX19_pairs 52 = .ok (.goto (-18), 3) := dk_167 255 238 (dk_at dksX19_pairs_2 4 rfl rfl)
theorem dX19_pairs_55 : decode cX19_pairs 55 = .ok (.iconst 0, 1) := dk_3 (dk_at dksX19_pairs_2 7 rfl rfl)
theorem dX19_pairs_56 : decode cX19_pairs 56 = .ok (.istore 4, 2) := dk_54 4 (dk_at dksX19_pairs_2 8 rfl rfl)
theorem dX19_pairs_58 : decode cX19_pairs 58 = .ok (.iload 4, 2) := dk_21 4 (dk_at dksX19_pairs_2 10 rfl rfl)
theorem dX19_pairs_60 : decode cX19_pairs 60 = .ok (.ifCond .lt 223, 3) := dk_155 0 223 (dk_at dksX19_pairs_2 12 rfl rfl)
theorem dX19_pairs_63 : decode cX19_pairs 63 = .ok (.iload 4, 2) := dk_21 4 (dk_at dksX19_pairs_2 15 rfl rfl)
theorem dX19_pairs_65 : decode cX19_pairs 65 = .ok (.aload_n 0, 1) := dk_42 (dk_at dksX19_pairs_2 17 rfl rfl)
theorem dX19_pairs_66 : decode cX19_pairs 66 = .ok (.getfield 525, 3) := dk_180 2 13 (dk_at dksX19_pairs_2 18 rfl rfl)
theorem dX19_pairs_69 : decode cX19_pairs 69 = .ok (.if_icmp .ne 54, 3) := dk_160 0 54 (dk_at dksX19_pairs_2 21 rfl rfl)
theorem dX19_pairs_72 : decode cX19_pairs 72 = .ok (.iinc 3 1, 3) := dk_132 3 1 (dk_at dksX19_pairs_3 0 rfl rfl)
theorem dX19_pairs_75 : decode cX19_pairs 75 = .ok (.iconst 0, 1) := dk_3 (dk_at dksX19_pairs_3 3 rfl rfl)
theorem dX19_pairs_76 : decode cX19_pairs 76 = .ok (.istore 5, 2) := dk_54 5 (dk_at dksX19_pairs_3 4 rfl rfl)
theorem dX19_pairs_78 : decode cX19_pairs 78 = .ok (.iload 5, 2) := dk_21 5 (dk_at dksX19_pairs_3 6 rfl rfl)
theorem dX19_pairs_80 : decode cX19_pairs 80 = .ok (.aload_n 0, 1) := dk_42 (dk_at dksX19_pairs_3 8 rfl rfl)
theorem dX19_pairs_81 : decode cX19_pairs 81 = .ok (.getfield 525, 3) := dk_180 2 13 (dk_at dksX19_pairs_3 9 rfl rfl)
theorem dX19_pairs_84 : decode cX19_pairs 84 = .ok (.if_icmp .ge 33, 3) := dk_162 0 33 (dk_at dksX19_pairs_3 12 rfl rfl)
theorem dX19_pairs_87 : decode cX19_pairs 87 = .ok (.aload_n 0, 1) := dk_42 (dk_at dksX19_pairs_3 15 rfl rfl)
theorem dX19_pairs_88 : decode cX19_pairs 88 = .ok (.getfield 75, 3) := dk_180 0 75 (dk_at dksX19_pairs_3 16 rfl rfl)
theorem dX19_pairs_91 : decode cX19_pairs 91 = .ok (.aload_n 0, 1) := dk_42 (dk_at dksX19_pairs_3 19 rfl rfl)
theorem dX19_pairs_92 : decode cX19_pairs 92 = .ok (.getfield 69, 3) := dk_180 0 69 (dk_at dksX19_pairs_3 20 rfl rfl)
theorem dX19_pairs_95 : decode cX19_pairs 95 = .ok (.iload 5, 2) := dk_21 5 (dk_at dksX19_pairs_4 0 rfl rfl)
theorem dX19_pairs_97 : decode cX19_pairs 97 = .ok (.iaload, 1) := dk_46 (dk_at dksX19_pairs_4 2 rfl rfl)
theorem dX19_pairs_98 : decode cX19_pairs 98 = .ok (.dup2, 1) := dk_92 (dk_at dksX19_pairs_4 3 rfl rfl)
theorem dX19_pairs_99 : decode cX19_pairs 99 = .ok (.iaload, 1) := dk_46 (dk_at dksX19_pairs_4 4 rfl rfl)
theorem dX19_pairs_100 : decode cX19_pairs 100 = .ok (.iconst 1, 1) := dk_4 (dk_at dksX19_pairs_4 5 rfl rfl)
theorem dX19_pairs_101 : decode cX19_pairs 101 = .ok (.aload_n 0, 1) := dk_42 (dk_at dksX19_pairs_4 6 rfl rfl)
theorem dX19_pairs_102 : decode cX19_pairs 102 = .ok (.getfield 72, 3) := dk_180 0 72 (dk_at dksX19_pairs_4 7 rfl rfl)
theorem dX19_pairs_105 : decode cX19_pairs 105 = .ok (.iload 5, 2) := dk_21 5 (dk_at dksX19_pairs_4 10 rfl rfl)
theorem dX19_pairs_107 : decode cX19_pairs 107 = .ok (.iaload, 1) := dk_46 (dk_at dksX19_pairs_4 12 rfl rfl)
theorem dX19_pairs_108 : decode cX19_pairs 108 = .ok (.ishl, 1) := dk_120 (dk_at dksX19_pairs_4 13 rfl rfl)
theorem dX19_pairs_109 : decode cX19_pairs 109 = .ok (.ior, 1) := dk_128 (dk_at dksX19_pairs_4 14 rfl rfl)
theorem dX19_pairs_110 : decode cX19_pairs 110 = .ok (.iastore, 1) := dk_79 (dk_at dksX19_pairs_4 15 rfl rfl)
theorem dX19_pairs_111 : decode cX19_pairs 111 = .ok (.iinc 5 1, 3) := dk_132 5 1 (dk_at dksX19_pairs_4 16 rfl rfl)
theorem dX19_pairs_114 : decode cX19_pairs 114 = .ok (.goto (-36), 3) := dk_167 255 220 (dk_at dksX19_pairs_4 19 rfl rfl)
theorem dX19_pairs_117 : decode cX19_pairs 117 = .ok (.iinc 4 (-1), 3) := dk_132 4 255 (dk_at dksX19_pairs_5 0 rfl rfl)
theorem dX19_pairs_120 : decode cX19_pairs 120 = .ok (.goto (-62), 3) := dk_167 255 194 (dk_at dksX19_pairs_5 3 rfl rfl)
theorem dX19_pairs_123 : decode cX19_pairs 123 = .ok (.iconst 0, 1) := dk_3 (dk_at dksX19_pairs_5 6 rfl rfl)
theorem dX19_pairs_124 : decode cX19_pairs 124 = .ok (.istore 5, 2) := dk_54 5 (dk_at dksX19_pairs_5 7 rfl rfl)
theorem dX19_pairs_126 : decode cX19_pairs 126 = .ok (.iconst 0, 1) := dk_3 (dk_at dksX19_pairs_5 9 rfl rfl)
theorem dX19_pairs_127 : decode cX19_pairs 127 = .ok (.istore 6, 2) := dk_54 6 (dk_at dksX19_pairs_5 10 rfl rfl)
theorem dX19_pairs_129 : decode cX19_pairs 129 = .ok (.iload 6, 2) := dk_21 6 (dk_at dksX19_pairs_5 12 rfl rfl)
theorem dX19_pairs_131 : decode cX19_pairs 131 = .ok (.iload 4, 2) := dk_21 4 (dk_at dksX19_pairs_5 14 rfl rfl)
theorem dX19_pairs_133 : decode cX19_pairs 133 = .ok (.if_icmp .ge 23, 3) := dk_162 0 23 (dk_at dksX19_pairs_5 16 rfl rfl)
theorem dX19_pairs_136 : decode cX19_pairs 136 = .ok (.iload 5, 2) := dk_21 5 (dk_at dksX19_pairs_5 19 rfl rfl)
theorem dX19_pairs_138 : decode cX19_pairs 138 = .ok (.iconst 1, 1) := dk_4 (dk_at dksX19_pairs_5 21 rfl rfl)
theorem dX19_pairs_139 : decode cX19_pairs 139 = .ok (.aload_n 0, 1) := dk_42 (dk_at dksX19_pairs_5 22 rfl rfl)
theorem dX19_pairs_140 : decode cX19_pairs 140 = .ok (.getfield 72, 3) := dk_180 0 72 (dk_at dksX19_pairs_6 0 rfl rfl)
theorem dX19_pairs_143 : decode cX19_pairs 143 = .ok (.iload 6, 2) := dk_21 6 (dk_at dksX19_pairs_6 3 rfl rfl)
theorem dX19_pairs_145 : decode cX19_pairs 145 = .ok (.iaload, 1) := dk_46 (dk_at dksX19_pairs_6 5 rfl rfl)
theorem dX19_pairs_146 : decode cX19_pairs 146 = .ok (.ishl, 1) := dk_120 (dk_at dksX19_pairs_6 6 rfl rfl)
theorem dX19_pairs_147 : decode cX19_pairs 147 = .ok (.ior, 1) := dk_128 (dk_at dksX19_pairs_6 7 rfl rfl)
theorem dX19_pairs_148 : decode cX19_pairs 148 = .ok (.istore 5, 2) := dk_54 5 (dk_at dksX19_pairs_6 8 rfl rfl)
theorem dX19_pairs_150 : decode cX19_pairs 150 = .ok (.iinc 6 1, 3) := dk_132 6 1 (dk_at dksX19_pairs_6 10 rfl rfl)
theorem dX19_pairs_153 : decode cX19_pairs 153 = .ok (.goto (-24), 3) := dk_167 255 232 (dk_at dksX19_pairs_6 13 rfl rfl)
theorem dX19_pairs_156 : decode cX19_pairs 156 = .ok (.aload_n 0, 1) := dk_42 (dk_at dksX19_pairs_6 16 rfl rfl)
theorem dX19_pairs_157 : decode cX19_pairs 157 = .ok (.getfield 69, 3) := dk_180 0 69 (dk_at dksX19_pairs_6 17 rfl rfl)
theorem dX19_pairs_160 : decode cX19_pairs 160 = .ok (.iload 4, 2) := dk_21 4 (dk_at dksX19_pairs_6 20 rfl rfl)
theorem dX19_pairs_162 : decode cX19_pairs 162 = .ok (.iaload, 1) := dk_46 (dk_at dksX19_pairs_6 22 rfl rfl)
theorem dX19_pairs_163 : decode cX19_pairs 163 = .ok (.istore 6, 2) := dk_54 6 (dk_at dksX19_pairs_7 0 rfl rfl)
theorem dX19_pairs_165 : decode cX19_pairs 165 = .ok (.aload_n 0, 1) := dk_42 (dk_at dksX19_pairs_7 2 rfl rfl)
theorem dX19_pairs_166 : decode cX19_pairs 166 = .ok (.getfield 72, 3) := dk_180 0 72 (dk_at dksX19_pairs_7 3 rfl rfl)
theorem dX19_pairs_169 : decode cX19_pairs 169 = .ok (.iload 4, 2) := dk_21 4 (dk_at dksX19_pairs_7 6 rfl rfl)
theorem dX19_pairs_171 : decode cX19_pairs 171 = .ok (.iaload, 1) := dk_46 (dk_at dksX19_pairs_7 8 rfl rfl)
theorem dX19_pairs_172 : decode cX19_pairs 172 = .ok (.iconst 1, 1) := dk_4 (dk_at dksX19_pairs_7 9 rfl rfl)
theorem dX19_pairs_173 : decode cX19_pairs 173 = .ok (.iadd, 1) := dk_96 (dk_at dksX19_pairs_7 10 rfl rfl)
theorem dX19_pairs_174 : decode cX19_pairs 174 = .ok (.istore 7, 2) := dk_54 7 (dk_at dksX19_pairs_7 11 rfl rfl)
theorem dX19_pairs_176 : decode cX19_pairs 176 = .ok (.iload 7, 2) := dk_21 7 (dk_at dksX19_pairs_7 13 rfl rfl)
theorem dX19_pairs_178 : decode cX19_pairs 178 = .ok (.aload_n 0, 1) := dk_42 (dk_at dksX19_pairs_7 15 rfl rfl)
theorem dX19_pairs_179 : decode cX19_pairs 179 = .ok (.getfield 363, 3) := dk_180 1 107 (dk_at dksX19_pairs_7 16 rfl rfl)
theorem dX19_pairs_182 : decode cX19_pairs 182 = .ok (.getfield 251, 3) := dk_180 0 251 (dk_at dksX19_pairs_7 19 rfl rfl)
theorem dX19_pairs_185 : decode cX19_pairs 185 = .ok (.if_icmp .ge 57, 3) := dk_162 0 57 (dk_at dksX19_pairs_8 0 rfl rfl)
theorem dX19_pairs_188 : decode cX19_pairs 188 = .ok (.iload 5, 2) := dk_21 5 (dk_at dksX19_pairs_8 3 rfl rfl)
theorem dX19_pairs_190 : decode cX19_pairs 190 = .ok (.iload 7, 2) := dk_21 7 (dk_at dksX19_pairs_8 5 rfl rfl)
theorem dX19_pairs_192 : decode cX19_pairs 192 = .ok (.invokestatic 531, 3) := dk_184 2 19 (dk_at dksX19_pairs_8 7 rfl rfl)
theorem dX19_pairs_195 : decode cX19_pairs 195 = .ok (.ifCond .ne 41, 3) := dk_154 0 41 (dk_at dksX19_pairs_8 10 rfl rfl)
theorem dX19_pairs_198 : decode cX19_pairs 198 = .ok (.aload_n 0, 1) := dk_42 (dk_at dksX19_pairs_8 13 rfl rfl)
theorem dX19_pairs_199 : decode cX19_pairs 199 = .ok (.iload_n 1, 1) := dk_27 (dk_at dksX19_pairs_8 14 rfl rfl)
theorem dX19_pairs_200 : decode cX19_pairs 200 = .ok (.iload 6, 2) := dk_21 6 (dk_at dksX19_pairs_8 15 rfl rfl)
theorem dX19_pairs_202 : decode cX19_pairs 202 = .ok (.iload 7, 2) := dk_21 7 (dk_at dksX19_pairs_8 17 rfl rfl)
theorem dX19_pairs_204 : decode cX19_pairs 204 = .ok (.invokevirtual 534, 3) := dk_182 2 22 (dk_at dksX19_pairs_8 19 rfl rfl)
theorem dX19_pairs_207 : decode cX19_pairs 207 = .ok (.ifCond .eq 29, 3) := dk_153 0 29 (dk_at dksX19_pairs_9 0 rfl rfl)
theorem dX19_pairs_210 : decode cX19_pairs 210 = .ok (.iload_n 2, 1) := dk_28 (dk_at dksX19_pairs_9 3 rfl rfl)
theorem dX19_pairs_211 : decode cX19_pairs 211 = .ok (.iload 6, 2) := dk_21 6 (dk_at dksX19_pairs_9 4 rfl rfl)
theorem dX19_pairs_213 : decode cX19_pairs 213 = .ok (.invokestatic 531, 3) := dk_184 2 19 (dk_at dksX19_pairs_9 6 rfl rfl)
theorem dX19_pairs_216 : decode cX19_pairs 216 = .ok (.ifCond .eq 26, 3) := dk_153 0 26 (dk_at dksX19_pairs_9 9 rfl rfl)
theorem dX19_pairs_219 : decode cX19_pairs 219 = .ok (.aload_n 0, 1) := dk_42 (dk_at dksX19_pairs_9 12 rfl rfl)
theorem dX19_pairs_220 : decode cX19_pairs 220 = .ok (.getfield 60, 3) := dk_180 0 60 (dk_at dksX19_pairs_9 13 rfl rfl)
theorem dX19_pairs_223 : decode cX19_pairs 223 = .ok (.bipush 7, 2) := dk_16 7 (dk_at dksX19_pairs_9 16 rfl rfl)
theorem dX19_pairs_225 : decode cX19_pairs 225 = .ok (.iload_n 1, 1) := dk_27 (dk_at dksX19_pairs_9 18 rfl rfl)
theorem dX19_pairs_226 : decode cX19_pairs 226 = .ok (.imul, 1) := dk_104 (dk_at dksX19_pairs_9 19 rfl rfl)
theorem dX19_pairs_227 : decode cX19_pairs 227 = .ok (.iload 6, 2) := dk_21 6 (dk_at dksX19_pairs_9 20 rfl rfl)
theorem dX19_pairs_229 : decode cX19_pairs 229 = .ok (.iadd, 1) := dk_96 (dk_at dksX19_pairs_9 22 rfl rfl)
theorem dX19_pairs_230 : decode cX19_pairs 230 = .ok (.iaload, 1) := dk_46 (dk_at dksX19_pairs_9 23 rfl rfl)
theorem dX19_pairs_231 : decode cX19_pairs 231 = .ok (.iload 7, 2) := dk_21 7 (dk_at dksX19_pairs_10 0 rfl rfl)
theorem dX19_pairs_233 : decode cX19_pairs 233 = .ok (.if_icmp .eq 9, 3) := dk_159 0 9 (dk_at dksX19_pairs_10 2 rfl rfl)
theorem dX19_pairs_236 : decode cX19_pairs 236 = .ok (.iinc 7 1, 3) := dk_132 7 1 (dk_at dksX19_pairs_10 5 rfl rfl)
theorem dX19_pairs_239 : decode cX19_pairs 239 = .ok (.goto (-63), 3) := dk_167 255 193 (dk_at dksX19_pairs_10 8 rfl rfl)
theorem dX19_pairs_242 : decode cX19_pairs 242 = .ok (.iload 7, 2) := dk_21 7 (dk_at dksX19_pairs_10 11 rfl rfl)
theorem dX19_pairs_244 : decode cX19_pairs 244 = .ok (.aload_n 0, 1) := dk_42 (dk_at dksX19_pairs_10 13 rfl rfl)
theorem dX19_pairs_245 : decode cX19_pairs 245 = .ok (.getfield 363, 3) := dk_180 1 107 (dk_at dksX19_pairs_10 14 rfl rfl)
theorem dX19_pairs_248 : decode cX19_pairs 248 = .ok (.getfield 251, 3) := dk_180 0 251 (dk_at dksX19_pairs_10 17 rfl rfl)
theorem dX19_pairs_251 : decode cX19_pairs 251 = .ok (.if_icmp .ne 17, 3) := dk_160 0 17 (dk_at dksX19_pairs_10 20 rfl rfl)
theorem dX19_pairs_254 : decode cX19_pairs 254 = .ok (.aload_n 0, 1) := dk_42 (dk_at dksX19_pairs_10 23 rfl rfl)
theorem dX19_pairs_255 : decode cX19_pairs 255 = .ok (.getfield 72, 3) := dk_180 0 72 (dk_at dksX19_pairs_11 0 rfl rfl)
theorem dX19_pairs_258 : decode cX19_pairs 258 = .ok (.iload 4, 2) := dk_21 4 (dk_at dksX19_pairs_11 3 rfl rfl)
theorem dX19_pairs_260 : decode cX19_pairs 260 = .ok (.iconst (-1), 1) := dk_2 (dk_at dksX19_pairs_11 5 rfl rfl)
theorem dX19_pairs_261 : decode cX19_pairs 261 = .ok (.iastore, 1) := dk_79 (dk_at dksX19_pairs_11 6 rfl rfl)
theorem dX19_pairs_262 : decode cX19_pairs 262 = .ok (.iinc 4 (-1), 3) := dk_132 4 255 (dk_at dksX19_pairs_11 7 rfl rfl)
theorem dX19_pairs_265 : decode cX19_pairs 265 = .ok (.goto 15, 3) := dk_167 0 15 (dk_at dksX19_pairs_11 10 rfl rfl)
theorem dX19_pairs_268 : decode cX19_pairs 268 = .ok (.aload_n 0, 1) := dk_42 (dk_at dksX19_pairs_11 13 rfl rfl)
theorem dX19_pairs_269 : decode cX19_pairs 269 = .ok (.getfield 72, 3) := dk_180 0 72 (dk_at dksX19_pairs_11 14 rfl rfl)
theorem dX19_pairs_272 : decode cX19_pairs 272 = .ok (.iload 4, 2) := dk_21 4 (dk_at dksX19_pairs_11 17 rfl rfl)
theorem dX19_pairs_274 : decode cX19_pairs 274 = .ok (.iload 7, 2) := dk_21 7 (dk_at dksX19_pairs_11 19 rfl rfl)
theorem dX19_pairs_276 : decode cX19_pairs 276 = .ok (.iastore, 1) := dk_79 (dk_at dksX19_pairs_11 21 rfl rfl)
theorem dX19_pairs_277 : decode cX19_pairs 277 = .ok (.iinc 4 1, 3) := dk_132 4 1 (dk_at dksX19_pairs_12 0 rfl rfl)
theorem dX19_pairs_280 : decode cX19_pairs 280 = .ok (.goto (-222), 3) := dk_167 255 34 (dk_at dksX19_pairs_12 3 rfl rfl)
theorem dX19_pairs_283 : decode cX19_pairs 283 = .ok (.iload_n 3, 1) := dk_29 (dk_at dksX19_pairs_12 6 rfl rfl)
theorem dX19_pairs_284 : decode cX19_pairs 284 = .ok (.ireturn, 1) := dk_172 (dk_at dksX19_pairs_12 7 rfl rfl)
abbrev cX19_laysWho : ByteArray := prog_24_method_110_code
def yX19_laysWho : MethodName := ⟨RX19, "laysWho", "(I)V"⟩
def dkwX19_laysWho_3 : List UInt8 := [132, 2, 1, 167, 255, 191, 177]
abbrev dktX19_laysWho_3 : List UInt8 := dkwX19_laysWho_3 ++ []
def dkwX19_laysWho_2 : List UInt8 := [167, 0, 23, 42, 180, 0, 69, 42, 180, 2, 13, 28, 79, 42, 89, 180, 2, 13, 4, 96, 181, 2, 13]
abbrev dktX19_laysWho_2 : List UInt8 := dkwX19_laysWho_2 ++ dktX19_laysWho_3
def dkwX19_laysWho_1 : List UInt8 := [182, 1, 142, 153, 0, 42, 42, 180, 0, 60, 16, 7, 27, 104, 28, 96, 46, 16, 8, 161, 0, 6]
abbrev dktX19_laysWho_1 : List UInt8 := dkwX19_laysWho_1 ++ dktX19_laysWho_2
def dkwX19_laysWho_0 : List UInt8 := [42, 3, 181, 2, 13, 3, 61, 28, 42, 180, 1, 107, 180, 0, 219, 162, 0, 60, 42, 180, 1, 107, 28, 27]
abbrev dktX19_laysWho_0 : List UInt8 := dkwX19_laysWho_0 ++ dktX19_laysWho_1
theorem dksX19_laysWho_0 : cX19_laysWho.data.toList.drop 0 = dktX19_laysWho_0 := by decide +kernel
theorem dksX19_laysWho_1 : cX19_laysWho.data.toList.drop 24 = dktX19_laysWho_1 := dk_seg dksX19_laysWho_0 24 rfl rfl
theorem dksX19_laysWho_2 : cX19_laysWho.data.toList.drop 46 = dktX19_laysWho_2 := dk_seg dksX19_laysWho_1 22 rfl rfl
theorem dksX19_laysWho_3 : cX19_laysWho.data.toList.drop 69 = dktX19_laysWho_3 := dk_seg dksX19_laysWho_2 23 rfl rfl
theorem dX19_laysWho_0 : decode cX19_laysWho 0 = .ok (.aload_n 0, 1) := dk_42 (dk_at dksX19_laysWho_0 0 rfl rfl)
theorem dX19_laysWho_1 : decode cX19_laysWho 1 = .ok (.iconst 0, 1) := dk_3 (dk_at dksX19_laysWho_0 1 rfl rfl)
theorem dX19_laysWho_2 : decode cX19_laysWho 2 = .ok (.putfield 525, 3) := dk_181 2 13 (dk_at dksX19_laysWho_0 2 rfl rfl)
theorem dX19_laysWho_5 : decode cX19_laysWho 5 = .ok (.iconst 0, 1) := dk_3 (dk_at dksX19_laysWho_0 5 rfl rfl)
theorem dX19_laysWho_6 : decode cX19_laysWho 6 = .ok (.istore_n 2, 1) := dk_61 (dk_at dksX19_laysWho_0 6 rfl rfl)
theorem dX19_laysWho_7 : decode cX19_laysWho 7 = .ok (.iload_n 2, 1) := dk_28 (dk_at dksX19_laysWho_0 7 rfl rfl)
theorem dX19_laysWho_8 : decode cX19_laysWho 8 = .ok (.aload_n 0, 1) := dk_42 (dk_at dksX19_laysWho_0 8 rfl rfl)
theorem dX19_laysWho_9 : decode cX19_laysWho 9 = .ok (.getfield 363, 3) := dk_180 1 107 (dk_at dksX19_laysWho_0 9 rfl rfl)
theorem dX19_laysWho_12 : decode cX19_laysWho 12 = .ok (.getfield 219, 3) := dk_180 0 219 (dk_at dksX19_laysWho_0 12 rfl rfl)
theorem dX19_laysWho_15 : decode cX19_laysWho 15 = .ok (.if_icmp .ge 60, 3) := dk_162 0 60 (dk_at dksX19_laysWho_0 15 rfl rfl)
theorem dX19_laysWho_18 : decode cX19_laysWho 18 = .ok (.aload_n 0, 1) := dk_42 (dk_at dksX19_laysWho_0 18 rfl rfl)
theorem dX19_laysWho_19 : decode cX19_laysWho 19 = .ok (.getfield 363, 3) := dk_180 1 107 (dk_at dksX19_laysWho_0 19 rfl rfl)
theorem dX19_laysWho_22 : decode cX19_laysWho 22 = .ok (.iload_n 2, 1) := dk_28 (dk_at dksX19_laysWho_0 22 rfl rfl)
theorem dX19_laysWho_23 : decode cX19_laysWho 23 = .ok (.iload_n 1, 1) := dk_27 (dk_at dksX19_laysWho_0 23 rfl rfl)
theorem dX19_laysWho_24 : decode cX19_laysWho 24 = .ok (.invokevirtual 398, 3) := dk_182 1 142 (dk_at dksX19_laysWho_1 0 rfl rfl)
theorem dX19_laysWho_27 : decode cX19_laysWho 27 = .ok (.ifCond .eq 42, 3) := dk_153 0 42 (dk_at dksX19_laysWho_1 3 rfl rfl)
theorem dX19_laysWho_30 : decode cX19_laysWho 30 = .ok (.aload_n 0, 1) := dk_42 (dk_at dksX19_laysWho_1 6 rfl rfl)
theorem dX19_laysWho_31 : decode cX19_laysWho 31 = .ok (.getfield 60, 3) := dk_180 0 60 (dk_at dksX19_laysWho_1 7 rfl rfl)
theorem dX19_laysWho_34 : decode cX19_laysWho 34 = .ok (.bipush 7, 2) := dk_16 7 (dk_at dksX19_laysWho_1 10 rfl rfl)
theorem dX19_laysWho_36 : decode cX19_laysWho 36 = .ok (.iload_n 1, 1) := dk_27 (dk_at dksX19_laysWho_1 12 rfl rfl)
theorem dX19_laysWho_37 : decode cX19_laysWho 37 = .ok (.imul, 1) := dk_104 (dk_at dksX19_laysWho_1 13 rfl rfl)
theorem dX19_laysWho_38 : decode cX19_laysWho 38 = .ok (.iload_n 2, 1) := dk_28 (dk_at dksX19_laysWho_1 14 rfl rfl)
theorem dX19_laysWho_39 : decode cX19_laysWho 39 = .ok (.iadd, 1) := dk_96 (dk_at dksX19_laysWho_1 15 rfl rfl)
theorem dX19_laysWho_40 : decode cX19_laysWho 40 = .ok (.iaload, 1) := dk_46 (dk_at dksX19_laysWho_1 16 rfl rfl)
theorem dX19_laysWho_41 : decode cX19_laysWho 41 = .ok (.bipush 8, 2) := dk_16 8 (dk_at dksX19_laysWho_1 17 rfl rfl)
theorem dX19_laysWho_43 : decode cX19_laysWho 43 = .ok (.if_icmp .lt 6, 3) := dk_161 0 6 (dk_at dksX19_laysWho_1 19 rfl rfl)
theorem dX19_laysWho_46 : decode cX19_laysWho 46 = .ok (.goto 23, 3) := dk_167 0 23 (dk_at dksX19_laysWho_2 0 rfl rfl)
theorem dX19_laysWho_49 : decode cX19_laysWho 49 = .ok (.aload_n 0, 1) := dk_42 (dk_at dksX19_laysWho_2 3 rfl rfl)
theorem dX19_laysWho_50 : decode cX19_laysWho 50 = .ok (.getfield 69, 3) := dk_180 0 69 (dk_at dksX19_laysWho_2 4 rfl rfl)
theorem dX19_laysWho_53 : decode cX19_laysWho 53 = .ok (.aload_n 0, 1) := dk_42 (dk_at dksX19_laysWho_2 7 rfl rfl)
theorem dX19_laysWho_54 : decode cX19_laysWho 54 = .ok (.getfield 525, 3) := dk_180 2 13 (dk_at dksX19_laysWho_2 8 rfl rfl)
theorem dX19_laysWho_57 : decode cX19_laysWho 57 = .ok (.iload_n 2, 1) := dk_28 (dk_at dksX19_laysWho_2 11 rfl rfl)
theorem dX19_laysWho_58 : decode cX19_laysWho 58 = .ok (.iastore, 1) := dk_79 (dk_at dksX19_laysWho_2 12 rfl rfl)
theorem dX19_laysWho_59 : decode cX19_laysWho 59 = .ok (.aload_n 0, 1) := dk_42 (dk_at dksX19_laysWho_2 13 rfl rfl)
theorem dX19_laysWho_60 : decode cX19_laysWho 60 = .ok (.dup, 1) := dk_89 (dk_at dksX19_laysWho_2 14 rfl rfl)
theorem dX19_laysWho_61 : decode cX19_laysWho 61 = .ok (.getfield 525, 3) := dk_180 2 13 (dk_at dksX19_laysWho_2 15 rfl rfl)
theorem dX19_laysWho_64 : decode cX19_laysWho 64 = .ok (.iconst 1, 1) := dk_4 (dk_at dksX19_laysWho_2 18 rfl rfl)
theorem dX19_laysWho_65 : decode cX19_laysWho 65 = .ok (.iadd, 1) := dk_96 (dk_at dksX19_laysWho_2 19 rfl rfl)
theorem dX19_laysWho_66 : decode cX19_laysWho 66 = .ok (.putfield 525, 3) := dk_181 2 13 (dk_at dksX19_laysWho_2 20 rfl rfl)
theorem dX19_laysWho_69 : decode cX19_laysWho 69 = .ok (.iinc 2 1, 3) := dk_132 2 1 (dk_at dksX19_laysWho_3 0 rfl rfl)
theorem dX19_laysWho_72 : decode cX19_laysWho 72 = .ok (.goto (-65), 3) := dk_167 255 191 (dk_at dksX19_laysWho_3 3 rfl rfl)
theorem dX19_laysWho_75 : decode cX19_laysWho 75 = .ok (.return_, 1) := dk_177 (dk_at dksX19_laysWho_3 6 rfl rfl)
abbrev cX19_bit : ByteArray := prog_24_method_8_code
def yX19_bit : MethodName := ⟨RX19, "bit", "(II)Z"⟩
def dkwX19_bit_0 : List UInt8 := [26, 27, 122, 4, 126, 4, 160, 0, 7, 4, 167, 0, 4, 3, 172]
abbrev dktX19_bit_0 : List UInt8 := dkwX19_bit_0 ++ []
theorem dksX19_bit_0 : cX19_bit.data.toList.drop 0 = dktX19_bit_0 := by decide +kernel
theorem dX19_bit_0 : decode cX19_bit 0 = .ok (.iload_n 0, 1) := dk_26 (dk_at dksX19_bit_0 0 rfl rfl)
theorem dX19_bit_1 : decode cX19_bit 1 = .ok (.iload_n 1, 1) := dk_27 (dk_at dksX19_bit_0 1 rfl rfl)
theorem dX19_bit_2 : decode cX19_bit 2 = .ok (.ishr, 1) := dk_122 (dk_at dksX19_bit_0 2 rfl rfl)
theorem dX19_bit_3 : decode cX19_bit 3 = .ok (.iconst 1, 1) := dk_4 (dk_at dksX19_bit_0 3 rfl rfl)
theorem dX19_bit_4 : decode cX19_bit 4 = .ok (.iand, 1) := dk_126 (dk_at dksX19_bit_0 4 rfl rfl)
theorem dX19_bit_5 : decode cX19_bit 5 = .ok (.iconst 1, 1) := dk_4 (dk_at dksX19_bit_0 5 rfl rfl)
theorem dX19_bit_6 : decode cX19_bit 6 = .ok (.if_icmp .ne 7, 3) := dk_160 0 7 (dk_at dksX19_bit_0 6 rfl rfl)
theorem dX19_bit_9 : decode cX19_bit 9 = .ok (.iconst 1, 1) := dk_4 (dk_at dksX19_bit_0 9 rfl rfl)
theorem dX19_bit_10 : decode cX19_bit 10 = .ok (.goto 4, 3) := dk_167 0 4 (dk_at dksX19_bit_0 10 rfl rfl)
theorem dX19_bit_13 : decode cX19_bit 13 = .ok (.iconst 0, 1) := dk_3 (dk_at dksX19_bit_0 13 rfl rfl)
theorem dX19_bit_14 : decode cX19_bit 14 = .ok (.ireturn, 1) := dk_172 (dk_at dksX19_bit_0 14 rfl rfl)
abbrev cX19_mayHave : ByteArray := prog_24_method_109_code
def yX19_mayHave : MethodName := ⟨RX19, "mayHave", "(III)Z"⟩
def dkwX19_mayHave_2 : List UInt8 := [167, 255, 213, 3, 172]
abbrev dktX19_mayHave_2 : List UInt8 := dkwX19_mayHave_2 ++ []
def dkwX19_mayHave_1 : List UInt8 := [16, 6, 28, 104, 21, 4, 96, 46, 42, 27, 29, 182, 1, 200, 160, 0, 5, 4, 172, 132, 4, 1]
abbrev dktX19_mayHave_1 : List UInt8 := dkwX19_mayHave_1 ++ dktX19_mayHave_2
def dkwX19_mayHave_0 : List UInt8 := [3, 54, 4, 21, 4, 42, 180, 1, 107, 180, 1, 43, 28, 46, 162, 0, 35, 42, 180, 1, 107, 180, 1, 22]
abbrev dktX19_mayHave_0 : List UInt8 := dkwX19_mayHave_0 ++ dktX19_mayHave_1
theorem dksX19_mayHave_0 : cX19_mayHave.data.toList.drop 0 = dktX19_mayHave_0 := by decide +kernel
theorem dksX19_mayHave_1 : cX19_mayHave.data.toList.drop 24 = dktX19_mayHave_1 := dk_seg dksX19_mayHave_0 24 rfl rfl
theorem dksX19_mayHave_2 : cX19_mayHave.data.toList.drop 46 = dktX19_mayHave_2 := dk_seg dksX19_mayHave_1 22 rfl rfl
theorem dX19_mayHave_0 : decode cX19_mayHave 0 = .ok (.iconst 0, 1) := dk_3 (dk_at dksX19_mayHave_0 0 rfl rfl)
theorem dX19_mayHave_1 : decode cX19_mayHave 1 = .ok (.istore 4, 2) := dk_54 4 (dk_at dksX19_mayHave_0 1 rfl rfl)
theorem dX19_mayHave_3 : decode cX19_mayHave 3 = .ok (.iload 4, 2) := dk_21 4 (dk_at dksX19_mayHave_0 3 rfl rfl)
theorem dX19_mayHave_5 : decode cX19_mayHave 5 = .ok (.aload_n 0, 1) := dk_42 (dk_at dksX19_mayHave_0 5 rfl rfl)
theorem dX19_mayHave_6 : decode cX19_mayHave 6 = .ok (.getfield 363, 3) := dk_180 1 107 (dk_at dksX19_mayHave_0 6 rfl rfl)
theorem dX19_mayHave_9 : decode cX19_mayHave 9 = .ok (.getfield 299, 3) := dk_180 1 43 (dk_at dksX19_mayHave_0 9 rfl rfl)
theorem dX19_mayHave_12 : decode cX19_mayHave 12 = .ok (.iload_n 2, 1) := dk_28 (dk_at dksX19_mayHave_0 12 rfl rfl)
theorem dX19_mayHave_13 : decode cX19_mayHave 13 = .ok (.iaload, 1) := dk_46 (dk_at dksX19_mayHave_0 13 rfl rfl)
theorem dX19_mayHave_14 : decode cX19_mayHave 14 = .ok (.if_icmp .ge 35, 3) := dk_162 0 35 (dk_at dksX19_mayHave_0 14 rfl rfl)
theorem dX19_mayHave_17 : decode cX19_mayHave 17 = .ok (.aload_n 0, 1) := dk_42 (dk_at dksX19_mayHave_0 17 rfl rfl)
theorem dX19_mayHave_18 : decode cX19_mayHave 18 = .ok (.getfield 363, 3) := dk_180 1 107 (dk_at dksX19_mayHave_0 18 rfl rfl)
theorem dX19_mayHave_21 : decode cX19_mayHave 21 = .ok (.getfield 278, 3) := dk_180 1 22 (dk_at dksX19_mayHave_0 21 rfl rfl)
theorem dX19_mayHave_24 : decode cX19_mayHave 24 = .ok (.bipush 6, 2) := dk_16 6 (dk_at dksX19_mayHave_1 0 rfl rfl)
theorem dX19_mayHave_26 : decode cX19_mayHave 26 = .ok (.iload_n 2, 1) := dk_28 (dk_at dksX19_mayHave_1 2 rfl rfl)
theorem dX19_mayHave_27 : decode cX19_mayHave 27 = .ok (.imul, 1) := dk_104 (dk_at dksX19_mayHave_1 3 rfl rfl)
theorem dX19_mayHave_28 : decode cX19_mayHave 28 = .ok (.iload 4, 2) := dk_21 4 (dk_at dksX19_mayHave_1 4 rfl rfl)
theorem dX19_mayHave_30 : decode cX19_mayHave 30 = .ok (.iadd, 1) := dk_96 (dk_at dksX19_mayHave_1 6 rfl rfl)
theorem dX19_mayHave_31 : decode cX19_mayHave 31 = .ok (.iaload, 1) := dk_46 (dk_at dksX19_mayHave_1 7 rfl rfl)
theorem dX19_mayHave_32 : decode cX19_mayHave 32 = .ok (.aload_n 0, 1) := dk_42 (dk_at dksX19_mayHave_1 8 rfl rfl)
theorem dX19_mayHave_33 : decode cX19_mayHave 33 = .ok (.iload_n 1, 1) := dk_27 (dk_at dksX19_mayHave_1 9 rfl rfl)
theorem dX19_mayHave_34 : decode cX19_mayHave 34 = .ok (.iload_n 3, 1) := dk_29 (dk_at dksX19_mayHave_1 10 rfl rfl)
theorem dX19_mayHave_35 : decode cX19_mayHave 35 = .ok (.invokevirtual 456, 3) := dk_182 1 200 (dk_at dksX19_mayHave_1 11 rfl rfl)
theorem dX19_mayHave_38 : decode cX19_mayHave 38 = .ok (.if_icmp .ne 5, 3) := dk_160 0 5 (dk_at dksX19_mayHave_1 14 rfl rfl)
theorem dX19_mayHave_41 : decode cX19_mayHave 41 = .ok (.iconst 1, 1) := dk_4 (dk_at dksX19_mayHave_1 17 rfl rfl)
theorem dX19_mayHave_42 : decode cX19_mayHave 42 = .ok (.ireturn, 1) := dk_172 (dk_at dksX19_mayHave_1 18 rfl rfl)
theorem dX19_mayHave_43 : decode cX19_mayHave 43 = .ok (.iinc 4 1, 3) := dk_132 4 1 (dk_at dksX19_mayHave_1 19 rfl rfl)
theorem dX19_mayHave_46 : decode cX19_mayHave 46 = .ok (.goto (-43), 3) := dk_167 255 213 (dk_at dksX19_mayHave_2 0 rfl rfl)
theorem dX19_mayHave_49 : decode cX19_mayHave 49 = .ok (.iconst 0, 1) := dk_3 (dk_at dksX19_mayHave_2 3 rfl rfl)
theorem dX19_mayHave_50 : decode cX19_mayHave 50 = .ok (.ireturn, 1) := dk_172 (dk_at dksX19_mayHave_2 4 rfl rfl)
abbrev cX19_could : ByteArray := prog_24_method_113_code
def yX19_could : MethodName := ⟨RX19, "could", "(II)I"⟩
def dkwX19_could_2 : List UInt8 := [182, 0, 98, 172]
abbrev dktX19_could_2 : List UInt8 := dkwX19_could_2 ++ []
def dkwX19_could_1 : List UInt8 := [182, 0, 94, 172, 42, 182, 1, 191, 42, 27, 3, 182, 2, 25, 87, 42, 42, 180, 0, 75, 28, 46]
abbrev dktX19_could_1 : List UInt8 := dkwX19_could_1 ++ dktX19_could_2
def dkwX19_could_0 : List UInt8 := [42, 3, 181, 0, 88, 42, 42, 28, 182, 1, 178, 27, 182, 1, 181, 62, 29, 158, 0, 9, 42, 29]
abbrev dktX19_could_0 : List UInt8 := dkwX19_could_0 ++ dktX19_could_1
theorem dksX19_could_0 : cX19_could.data.toList.drop 0 = dktX19_could_0 := by decide +kernel
theorem dksX19_could_1 : cX19_could.data.toList.drop 22 = dktX19_could_1 := dk_seg dksX19_could_0 22 rfl rfl
theorem dksX19_could_2 : cX19_could.data.toList.drop 44 = dktX19_could_2 := dk_seg dksX19_could_1 22 rfl rfl
theorem dX19_could_0 : decode cX19_could 0 = .ok (.aload_n 0, 1) := dk_42 (dk_at dksX19_could_0 0 rfl rfl)
theorem dX19_could_1 : decode cX19_could 1 = .ok (.iconst 0, 1) := dk_3 (dk_at dksX19_could_0 1 rfl rfl)
theorem dX19_could_2 : decode cX19_could 2 = .ok (.putfield 88, 3) := dk_181 0 88 (dk_at dksX19_could_0 2 rfl rfl)
theorem dX19_could_5 : decode cX19_could 5 = .ok (.aload_n 0, 1) := dk_42 (dk_at dksX19_could_0 5 rfl rfl)
theorem dX19_could_6 : decode cX19_could 6 = .ok (.aload_n 0, 1) := dk_42 (dk_at dksX19_could_0 6 rfl rfl)
theorem dX19_could_7 : decode cX19_could 7 = .ok (.iload_n 2, 1) := dk_28 (dk_at dksX19_could_0 7 rfl rfl)
theorem dX19_could_8 : decode cX19_could 8 = .ok (.invokevirtual 434, 3) := dk_182 1 178 (dk_at dksX19_could_0 8 rfl rfl)
theorem dX19_could_11 : decode cX19_could 11 = .ok (.iload_n 1, 1) := dk_27 (dk_at dksX19_could_0 11 rfl rfl)
theorem dX19_could_12 : decode cX19_could 12 = .ok (.invokevirtual 437, 3) := dk_182 1 181 (dk_at dksX19_could_0 12 rfl rfl)
theorem dX19_could_15 : decode cX19_could 15 = .ok (.istore_n 3, 1) := dk_62 (dk_at dksX19_could_0 15 rfl rfl)
theorem dX19_could_16 : decode cX19_could 16 = .ok (.iload_n 3, 1) := dk_29 (dk_at dksX19_could_0 16 rfl rfl)
theorem dX19_could_17 : decode cX19_could 17 = .ok (.ifCond .le 9, 3) := dk_158 0 9 (dk_at dksX19_could_0 17 rfl rfl)
theorem dX19_could_20 : decode cX19_could 20 = .ok (.aload_n 0, 1) := dk_42 (dk_at dksX19_could_0 20 rfl rfl)
theorem dX19_could_21 : decode cX19_could 21 = .ok (.iload_n 3, 1) := dk_29 (dk_at dksX19_could_0 21 rfl rfl)
theorem dX19_could_22 : decode cX19_could 22 = .ok (.invokevirtual 94, 3) := dk_182 0 94 (dk_at dksX19_could_1 0 rfl rfl)
theorem dX19_could_25 : decode cX19_could 25 = .ok (.ireturn, 1) := dk_172 (dk_at dksX19_could_1 3 rfl rfl)
theorem dX19_could_26 : decode cX19_could 26 = .ok (.aload_n 0, 1) := dk_42 (dk_at dksX19_could_1 4 rfl rfl)
theorem dX19_could_27 : decode cX19_could 27 = .ok (.invokevirtual 447, 3) := dk_182 1 191 (dk_at dksX19_could_1 5 rfl rfl)
theorem dX19_could_30 : decode cX19_could 30 = .ok (.aload_n 0, 1) := dk_42 (dk_at dksX19_could_1 8 rfl rfl)
theorem dX19_could_31 : decode cX19_could 31 = .ok (.iload_n 1, 1) := dk_27 (dk_at dksX19_could_1 9 rfl rfl)
theorem dX19_could_32 : decode cX19_could 32 = .ok (.iconst 0, 1) := dk_3 (dk_at dksX19_could_1 10 rfl rfl)
theorem dX19_could_33 : decode cX19_could 33 = .ok (.invokevirtual 537, 3) := dk_182 2 25 (dk_at dksX19_could_1 11 rfl rfl)
theorem dX19_could_36 : decode cX19_could 36 = .ok (.pop, 1) := dk_87 (dk_at dksX19_could_1 14 rfl rfl)
theorem dX19_could_37 : decode cX19_could 37 = .ok (.aload_n 0, 1) := dk_42 (dk_at dksX19_could_1 15 rfl rfl)
theorem dX19_could_38 : decode cX19_could 38 = .ok (.aload_n 0, 1) := dk_42 (dk_at dksX19_could_1 16 rfl rfl)
theorem dX19_could_39 : decode cX19_could 39 = .ok (.getfield 75, 3) := dk_180 0 75 (dk_at dksX19_could_1 17 rfl rfl)
theorem dX19_could_42 : decode cX19_could 42 = .ok (.iload_n 2, 1) := dk_28 (dk_at dksX19_could_1 20 rfl rfl)
theorem dX19_could_43 : decode cX19_could 43 = .ok (.iaload, 1) := dk_46 (dk_at dksX19_could_1 21 rfl rfl)
theorem dX19_could_44 : decode cX19_could 44 = .ok (.invokevirtual 98, 3) := dk_182 0 98 (dk_at dksX19_could_2 0 rfl rfl)
theorem dX19_could_47 : decode cX19_could 47 = .ok (.ireturn, 1) := dk_172 (dk_at dksX19_could_2 3 rfl rfl)
abbrev cX19_surely : ByteArray := prog_24_method_114_code
def yX19_surely : MethodName := ⟨RX19, "surely", "(II)I"⟩
def dkwX19_surely_3 : List UInt8 := [182, 0, 98, 172, 132, 4, 1, 167, 255, 221, 42, 16, 254, 182, 0, 98, 172]
abbrev dktX19_surely_3 : List UInt8 := dkwX19_surely_3 ++ []
def dkwX19_surely_2 : List UInt8 := [180, 0, 219, 162, 0, 29, 42, 180, 0, 75, 21, 4, 46, 4, 28, 120, 160, 0, 10, 42, 21, 4]
abbrev dktX19_surely_2 : List UInt8 := dkwX19_surely_2 ++ dktX19_surely_3
def dkwX19_surely_1 : List UInt8 := [182, 0, 94, 172, 42, 182, 1, 191, 42, 27, 3, 182, 2, 25, 87, 3, 54, 4, 21, 4, 42, 180, 1, 107]
abbrev dktX19_surely_1 : List UInt8 := dkwX19_surely_1 ++ dktX19_surely_2
def dkwX19_surely_0 : List UInt8 := [42, 3, 181, 0, 88, 42, 42, 28, 182, 1, 194, 27, 182, 1, 181, 62, 29, 158, 0, 9, 42, 29]
abbrev dktX19_surely_0 : List UInt8 := dkwX19_surely_0 ++ dktX19_surely_1
theorem dksX19_surely_0 : cX19_surely.data.toList.drop 0 = dktX19_surely_0 := by decide +kernel
theorem dksX19_surely_1 : cX19_surely.data.toList.drop 22 = dktX19_surely_1 := dk_seg dksX19_surely_0 22 rfl rfl
theorem dksX19_surely_2 : cX19_surely.data.toList.drop 46 = dktX19_surely_2 := dk_seg dksX19_surely_1 24 rfl rfl
theorem dksX19_surely_3 : cX19_surely.data.toList.drop 68 = dktX19_surely_3 := dk_seg dksX19_surely_2 22 rfl rfl
theorem dX19_surely_0 : decode cX19_surely 0 = .ok (.aload_n 0, 1) := dk_42 (dk_at dksX19_surely_0 0 rfl rfl)
theorem dX19_surely_1 : decode cX19_surely 1 = .ok (.iconst 0, 1) := dk_3 (dk_at dksX19_surely_0 1 rfl rfl)
theorem dX19_surely_2 : decode cX19_surely 2 = .ok (.putfield 88, 3) := dk_181 0 88 (dk_at dksX19_surely_0 2 rfl rfl)
theorem dX19_surely_5 : decode cX19_surely 5 = .ok (.aload_n 0, 1) := dk_42 (dk_at dksX19_surely_0 5 rfl rfl)
theorem dX19_surely_6 : decode cX19_surely 6 = .ok (.aload_n 0, 1) := dk_42 (dk_at dksX19_surely_0 6 rfl rfl)
theorem dX19_surely_7 : decode cX19_surely 7 = .ok (.iload_n 2, 1) := dk_28 (dk_at dksX19_surely_0 7 rfl rfl)
theorem dX19_surely_8 : decode cX19_surely 8 = .ok (.invokevirtual 450, 3) := dk_182 1 194 (dk_at dksX19_surely_0 8 rfl rfl)
theorem dX19_surely_11 : decode cX19_surely 11 = .ok (.iload_n 1, 1) := dk_27 (dk_at dksX19_surely_0 11 rfl rfl)
theorem dX19_surely_12 : decode cX19_surely 12 = .ok (.invokevirtual 437, 3) := dk_182 1 181 (dk_at dksX19_surely_0 12 rfl rfl)
theorem dX19_surely_15 : decode cX19_surely 15 = .ok (.istore_n 3, 1) := dk_62 (dk_at dksX19_surely_0 15 rfl rfl)
theorem dX19_surely_16 : decode cX19_surely 16 = .ok (.iload_n 3, 1) := dk_29 (dk_at dksX19_surely_0 16 rfl rfl)
theorem dX19_surely_17 : decode cX19_surely 17 = .ok (.ifCond .le 9, 3) := dk_158 0 9 (dk_at dksX19_surely_0 17 rfl rfl)
theorem dX19_surely_20 : decode cX19_surely 20 = .ok (.aload_n 0, 1) := dk_42 (dk_at dksX19_surely_0 20 rfl rfl)
theorem dX19_surely_21 : decode cX19_surely 21 = .ok (.iload_n 3, 1) := dk_29 (dk_at dksX19_surely_0 21 rfl rfl)
theorem dX19_surely_22 : decode cX19_surely 22 = .ok (.invokevirtual 94, 3) := dk_182 0 94 (dk_at dksX19_surely_1 0 rfl rfl)
theorem dX19_surely_25 : decode cX19_surely 25 = .ok (.ireturn, 1) := dk_172 (dk_at dksX19_surely_1 3 rfl rfl)
theorem dX19_surely_26 : decode cX19_surely 26 = .ok (.aload_n 0, 1) := dk_42 (dk_at dksX19_surely_1 4 rfl rfl)
theorem dX19_surely_27 : decode cX19_surely 27 = .ok (.invokevirtual 447, 3) := dk_182 1 191 (dk_at dksX19_surely_1 5 rfl rfl)
theorem dX19_surely_30 : decode cX19_surely 30 = .ok (.aload_n 0, 1) := dk_42 (dk_at dksX19_surely_1 8 rfl rfl)
theorem dX19_surely_31 : decode cX19_surely 31 = .ok (.iload_n 1, 1) := dk_27 (dk_at dksX19_surely_1 9 rfl rfl)
theorem dX19_surely_32 : decode cX19_surely 32 = .ok (.iconst 0, 1) := dk_3 (dk_at dksX19_surely_1 10 rfl rfl)
theorem dX19_surely_33 : decode cX19_surely 33 = .ok (.invokevirtual 537, 3) := dk_182 2 25 (dk_at dksX19_surely_1 11 rfl rfl)
theorem dX19_surely_36 : decode cX19_surely 36 = .ok (.pop, 1) := dk_87 (dk_at dksX19_surely_1 14 rfl rfl)
theorem dX19_surely_37 : decode cX19_surely 37 = .ok (.iconst 0, 1) := dk_3 (dk_at dksX19_surely_1 15 rfl rfl)
theorem dX19_surely_38 : decode cX19_surely 38 = .ok (.istore 4, 2) := dk_54 4 (dk_at dksX19_surely_1 16 rfl rfl)
theorem dX19_surely_40 : decode cX19_surely 40 = .ok (.iload 4, 2) := dk_21 4 (dk_at dksX19_surely_1 18 rfl rfl)
theorem dX19_surely_42 : decode cX19_surely 42 = .ok (.aload_n 0, 1) := dk_42 (dk_at dksX19_surely_1 20 rfl rfl)
theorem dX19_surely_43 : decode cX19_surely 43 = .ok (.getfield 363, 3) := dk_180 1 107 (dk_at dksX19_surely_1 21 rfl rfl)
theorem dX19_surely_46 : decode cX19_surely 46 = .ok (.getfield 219, 3) := dk_180 0 219 (dk_at dksX19_surely_2 0 rfl rfl)
theorem dX19_surely_49 : decode cX19_surely 49 = .ok (.if_icmp .ge 29, 3) := dk_162 0 29 (dk_at dksX19_surely_2 3 rfl rfl)
theorem dX19_surely_52 : decode cX19_surely 52 = .ok (.aload_n 0, 1) := dk_42 (dk_at dksX19_surely_2 6 rfl rfl)
theorem dX19_surely_53 : decode cX19_surely 53 = .ok (.getfield 75, 3) := dk_180 0 75 (dk_at dksX19_surely_2 7 rfl rfl)
theorem dX19_surely_56 : decode cX19_surely 56 = .ok (.iload 4, 2) := dk_21 4 (dk_at dksX19_surely_2 10 rfl rfl)
theorem dX19_surely_58 : decode cX19_surely 58 = .ok (.iaload, 1) := dk_46 (dk_at dksX19_surely_2 12 rfl rfl)
theorem dX19_surely_59 : decode cX19_surely 59 = .ok (.iconst 1, 1) := dk_4 (dk_at dksX19_surely_2 13 rfl rfl)
theorem dX19_surely_60 : decode cX19_surely 60 = .ok (.iload_n 2, 1) := dk_28 (dk_at dksX19_surely_2 14 rfl rfl)
theorem dX19_surely_61 : decode cX19_surely 61 = .ok (.ishl, 1) := dk_120 (dk_at dksX19_surely_2 15 rfl rfl)
theorem dX19_surely_62 : decode cX19_surely 62 = .ok (.if_icmp .ne 10, 3) := dk_160 0 10 (dk_at dksX19_surely_2 16 rfl rfl)
theorem dX19_surely_65 : decode cX19_surely 65 = .ok (.aload_n 0, 1) := dk_42 (dk_at dksX19_surely_2 19 rfl rfl)
theorem dX19_surely_66 : decode cX19_surely 66 = .ok (.iload 4, 2) := dk_21 4 (dk_at dksX19_surely_2 20 rfl rfl)
theorem dX19_surely_68 : decode cX19_surely 68 = .ok (.invokevirtual 98, 3) := dk_182 0 98 (dk_at dksX19_surely_3 0 rfl rfl)
theorem dX19_surely_71 : decode cX19_surely 71 = .ok (.ireturn, 1) := dk_172 (dk_at dksX19_surely_3 3 rfl rfl)
theorem dX19_surely_72 : decode cX19_surely 72 = .ok (.iinc 4 1, 3) := dk_132 4 1 (dk_at dksX19_surely_3 4 rfl rfl)
theorem dX19_surely_75 : decode cX19_surely 75 = .ok (.goto (-35), 3) := dk_167 255 221 (dk_at dksX19_surely_3 7 rfl rfl)
theorem dX19_surely_78 : decode cX19_surely 78 = .ok (.aload_n 0, 1) := dk_42 (dk_at dksX19_surely_3 10 rfl rfl)
theorem dX19_surely_79 : decode cX19_surely 79 = .ok (.bipush (-2), 2) := dk_16 254 (dk_at dksX19_surely_3 11 rfl rfl)
theorem dX19_surely_81 : decode cX19_surely 81 = .ok (.invokevirtual 98, 3) := dk_182 0 98 (dk_at dksX19_surely_3 13 rfl rfl)
theorem dX19_surely_84 : decode cX19_surely 84 = .ok (.ireturn, 1) := dk_172 (dk_at dksX19_surely_3 16 rfl rfl)
abbrev cX19_ask : ByteArray := prog_24_method_115_code
def yX19_ask : MethodName := ⟨RX19, "ask", "(I)I"⟩
def dkwX19_ask_5 : List UInt8 := [42, 21, 4, 182, 0, 98, 172]
abbrev dktX19_ask_5 : List UInt8 := dkwX19_ask_5 ++ []
def dkwX19_ask_4 : List UInt8 := [162, 0, 18, 42, 27, 21, 5, 182, 2, 25, 4, 160, 0, 7, 21, 5, 54, 4, 132, 5, 1, 167, 255, 210]
abbrev dktX19_ask_4 : List UInt8 := dkwX19_ask_4 ++ dktX19_ask_5
def dkwX19_ask_3 : List UInt8 := [29, 163, 0, 46, 21, 5, 29, 2, 130, 126, 154, 0, 31, 21, 5, 184, 1, 188, 21, 4, 184, 1, 188]
abbrev dktX19_ask_3 : List UInt8 := dkwX19_ask_3 ++ dktX19_ask_4
def dkwX19_ask_2 : List UInt8 := [42, 180, 0, 69, 21, 4, 46, 120, 128, 62, 132, 4, 1, 167, 255, 232, 29, 54, 4, 3, 54, 5, 21, 5]
abbrev dktX19_ask_2 : List UInt8 := dkwX19_ask_2 ++ dktX19_ask_3
def dkwX19_ask_1 : List UInt8 := [182, 1, 191, 42, 27, 182, 2, 16, 3, 62, 3, 54, 4, 21, 4, 42, 180, 2, 13, 162, 0, 21, 29, 4]
abbrev dktX19_ask_1 : List UInt8 := dkwX19_ask_1 ++ dktX19_ask_2
def dkwX19_ask_0 : List UInt8 := [42, 3, 181, 0, 88, 42, 4, 27, 182, 1, 181, 61, 28, 158, 0, 9, 42, 28, 182, 0, 94, 172, 42]
abbrev dktX19_ask_0 : List UInt8 := dkwX19_ask_0 ++ dktX19_ask_1
theorem dksX19_ask_0 : cX19_ask.data.toList.drop 0 = dktX19_ask_0 := by decide +kernel
theorem dksX19_ask_1 : cX19_ask.data.toList.drop 23 = dktX19_ask_1 := dk_seg dksX19_ask_0 23 rfl rfl
theorem dksX19_ask_2 : cX19_ask.data.toList.drop 47 = dktX19_ask_2 := dk_seg dksX19_ask_1 24 rfl rfl
theorem dksX19_ask_3 : cX19_ask.data.toList.drop 71 = dktX19_ask_3 := dk_seg dksX19_ask_2 24 rfl rfl
theorem dksX19_ask_4 : cX19_ask.data.toList.drop 94 = dktX19_ask_4 := dk_seg dksX19_ask_3 23 rfl rfl
theorem dksX19_ask_5 : cX19_ask.data.toList.drop 118 = dktX19_ask_5 := dk_seg dksX19_ask_4 24 rfl rfl
theorem dX19_ask_0 : decode cX19_ask 0 = .ok (.aload_n 0, 1) := dk_42 (dk_at dksX19_ask_0 0 rfl rfl)
theorem dX19_ask_1 : decode cX19_ask 1 = .ok (.iconst 0, 1) := dk_3 (dk_at dksX19_ask_0 1 rfl rfl)
theorem dX19_ask_2 : decode cX19_ask 2 = .ok (.putfield 88, 3) := dk_181 0 88 (dk_at dksX19_ask_0 2 rfl rfl)
theorem dX19_ask_5 : decode cX19_ask 5 = .ok (.aload_n 0, 1) := dk_42 (dk_at dksX19_ask_0 5 rfl rfl)
theorem dX19_ask_6 : decode cX19_ask 6 = .ok (.iconst 1, 1) := dk_4 (dk_at dksX19_ask_0 6 rfl rfl)
theorem dX19_ask_7 : decode cX19_ask 7 = .ok (.iload_n 1, 1) := dk_27 (dk_at dksX19_ask_0 7 rfl rfl)
theorem dX19_ask_8 : decode cX19_ask 8 = .ok (.invokevirtual 437, 3) := dk_182 1 181 (dk_at dksX19_ask_0 8 rfl rfl)
theorem dX19_ask_11 : decode cX19_ask 11 = .ok (.istore_n 2, 1) := dk_61 (dk_at dksX19_ask_0 11 rfl rfl)
theorem dX19_ask_12 : decode cX19_ask 12 = .ok (.iload_n 2, 1) := dk_28 (dk_at dksX19_ask_0 12 rfl rfl)
theorem dX19_ask_13 : decode cX19_ask 13 = .ok (.ifCond .le 9, 3) := dk_158 0 9 (dk_at dksX19_ask_0 13 rfl rfl)
theorem dX19_ask_16 : decode cX19_ask 16 = .ok (.aload_n 0, 1) := dk_42 (dk_at dksX19_ask_0 16 rfl rfl)
theorem dX19_ask_17 : decode cX19_ask 17 = .ok (.iload_n 2, 1) := dk_28 (dk_at dksX19_ask_0 17 rfl rfl)
theorem dX19_ask_18 : decode cX19_ask 18 = .ok (.invokevirtual 94, 3) := dk_182 0 94 (dk_at dksX19_ask_0 18 rfl rfl)
theorem dX19_ask_21 : decode cX19_ask 21 = .ok (.ireturn, 1) := dk_172 (dk_at dksX19_ask_0 21 rfl rfl)
theorem dX19_ask_22 : decode cX19_ask 22 = .ok (.aload_n 0, 1) := dk_42 (dk_at dksX19_ask_0 22 rfl rfl)
theorem dX19_ask_23 : decode cX19_ask 23 = .ok (.invokevirtual 447, 3) := dk_182 1 191 (dk_at dksX19_ask_1 0 rfl rfl)
theorem dX19_ask_26 : decode cX19_ask 26 = .ok (.aload_n 0, 1) := dk_42 (dk_at dksX19_ask_1 3 rfl rfl)
theorem dX19_ask_27 : decode cX19_ask 27 = .ok (.iload_n 1, 1) := dk_27 (dk_at dksX19_ask_1 4 rfl rfl)
theorem dX19_ask_28 : decode cX19_ask 28 = .ok (.invokevirtual 528, 3) := dk_182 2 16 (dk_at dksX19_ask_1 5 rfl rfl)
theorem dX19_ask_31 : decode cX19_ask 31 = .ok (.iconst 0, 1) := dk_3 (dk_at dksX19_ask_1 8 rfl rfl)
theorem dX19_ask_32 : decode cX19_ask 32 = .ok (.istore_n 3, 1) := dk_62 (dk_at dksX19_ask_1 9 rfl rfl)
theorem dX19_ask_33 : decode cX19_ask 33 = .ok (.iconst 0, 1) := dk_3 (dk_at dksX19_ask_1 10 rfl rfl)
theorem dX19_ask_34 : decode cX19_ask 34 = .ok (.istore 4, 2) := dk_54 4 (dk_at dksX19_ask_1 11 rfl rfl)
theorem dX19_ask_36 : decode cX19_ask 36 = .ok (.iload 4, 2) := dk_21 4 (dk_at dksX19_ask_1 13 rfl rfl)
theorem dX19_ask_38 : decode cX19_ask 38 = .ok (.aload_n 0, 1) := dk_42 (dk_at dksX19_ask_1 15 rfl rfl)
theorem dX19_ask_39 : decode cX19_ask 39 = .ok (.getfield 525, 3) := dk_180 2 13 (dk_at dksX19_ask_1 16 rfl rfl)
theorem dX19_ask_42 : decode cX19_ask 42 = .ok (.if_icmp .ge 21, 3) := dk_162 0 21 (dk_at dksX19_ask_1 19 rfl rfl)
theorem dX19_ask_45 : decode cX19_ask 45 = .ok (.iload_n 3, 1) := dk_29 (dk_at dksX19_ask_1 22 rfl rfl)
theorem dX19_ask_46 : decode cX19_ask 46 = .ok (.iconst 1, 1) := dk_4 (dk_at dksX19_ask_1 23 rfl rfl)
theorem dX19_ask_47 : decode cX19_ask 47 = .ok (.aload_n 0, 1) := dk_42 (dk_at dksX19_ask_2 0 rfl rfl)
theorem dX19_ask_48 : decode cX19_ask 48 = .ok (.getfield 69, 3) := dk_180 0 69 (dk_at dksX19_ask_2 1 rfl rfl)
theorem dX19_ask_51 : decode cX19_ask 51 = .ok (.iload 4, 2) := dk_21 4 (dk_at dksX19_ask_2 4 rfl rfl)
theorem dX19_ask_53 : decode cX19_ask 53 = .ok (.iaload, 1) := dk_46 (dk_at dksX19_ask_2 6 rfl rfl)
theorem dX19_ask_54 : decode cX19_ask 54 = .ok (.ishl, 1) := dk_120 (dk_at dksX19_ask_2 7 rfl rfl)
theorem dX19_ask_55 : decode cX19_ask 55 = .ok (.ior, 1) := dk_128 (dk_at dksX19_ask_2 8 rfl rfl)
theorem dX19_ask_56 : decode cX19_ask 56 = .ok (.istore_n 3, 1) := dk_62 (dk_at dksX19_ask_2 9 rfl rfl)
theorem dX19_ask_57 : decode cX19_ask 57 = .ok (.iinc 4 1, 3) := dk_132 4 1 (dk_at dksX19_ask_2 10 rfl rfl)
theorem dX19_ask_60 : decode cX19_ask 60 = .ok (.goto (-24), 3) := dk_167 255 232 (dk_at dksX19_ask_2 13 rfl rfl)
theorem dX19_ask_63 : decode cX19_ask 63 = .ok (.iload_n 3, 1) := dk_29 (dk_at dksX19_ask_2 16 rfl rfl)
theorem dX19_ask_64 : decode cX19_ask 64 = .ok (.istore 4, 2) := dk_54 4 (dk_at dksX19_ask_2 17 rfl rfl)
theorem dX19_ask_66 : decode cX19_ask 66 = .ok (.iconst 0, 1) := dk_3 (dk_at dksX19_ask_2 19 rfl rfl)
theorem dX19_ask_67 : decode cX19_ask 67 = .ok (.istore 5, 2) := dk_54 5 (dk_at dksX19_ask_2 20 rfl rfl)
theorem dX19_ask_69 : decode cX19_ask 69 = .ok (.iload 5, 2) := dk_21 5 (dk_at dksX19_ask_2 22 rfl rfl)
theorem dX19_ask_71 : decode cX19_ask 71 = .ok (.iload_n 3, 1) := dk_29 (dk_at dksX19_ask_3 0 rfl rfl)
theorem dX19_ask_72 : decode cX19_ask 72 = .ok (.if_icmp .gt 46, 3) := dk_163 0 46 (dk_at dksX19_ask_3 1 rfl rfl)
theorem dX19_ask_75 : decode cX19_ask 75 = .ok (.iload 5, 2) := dk_21 5 (dk_at dksX19_ask_3 4 rfl rfl)
theorem dX19_ask_77 : decode cX19_ask 77 = .ok (.iload_n 3, 1) := dk_29 (dk_at dksX19_ask_3 6 rfl rfl)
theorem dX19_ask_78 : decode cX19_ask 78 = .ok (.iconst (-1), 1) := dk_2 (dk_at dksX19_ask_3 7 rfl rfl)
theorem dX19_ask_79 : decode cX19_ask 79 = .ok (.ixor, 1) := dk_130 (dk_at dksX19_ask_3 8 rfl rfl)
theorem dX19_ask_80 : decode cX19_ask 80 = .ok (.iand, 1) := dk_126 (dk_at dksX19_ask_3 9 rfl rfl)
theorem dX19_ask_81 : decode cX19_ask 81 = .ok (.ifCond .ne 31, 3) := dk_154 0 31 (dk_at dksX19_ask_3 10 rfl rfl)
theorem dX19_ask_84 : decode cX19_ask 84 = .ok (.iload 5, 2) := dk_21 5 (dk_at dksX19_ask_3 13 rfl rfl)
theorem dX19_ask_86 : decode cX19_ask 86 = .ok (.invokestatic 444, 3) := dk_184 1 188 (dk_at dksX19_ask_3 15 rfl rfl)
theorem dX19_ask_89 : decode cX19_ask 89 = .ok (.iload 4, 2) := dk_21 4 (dk_at dksX19_ask_3 18 rfl rfl)
theorem dX19_ask_91 : decode cX19_ask 91 = .ok (.invokestatic 444, 3) := dk_184 1 188 (dk_at dksX19_ask_3 20 rfl rfl)
theorem dX19_ask_94 : decode cX19_ask 94 = .ok (.if_icmp .ge 18, 3) := dk_162 0 18 (dk_at dksX19_ask_4 0 rfl rfl)
theorem dX19_ask_97 : decode cX19_ask 97 = .ok (.aload_n 0, 1) := dk_42 (dk_at dksX19_ask_4 3 rfl rfl)
theorem dX19_ask_98 : decode cX19_ask 98 = .ok (.iload_n 1, 1) := dk_27 (dk_at dksX19_ask_4 4 rfl rfl)
theorem dX19_ask_99 : decode cX19_ask 99 = .ok (.iload 5, 2) := dk_21 5 (dk_at dksX19_ask_4 5 rfl rfl)
theorem dX19_ask_101 : decode cX19_ask 101 = .ok (.invokevirtual 537, 3) := dk_182 2 25 (dk_at dksX19_ask_4 7 rfl rfl)
theorem dX19_ask_104 : decode cX19_ask 104 = .ok (.iconst 1, 1) := dk_4 (dk_at dksX19_ask_4 10 rfl rfl)
theorem dX19_ask_105 : decode cX19_ask 105 = .ok (.if_icmp .ne 7, 3) := dk_160 0 7 (dk_at dksX19_ask_4 11 rfl rfl)
theorem dX19_ask_108 : decode cX19_ask 108 = .ok (.iload 5, 2) := dk_21 5 (dk_at dksX19_ask_4 14 rfl rfl)
theorem dX19_ask_110 : decode cX19_ask 110 = .ok (.istore 4, 2) := dk_54 4 (dk_at dksX19_ask_4 16 rfl rfl)
theorem dX19_ask_112 : decode cX19_ask 112 = .ok (.iinc 5 1, 3) := dk_132 5 1 (dk_at dksX19_ask_4 18 rfl rfl)
theorem dX19_ask_115 : decode cX19_ask 115 = .ok (.goto (-46), 3) := dk_167 255 210 (dk_at dksX19_ask_4 21 rfl rfl)
theorem dX19_ask_118 : decode cX19_ask 118 = .ok (.aload_n 0, 1) := dk_42 (dk_at dksX19_ask_5 0 rfl rfl)
theorem dX19_ask_119 : decode cX19_ask 119 = .ok (.iload 4, 2) := dk_21 4 (dk_at dksX19_ask_5 1 rfl rfl)
theorem dX19_ask_121 : decode cX19_ask 121 = .ok (.invokevirtual 98, 3) := dk_182 0 98 (dk_at dksX19_ask_5 3 rfl rfl)
theorem dX19_ask_124 : decode cX19_ask 124 = .ok (.ireturn, 1) := dk_172 (dk_at dksX19_ask_5 6 rfl rfl)
abbrev cX19_drift : ByteArray := prog_24_method_116_code
def yX19_drift : MethodName := ⟨RX19, "drift", "(IIZ)J"⟩
def dkwX19_drift_16 : List UInt8 := [109, 173]
abbrev dktX19_drift_16 : List UInt8 := dkwX19_drift_16 ++ []
def dkwX19_drift_15 : List UInt8 := [182, 0, 98, 87, 29, 153, 0, 11, 22, 4, 22, 6, 109, 167, 0, 12, 42, 180, 0, 81, 27, 47, 22, 6]
abbrev dktX19_drift_15 : List UInt8 := dkwX19_drift_15 ++ dktX19_drift_16
def dkwX19_drift_14 : List UInt8 := [153, 0, 21, 22, 6, 22, 8, 113, 55, 10, 22, 8, 55, 6, 22, 10, 55, 8, 167, 255, 234, 42, 3]
abbrev dktX19_drift_14 : List UInt8 := dkwX19_drift_14 ++ dktX19_drift_15
def dkwX19_drift_13 : List UInt8 := [55, 4, 132, 6, 1, 167, 255, 30, 42, 180, 0, 81, 27, 47, 55, 6, 22, 4, 55, 8, 22, 8, 9, 148]
abbrev dktX19_drift_13 : List UInt8 := dkwX19_drift_13 ++ dktX19_drift_14
def dkwX19_drift_12 : List UInt8 := [132, 7, 1, 167, 255, 227, 22, 4, 20, 2, 28, 42, 180, 1, 107, 180, 0, 251, 4, 100, 133, 105, 105]
abbrev dktX19_drift_12 : List UInt8 := dkwX19_drift_12 ++ dktX19_drift_13
def dkwX19_drift_11 : List UInt8 := [42, 180, 1, 107, 180, 0, 251, 162, 0, 23, 42, 180, 0, 81, 21, 7, 42, 180, 0, 85, 21, 7, 47, 80]
abbrev dktX19_drift_11 : List UInt8 := dkwX19_drift_11 ++ dktX19_drift_12
def dkwX19_drift_10 : List UInt8 := [96, 47, 42, 180, 1, 107, 180, 0, 255, 133, 105, 97, 80, 132, 7, 1, 167, 255, 99, 3, 54, 7, 21, 7]
abbrev dktX19_drift_10 : List UInt8 := dkwX19_drift_10 ++ dktX19_drift_11
def dkwX19_drift_9 : List UInt8 := [180, 1, 107, 180, 0, 251, 162, 0, 31, 42, 180, 0, 85, 21, 7, 92, 47, 42, 180, 0, 81, 21, 7, 4]
abbrev dktX19_drift_9 : List UInt8 := dkwX19_drift_9 ++ dktX19_drift_10
def dkwX19_drift_8 : List UInt8 := [180, 0, 81, 21, 7, 4, 100, 47, 42, 180, 1, 107, 180, 0, 255, 133, 105, 97, 80, 21, 7, 4, 96, 42]
abbrev dktX19_drift_8 : List UInt8 := dkwX19_drift_8 ++ dktX19_drift_9
def dkwX19_drift_7 : List UInt8 := [180, 0, 255, 21, 8, 104, 133, 101, 105, 80, 21, 7, 158, 0, 31, 42, 180, 0, 85, 21, 7, 92, 47, 42]
abbrev dktX19_drift_7 : List UInt8 := dkwX19_drift_7 ++ dktX19_drift_8
def dkwX19_drift_6 : List UInt8 := [180, 0, 81, 21, 7, 47, 20, 2, 28, 42, 180, 1, 107, 180, 0, 251, 4, 100, 133, 105, 42, 180, 1, 107]
abbrev dktX19_drift_6 : List UInt8 := dkwX19_drift_6 ++ dktX19_drift_7
def dkwX19_drift_5 : List UInt8 := [180, 0, 251, 4, 100, 160, 0, 7, 4, 167, 0, 4, 5, 54, 8, 42, 180, 0, 85, 21, 7, 42]
abbrev dktX19_drift_5 : List UInt8 := dkwX19_drift_5 ++ dktX19_drift_6
def dkwX19_drift_4 : List UInt8 := [21, 7, 42, 180, 1, 107, 180, 0, 251, 162, 0, 151, 21, 7, 153, 0, 17, 21, 7, 42, 180, 1, 107]
abbrev dktX19_drift_4 : List UInt8 := dkwX19_drift_4 ++ dktX19_drift_5
def dkwX19_drift_3 : List UInt8 := [167, 0, 4, 9, 80, 132, 6, 1, 167, 255, 223, 3, 54, 6, 21, 6, 28, 162, 0, 226, 3, 54, 7]
abbrev dktX19_drift_3 : List UInt8 := dkwX19_drift_3 ++ dktX19_drift_4
def dkwX19_drift_2 : List UInt8 := [180, 1, 107, 180, 0, 251, 162, 0, 27, 42, 180, 0, 81, 21, 6, 21, 6, 27, 160, 0, 7, 10]
abbrev dktX19_drift_2 : List UInt8 := dkwX19_drift_2 ++ dktX19_drift_3
def dkwX19_drift_1 : List UInt8 := [184, 0, 169, 154, 0, 10, 42, 5, 182, 0, 94, 133, 173, 10, 55, 4, 3, 54, 6, 21, 6, 42]
abbrev dktX19_drift_1 : List UInt8 := dkwX19_drift_1 ++ dktX19_drift_2
def dkwX19_drift_0 : List UInt8 := [42, 3, 181, 0, 88, 42, 27, 182, 1, 194, 154, 0, 10, 42, 4, 182, 0, 94, 133, 173, 28, 3, 8]
abbrev dktX19_drift_0 : List UInt8 := dkwX19_drift_0 ++ dktX19_drift_1
theorem dksX19_drift_0 : cX19_drift.data.toList.drop 0 = dktX19_drift_0 := by decide +kernel
theorem dksX19_drift_1 : cX19_drift.data.toList.drop 23 = dktX19_drift_1 := dk_seg dksX19_drift_0 23 rfl rfl
theorem dksX19_drift_2 : cX19_drift.data.toList.drop 45 = dktX19_drift_2 := dk_seg dksX19_drift_1 22 rfl rfl
theorem dksX19_drift_3 : cX19_drift.data.toList.drop 67 = dktX19_drift_3 := dk_seg dksX19_drift_2 22 rfl rfl
theorem dksX19_drift_4 : cX19_drift.data.toList.drop 90 = dktX19_drift_4 := dk_seg dksX19_drift_3 23 rfl rfl
theorem dksX19_drift_5 : cX19_drift.data.toList.drop 113 = dktX19_drift_5 := dk_seg dksX19_drift_4 23 rfl rfl
theorem dksX19_drift_6 : cX19_drift.data.toList.drop 135 = dktX19_drift_6 := dk_seg dksX19_drift_5 22 rfl rfl
theorem dksX19_drift_7 : cX19_drift.data.toList.drop 159 = dktX19_drift_7 := dk_seg dksX19_drift_6 24 rfl rfl
theorem dksX19_drift_8 : cX19_drift.data.toList.drop 183 = dktX19_drift_8 := dk_seg dksX19_drift_7 24 rfl rfl
theorem dksX19_drift_9 : cX19_drift.data.toList.drop 207 = dktX19_drift_9 := dk_seg dksX19_drift_8 24 rfl rfl
theorem dksX19_drift_10 : cX19_drift.data.toList.drop 231 = dktX19_drift_10 := dk_seg dksX19_drift_9 24 rfl rfl
theorem dksX19_drift_11 : cX19_drift.data.toList.drop 255 = dktX19_drift_11 := dk_seg dksX19_drift_10 24 rfl rfl
theorem dksX19_drift_12 : cX19_drift.data.toList.drop 279 = dktX19_drift_12 := dk_seg dksX19_drift_11 24 rfl rfl
theorem dksX19_drift_13 : cX19_drift.data.toList.drop 302 = dktX19_drift_13 := dk_seg dksX19_drift_12 23 rfl rfl
theorem dksX19_drift_14 : cX19_drift.data.toList.drop 326 = dktX19_drift_14 := dk_seg dksX19_drift_13 24 rfl rfl
theorem dksX19_drift_15 : cX19_drift.data.toList.drop 349 = dktX19_drift_15 := dk_seg dksX19_drift_14 23 rfl rfl
theorem dksX19_drift_16 : cX19_drift.data.toList.drop 373 = dktX19_drift_16 := dk_seg dksX19_drift_15 24 rfl rfl
theorem dX19_drift_0 : decode cX19_drift 0 = .ok (.aload_n 0, 1) := dk_42 (dk_at dksX19_drift_0 0 rfl rfl)
theorem dX19_drift_1 : decode cX19_drift 1 = .ok (.iconst 0, 1) := dk_3 (dk_at dksX19_drift_0 1 rfl rfl)
theorem dX19_drift_2 : decode cX19_drift 2 = .ok (.putfield 88, 3) := dk_181 0 88 (dk_at dksX19_drift_0 2 rfl rfl)
theorem dX19_drift_5 : decode cX19_drift 5 = .ok (.aload_n 0, 1) := dk_42 (dk_at dksX19_drift_0 5 rfl rfl)
theorem dX19_drift_6 : decode cX19_drift 6 = .ok (.iload_n 1, 1) := dk_27 (dk_at dksX19_drift_0 6 rfl rfl)
theorem dX19_drift_7 : decode cX19_drift 7 = .ok (.invokevirtual 450, 3) := dk_182 1 194 (dk_at dksX19_drift_0 7 rfl rfl)
theorem dX19_drift_10 : decode cX19_drift 10 = .ok (.ifCond .ne 10, 3) := dk_154 0 10 (dk_at dksX19_drift_0 10 rfl rfl)
theorem dX19_drift_13 : decode cX19_drift 13 = .ok (.aload_n 0, 1) := dk_42 (dk_at dksX19_drift_0 13 rfl rfl)
theorem dX19_drift_14 : decode cX19_drift 14 = .ok (.iconst 1, 1) := dk_4 (dk_at dksX19_drift_0 14 rfl rfl)
theorem dX19_drift_15 : decode cX19_drift 15 = .ok (.invokevirtual 94, 3) := dk_182 0 94 (dk_at dksX19_drift_0 15 rfl rfl)
theorem dX19_drift_18 : decode cX19_drift 18 = .ok (.i2l, 1) := dk_133 (dk_at dksX19_drift_0 18 rfl rfl)
theorem dX19_drift_19 : decode cX19_drift 19 = .ok (.lreturn, 1) := dk_173 (dk_at dksX19_drift_0 19 rfl rfl)
theorem dX19_drift_20 : decode cX19_drift 20 = .ok (.iload_n 2, 1) := dk_28 (dk_at dksX19_drift_0 20 rfl rfl)
theorem dX19_drift_21 : decode cX19_drift 21 = .ok (.iconst 0, 1) := dk_3 (dk_at dksX19_drift_0 21 rfl rfl)
theorem dX19_drift_22 : decode cX19_drift 22 = .ok (.iconst 5, 1) := dk_8 (dk_at dksX19_drift_0 22 rfl rfl)
theorem dX19_drift_23 : decode cX19_drift 23 = .ok (.invokestatic 169, 3) := dk_184 0 169 (dk_at dksX19_drift_1 0 rfl rfl)
theorem dX19_drift_26 : decode cX19_drift 26 = .ok (.ifCond .ne 10, 3) := dk_154 0 10 (dk_at dksX19_drift_1 3 rfl rfl)
theorem dX19_drift_29 : decode cX19_drift 29 = .ok (.aload_n 0, 1) := dk_42 (dk_at dksX19_drift_1 6 rfl rfl)
theorem dX19_drift_30 : decode cX19_drift 30 = .ok (.iconst 2, 1) := dk_5 (dk_at dksX19_drift_1 7 rfl rfl)
theorem dX19_drift_31 : decode cX19_drift 31 = .ok (.invokevirtual 94, 3) := dk_182 0 94 (dk_at dksX19_drift_1 8 rfl rfl)
theorem dX19_drift_34 : decode cX19_drift 34 = .ok (.i2l, 1) := dk_133 (dk_at dksX19_drift_1 11 rfl rfl)
theorem dX19_drift_35 : decode cX19_drift 35 = .ok (.lreturn, 1) := dk_173 (dk_at dksX19_drift_1 12 rfl rfl)
theorem dX19_drift_36 : decode cX19_drift 36 = .ok (.lconst 1, 1) := dk_10 (dk_at dksX19_drift_1 13 rfl rfl)
theorem dX19_drift_37 : decode cX19_drift 37 = .ok (.lstore 4, 2) := dk_55 4 (dk_at dksX19_drift_1 14 rfl rfl)
theorem dX19_drift_39 : decode cX19_drift 39 = .ok (.iconst 0, 1) := dk_3 (dk_at dksX19_drift_1 16 rfl rfl)
theorem dX19_drift_40 : decode cX19_drift 40 = .ok (.istore 6, 2) := dk_54 6 (dk_at dksX19_drift_1 17 rfl rfl)
theorem dX19_drift_42 : decode cX19_drift 42 = .ok (.iload 6, 2) := dk_21 6 (dk_at dksX19_drift_1 19 rfl rfl)
theorem dX19_drift_44 : decode cX19_drift 44 = .ok (.aload_n 0, 1) := dk_42 (dk_at dksX19_drift_1 21 rfl rfl)
theorem dX19_drift_45 : decode cX19_drift 45 = .ok (.getfield 363, 3) := dk_180 1 107 (dk_at dksX19_drift_2 0 rfl rfl)
theorem dX19_drift_48 : decode cX19_drift 48 = .ok (.getfield 251, 3) := dk_180 0 251 (dk_at dksX19_drift_2 3 rfl rfl)
theorem dX19_drift_51 : decode cX19_drift 51 = .ok (.if_icmp .ge 27, 3) := dk_162 0 27 (dk_at dksX19_drift_2 6 rfl rfl)
theorem dX19_drift_54 : decode cX19_drift 54 = .ok (.aload_n 0, 1) := dk_42 (dk_at dksX19_drift_2 9 rfl rfl)
theorem dX19_drift_55 : decode cX19_drift 55 = .ok (.getfield 81, 3) := dk_180 0 81 (dk_at dksX19_drift_2 10 rfl rfl)
theorem dX19_drift_58 : decode cX19_drift 58 = .ok (.iload 6, 2) := dk_21 6 (dk_at dksX19_drift_2 13 rfl rfl)
theorem dX19_drift_60 : decode cX19_drift 60 = .ok (.iload 6, 2) := dk_21 6 (dk_at dksX19_drift_2 15 rfl rfl)
theorem dX19_drift_62 : decode cX19_drift 62 = .ok (.iload_n 1, 1) := dk_27 (dk_at dksX19_drift_2 17 rfl rfl)
theorem dX19_drift_63 : decode cX19_drift 63 = .ok (.if_icmp .ne 7, 3) := dk_160 0 7 (dk_at dksX19_drift_2 18 rfl rfl)
theorem dX19_drift_66 : decode cX19_drift 66 = .ok (.lconst 1, 1) := dk_10 (dk_at dksX19_drift_2 21 rfl rfl)
theorem dX19_drift_67 : decode cX19_drift 67 = .ok (.goto 4, 3) := dk_167 0 4 (dk_at dksX19_drift_3 0 rfl rfl)
theorem dX19_drift_70 : decode cX19_drift 70 = .ok (.lconst 0, 1) := dk_9 (dk_at dksX19_drift_3 3 rfl rfl)
theorem dX19_drift_71 : decode cX19_drift 71 = .ok (.lastore, 1) := dk_80 (dk_at dksX19_drift_3 4 rfl rfl)
theorem dX19_drift_72 : decode cX19_drift 72 = .ok (.iinc 6 1, 3) := dk_132 6 1 (dk_at dksX19_drift_3 5 rfl rfl)
theorem dX19_drift_75 : decode cX19_drift 75 = .ok (.goto (-33), 3) := dk_167 255 223 (dk_at dksX19_drift_3 8 rfl rfl)
theorem dX19_drift_78 : decode cX19_drift 78 = .ok (.iconst 0, 1) := dk_3 (dk_at dksX19_drift_3 11 rfl rfl)
theorem dX19_drift_79 : decode cX19_drift 79 = .ok (.istore 6, 2) := dk_54 6 (dk_at dksX19_drift_3 12 rfl rfl)
theorem dX19_drift_81 : decode cX19_drift 81 = .ok (.iload 6, 2) := dk_21 6 (dk_at dksX19_drift_3 14 rfl rfl)
theorem dX19_drift_83 : decode cX19_drift 83 = .ok (.iload_n 2, 1) := dk_28 (dk_at dksX19_drift_3 16 rfl rfl)
theorem dX19_drift_84 : decode cX19_drift 84 = .ok (.if_icmp .ge 226, 3) := dk_162 0 226 (dk_at dksX19_drift_3 17 rfl rfl)
theorem dX19_drift_87 : decode cX19_drift 87 = .ok (.iconst 0, 1) := dk_3 (dk_at dksX19_drift_3 20 rfl rfl)
theorem dX19_drift_88 : decode cX19_drift 88 = .ok (.istore 7, 2) := dk_54 7 (dk_at dksX19_drift_3 21 rfl rfl)
theorem dX19_drift_90 : decode cX19_drift 90 = .ok (.iload 7, 2) := dk_21 7 (dk_at dksX19_drift_4 0 rfl rfl)
theorem dX19_drift_92 : decode cX19_drift 92 = .ok (.aload_n 0, 1) := dk_42 (dk_at dksX19_drift_4 2 rfl rfl)
theorem dX19_drift_93 : decode cX19_drift 93 = .ok (.getfield 363, 3) := dk_180 1 107 (dk_at dksX19_drift_4 3 rfl rfl)
theorem dX19_drift_96 : decode cX19_drift 96 = .ok (.getfield 251, 3) := dk_180 0 251 (dk_at dksX19_drift_4 6 rfl rfl)
theorem dX19_drift_99 : decode cX19_drift 99 = .ok (.if_icmp .ge 151, 3) := dk_162 0 151 (dk_at dksX19_drift_4 9 rfl rfl)
theorem dX19_drift_102 : decode cX19_drift 102 = .ok (.iload 7, 2) := dk_21 7 (dk_at dksX19_drift_4 12 rfl rfl)
theorem dX19_drift_104 : decode cX19_drift 104 = .ok (.ifCond .eq 17, 3) := dk_153 0 17 (dk_at dksX19_drift_4 14 rfl rfl)
theorem dX19_drift_107 : decode cX19_drift 107 = .ok (.iload 7, 2) := dk_21 7 (dk_at dksX19_drift_4 17 rfl rfl)
theorem dX19_drift_109 : decode cX19_drift 109 = .ok (.aload_n 0, 1) := dk_42 (dk_at dksX19_drift_4 19 rfl rfl)
theorem dX19_drift_110 : decode cX19_drift 110 = .ok (.getfield 363, 3) := dk_180 1 107 (dk_at dksX19_drift_4 20 rfl rfl)
theorem dX19_drift_113 : decode cX19_drift 113 = .ok (.getfield 251, 3) := dk_180 0 251 (dk_at dksX19_drift_5 0 rfl rfl)
theorem dX19_drift_116 : decode cX19_drift 116 = .ok (.iconst 1, 1) := dk_4 (dk_at dksX19_drift_5 3 rfl rfl)
theorem dX19_drift_117 : decode cX19_drift 117 = .ok (.isub, 1) := dk_100 (dk_at dksX19_drift_5 4 rfl rfl)
theorem dX19_drift_118 : decode cX19_drift 118 = .ok (.if_icmp .ne 7, 3) := dk_160 0 7 (dk_at dksX19_drift_5 5 rfl rfl)
theorem dX19_drift_121 : decode cX19_drift 121 = .ok (.iconst 1, 1) := dk_4 (dk_at dksX19_drift_5 8 rfl rfl)
theorem dX19_drift_122 : decode cX19_drift 122 = .ok (.goto 4, 3) := dk_167 0 4 (dk_at dksX19_drift_5 9 rfl rfl)
theorem dX19_drift_125 : decode cX19_drift 125 = .ok (.iconst 2, 1) := dk_5 (dk_at dksX19_drift_5 12 rfl rfl)
theorem dX19_drift_126 : decode cX19_drift 126 = .ok (.istore 8, 2) := dk_54 8 (dk_at dksX19_drift_5 13 rfl rfl)
theorem dX19_drift_128 : decode cX19_drift 128 = .ok (.aload_n 0, 1) := dk_42 (dk_at dksX19_drift_5 15 rfl rfl)
theorem dX19_drift_129 : decode cX19_drift 129 = .ok (.getfield 85, 3) := dk_180 0 85 (dk_at dksX19_drift_5 16 rfl rfl)
theorem dX19_drift_132 : decode cX19_drift 132 = .ok (.iload 7, 2) := dk_21 7 (dk_at dksX19_drift_5 19 rfl rfl)
theorem dX19_drift_134 : decode cX19_drift 134 = .ok (.aload_n 0, 1) := dk_42 (dk_at dksX19_drift_5 21 rfl rfl)
theorem dX19_drift_135 : decode cX19_drift 135 = .ok (.getfield 81, 3) := dk_180 0 81 (dk_at dksX19_drift_6 0 rfl rfl)
theorem dX19_drift_138 : decode cX19_drift 138 = .ok (.iload 7, 2) := dk_21 7 (dk_at dksX19_drift_6 3 rfl rfl)
theorem dX19_drift_140 : decode cX19_drift 140 = .ok (.laload, 1) := dk_47 (dk_at dksX19_drift_6 5 rfl rfl)
theorem dX19_drift_141 : decode cX19_drift 141 = .ok (.ldc2_w 540, 3) := dk_20 2 28 (dk_at dksX19_drift_6 6 rfl rfl)
theorem dX19_drift_144 : decode cX19_drift 144 = .ok (.aload_n 0, 1) := dk_42 (dk_at dksX19_drift_6 9 rfl rfl)
theorem dX19_drift_145 : decode cX19_drift 145 = .ok (.getfield 363, 3) := dk_180 1 107 (dk_at dksX19_drift_6 10 rfl rfl)
theorem dX19_drift_148 : decode cX19_drift 148 = .ok (.getfield 251, 3) := dk_180 0 251 (dk_at dksX19_drift_6 13 rfl rfl)
theorem dX19_drift_151 : decode cX19_drift 151 = .ok (.iconst 1, 1) := dk_4 (dk_at dksX19_drift_6 16 rfl rfl)
theorem dX19_drift_152 : decode cX19_drift 152 = .ok (.isub, 1) := dk_100 (dk_at dksX19_drift_6 17 rfl rfl)
theorem dX19_drift_153 : decode cX19_drift 153 = .ok (.i2l, 1) := dk_133 (dk_at dksX19_drift_6 18 rfl rfl)
theorem dX19_drift_154 : decode cX19_drift 154 = .ok (.lmul, 1) := dk_105 (dk_at dksX19_drift_6 19 rfl rfl)
theorem dX19_drift_155 : decode cX19_drift 155 = .ok (.aload_n 0, 1) := dk_42 (dk_at dksX19_drift_6 20 rfl rfl)
theorem dX19_drift_156 : decode cX19_drift 156 = .ok (.getfield 363, 3) := dk_180 1 107 (dk_at dksX19_drift_6 21 rfl rfl)
theorem dX19_drift_159 : decode cX19_drift 159 = .ok (.getfield 255, 3) := dk_180 0 255 (dk_at dksX19_drift_7 0 rfl rfl)
theorem dX19_drift_162 : decode cX19_drift 162 = .ok (.iload 8, 2) := dk_21 8 (dk_at dksX19_drift_7 3 rfl rfl)
theorem dX19_drift_164 : decode cX19_drift 164 = .ok (.imul, 1) := dk_104 (dk_at dksX19_drift_7 5 rfl rfl)
theorem dX19_drift_165 : decode cX19_drift 165 = .ok (.i2l, 1) := dk_133 (dk_at dksX19_drift_7 6 rfl rfl)
theorem dX19_drift_166 : decode cX19_drift 166 = .ok (.lsub, 1) := dk_101 (dk_at dksX19_drift_7 7 rfl rfl)
theorem dX19_drift_167 : decode cX19_drift 167 = .ok (.lmul, 1) := dk_105 (dk_at dksX19_drift_7 8 rfl rfl)
theorem dX19_drift_168 : decode cX19_drift 168 = .ok (.lastore, 1) := dk_80 (dk_at dksX19_drift_7 9 rfl rfl)
theorem dX19_drift_169 : decode cX19_drift 169 = .ok (.iload 7, 2) := dk_21 7 (dk_at dksX19_drift_7 10 rfl rfl)
theorem dX19_drift_171 : decode cX19_drift 171 = .ok (.ifCond .le 31, 3) := dk_158 0 31 (dk_at dksX19_drift_7 12 rfl rfl)
theorem dX19_drift_174 : decode cX19_drift 174 = .ok (.aload_n 0, 1) := dk_42 (dk_at dksX19_drift_7 15 rfl rfl)
theorem dX19_drift_175 : decode cX19_drift 175 = .ok (.getfield 85, 3) := dk_180 0 85 (dk_at dksX19_drift_7 16 rfl rfl)
theorem dX19_drift_178 : decode cX19_drift 178 = .ok (.iload 7, 2) := dk_21 7 (dk_at dksX19_drift_7 19 rfl rfl)
theorem dX19_drift_180 : decode cX19_drift 180 = .ok (.dup2, 1) := dk_92 (dk_at dksX19_drift_7 21 rfl rfl)
theorem dX19_drift_181 : decode cX19_drift 181 = .ok (.laload, 1) := dk_47 (dk_at dksX19_drift_7 22 rfl rfl)
theorem dX19_drift_182 : decode cX19_drift 182 = .ok (.aload_n 0, 1) := dk_42 (dk_at dksX19_drift_7 23 rfl rfl)
theorem dX19_drift_183 : decode cX19_drift 183 = .ok (.getfield 81, 3) := dk_180 0 81 (dk_at dksX19_drift_8 0 rfl rfl)
theorem dX19_drift_186 : decode cX19_drift 186 = .ok (.iload 7, 2) := dk_21 7 (dk_at dksX19_drift_8 3 rfl rfl)
theorem dX19_drift_188 : decode cX19_drift 188 = .ok (.iconst 1, 1) := dk_4 (dk_at dksX19_drift_8 5 rfl rfl)
theorem dX19_drift_189 : decode cX19_drift 189 = .ok (.isub, 1) := dk_100 (dk_at dksX19_drift_8 6 rfl rfl)
theorem dX19_drift_190 : decode cX19_drift 190 = .ok (.laload, 1) := dk_47 (dk_at dksX19_drift_8 7 rfl rfl)
theorem dX19_drift_191 : decode cX19_drift 191 = .ok (.aload_n 0, 1) := dk_42 (dk_at dksX19_drift_8 8 rfl rfl)
theorem dX19_drift_192 : decode cX19_drift 192 = .ok (.getfield 363, 3) := dk_180 1 107 (dk_at dksX19_drift_8 9 rfl rfl)
theorem dX19_drift_195 : decode cX19_drift 195 = .ok (.getfield 255, 3) := dk_180 0 255 (dk_at dksX19_drift_8 12 rfl rfl)
theorem dX19_drift_198 : decode cX19_drift 198 = .ok (.i2l, 1) := dk_133 (dk_at dksX19_drift_8 15 rfl rfl)
theorem dX19_drift_199 : decode cX19_drift 199 = .ok (.lmul, 1) := dk_105 (dk_at dksX19_drift_8 16 rfl rfl)
theorem dX19_drift_200 : decode cX19_drift 200 = .ok (.ladd, 1) := dk_97 (dk_at dksX19_drift_8 17 rfl rfl)
theorem dX19_drift_201 : decode cX19_drift 201 = .ok (.lastore, 1) := dk_80 (dk_at dksX19_drift_8 18 rfl rfl)
theorem dX19_drift_202 : decode cX19_drift 202 = .ok (.iload 7, 2) := dk_21 7 (dk_at dksX19_drift_8 19 rfl rfl)
theorem dX19_drift_204 : decode cX19_drift 204 = .ok (.iconst 1, 1) := dk_4 (dk_at dksX19_drift_8 21 rfl rfl)
theorem dX19_drift_205 : decode cX19_drift 205 = .ok (.iadd, 1) := dk_96 (dk_at dksX19_drift_8 22 rfl rfl)
theorem dX19_drift_206 : decode cX19_drift 206 = .ok (.aload_n 0, 1) := dk_42 (dk_at dksX19_drift_8 23 rfl rfl)
theorem dX19_drift_207 : decode cX19_drift 207 = .ok (.getfield 363, 3) := dk_180 1 107 (dk_at dksX19_drift_9 0 rfl rfl)
theorem dX19_drift_210 : decode cX19_drift 210 = .ok (.getfield 251, 3) := dk_180 0 251 (dk_at dksX19_drift_9 3 rfl rfl)
theorem dX19_drift_213 : decode cX19_drift 213 = .ok (.if_icmp .ge 31, 3) := dk_162 0 31 (dk_at dksX19_drift_9 6 rfl rfl)
theorem dX19_drift_216 : decode cX19_drift 216 = .ok (.aload_n 0, 1) := dk_42 (dk_at dksX19_drift_9 9 rfl rfl)
theorem dX19_drift_217 : decode cX19_drift 217 = .ok (.getfield 85, 3) := dk_180 0 85 (dk_at dksX19_drift_9 10 rfl rfl)
theorem dX19_drift_220 : decode cX19_drift 220 = .ok (.iload 7, 2) := dk_21 7 (dk_at dksX19_drift_9 13 rfl rfl)
theorem dX19_drift_222 : decode cX19_drift 222 = .ok (.dup2, 1) := dk_92 (dk_at dksX19_drift_9 15 rfl rfl)
theorem dX19_drift_223 : decode cX19_drift 223 = .ok (.laload, 1) := dk_47 (dk_at dksX19_drift_9 16 rfl rfl)
theorem dX19_drift_224 : decode cX19_drift 224 = .ok (.aload_n 0, 1) := dk_42 (dk_at dksX19_drift_9 17 rfl rfl)
theorem dX19_drift_225 : decode cX19_drift 225 = .ok (.getfield 81, 3) := dk_180 0 81 (dk_at dksX19_drift_9 18 rfl rfl)
theorem dX19_drift_228 : decode cX19_drift 228 = .ok (.iload 7, 2) := dk_21 7 (dk_at dksX19_drift_9 21 rfl rfl)
theorem dX19_drift_230 : decode cX19_drift 230 = .ok (.iconst 1, 1) := dk_4 (dk_at dksX19_drift_9 23 rfl rfl)
theorem dX19_drift_231 : decode cX19_drift 231 = .ok (.iadd, 1) := dk_96 (dk_at dksX19_drift_10 0 rfl rfl)
theorem dX19_drift_232 : decode cX19_drift 232 = .ok (.laload, 1) := dk_47 (dk_at dksX19_drift_10 1 rfl rfl)
theorem dX19_drift_233 : decode cX19_drift 233 = .ok (.aload_n 0, 1) := dk_42 (dk_at dksX19_drift_10 2 rfl rfl)
theorem dX19_drift_234 : decode cX19_drift 234 = .ok (.getfield 363, 3) := dk_180 1 107 (dk_at dksX19_drift_10 3 rfl rfl)
theorem dX19_drift_237 : decode cX19_drift 237 = .ok (.getfield 255, 3) := dk_180 0 255 (dk_at dksX19_drift_10 6 rfl rfl)
theorem dX19_drift_240 : decode cX19_drift 240 = .ok (.i2l, 1) := dk_133 (dk_at dksX19_drift_10 9 rfl rfl)
theorem dX19_drift_241 : decode cX19_drift 241 = .ok (.lmul, 1) := dk_105 (dk_at dksX19_drift_10 10 rfl rfl)
theorem dX19_drift_242 : decode cX19_drift 242 = .ok (.ladd, 1) := dk_97 (dk_at dksX19_drift_10 11 rfl rfl)
theorem dX19_drift_243 : decode cX19_drift 243 = .ok (.lastore, 1) := dk_80 (dk_at dksX19_drift_10 12 rfl rfl)
theorem dX19_drift_244 : decode cX19_drift 244 = .ok (.iinc 7 1, 3) := dk_132 7 1 (dk_at dksX19_drift_10 13 rfl rfl)
theorem dX19_drift_247 : decode cX19_drift 247 = .ok (.goto (-157), 3) := dk_167 255 99 (dk_at dksX19_drift_10 16 rfl rfl)
theorem dX19_drift_250 : decode cX19_drift 250 = .ok (.iconst 0, 1) := dk_3 (dk_at dksX19_drift_10 19 rfl rfl)
theorem dX19_drift_251 : decode cX19_drift 251 = .ok (.istore 7, 2) := dk_54 7 (dk_at dksX19_drift_10 20 rfl rfl)
theorem dX19_drift_253 : decode cX19_drift 253 = .ok (.iload 7, 2) := dk_21 7 (dk_at dksX19_drift_10 22 rfl rfl)
theorem dX19_drift_255 : decode cX19_drift 255 = .ok (.aload_n 0, 1) := dk_42 (dk_at dksX19_drift_11 0 rfl rfl)
theorem dX19_drift_256 : decode cX19_drift 256 = .ok (.getfield 363, 3) := dk_180 1 107 (dk_at dksX19_drift_11 1 rfl rfl)
theorem dX19_drift_259 : decode cX19_drift 259 = .ok (.getfield 251, 3) := dk_180 0 251 (dk_at dksX19_drift_11 4 rfl rfl)
theorem dX19_drift_262 : decode cX19_drift 262 = .ok (.if_icmp .ge 23, 3) := dk_162 0 23 (dk_at dksX19_drift_11 7 rfl rfl)
theorem dX19_drift_265 : decode cX19_drift 265 = .ok (.aload_n 0, 1) := dk_42 (dk_at dksX19_drift_11 10 rfl rfl)
theorem dX19_drift_266 : decode cX19_drift 266 = .ok (.getfield 81, 3) := dk_180 0 81 (dk_at dksX19_drift_11 11 rfl rfl)
theorem dX19_drift_269 : decode cX19_drift 269 = .ok (.iload 7, 2) := dk_21 7 (dk_at dksX19_drift_11 14 rfl rfl)
theorem dX19_drift_271 : decode cX19_drift 271 = .ok (.aload_n 0, 1) := dk_42 (dk_at dksX19_drift_11 16 rfl rfl)
theorem dX19_drift_272 : decode cX19_drift 272 = .ok (.getfield 85, 3) := dk_180 0 85 (dk_at dksX19_drift_11 17 rfl rfl)
theorem dX19_drift_275 : decode cX19_drift 275 = .ok (.iload 7, 2) := dk_21 7 (dk_at dksX19_drift_11 20 rfl rfl)
theorem dX19_drift_277 : decode cX19_drift 277 = .ok (.laload, 1) := dk_47 (dk_at dksX19_drift_11 22 rfl rfl)
theorem dX19_drift_278 : decode cX19_drift 278 = .ok (.lastore, 1) := dk_80 (dk_at dksX19_drift_11 23 rfl rfl)
theorem dX19_drift_279 : decode cX19_drift 279 = .ok (.iinc 7 1, 3) := dk_132 7 1 (dk_at dksX19_drift_12 0 rfl rfl)
theorem dX19_drift_282 : decode cX19_drift 282 = .ok (.goto (-29), 3) := dk_167 255 227 (dk_at dksX19_drift_12 3 rfl rfl)
theorem dX19_drift_285 : decode cX19_drift 285 = .ok (.lload 4, 2) := dk_22 4 (dk_at dksX19_drift_12 6 rfl rfl)
theorem dX19_drift_287 : decode cX19_drift 287 = .ok (.ldc2_w 540, 3) := dk_20 2 28 (dk_at dksX19_drift_12 8 rfl rfl)
theorem dX19_drift_290 : decode cX19_drift 290 = .ok (.aload_n 0, 1) := dk_42 (dk_at dksX19_drift_12 11 rfl rfl)
theorem dX19_drift_291 : decode cX19_drift 291 = .ok (.getfield 363, 3) := dk_180 1 107 (dk_at dksX19_drift_12 12 rfl rfl)
theorem dX19_drift_294 : decode cX19_drift 294 = .ok (.getfield 251, 3) := dk_180 0 251 (dk_at dksX19_drift_12 15 rfl rfl)
theorem dX19_drift_297 : decode cX19_drift 297 = .ok (.iconst 1, 1) := dk_4 (dk_at dksX19_drift_12 18 rfl rfl)
theorem dX19_drift_298 : decode cX19_drift 298 = .ok (.isub, 1) := dk_100 (dk_at dksX19_drift_12 19 rfl rfl)
theorem dX19_drift_299 : decode cX19_drift 299 = .ok (.i2l, 1) := dk_133 (dk_at dksX19_drift_12 20 rfl rfl)
theorem dX19_drift_300 : decode cX19_drift 300 = .ok (.lmul, 1) := dk_105 (dk_at dksX19_drift_12 21 rfl rfl)
theorem dX19_drift_301 : decode cX19_drift 301 = .ok (.lmul, 1) := dk_105 (dk_at dksX19_drift_12 22 rfl rfl)
theorem dX19_drift_302 : decode cX19_drift 302 = .ok (.lstore 4, 2) := dk_55 4 (dk_at dksX19_drift_13 0 rfl rfl)
theorem dX19_drift_304 : decode cX19_drift 304 = .ok (.iinc 6 1, 3) := dk_132 6 1 (dk_at dksX19_drift_13 2 rfl rfl)
theorem dX19_drift_307 : decode cX19_drift 307 = .ok (.goto (-226), 3) := dk_167 255 30 (dk_at dksX19_drift_13 5 rfl rfl)
theorem dX19_drift_310 : decode cX19_drift 310 = .ok (.aload_n 0, 1) := dk_42 (dk_at dksX19_drift_13 8 rfl rfl)
theorem dX19_drift_311 : decode cX19_drift 311 = .ok (.getfield 81, 3) := dk_180 0 81 (dk_at dksX19_drift_13 9 rfl rfl)
theorem dX19_drift_314 : decode cX19_drift 314 = .ok (.iload_n 1, 1) := dk_27 (dk_at dksX19_drift_13 12 rfl rfl)
theorem dX19_drift_315 : decode cX19_drift 315 = .ok (.laload, 1) := dk_47 (dk_at dksX19_drift_13 13 rfl rfl)
theorem dX19_drift_316 : decode cX19_drift 316 = .ok (.lstore 6, 2) := dk_55 6 (dk_at dksX19_drift_13 14 rfl rfl)
theorem dX19_drift_318 : decode cX19_drift 318 = .ok (.lload 4, 2) := dk_22 4 (dk_at dksX19_drift_13 16 rfl rfl)
theorem dX19_drift_320 : decode cX19_drift 320 = .ok (.lstore 8, 2) := dk_55 8 (dk_at dksX19_drift_13 18 rfl rfl)
theorem dX19_drift_322 : decode cX19_drift 322 = .ok (.lload 8, 2) := dk_22 8 (dk_at dksX19_drift_13 20 rfl rfl)
theorem dX19_drift_324 : decode cX19_drift 324 = .ok (.lconst 0, 1) := dk_9 (dk_at dksX19_drift_13 22 rfl rfl)
theorem dX19_drift_325 : decode cX19_drift 325 = .ok (.lcmp, 1) := dk_148 (dk_at dksX19_drift_13 23 rfl rfl)
theorem dX19_drift_326 : decode cX19_drift 326 = .ok (.ifCond .eq 21, 3) := dk_153 0 21 (dk_at dksX19_drift_14 0 rfl rfl)
theorem dX19_drift_329 : decode cX19_drift 329 = .ok (.lload 6, 2) := dk_22 6 (dk_at dksX19_drift_14 3 rfl rfl)
theorem dX19_drift_331 : decode cX19_drift 331 = .ok (.lload 8, 2) := dk_22 8 (dk_at dksX19_drift_14 5 rfl rfl)
theorem dX19_drift_333 : decode cX19_drift 333 = .ok (.lrem, 1) := dk_113 (dk_at dksX19_drift_14 7 rfl rfl)
theorem dX19_drift_334 : decode cX19_drift 334 = .ok (.lstore 10, 2) := dk_55 10 (dk_at dksX19_drift_14 8 rfl rfl)
theorem dX19_drift_336 : decode cX19_drift 336 = .ok (.lload 8, 2) := dk_22 8 (dk_at dksX19_drift_14 10 rfl rfl)
theorem dX19_drift_338 : decode cX19_drift 338 = .ok (.lstore 6, 2) := dk_55 6 (dk_at dksX19_drift_14 12 rfl rfl)
theorem dX19_drift_340 : decode cX19_drift 340 = .ok (.lload 10, 2) := dk_22 10 (dk_at dksX19_drift_14 14 rfl rfl)
theorem dX19_drift_342 : decode cX19_drift 342 = .ok (.lstore 8, 2) := dk_55 8 (dk_at dksX19_drift_14 16 rfl rfl)
theorem dX19_drift_344 : decode cX19_drift 344 = .ok (.goto (-22), 3) := dk_167 255 234 (dk_at dksX19_drift_14 18 rfl rfl)
theorem dX19_drift_347 : decode cX19_drift 347 = .ok (.aload_n 0, 1) := dk_42 (dk_at dksX19_drift_14 21 rfl rfl)
theorem dX19_drift_348 : decode cX19_drift 348 = .ok (.iconst 0, 1) := dk_3 (dk_at dksX19_drift_14 22 rfl rfl)
theorem dX19_drift_349 : decode cX19_drift 349 = .ok (.invokevirtual 98, 3) := dk_182 0 98 (dk_at dksX19_drift_15 0 rfl rfl)
theorem dX19_drift_352 : decode cX19_drift 352 = .ok (.pop, 1) := dk_87 (dk_at dksX19_drift_15 3 rfl rfl)
theorem dX19_drift_353 : decode cX19_drift 353 = .ok (.iload_n 3, 1) := dk_29 (dk_at dksX19_drift_15 4 rfl rfl)
theorem dX19_drift_354 : decode cX19_drift 354 = .ok (.ifCond .eq 11, 3) := dk_153 0 11 (dk_at dksX19_drift_15 5 rfl rfl)
theorem dX19_drift_357 : decode cX19_drift 357 = .ok (.lload 4, 2) := dk_22 4 (dk_at dksX19_drift_15 8 rfl rfl)
theorem dX19_drift_359 : decode cX19_drift 359 = .ok (.lload 6, 2) := dk_22 6 (dk_at dksX19_drift_15 10 rfl rfl)
theorem dX19_drift_361 : decode cX19_drift 361 = .ok (.ldiv, 1) := dk_109 (dk_at dksX19_drift_15 12 rfl rfl)
theorem dX19_drift_362 : decode cX19_drift 362 = .ok (.goto 12, 3) := dk_167 0 12 (dk_at dksX19_drift_15 13 rfl rfl)
theorem dX19_drift_365 : decode cX19_drift 365 = .ok (.aload_n 0, 1) := dk_42 (dk_at dksX19_drift_15 16 rfl rfl)
theorem dX19_drift_366 : decode cX19_drift 366 = .ok (.getfield 81, 3) := dk_180 0 81 (dk_at dksX19_drift_15 17 rfl rfl)
theorem dX19_drift_369 : decode cX19_drift 369 = .ok (.iload_n 1, 1) := dk_27 (dk_at dksX19_drift_15 20 rfl rfl)
theorem dX19_drift_370 : decode cX19_drift 370 = .ok (.laload, 1) := dk_47 (dk_at dksX19_drift_15 21 rfl rfl)
theorem dX19_drift_371 : decode cX19_drift 371 = .ok (.lload 6, 2) := dk_22 6 (dk_at dksX19_drift_15 22 rfl rfl)
theorem dX19_drift_373 : decode cX19_drift 373 = .ok (.ldiv, 1) := dk_109 (dk_at dksX19_drift_16 0 rfl rfl)
theorem dX19_drift_374 : decode cX19_drift 374 = .ok (.lreturn, 1) := dk_173 (dk_at dksX19_drift_16 1 rfl rfl)
abbrev cX19_move : ByteArray := prog_24_method_119_code
def yX19_move : MethodName := ⟨RX19, "move", "(III)Z"⟩
def dkwX19_move_3 : List UInt8 := [29, 182, 2, 36, 42, 182, 2, 40, 172]
abbrev dktX19_move_3 : List UInt8 := dkwX19_move_3 ++ []
def dkwX19_move_2 : List UInt8 := [180, 0, 21, 16, 21, 46, 16, 12, 160, 0, 9, 42, 6, 182, 2, 30, 172, 42, 182, 2, 33, 42, 27, 28]
abbrev dktX19_move_2 : List UInt8 := dkwX19_move_2 ++ dktX19_move_3
def dkwX19_move_1 : List UInt8 := [160, 0, 9, 42, 4, 182, 2, 30, 172, 42, 27, 182, 1, 175, 154, 0, 9, 42, 5, 182, 2, 30, 172, 42]
abbrev dktX19_move_1 : List UInt8 := dkwX19_move_1 ++ dktX19_move_2
def dkwX19_move_0 : List UInt8 := [42, 3, 181, 0, 88, 42, 28, 182, 1, 194, 153, 0, 16, 42, 29, 182, 1, 194, 153, 0, 8, 28, 29]
abbrev dktX19_move_0 : List UInt8 := dkwX19_move_0 ++ dktX19_move_1
theorem dksX19_move_0 : cX19_move.data.toList.drop 0 = dktX19_move_0 := by decide +kernel
theorem dksX19_move_1 : cX19_move.data.toList.drop 23 = dktX19_move_1 := dk_seg dksX19_move_0 23 rfl rfl
theorem dksX19_move_2 : cX19_move.data.toList.drop 47 = dktX19_move_2 := dk_seg dksX19_move_1 24 rfl rfl
theorem dksX19_move_3 : cX19_move.data.toList.drop 71 = dktX19_move_3 := dk_seg dksX19_move_2 24 rfl rfl
theorem dX19_move_0 : decode cX19_move 0 = .ok (.aload_n 0, 1) := dk_42 (dk_at dksX19_move_0 0 rfl rfl)
theorem dX19_move_1 : decode cX19_move 1 = .ok (.iconst 0, 1) := dk_3 (dk_at dksX19_move_0 1 rfl rfl)
theorem dX19_move_2 : decode cX19_move 2 = .ok (.putfield 88, 3) := dk_181 0 88 (dk_at dksX19_move_0 2 rfl rfl)
theorem dX19_move_5 : decode cX19_move 5 = .ok (.aload_n 0, 1) := dk_42 (dk_at dksX19_move_0 5 rfl rfl)
theorem dX19_move_6 : decode cX19_move 6 = .ok (.iload_n 2, 1) := dk_28 (dk_at dksX19_move_0 6 rfl rfl)
theorem dX19_move_7 : decode cX19_move 7 = .ok (.invokevirtual 450, 3) := dk_182 1 194 (dk_at dksX19_move_0 7 rfl rfl)
theorem dX19_move_10 : decode cX19_move 10 = .ok (.ifCond .eq 16, 3) := dk_153 0 16 (dk_at dksX19_move_0 10 rfl rfl)
theorem dX19_move_13 : decode cX19_move 13 = .ok (.aload_n 0, 1) := dk_42 (dk_at dksX19_move_0 13 rfl rfl)
theorem dX19_move_14 : decode cX19_move 14 = .ok (.iload_n 3, 1) := dk_29 (dk_at dksX19_move_0 14 rfl rfl)
theorem dX19_move_15 : decode cX19_move 15 = .ok (.invokevirtual 450, 3) := dk_182 1 194 (dk_at dksX19_move_0 15 rfl rfl)
theorem dX19_move_18 : decode cX19_move 18 = .ok (.ifCond .eq 8, 3) := dk_153 0 8 (dk_at dksX19_move_0 18 rfl rfl)
theorem dX19_move_21 : decode cX19_move 21 = .ok (.iload_n 2, 1) := dk_28 (dk_at dksX19_move_0 21 rfl rfl)
theorem dX19_move_22 : decode cX19_move 22 = .ok (.iload_n 3, 1) := dk_29 (dk_at dksX19_move_0 22 rfl rfl)
theorem dX19_move_23 : decode cX19_move 23 = .ok (.if_icmp .ne 9, 3) := dk_160 0 9 (dk_at dksX19_move_1 0 rfl rfl)
theorem dX19_move_26 : decode cX19_move 26 = .ok (.aload_n 0, 1) := dk_42 (dk_at dksX19_move_1 3 rfl rfl)
theorem dX19_move_27 : decode cX19_move 27 = .ok (.iconst 1, 1) := dk_4 (dk_at dksX19_move_1 4 rfl rfl)
theorem dX19_move_28 : decode cX19_move 28 = .ok (.invokevirtual 542, 3) := dk_182 2 30 (dk_at dksX19_move_1 5 rfl rfl)
theorem dX19_move_31 : decode cX19_move 31 = .ok (.ireturn, 1) := dk_172 (dk_at dksX19_move_1 8 rfl rfl)
theorem dX19_move_32 : decode cX19_move 32 = .ok (.aload_n 0, 1) := dk_42 (dk_at dksX19_move_1 9 rfl rfl)
theorem dX19_move_33 : decode cX19_move 33 = .ok (.iload_n 1, 1) := dk_27 (dk_at dksX19_move_1 10 rfl rfl)
theorem dX19_move_34 : decode cX19_move 34 = .ok (.invokevirtual 431, 3) := dk_182 1 175 (dk_at dksX19_move_1 11 rfl rfl)
theorem dX19_move_37 : decode cX19_move 37 = .ok (.ifCond .ne 9, 3) := dk_154 0 9 (dk_at dksX19_move_1 14 rfl rfl)
theorem dX19_move_40 : decode cX19_move 40 = .ok (.aload_n 0, 1) := dk_42 (dk_at dksX19_move_1 17 rfl rfl)
theorem dX19_move_41 : decode cX19_move 41 = .ok (.iconst 2, 1) := dk_5 (dk_at dksX19_move_1 18 rfl rfl)
theorem dX19_move_42 : decode cX19_move 42 = .ok (.invokevirtual 542, 3) := dk_182 2 30 (dk_at dksX19_move_1 19 rfl rfl)
theorem dX19_move_45 : decode cX19_move 45 = .ok (.ireturn, 1) := dk_172 (dk_at dksX19_move_1 22 rfl rfl)
theorem dX19_move_46 : decode cX19_move 46 = .ok (.aload_n 0, 1) := dk_42 (dk_at dksX19_move_1 23 rfl rfl)
theorem dX19_move_47 : decode cX19_move 47 = .ok (.getfield 21, 3) := dk_180 0 21 (dk_at dksX19_move_2 0 rfl rfl)
theorem dX19_move_50 : decode cX19_move 50 = .ok (.bipush 21, 2) := dk_16 21 (dk_at dksX19_move_2 3 rfl rfl)
theorem dX19_move_52 : decode cX19_move 52 = .ok (.iaload, 1) := dk_46 (dk_at dksX19_move_2 5 rfl rfl)
theorem dX19_move_53 : decode cX19_move 53 = .ok (.bipush 12, 2) := dk_16 12 (dk_at dksX19_move_2 6 rfl rfl)
theorem dX19_move_55 : decode cX19_move 55 = .ok (.if_icmp .ne 9, 3) := dk_160 0 9 (dk_at dksX19_move_2 8 rfl rfl)
theorem dX19_move_58 : decode cX19_move 58 = .ok (.aload_n 0, 1) := dk_42 (dk_at dksX19_move_2 11 rfl rfl)
theorem dX19_move_59 : decode cX19_move 59 = .ok (.iconst 3, 1) := dk_6 (dk_at dksX19_move_2 12 rfl rfl)
theorem dX19_move_60 : decode cX19_move 60 = .ok (.invokevirtual 542, 3) := dk_182 2 30 (dk_at dksX19_move_2 13 rfl rfl)
theorem dX19_move_63 : decode cX19_move 63 = .ok (.ireturn, 1) := dk_172 (dk_at dksX19_move_2 16 rfl rfl)
theorem dX19_move_64 : decode cX19_move 64 = .ok (.aload_n 0, 1) := dk_42 (dk_at dksX19_move_2 17 rfl rfl)
theorem dX19_move_65 : decode cX19_move 65 = .ok (.invokevirtual 545, 3) := dk_182 2 33 (dk_at dksX19_move_2 18 rfl rfl)
theorem dX19_move_68 : decode cX19_move 68 = .ok (.aload_n 0, 1) := dk_42 (dk_at dksX19_move_2 21 rfl rfl)
theorem dX19_move_69 : decode cX19_move 69 = .ok (.iload_n 1, 1) := dk_27 (dk_at dksX19_move_2 22 rfl rfl)
theorem dX19_move_70 : decode cX19_move 70 = .ok (.iload_n 2, 1) := dk_28 (dk_at dksX19_move_2 23 rfl rfl)
theorem dX19_move_71 : decode cX19_move 71 = .ok (.iload_n 3, 1) := dk_29 (dk_at dksX19_move_3 0 rfl rfl)
theorem dX19_move_72 : decode cX19_move 72 = .ok (.invokevirtual 548, 3) := dk_182 2 36 (dk_at dksX19_move_3 1 rfl rfl)
theorem dX19_move_75 : decode cX19_move 75 = .ok (.aload_n 0, 1) := dk_42 (dk_at dksX19_move_3 4 rfl rfl)
theorem dX19_move_76 : decode cX19_move 76 = .ok (.invokevirtual 552, 3) := dk_182 2 40 (dk_at dksX19_move_3 5 rfl rfl)
theorem dX19_move_79 : decode cX19_move 79 = .ok (.ireturn, 1) := dk_172 (dk_at dksX19_move_3 8 rfl rfl)
abbrev cX19_denied : ByteArray := prog_24_method_4_code
def yX19_denied : MethodName := ⟨RX19, "denied", "(I)Z"⟩
def dkwX19_denied_0 : List UInt8 := [42, 27, 182, 0, 94, 87, 3, 172]
abbrev dktX19_denied_0 : List UInt8 := dkwX19_denied_0 ++ []
theorem dksX19_denied_0 : cX19_denied.data.toList.drop 0 = dktX19_denied_0 := by decide +kernel
theorem dX19_denied_0 : decode cX19_denied 0 = .ok (.aload_n 0, 1) := dk_42 (dk_at dksX19_denied_0 0 rfl rfl)
theorem dX19_denied_1 : decode cX19_denied 1 = .ok (.iload_n 1, 1) := dk_27 (dk_at dksX19_denied_0 1 rfl rfl)
theorem dX19_denied_2 : decode cX19_denied 2 = .ok (.invokevirtual 94, 3) := dk_182 0 94 (dk_at dksX19_denied_0 2 rfl rfl)
theorem dX19_denied_5 : decode cX19_denied 5 = .ok (.pop, 1) := dk_87 (dk_at dksX19_denied_0 5 rfl rfl)
theorem dX19_denied_6 : decode cX19_denied 6 = .ok (.iconst 0, 1) := dk_3 (dk_at dksX19_denied_0 6 rfl rfl)
theorem dX19_denied_7 : decode cX19_denied 7 = .ok (.ireturn, 1) := dk_172 (dk_at dksX19_denied_0 7 rfl rfl)
abbrev cX19_keepsAll : ByteArray := prog_24_method_117_code
def yX19_keepsAll : MethodName := ⟨RX19, "keepsAll", "()V"⟩
def dkwX19_keepsAll_3 : List UInt8 := [42, 180, 0, 21, 27, 46, 79, 132, 1, 1, 167, 255, 227, 42, 89, 180, 1, 109, 4, 96, 181, 1, 109, 177]
abbrev dktX19_keepsAll_3 : List UInt8 := dkwX19_keepsAll_3 ++ []
def dkwX19_keepsAll_2 : List UInt8 := [181, 1, 109, 3, 60, 27, 16, 59, 162, 0, 29, 42, 180, 0, 24, 16, 59, 42, 180, 1, 109, 104, 27, 96]
abbrev dktX19_keepsAll_2 : List UInt8 := dkwX19_keepsAll_2 ++ dktX19_keepsAll_3
def dkwX19_keepsAll_1 : List UInt8 := [180, 0, 24, 27, 16, 59, 96, 46, 79, 132, 1, 1, 167, 255, 231, 42, 89, 180, 1, 109, 4, 100]
abbrev dktX19_keepsAll_1 : List UInt8 := dkwX19_keepsAll_1 ++ dktX19_keepsAll_2
def dkwX19_keepsAll_0 : List UInt8 := [42, 180, 1, 109, 16, 16, 160, 0, 43, 3, 60, 27, 17, 3, 117, 162, 0, 24, 42, 180, 0, 24, 27, 42]
abbrev dktX19_keepsAll_0 : List UInt8 := dkwX19_keepsAll_0 ++ dktX19_keepsAll_1
theorem dksX19_keepsAll_0 : cX19_keepsAll.data.toList.drop 0 = dktX19_keepsAll_0 := by decide +kernel
theorem dksX19_keepsAll_1 : cX19_keepsAll.data.toList.drop 24 = dktX19_keepsAll_1 := dk_seg dksX19_keepsAll_0 24 rfl rfl
theorem dksX19_keepsAll_2 : cX19_keepsAll.data.toList.drop 46 = dktX19_keepsAll_2 := dk_seg dksX19_keepsAll_1 22 rfl rfl
theorem dksX19_keepsAll_3 : cX19_keepsAll.data.toList.drop 70 = dktX19_keepsAll_3 := dk_seg dksX19_keepsAll_2 24 rfl rfl
theorem dX19_keepsAll_0 : decode cX19_keepsAll 0 = .ok (.aload_n 0, 1) := dk_42 (dk_at dksX19_keepsAll_0 0 rfl rfl)
theorem dX19_keepsAll_1 : decode cX19_keepsAll 1 = .ok (.getfield 365, 3) := dk_180 1 109 (dk_at dksX19_keepsAll_0 1 rfl rfl)
theorem dX19_keepsAll_4 : decode cX19_keepsAll 4 = .ok (.bipush 16, 2) := dk_16 16 (dk_at dksX19_keepsAll_0 4 rfl rfl)
theorem dX19_keepsAll_6 : decode cX19_keepsAll 6 = .ok (.if_icmp .ne 43, 3) := dk_160 0 43 (dk_at dksX19_keepsAll_0 6 rfl rfl)
theorem dX19_keepsAll_9 : decode cX19_keepsAll 9 = .ok (.iconst 0, 1) := dk_3 (dk_at dksX19_keepsAll_0 9 rfl rfl)
theorem dX19_keepsAll_10 : decode cX19_keepsAll 10 = .ok (.istore_n 1, 1) := dk_60 (dk_at dksX19_keepsAll_0 10 rfl rfl)
theorem dX19_keepsAll_11 : decode cX19_keepsAll 11 = .ok (.iload_n 1, 1) := dk_27 (dk_at dksX19_keepsAll_0 11 rfl rfl)
theorem dX19_keepsAll_12 : decode cX19_keepsAll 12 = .ok (.sipush 885, 3) := dk_17 3 117 (dk_at dksX19_keepsAll_0 12 rfl rfl)
theorem dX19_keepsAll_15 : decode cX19_keepsAll 15 = .ok (.if_icmp .ge 24, 3) := dk_162 0 24 (dk_at dksX19_keepsAll_0 15 rfl rfl)
theorem dX19_keepsAll_18 : decode cX19_keepsAll 18 = .ok (.aload_n 0, 1) := dk_42 (dk_at dksX19_keepsAll_0 18 rfl rfl)
theorem dX19_keepsAll_19 : decode cX19_keepsAll 19 = .ok (.getfield 24, 3) := dk_180 0 24 (dk_at dksX19_keepsAll_0 19 rfl rfl)
theorem dX19_keepsAll_22 : decode cX19_keepsAll 22 = .ok (.iload_n 1, 1) := dk_27 (dk_at dksX19_keepsAll_0 22 rfl rfl)
theorem dX19_keepsAll_23 : decode cX19_keepsAll 23 = .ok (.aload_n 0, 1) := dk_42 (dk_at dksX19_keepsAll_0 23 rfl rfl)
theorem dX19_keepsAll_24 : decode cX19_keepsAll 24 = .ok (.getfield 24, 3) := dk_180 0 24 (dk_at dksX19_keepsAll_1 0 rfl rfl)
theorem dX19_keepsAll_27 : decode cX19_keepsAll 27 = .ok (.iload_n 1, 1) := dk_27 (dk_at dksX19_keepsAll_1 3 rfl rfl)
theorem dX19_keepsAll_28 : decode cX19_keepsAll 28 = .ok (.bipush 59, 2) := dk_16 59 (dk_at dksX19_keepsAll_1 4 rfl rfl)
theorem dX19_keepsAll_30 : decode cX19_keepsAll 30 = .ok (.iadd, 1) := dk_96 (dk_at dksX19_keepsAll_1 6 rfl rfl)
theorem dX19_keepsAll_31 : decode cX19_keepsAll 31 = .ok (.iaload, 1) := dk_46 (dk_at dksX19_keepsAll_1 7 rfl rfl)
theorem dX19_keepsAll_32 : decode cX19_keepsAll 32 = .ok (.iastore, 1) := dk_79 (dk_at dksX19_keepsAll_1 8 rfl rfl)
theorem dX19_keepsAll_33 : decode cX19_keepsAll 33 = .ok (.iinc 1 1, 3) := dk_132 1 1 (dk_at dksX19_keepsAll_1 9 rfl rfl)
theorem dX19_keepsAll_36 : decode cX19_keepsAll 36 = .ok (.goto (-25), 3) := dk_167 255 231 (dk_at dksX19_keepsAll_1 12 rfl rfl)
theorem dX19_keepsAll_39 : decode cX19_keepsAll 39 = .ok (.aload_n 0, 1) := dk_42 (dk_at dksX19_keepsAll_1 15 rfl rfl)
theorem dX19_keepsAll_40 : decode cX19_keepsAll 40 = .ok (.dup, 1) := dk_89 (dk_at dksX19_keepsAll_1 16 rfl rfl)
theorem dX19_keepsAll_41 : decode cX19_keepsAll 41 = .ok (.getfield 365, 3) := dk_180 1 109 (dk_at dksX19_keepsAll_1 17 rfl rfl)
theorem dX19_keepsAll_44 : decode cX19_keepsAll 44 = .ok (.iconst 1, 1) := dk_4 (dk_at dksX19_keepsAll_1 20 rfl rfl)
theorem dX19_keepsAll_45 : decode cX19_keepsAll 45 = .ok (.isub, 1) := dk_100 (dk_at dksX19_keepsAll_1 21 rfl rfl)
theorem dX19_keepsAll_46 : decode cX19_keepsAll 46 = .ok (.putfield 365, 3) := dk_181 1 109 (dk_at dksX19_keepsAll_2 0 rfl rfl)
theorem dX19_keepsAll_49 : decode cX19_keepsAll 49 = .ok (.iconst 0, 1) := dk_3 (dk_at dksX19_keepsAll_2 3 rfl rfl)
theorem dX19_keepsAll_50 : decode cX19_keepsAll 50 = .ok (.istore_n 1, 1) := dk_60 (dk_at dksX19_keepsAll_2 4 rfl rfl)
theorem dX19_keepsAll_51 : decode cX19_keepsAll 51 = .ok (.iload_n 1, 1) := dk_27 (dk_at dksX19_keepsAll_2 5 rfl rfl)
theorem dX19_keepsAll_52 : decode cX19_keepsAll 52 = .ok (.bipush 59, 2) := dk_16 59 (dk_at dksX19_keepsAll_2 6 rfl rfl)
theorem dX19_keepsAll_54 : decode cX19_keepsAll 54 = .ok (.if_icmp .ge 29, 3) := dk_162 0 29 (dk_at dksX19_keepsAll_2 8 rfl rfl)
theorem dX19_keepsAll_57 : decode cX19_keepsAll 57 = .ok (.aload_n 0, 1) := dk_42 (dk_at dksX19_keepsAll_2 11 rfl rfl)
theorem dX19_keepsAll_58 : decode cX19_keepsAll 58 = .ok (.getfield 24, 3) := dk_180 0 24 (dk_at dksX19_keepsAll_2 12 rfl rfl)
theorem dX19_keepsAll_61 : decode cX19_keepsAll 61 = .ok (.bipush 59, 2) := dk_16 59 (dk_at dksX19_keepsAll_2 15 rfl rfl)
theorem dX19_keepsAll_63 : decode cX19_keepsAll 63 = .ok (.aload_n 0, 1) := dk_42 (dk_at dksX19_keepsAll_2 17 rfl rfl)
theorem dX19_keepsAll_64 : decode cX19_keepsAll 64 = .ok (.getfield 365, 3) := dk_180 1 109 (dk_at dksX19_keepsAll_2 18 rfl rfl)
theorem dX19_keepsAll_67 : decode cX19_keepsAll 67 = .ok (.imul, 1) := dk_104 (dk_at dksX19_keepsAll_2 21 rfl rfl)
theorem dX19_keepsAll_68 : decode cX19_keepsAll 68 = .ok (.iload_n 1, 1) := dk_27 (dk_at dksX19_keepsAll_2 22 rfl rfl)
theorem dX19_keepsAll_69 : decode cX19_keepsAll 69 = .ok (.iadd, 1) := dk_96 (dk_at dksX19_keepsAll_2 23 rfl rfl)
theorem dX19_keepsAll_70 : decode cX19_keepsAll 70 = .ok (.aload_n 0, 1) := dk_42 (dk_at dksX19_keepsAll_3 0 rfl rfl)
theorem dX19_keepsAll_71 : decode cX19_keepsAll 71 = .ok (.getfield 21, 3) := dk_180 0 21 (dk_at dksX19_keepsAll_3 1 rfl rfl)
theorem dX19_keepsAll_74 : decode cX19_keepsAll 74 = .ok (.iload_n 1, 1) := dk_27 (dk_at dksX19_keepsAll_3 4 rfl rfl)
theorem dX19_keepsAll_75 : decode cX19_keepsAll 75 = .ok (.iaload, 1) := dk_46 (dk_at dksX19_keepsAll_3 5 rfl rfl)
theorem dX19_keepsAll_76 : decode cX19_keepsAll 76 = .ok (.iastore, 1) := dk_79 (dk_at dksX19_keepsAll_3 6 rfl rfl)
theorem dX19_keepsAll_77 : decode cX19_keepsAll 77 = .ok (.iinc 1 1, 3) := dk_132 1 1 (dk_at dksX19_keepsAll_3 7 rfl rfl)
theorem dX19_keepsAll_80 : decode cX19_keepsAll 80 = .ok (.goto (-29), 3) := dk_167 255 227 (dk_at dksX19_keepsAll_3 10 rfl rfl)
theorem dX19_keepsAll_83 : decode cX19_keepsAll 83 = .ok (.aload_n 0, 1) := dk_42 (dk_at dksX19_keepsAll_3 13 rfl rfl)
theorem dX19_keepsAll_84 : decode cX19_keepsAll 84 = .ok (.dup, 1) := dk_89 (dk_at dksX19_keepsAll_3 14 rfl rfl)
theorem dX19_keepsAll_85 : decode cX19_keepsAll 85 = .ok (.getfield 365, 3) := dk_180 1 109 (dk_at dksX19_keepsAll_3 15 rfl rfl)
theorem dX19_keepsAll_88 : decode cX19_keepsAll 88 = .ok (.iconst 1, 1) := dk_4 (dk_at dksX19_keepsAll_3 18 rfl rfl)
theorem dX19_keepsAll_89 : decode cX19_keepsAll 89 = .ok (.iadd, 1) := dk_96 (dk_at dksX19_keepsAll_3 19 rfl rfl)
theorem dX19_keepsAll_90 : decode cX19_keepsAll 90 = .ok (.putfield 365, 3) := dk_181 1 109 (dk_at dksX19_keepsAll_3 20 rfl rfl)
theorem dX19_keepsAll_93 : decode cX19_keepsAll 93 = .ok (.return_, 1) := dk_177 (dk_at dksX19_keepsAll_3 23 rfl rfl)
abbrev cX19_adds : ByteArray := prog_24_method_118_code
def yX19_adds : MethodName := ⟨RX19, "adds", "(III)V"⟩
def dkwX19_adds_2 : List UInt8 := [16, 21, 92, 46, 4, 96, 79, 177]
abbrev dktX19_adds_2 : List UInt8 := dkwX19_adds_2 ++ []
def dkwX19_adds_1 : List UInt8 := [180, 0, 21, 21, 4, 4, 96, 28, 79, 42, 180, 0, 21, 21, 4, 5, 96, 29, 79, 42, 180, 0, 21]
abbrev dktX19_adds_1 : List UInt8 := dkwX19_adds_1 ++ dktX19_adds_2
def dkwX19_adds_0 : List UInt8 := [16, 22, 6, 42, 180, 0, 21, 16, 21, 46, 104, 96, 54, 4, 42, 180, 0, 21, 21, 4, 27, 79, 42]
abbrev dktX19_adds_0 : List UInt8 := dkwX19_adds_0 ++ dktX19_adds_1
theorem dksX19_adds_0 : cX19_adds.data.toList.drop 0 = dktX19_adds_0 := by decide +kernel
theorem dksX19_adds_1 : cX19_adds.data.toList.drop 23 = dktX19_adds_1 := dk_seg dksX19_adds_0 23 rfl rfl
theorem dksX19_adds_2 : cX19_adds.data.toList.drop 46 = dktX19_adds_2 := dk_seg dksX19_adds_1 23 rfl rfl
theorem dX19_adds_0 : decode cX19_adds 0 = .ok (.bipush 22, 2) := dk_16 22 (dk_at dksX19_adds_0 0 rfl rfl)
theorem dX19_adds_2 : decode cX19_adds 2 = .ok (.iconst 3, 1) := dk_6 (dk_at dksX19_adds_0 2 rfl rfl)
theorem dX19_adds_3 : decode cX19_adds 3 = .ok (.aload_n 0, 1) := dk_42 (dk_at dksX19_adds_0 3 rfl rfl)
theorem dX19_adds_4 : decode cX19_adds 4 = .ok (.getfield 21, 3) := dk_180 0 21 (dk_at dksX19_adds_0 4 rfl rfl)
theorem dX19_adds_7 : decode cX19_adds 7 = .ok (.bipush 21, 2) := dk_16 21 (dk_at dksX19_adds_0 7 rfl rfl)
theorem dX19_adds_9 : decode cX19_adds 9 = .ok (.iaload, 1) := dk_46 (dk_at dksX19_adds_0 9 rfl rfl)
theorem dX19_adds_10 : decode cX19_adds 10 = .ok (.imul, 1) := dk_104 (dk_at dksX19_adds_0 10 rfl rfl)
theorem dX19_adds_11 : decode cX19_adds 11 = .ok (.iadd, 1) := dk_96 (dk_at dksX19_adds_0 11 rfl rfl)
theorem dX19_adds_12 : decode cX19_adds 12 = .ok (.istore 4, 2) := dk_54 4 (dk_at dksX19_adds_0 12 rfl rfl)
theorem dX19_adds_14 : decode cX19_adds 14 = .ok (.aload_n 0, 1) := dk_42 (dk_at dksX19_adds_0 14 rfl rfl)
theorem dX19_adds_15 : decode cX19_adds 15 = .ok (.getfield 21, 3) := dk_180 0 21 (dk_at dksX19_adds_0 15 rfl rfl)
theorem dX19_adds_18 : decode cX19_adds 18 = .ok (.iload 4, 2) := dk_21 4 (dk_at dksX19_adds_0 18 rfl rfl)
theorem dX19_adds_20 : decode cX19_adds 20 = .ok (.iload_n 1, 1) := dk_27 (dk_at dksX19_adds_0 20 rfl rfl)
theorem dX19_adds_21 : decode cX19_adds 21 = .ok (.iastore, 1) := dk_79 (dk_at dksX19_adds_0 21 rfl rfl)
theorem dX19_adds_22 : decode cX19_adds 22 = .ok (.aload_n 0, 1) := dk_42 (dk_at dksX19_adds_0 22 rfl rfl)
theorem dX19_adds_23 : decode cX19_adds 23 = .ok (.getfield 21, 3) := dk_180 0 21 (dk_at dksX19_adds_1 0 rfl rfl)
theorem dX19_adds_26 : decode cX19_adds 26 = .ok (.iload 4, 2) := dk_21 4 (dk_at dksX19_adds_1 3 rfl rfl)
theorem dX19_adds_28 : decode cX19_adds 28 = .ok (.iconst 1, 1) := dk_4 (dk_at dksX19_adds_1 5 rfl rfl)
theorem dX19_adds_29 : decode cX19_adds 29 = .ok (.iadd, 1) := dk_96 (dk_at dksX19_adds_1 6 rfl rfl)
theorem dX19_adds_30 : decode cX19_adds 30 = .ok (.iload_n 2, 1) := dk_28 (dk_at dksX19_adds_1 7 rfl rfl)
theorem dX19_adds_31 : decode cX19_adds 31 = .ok (.iastore, 1) := dk_79 (dk_at dksX19_adds_1 8 rfl rfl)
theorem dX19_adds_32 : decode cX19_adds 32 = .ok (.aload_n 0, 1) := dk_42 (dk_at dksX19_adds_1 9 rfl rfl)
theorem dX19_adds_33 : decode cX19_adds 33 = .ok (.getfield 21, 3) := dk_180 0 21 (dk_at dksX19_adds_1 10 rfl rfl)
theorem dX19_adds_36 : decode cX19_adds 36 = .ok (.iload 4, 2) := dk_21 4 (dk_at dksX19_adds_1 13 rfl rfl)
theorem dX19_adds_38 : decode cX19_adds 38 = .ok (.iconst 2, 1) := dk_5 (dk_at dksX19_adds_1 15 rfl rfl)
theorem dX19_adds_39 : decode cX19_adds 39 = .ok (.iadd, 1) := dk_96 (dk_at dksX19_adds_1 16 rfl rfl)
theorem dX19_adds_40 : decode cX19_adds 40 = .ok (.iload_n 3, 1) := dk_29 (dk_at dksX19_adds_1 17 rfl rfl)
theorem dX19_adds_41 : decode cX19_adds 41 = .ok (.iastore, 1) := dk_79 (dk_at dksX19_adds_1 18 rfl rfl)
theorem dX19_adds_42 : decode cX19_adds 42 = .ok (.aload_n 0, 1) := dk_42 (dk_at dksX19_adds_1 19 rfl rfl)
theorem dX19_adds_43 : decode cX19_adds 43 = .ok (.getfield 21, 3) := dk_180 0 21 (dk_at dksX19_adds_1 20 rfl rfl)
theorem dX19_adds_46 : decode cX19_adds 46 = .ok (.bipush 21, 2) := dk_16 21 (dk_at dksX19_adds_2 0 rfl rfl)
theorem dX19_adds_48 : decode cX19_adds 48 = .ok (.dup2, 1) := dk_92 (dk_at dksX19_adds_2 2 rfl rfl)
theorem dX19_adds_49 : decode cX19_adds 49 = .ok (.iaload, 1) := dk_46 (dk_at dksX19_adds_2 3 rfl rfl)
theorem dX19_adds_50 : decode cX19_adds 50 = .ok (.iconst 1, 1) := dk_4 (dk_at dksX19_adds_2 4 rfl rfl)
theorem dX19_adds_51 : decode cX19_adds 51 = .ok (.iadd, 1) := dk_96 (dk_at dksX19_adds_2 5 rfl rfl)
theorem dX19_adds_52 : decode cX19_adds 52 = .ok (.iastore, 1) := dk_79 (dk_at dksX19_adds_2 6 rfl rfl)
theorem dX19_adds_53 : decode cX19_adds 53 = .ok (.return_, 1) := dk_177 (dk_at dksX19_adds_2 7 rfl rfl)
abbrev cX19_granted : ByteArray := prog_24_method_6_code
def yX19_granted : MethodName := ⟨RX19, "granted", "()Z"⟩
def dkwX19_granted_0 : List UInt8 := [42, 3, 182, 0, 98, 87, 4, 172]
abbrev dktX19_granted_0 : List UInt8 := dkwX19_granted_0 ++ []
theorem dksX19_granted_0 : cX19_granted.data.toList.drop 0 = dktX19_granted_0 := by decide +kernel
theorem dX19_granted_0 : decode cX19_granted 0 = .ok (.aload_n 0, 1) := dk_42 (dk_at dksX19_granted_0 0 rfl rfl)
theorem dX19_granted_1 : decode cX19_granted 1 = .ok (.iconst 0, 1) := dk_3 (dk_at dksX19_granted_0 1 rfl rfl)
theorem dX19_granted_2 : decode cX19_granted 2 = .ok (.invokevirtual 98, 3) := dk_182 0 98 (dk_at dksX19_granted_0 2 rfl rfl)
theorem dX19_granted_5 : decode cX19_granted 5 = .ok (.pop, 1) := dk_87 (dk_at dksX19_granted_0 5 rfl rfl)
theorem dX19_granted_6 : decode cX19_granted 6 = .ok (.iconst 1, 1) := dk_4 (dk_at dksX19_granted_0 6 rfl rfl)
theorem dX19_granted_7 : decode cX19_granted 7 = .ok (.ireturn, 1) := dk_172 (dk_at dksX19_granted_0 7 rfl rfl)
abbrev cX19_shake : ByteArray := prog_24_method_121_code
def yX19_shake : MethodName := ⟨RX19, "shake", "()I"⟩
def dkwX19_shake_3 : List UInt8 := [4, 96, 182, 2, 36, 42, 16, 100, 27, 104, 28, 96, 182, 0, 98, 172]
abbrev dktX19_shake_3 : List UInt8 := dkwX19_shake_3 ++ []
def dkwX19_shake_2 : List UInt8 := [180, 0, 200, 112, 60, 42, 182, 2, 49, 42, 180, 1, 107, 180, 0, 251, 4, 100, 112, 61, 42, 27, 28, 28]
abbrev dktX19_shake_2 : List UInt8 := dkwX19_shake_2 ++ dktX19_shake_3
def dkwX19_shake_1 : List UInt8 := [46, 16, 12, 160, 0, 9, 42, 6, 182, 0, 94, 172, 42, 182, 2, 33, 42, 182, 2, 49, 42, 180, 1, 107]
abbrev dktX19_shake_1 : List UInt8 := dkwX19_shake_1 ++ dktX19_shake_2
def dkwX19_shake_0 : List UInt8 := [42, 3, 181, 0, 88, 42, 180, 1, 107, 199, 0, 9, 42, 4, 182, 0, 94, 172, 42, 180, 0, 21, 16, 21]
abbrev dktX19_shake_0 : List UInt8 := dkwX19_shake_0 ++ dktX19_shake_1
theorem dksX19_shake_0 : cX19_shake.data.toList.drop 0 = dktX19_shake_0 := by decide +kernel
theorem dksX19_shake_1 : cX19_shake.data.toList.drop 24 = dktX19_shake_1 := dk_seg dksX19_shake_0 24 rfl rfl
theorem dksX19_shake_2 : cX19_shake.data.toList.drop 48 = dktX19_shake_2 := dk_seg dksX19_shake_1 24 rfl rfl
theorem dksX19_shake_3 : cX19_shake.data.toList.drop 72 = dktX19_shake_3 := dk_seg dksX19_shake_2 24 rfl rfl
theorem dX19_shake_0 : decode cX19_shake 0 = .ok (.aload_n 0, 1) := dk_42 (dk_at dksX19_shake_0 0 rfl rfl)
theorem dX19_shake_1 : decode cX19_shake 1 = .ok (.iconst 0, 1) := dk_3 (dk_at dksX19_shake_0 1 rfl rfl)
theorem dX19_shake_2 : decode cX19_shake 2 = .ok (.putfield 88, 3) := dk_181 0 88 (dk_at dksX19_shake_0 2 rfl rfl)
theorem dX19_shake_5 : decode cX19_shake 5 = .ok (.aload_n 0, 1) := dk_42 (dk_at dksX19_shake_0 5 rfl rfl)
theorem dX19_shake_6 : decode cX19_shake 6 = .ok (.getfield 363, 3) := dk_180 1 107 (dk_at dksX19_shake_0 6 rfl rfl)
theorem dX19_shake_9 : decode cX19_shake 9 = .ok (.ifnonnull 9, 3) := dk_199 0 9 (dk_at dksX19_shake_0 9 rfl rfl)
theorem dX19_shake_12 : decode cX19_shake 12 = .ok (.aload_n 0, 1) := dk_42 (dk_at dksX19_shake_0 12 rfl rfl)
theorem dX19_shake_13 : decode cX19_shake 13 = .ok (.iconst 1, 1) := dk_4 (dk_at dksX19_shake_0 13 rfl rfl)
theorem dX19_shake_14 : decode cX19_shake 14 = .ok (.invokevirtual 94, 3) := dk_182 0 94 (dk_at dksX19_shake_0 14 rfl rfl)
theorem dX19_shake_17 : decode cX19_shake 17 = .ok (.ireturn, 1) := dk_172 (dk_at dksX19_shake_0 17 rfl rfl)
theorem dX19_shake_18 : decode cX19_shake 18 = .ok (.aload_n 0, 1) := dk_42 (dk_at dksX19_shake_0 18 rfl rfl)
theorem dX19_shake_19 : decode cX19_shake 19 = .ok (.getfield 21, 3) := dk_180 0 21 (dk_at dksX19_shake_0 19 rfl rfl)
theorem dX19_shake_22 : decode cX19_shake 22 = .ok (.bipush 21, 2) := dk_16 21 (dk_at dksX19_shake_0 22 rfl rfl)
theorem dX19_shake_24 : decode cX19_shake 24 = .ok (.iaload, 1) := dk_46 (dk_at dksX19_shake_1 0 rfl rfl)
theorem dX19_shake_25 : decode cX19_shake 25 = .ok (.bipush 12, 2) := dk_16 12 (dk_at dksX19_shake_1 1 rfl rfl)
theorem dX19_shake_27 : decode cX19_shake 27 = .ok (.if_icmp .ne 9, 3) := dk_160 0 9 (dk_at dksX19_shake_1 3 rfl rfl)
theorem dX19_shake_30 : decode cX19_shake 30 = .ok (.aload_n 0, 1) := dk_42 (dk_at dksX19_shake_1 6 rfl rfl)
theorem dX19_shake_31 : decode cX19_shake 31 = .ok (.iconst 3, 1) := dk_6 (dk_at dksX19_shake_1 7 rfl rfl)
theorem dX19_shake_32 : decode cX19_shake 32 = .ok (.invokevirtual 94, 3) := dk_182 0 94 (dk_at dksX19_shake_1 8 rfl rfl)
theorem dX19_shake_35 : decode cX19_shake 35 = .ok (.ireturn, 1) := dk_172 (dk_at dksX19_shake_1 11 rfl rfl)
theorem dX19_shake_36 : decode cX19_shake 36 = .ok (.aload_n 0, 1) := dk_42 (dk_at dksX19_shake_1 12 rfl rfl)
theorem dX19_shake_37 : decode cX19_shake 37 = .ok (.invokevirtual 545, 3) := dk_182 2 33 (dk_at dksX19_shake_1 13 rfl rfl)
theorem dX19_shake_40 : decode cX19_shake 40 = .ok (.aload_n 0, 1) := dk_42 (dk_at dksX19_shake_1 16 rfl rfl)
theorem dX19_shake_41 : decode cX19_shake 41 = .ok (.invokevirtual 561, 3) := dk_182 2 49 (dk_at dksX19_shake_1 17 rfl rfl)
theorem dX19_shake_44 : decode cX19_shake 44 = .ok (.aload_n 0, 1) := dk_42 (dk_at dksX19_shake_1 20 rfl rfl)
theorem dX19_shake_45 : decode cX19_shake 45 = .ok (.getfield 363, 3) := dk_180 1 107 (dk_at dksX19_shake_1 21 rfl rfl)
theorem dX19_shake_48 : decode cX19_shake 48 = .ok (.getfield 200, 3) := dk_180 0 200 (dk_at dksX19_shake_2 0 rfl rfl)
theorem dX19_shake_51 : decode cX19_shake 51 = .ok (.irem, 1) := dk_112 (dk_at dksX19_shake_2 3 rfl rfl)
theorem dX19_shake_52 : decode cX19_shake 52 = .ok (.istore_n 1, 1) := dk_60 (dk_at dksX19_shake_2 4 rfl rfl)
theorem dX19_shake_53 : decode cX19_shake 53 = .ok (.aload_n 0, 1) := dk_42 (dk_at dksX19_shake_2 5 rfl rfl)
theorem dX19_shake_54 : decode cX19_shake 54 = .ok (.invokevirtual 561, 3) := dk_182 2 49 (dk_at dksX19_shake_2 6 rfl rfl)
theorem dX19_shake_57 : decode cX19_shake 57 = .ok (.aload_n 0, 1) := dk_42 (dk_at dksX19_shake_2 9 rfl rfl)
theorem dX19_shake_58 : decode cX19_shake 58 = .ok (.getfield 363, 3) := dk_180 1 107 (dk_at dksX19_shake_2 10 rfl rfl)
theorem dX19_shake_61 : decode cX19_shake 61 = .ok (.getfield 251, 3) := dk_180 0 251 (dk_at dksX19_shake_2 13 rfl rfl)
theorem dX19_shake_64 : decode cX19_shake 64 = .ok (.iconst 1, 1) := dk_4 (dk_at dksX19_shake_2 16 rfl rfl)
theorem dX19_shake_65 : decode cX19_shake 65 = .ok (.isub, 1) := dk_100 (dk_at dksX19_shake_2 17 rfl rfl)
theorem dX19_shake_66 : decode cX19_shake 66 = .ok (.irem, 1) := dk_112 (dk_at dksX19_shake_2 18 rfl rfl)
theorem dX19_shake_67 : decode cX19_shake 67 = .ok (.istore_n 2, 1) := dk_61 (dk_at dksX19_shake_2 19 rfl rfl)
theorem dX19_shake_68 : decode cX19_shake 68 = .ok (.aload_n 0, 1) := dk_42 (dk_at dksX19_shake_2 20 rfl rfl)
theorem dX19_shake_69 : decode cX19_shake 69 = .ok (.iload_n 1, 1) := dk_27 (dk_at dksX19_shake_2 21 rfl rfl)
theorem dX19_shake_70 : decode cX19_shake 70 = .ok (.iload_n 2, 1) := dk_28 (dk_at dksX19_shake_2 22 rfl rfl)
theorem dX19_shake_71 : decode cX19_shake 71 = .ok (.iload_n 2, 1) := dk_28 (dk_at dksX19_shake_2 23 rfl rfl)
theorem dX19_shake_72 : decode cX19_shake 72 = .ok (.iconst 1, 1) := dk_4 (dk_at dksX19_shake_3 0 rfl rfl)
theorem dX19_shake_73 : decode cX19_shake 73 = .ok (.iadd, 1) := dk_96 (dk_at dksX19_shake_3 1 rfl rfl)
theorem dX19_shake_74 : decode cX19_shake 74 = .ok (.invokevirtual 548, 3) := dk_182 2 36 (dk_at dksX19_shake_3 2 rfl rfl)
theorem dX19_shake_77 : decode cX19_shake 77 = .ok (.aload_n 0, 1) := dk_42 (dk_at dksX19_shake_3 5 rfl rfl)
theorem dX19_shake_78 : decode cX19_shake 78 = .ok (.bipush 100, 2) := dk_16 100 (dk_at dksX19_shake_3 6 rfl rfl)
theorem dX19_shake_80 : decode cX19_shake 80 = .ok (.iload_n 1, 1) := dk_27 (dk_at dksX19_shake_3 8 rfl rfl)
theorem dX19_shake_81 : decode cX19_shake 81 = .ok (.imul, 1) := dk_104 (dk_at dksX19_shake_3 9 rfl rfl)
theorem dX19_shake_82 : decode cX19_shake 82 = .ok (.iload_n 2, 1) := dk_28 (dk_at dksX19_shake_3 10 rfl rfl)
theorem dX19_shake_83 : decode cX19_shake 83 = .ok (.iadd, 1) := dk_96 (dk_at dksX19_shake_3 11 rfl rfl)
theorem dX19_shake_84 : decode cX19_shake 84 = .ok (.invokevirtual 98, 3) := dk_182 0 98 (dk_at dksX19_shake_3 12 rfl rfl)
theorem dX19_shake_87 : decode cX19_shake 87 = .ok (.ireturn, 1) := dk_172 (dk_at dksX19_shake_3 15 rfl rfl)
abbrev cX19_drawn : ByteArray := prog_24_method_120_code
def yX19_drawn : MethodName := ⟨RX19, "drawn", "()I"⟩
def dkwX19_drawn_1 : List UInt8 := [20, 2, 47, 113, 136, 79, 42, 180, 0, 21, 16, 58, 46, 172]
abbrev dktX19_drawn_1 : List UInt8 := dkwX19_drawn_1 ++ []
def dkwX19_drawn_0 : List UInt8 := [42, 180, 0, 21, 16, 58, 20, 2, 43, 42, 180, 0, 21, 16, 58, 46, 133, 105, 20, 2, 45, 97]
abbrev dktX19_drawn_0 : List UInt8 := dkwX19_drawn_0 ++ dktX19_drawn_1
theorem dksX19_drawn_0 : cX19_drawn.data.toList.drop 0 = dktX19_drawn_0 := by decide +kernel
theorem dksX19_drawn_1 : cX19_drawn.data.toList.drop 22 = dktX19_drawn_1 := dk_seg dksX19_drawn_0 22 rfl rfl
theorem dX19_drawn_0 : decode cX19_drawn 0 = .ok (.aload_n 0, 1) := dk_42 (dk_at dksX19_drawn_0 0 rfl rfl)
theorem dX19_drawn_1 : decode cX19_drawn 1 = .ok (.getfield 21, 3) := dk_180 0 21 (dk_at dksX19_drawn_0 1 rfl rfl)
theorem dX19_drawn_4 : decode cX19_drawn 4 = .ok (.bipush 58, 2) := dk_16 58 (dk_at dksX19_drawn_0 4 rfl rfl)
theorem dX19_drawn_6 : decode cX19_drawn 6 = .ok (.ldc2_w 555, 3) := dk_20 2 43 (dk_at dksX19_drawn_0 6 rfl rfl)
theorem dX19_drawn_9 : decode cX19_drawn 9 = .ok (.aload_n 0, 1) := dk_42 (dk_at dksX19_drawn_0 9 rfl rfl)
theorem dX19_drawn_10 : decode cX19_drawn 10 = .ok (.getfield 21, 3) := dk_180 0 21 (dk_at dksX19_drawn_0 10 rfl rfl)
theorem dX19_drawn_13 : decode cX19_drawn 13 = .ok (.bipush 58, 2) := dk_16 58 (dk_at dksX19_drawn_0 13 rfl rfl)
theorem dX19_drawn_15 : decode cX19_drawn 15 = .ok (.iaload, 1) := dk_46 (dk_at dksX19_drawn_0 15 rfl rfl)
theorem dX19_drawn_16 : decode cX19_drawn 16 = .ok (.i2l, 1) := dk_133 (dk_at dksX19_drawn_0 16 rfl rfl)
theorem dX19_drawn_17 : decode cX19_drawn 17 = .ok (.lmul, 1) := dk_105 (dk_at dksX19_drawn_0 17 rfl rfl)
theorem dX19_drawn_18 : decode cX19_drawn 18 = .ok (.ldc2_w 557, 3) := dk_20 2 45 (dk_at dksX19_drawn_0 18 rfl rfl)
theorem dX19_drawn_21 : decode cX19_drawn 21 = .ok (.ladd, 1) := dk_97 (dk_at dksX19_drawn_0 21 rfl rfl)
theorem dX19_drawn_22 : decode cX19_drawn 22 = .ok (.ldc2_w 559, 3) := dk_20 2 47 (dk_at dksX19_drawn_1 0 rfl rfl)
theorem dX19_drawn_25 : decode cX19_drawn 25 = .ok (.lrem, 1) := dk_113 (dk_at dksX19_drawn_1 3 rfl rfl)
theorem dX19_drawn_26 : decode cX19_drawn 26 = .ok (.l2i, 1) := dk_136 (dk_at dksX19_drawn_1 4 rfl rfl)
theorem dX19_drawn_27 : decode cX19_drawn 27 = .ok (.iastore, 1) := dk_79 (dk_at dksX19_drawn_1 5 rfl rfl)
theorem dX19_drawn_28 : decode cX19_drawn 28 = .ok (.aload_n 0, 1) := dk_42 (dk_at dksX19_drawn_1 6 rfl rfl)
theorem dX19_drawn_29 : decode cX19_drawn 29 = .ok (.getfield 21, 3) := dk_180 0 21 (dk_at dksX19_drawn_1 7 rfl rfl)
theorem dX19_drawn_32 : decode cX19_drawn 32 = .ok (.bipush 58, 2) := dk_16 58 (dk_at dksX19_drawn_1 10 rfl rfl)
theorem dX19_drawn_34 : decode cX19_drawn 34 = .ok (.iaload, 1) := dk_46 (dk_at dksX19_drawn_1 12 rfl rfl)
theorem dX19_drawn_35 : decode cX19_drawn 35 = .ok (.ireturn, 1) := dk_172 (dk_at dksX19_drawn_1 13 rfl rfl)
abbrev cX19_kind : ByteArray := prog_24_method_123_code
def yX19_kind : MethodName := ⟨RX19, "kind", "(II)Z"⟩
def dkwX19_kind_1 : List UInt8 := [27, 96, 28, 182, 2, 52, 167, 0, 8, 42, 4, 182, 2, 30, 172]
abbrev dktX19_kind_1 : List UInt8 := dkwX19_kind_1 ++ []
def dkwX19_kind_0 : List UInt8 := [42, 3, 181, 0, 88, 42, 27, 182, 1, 178, 153, 0, 23, 28, 3, 6, 184, 0, 169, 153, 0, 14, 42, 3]
abbrev dktX19_kind_0 : List UInt8 := dkwX19_kind_0 ++ dktX19_kind_1
theorem dksX19_kind_0 : cX19_kind.data.toList.drop 0 = dktX19_kind_0 := by decide +kernel
theorem dksX19_kind_1 : cX19_kind.data.toList.drop 24 = dktX19_kind_1 := dk_seg dksX19_kind_0 24 rfl rfl
theorem dX19_kind_0 : decode cX19_kind 0 = .ok (.aload_n 0, 1) := dk_42 (dk_at dksX19_kind_0 0 rfl rfl)
theorem dX19_kind_1 : decode cX19_kind 1 = .ok (.iconst 0, 1) := dk_3 (dk_at dksX19_kind_0 1 rfl rfl)
theorem dX19_kind_2 : decode cX19_kind 2 = .ok (.putfield 88, 3) := dk_181 0 88 (dk_at dksX19_kind_0 2 rfl rfl)
theorem dX19_kind_5 : decode cX19_kind 5 = .ok (.aload_n 0, 1) := dk_42 (dk_at dksX19_kind_0 5 rfl rfl)
theorem dX19_kind_6 : decode cX19_kind 6 = .ok (.iload_n 1, 1) := dk_27 (dk_at dksX19_kind_0 6 rfl rfl)
theorem dX19_kind_7 : decode cX19_kind 7 = .ok (.invokevirtual 434, 3) := dk_182 1 178 (dk_at dksX19_kind_0 7 rfl rfl)
theorem dX19_kind_10 : decode cX19_kind 10 = .ok (.ifCond .eq 23, 3) := dk_153 0 23 (dk_at dksX19_kind_0 10 rfl rfl)
theorem dX19_kind_13 : decode cX19_kind 13 = .ok (.iload_n 2, 1) := dk_28 (dk_at dksX19_kind_0 13 rfl rfl)
theorem dX19_kind_14 : decode cX19_kind 14 = .ok (.iconst 0, 1) := dk_3 (dk_at dksX19_kind_0 14 rfl rfl)
theorem dX19_kind_15 : decode cX19_kind 15 = .ok (.iconst 3, 1) := dk_6 (dk_at dksX19_kind_0 15 rfl rfl)
theorem dX19_kind_16 : decode cX19_kind 16 = .ok (.invokestatic 169, 3) := dk_184 0 169 (dk_at dksX19_kind_0 16 rfl rfl)
theorem dX19_kind_19 : decode cX19_kind 19 = .ok (.ifCond .eq 14, 3) := dk_153 0 14 (dk_at dksX19_kind_0 19 rfl rfl)
theorem dX19_kind_22 : decode cX19_kind 22 = .ok (.aload_n 0, 1) := dk_42 (dk_at dksX19_kind_0 22 rfl rfl)
theorem dX19_kind_23 : decode cX19_kind 23 = .ok (.iconst 0, 1) := dk_3 (dk_at dksX19_kind_0 23 rfl rfl)
theorem dX19_kind_24 : decode cX19_kind 24 = .ok (.iload_n 1, 1) := dk_27 (dk_at dksX19_kind_1 0 rfl rfl)
theorem dX19_kind_25 : decode cX19_kind 25 = .ok (.iadd, 1) := dk_96 (dk_at dksX19_kind_1 1 rfl rfl)
theorem dX19_kind_26 : decode cX19_kind 26 = .ok (.iload_n 2, 1) := dk_28 (dk_at dksX19_kind_1 2 rfl rfl)
theorem dX19_kind_27 : decode cX19_kind 27 = .ok (.invokevirtual 564, 3) := dk_182 2 52 (dk_at dksX19_kind_1 3 rfl rfl)
theorem dX19_kind_30 : decode cX19_kind 30 = .ok (.goto 8, 3) := dk_167 0 8 (dk_at dksX19_kind_1 6 rfl rfl)
theorem dX19_kind_33 : decode cX19_kind 33 = .ok (.aload_n 0, 1) := dk_42 (dk_at dksX19_kind_1 9 rfl rfl)
theorem dX19_kind_34 : decode cX19_kind 34 = .ok (.iconst 1, 1) := dk_4 (dk_at dksX19_kind_1 10 rfl rfl)
theorem dX19_kind_35 : decode cX19_kind 35 = .ok (.invokevirtual 542, 3) := dk_182 2 30 (dk_at dksX19_kind_1 11 rfl rfl)
theorem dX19_kind_38 : decode cX19_kind 38 = .ok (.ireturn, 1) := dk_172 (dk_at dksX19_kind_1 14 rfl rfl)
abbrev cX19_changes : ByteArray := prog_24_method_122_code
def yX19_changes : MethodName := ⟨RX19, "changes", "(II)Z"⟩
def dkwX19_changes_1 : List UInt8 := [27, 28, 79, 42, 182, 2, 40, 172]
abbrev dktX19_changes_1 : List UInt8 := dkwX19_changes_1 ++ []
def dkwX19_changes_0 : List UInt8 := [42, 180, 0, 21, 27, 46, 28, 160, 0, 9, 42, 8, 182, 2, 30, 172, 42, 182, 2, 33, 42, 180, 0, 21]
abbrev dktX19_changes_0 : List UInt8 := dkwX19_changes_0 ++ dktX19_changes_1
theorem dksX19_changes_0 : cX19_changes.data.toList.drop 0 = dktX19_changes_0 := by decide +kernel
theorem dksX19_changes_1 : cX19_changes.data.toList.drop 24 = dktX19_changes_1 := dk_seg dksX19_changes_0 24 rfl rfl
theorem dX19_changes_0 : decode cX19_changes 0 = .ok (.aload_n 0, 1) := dk_42 (dk_at dksX19_changes_0 0 rfl rfl)
theorem dX19_changes_1 : decode cX19_changes 1 = .ok (.getfield 21, 3) := dk_180 0 21 (dk_at dksX19_changes_0 1 rfl rfl)
theorem dX19_changes_4 : decode cX19_changes 4 = .ok (.iload_n 1, 1) := dk_27 (dk_at dksX19_changes_0 4 rfl rfl)
theorem dX19_changes_5 : decode cX19_changes 5 = .ok (.iaload, 1) := dk_46 (dk_at dksX19_changes_0 5 rfl rfl)
theorem dX19_changes_6 : decode cX19_changes 6 = .ok (.iload_n 2, 1) := dk_28 (dk_at dksX19_changes_0 6 rfl rfl)
theorem dX19_changes_7 : decode cX19_changes 7 = .ok (.if_icmp .ne 9, 3) := dk_160 0 9 (dk_at dksX19_changes_0 7 rfl rfl)
theorem dX19_changes_10 : decode cX19_changes 10 = .ok (.aload_n 0, 1) := dk_42 (dk_at dksX19_changes_0 10 rfl rfl)
theorem dX19_changes_11 : decode cX19_changes 11 = .ok (.iconst 5, 1) := dk_8 (dk_at dksX19_changes_0 11 rfl rfl)
theorem dX19_changes_12 : decode cX19_changes 12 = .ok (.invokevirtual 542, 3) := dk_182 2 30 (dk_at dksX19_changes_0 12 rfl rfl)
theorem dX19_changes_15 : decode cX19_changes 15 = .ok (.ireturn, 1) := dk_172 (dk_at dksX19_changes_0 15 rfl rfl)
theorem dX19_changes_16 : decode cX19_changes 16 = .ok (.aload_n 0, 1) := dk_42 (dk_at dksX19_changes_0 16 rfl rfl)
theorem dX19_changes_17 : decode cX19_changes 17 = .ok (.invokevirtual 545, 3) := dk_182 2 33 (dk_at dksX19_changes_0 17 rfl rfl)
theorem dX19_changes_20 : decode cX19_changes 20 = .ok (.aload_n 0, 1) := dk_42 (dk_at dksX19_changes_0 20 rfl rfl)
theorem dX19_changes_21 : decode cX19_changes 21 = .ok (.getfield 21, 3) := dk_180 0 21 (dk_at dksX19_changes_0 21 rfl rfl)
theorem dX19_changes_24 : decode cX19_changes 24 = .ok (.iload_n 1, 1) := dk_27 (dk_at dksX19_changes_1 0 rfl rfl)
theorem dX19_changes_25 : decode cX19_changes 25 = .ok (.iload_n 2, 1) := dk_28 (dk_at dksX19_changes_1 1 rfl rfl)
theorem dX19_changes_26 : decode cX19_changes 26 = .ok (.iastore, 1) := dk_79 (dk_at dksX19_changes_1 2 rfl rfl)
theorem dX19_changes_27 : decode cX19_changes 27 = .ok (.aload_n 0, 1) := dk_42 (dk_at dksX19_changes_1 3 rfl rfl)
theorem dX19_changes_28 : decode cX19_changes 28 = .ok (.invokevirtual 552, 3) := dk_182 2 40 (dk_at dksX19_changes_1 4 rfl rfl)
theorem dX19_changes_31 : decode cX19_changes 31 = .ok (.ireturn, 1) := dk_172 (dk_at dksX19_changes_1 7 rfl rfl)
abbrev cX19_habit : ByteArray := prog_24_method_124_code
def yX19_habit : MethodName := ⟨RX19, "habit", "(II)Z"⟩
def dkwX19_habit_1 : List UInt8 := [16, 7, 27, 96, 28, 182, 2, 52, 167, 0, 8, 42, 4, 182, 2, 30, 172]
abbrev dktX19_habit_1 : List UInt8 := dkwX19_habit_1 ++ []
def dkwX19_habit_0 : List UInt8 := [42, 3, 181, 0, 88, 42, 27, 182, 1, 178, 153, 0, 24, 28, 3, 5, 184, 0, 169, 153, 0, 15, 42]
abbrev dktX19_habit_0 : List UInt8 := dkwX19_habit_0 ++ dktX19_habit_1
theorem dksX19_habit_0 : cX19_habit.data.toList.drop 0 = dktX19_habit_0 := by decide +kernel
theorem dksX19_habit_1 : cX19_habit.data.toList.drop 23 = dktX19_habit_1 := dk_seg dksX19_habit_0 23 rfl rfl
theorem dX19_habit_0 : decode cX19_habit 0 = .ok (.aload_n 0, 1) := dk_42 (dk_at dksX19_habit_0 0 rfl rfl)
theorem dX19_habit_1 : decode cX19_habit 1 = .ok (.iconst 0, 1) := dk_3 (dk_at dksX19_habit_0 1 rfl rfl)
theorem dX19_habit_2 : decode cX19_habit 2 = .ok (.putfield 88, 3) := dk_181 0 88 (dk_at dksX19_habit_0 2 rfl rfl)
theorem dX19_habit_5 : decode cX19_habit 5 = .ok (.aload_n 0, 1) := dk_42 (dk_at dksX19_habit_0 5 rfl rfl)
theorem dX19_habit_6 : decode cX19_habit 6 = .ok (.iload_n 1, 1) := dk_27 (dk_at dksX19_habit_0 6 rfl rfl)
theorem dX19_habit_7 : decode cX19_habit 7 = .ok (.invokevirtual 434, 3) := dk_182 1 178 (dk_at dksX19_habit_0 7 rfl rfl)
theorem dX19_habit_10 : decode cX19_habit 10 = .ok (.ifCond .eq 24, 3) := dk_153 0 24 (dk_at dksX19_habit_0 10 rfl rfl)
theorem dX19_habit_13 : decode cX19_habit 13 = .ok (.iload_n 2, 1) := dk_28 (dk_at dksX19_habit_0 13 rfl rfl)
theorem dX19_habit_14 : decode cX19_habit 14 = .ok (.iconst 0, 1) := dk_3 (dk_at dksX19_habit_0 14 rfl rfl)
theorem dX19_habit_15 : decode cX19_habit 15 = .ok (.iconst 2, 1) := dk_5 (dk_at dksX19_habit_0 15 rfl rfl)
theorem dX19_habit_16 : decode cX19_habit 16 = .ok (.invokestatic 169, 3) := dk_184 0 169 (dk_at dksX19_habit_0 16 rfl rfl)
theorem dX19_habit_19 : decode cX19_habit 19 = .ok (.ifCond .eq 15, 3) := dk_153 0 15 (dk_at dksX19_habit_0 19 rfl rfl)
theorem dX19_habit_22 : decode cX19_habit 22 = .ok (.aload_n 0, 1) := dk_42 (dk_at dksX19_habit_0 22 rfl rfl)
theorem dX19_habit_23 : decode cX19_habit 23 = .ok (.bipush 7, 2) := dk_16 7 (dk_at dksX19_habit_1 0 rfl rfl)
theorem dX19_habit_25 : decode cX19_habit 25 = .ok (.iload_n 1, 1) := dk_27 (dk_at dksX19_habit_1 2 rfl rfl)
theorem dX19_habit_26 : decode cX19_habit 26 = .ok (.iadd, 1) := dk_96 (dk_at dksX19_habit_1 3 rfl rfl)
theorem dX19_habit_27 : decode cX19_habit 27 = .ok (.iload_n 2, 1) := dk_28 (dk_at dksX19_habit_1 4 rfl rfl)
theorem dX19_habit_28 : decode cX19_habit 28 = .ok (.invokevirtual 564, 3) := dk_182 2 52 (dk_at dksX19_habit_1 5 rfl rfl)
theorem dX19_habit_31 : decode cX19_habit 31 = .ok (.goto 8, 3) := dk_167 0 8 (dk_at dksX19_habit_1 8 rfl rfl)
theorem dX19_habit_34 : decode cX19_habit 34 = .ok (.aload_n 0, 1) := dk_42 (dk_at dksX19_habit_1 11 rfl rfl)
theorem dX19_habit_35 : decode cX19_habit 35 = .ok (.iconst 1, 1) := dk_4 (dk_at dksX19_habit_1 12 rfl rfl)
theorem dX19_habit_36 : decode cX19_habit 36 = .ok (.invokevirtual 542, 3) := dk_182 2 30 (dk_at dksX19_habit_1 13 rfl rfl)
theorem dX19_habit_39 : decode cX19_habit 39 = .ok (.ireturn, 1) := dk_172 (dk_at dksX19_habit_1 16 rfl rfl)
abbrev cX19_keep : ByteArray := prog_24_method_125_code
def yX19_keep : MethodName := ⟨RX19, "keep", "(II)Z"⟩
def dkwX19_keep_1 : List UInt8 := [184, 0, 169, 153, 0, 15, 42, 16, 14, 27, 96, 28, 182, 2, 52, 167, 0, 8, 42, 5, 182, 2, 30, 172]
abbrev dktX19_keep_1 : List UInt8 := dkwX19_keep_1 ++ []
def dkwX19_keep_0 : List UInt8 := [42, 3, 181, 0, 88, 42, 27, 182, 1, 178, 154, 0, 9, 42, 4, 182, 2, 30, 172, 28, 6, 16, 30]
abbrev dktX19_keep_0 : List UInt8 := dkwX19_keep_0 ++ dktX19_keep_1
theorem dksX19_keep_0 : cX19_keep.data.toList.drop 0 = dktX19_keep_0 := by decide +kernel
theorem dksX19_keep_1 : cX19_keep.data.toList.drop 23 = dktX19_keep_1 := dk_seg dksX19_keep_0 23 rfl rfl
theorem dX19_keep_0 : decode cX19_keep 0 = .ok (.aload_n 0, 1) := dk_42 (dk_at dksX19_keep_0 0 rfl rfl)
theorem dX19_keep_1 : decode cX19_keep 1 = .ok (.iconst 0, 1) := dk_3 (dk_at dksX19_keep_0 1 rfl rfl)
theorem dX19_keep_2 : decode cX19_keep 2 = .ok (.putfield 88, 3) := dk_181 0 88 (dk_at dksX19_keep_0 2 rfl rfl)
theorem dX19_keep_5 : decode cX19_keep 5 = .ok (.aload_n 0, 1) := dk_42 (dk_at dksX19_keep_0 5 rfl rfl)
theorem dX19_keep_6 : decode cX19_keep 6 = .ok (.iload_n 1, 1) := dk_27 (dk_at dksX19_keep_0 6 rfl rfl)
theorem dX19_keep_7 : decode cX19_keep 7 = .ok (.invokevirtual 434, 3) := dk_182 1 178 (dk_at dksX19_keep_0 7 rfl rfl)
theorem dX19_keep_10 : decode cX19_keep 10 = .ok (.ifCond .ne 9, 3) := dk_154 0 9 (dk_at dksX19_keep_0 10 rfl rfl)
theorem dX19_keep_13 : decode cX19_keep 13 = .ok (.aload_n 0, 1) := dk_42 (dk_at dksX19_keep_0 13 rfl rfl)
theorem dX19_keep_14 : decode cX19_keep 14 = .ok (.iconst 1, 1) := dk_4 (dk_at dksX19_keep_0 14 rfl rfl)
theorem dX19_keep_15 : decode cX19_keep 15 = .ok (.invokevirtual 542, 3) := dk_182 2 30 (dk_at dksX19_keep_0 15 rfl rfl)
theorem dX19_keep_18 : decode cX19_keep 18 = .ok (.ireturn, 1) := dk_172 (dk_at dksX19_keep_0 18 rfl rfl)
theorem dX19_keep_19 : decode cX19_keep 19 = .ok (.iload_n 2, 1) := dk_28 (dk_at dksX19_keep_0 19 rfl rfl)
theorem dX19_keep_20 : decode cX19_keep 20 = .ok (.iconst 3, 1) := dk_6 (dk_at dksX19_keep_0 20 rfl rfl)
theorem dX19_keep_21 : decode cX19_keep 21 = .ok (.bipush 30, 2) := dk_16 30 (dk_at dksX19_keep_0 21 rfl rfl)
theorem dX19_keep_23 : decode cX19_keep 23 = .ok (.invokestatic 169, 3) := dk_184 0 169 (dk_at dksX19_keep_1 0 rfl rfl)
theorem dX19_keep_26 : decode cX19_keep 26 = .ok (.ifCond .eq 15, 3) := dk_153 0 15 (dk_at dksX19_keep_1 3 rfl rfl)
theorem dX19_keep_29 : decode cX19_keep 29 = .ok (.aload_n 0, 1) := dk_42 (dk_at dksX19_keep_1 6 rfl rfl)
theorem dX19_keep_30 : decode cX19_keep 30 = .ok (.bipush 14, 2) := dk_16 14 (dk_at dksX19_keep_1 7 rfl rfl)
theorem dX19_keep_32 : decode cX19_keep 32 = .ok (.iload_n 1, 1) := dk_27 (dk_at dksX19_keep_1 9 rfl rfl)
theorem dX19_keep_33 : decode cX19_keep 33 = .ok (.iadd, 1) := dk_96 (dk_at dksX19_keep_1 10 rfl rfl)
theorem dX19_keep_34 : decode cX19_keep 34 = .ok (.iload_n 2, 1) := dk_28 (dk_at dksX19_keep_1 11 rfl rfl)
theorem dX19_keep_35 : decode cX19_keep 35 = .ok (.invokevirtual 564, 3) := dk_182 2 52 (dk_at dksX19_keep_1 12 rfl rfl)
theorem dX19_keep_38 : decode cX19_keep 38 = .ok (.goto 8, 3) := dk_167 0 8 (dk_at dksX19_keep_1 15 rfl rfl)
theorem dX19_keep_41 : decode cX19_keep 41 = .ok (.aload_n 0, 1) := dk_42 (dk_at dksX19_keep_1 18 rfl rfl)
theorem dX19_keep_42 : decode cX19_keep 42 = .ok (.iconst 2, 1) := dk_5 (dk_at dksX19_keep_1 19 rfl rfl)
theorem dX19_keep_43 : decode cX19_keep 43 = .ok (.invokevirtual 542, 3) := dk_182 2 30 (dk_at dksX19_keep_1 20 rfl rfl)
theorem dX19_keep_46 : decode cX19_keep 46 = .ok (.ireturn, 1) := dk_172 (dk_at dksX19_keep_1 23 rfl rfl)
abbrev cX19_seed : ByteArray := prog_24_method_126_code
def yX19_seed : MethodName := ⟨RX19, "seed", "(I)Z"⟩
def dkwX19_seed_2 : List UInt8 := [172]
abbrev dktX19_seed_2 : List UInt8 := dkwX19_seed_2 ++ []
def dkwX19_seed_1 : List UInt8 := [184, 0, 169, 154, 0, 9, 42, 5, 182, 2, 30, 172, 42, 180, 0, 21, 16, 58, 27, 79, 42, 182, 2, 40]
abbrev dktX19_seed_1 : List UInt8 := dkwX19_seed_1 ++ dktX19_seed_2
def dkwX19_seed_0 : List UInt8 := [42, 3, 181, 0, 88, 42, 180, 1, 107, 199, 0, 9, 42, 4, 182, 2, 30, 172, 27, 3, 19, 2, 55]
abbrev dktX19_seed_0 : List UInt8 := dkwX19_seed_0 ++ dktX19_seed_1
theorem dksX19_seed_0 : cX19_seed.data.toList.drop 0 = dktX19_seed_0 := by decide +kernel
theorem dksX19_seed_1 : cX19_seed.data.toList.drop 23 = dktX19_seed_1 := dk_seg dksX19_seed_0 23 rfl rfl
theorem dksX19_seed_2 : cX19_seed.data.toList.drop 47 = dktX19_seed_2 := dk_seg dksX19_seed_1 24 rfl rfl
theorem dX19_seed_0 : decode cX19_seed 0 = .ok (.aload_n 0, 1) := dk_42 (dk_at dksX19_seed_0 0 rfl rfl)
theorem dX19_seed_1 : decode cX19_seed 1 = .ok (.iconst 0, 1) := dk_3 (dk_at dksX19_seed_0 1 rfl rfl)
theorem dX19_seed_2 : decode cX19_seed 2 = .ok (.putfield 88, 3) := dk_181 0 88 (dk_at dksX19_seed_0 2 rfl rfl)
theorem dX19_seed_5 : decode cX19_seed 5 = .ok (.aload_n 0, 1) := dk_42 (dk_at dksX19_seed_0 5 rfl rfl)
theorem dX19_seed_6 : decode cX19_seed 6 = .ok (.getfield 363, 3) := dk_180 1 107 (dk_at dksX19_seed_0 6 rfl rfl)
theorem dX19_seed_9 : decode cX19_seed 9 = .ok (.ifnonnull 9, 3) := dk_199 0 9 (dk_at dksX19_seed_0 9 rfl rfl)
theorem dX19_seed_12 : decode cX19_seed 12 = .ok (.aload_n 0, 1) := dk_42 (dk_at dksX19_seed_0 12 rfl rfl)
theorem dX19_seed_13 : decode cX19_seed 13 = .ok (.iconst 1, 1) := dk_4 (dk_at dksX19_seed_0 13 rfl rfl)
theorem dX19_seed_14 : decode cX19_seed 14 = .ok (.invokevirtual 542, 3) := dk_182 2 30 (dk_at dksX19_seed_0 14 rfl rfl)
theorem dX19_seed_17 : decode cX19_seed 17 = .ok (.ireturn, 1) := dk_172 (dk_at dksX19_seed_0 17 rfl rfl)
theorem dX19_seed_18 : decode cX19_seed 18 = .ok (.iload_n 1, 1) := dk_27 (dk_at dksX19_seed_0 18 rfl rfl)
theorem dX19_seed_19 : decode cX19_seed 19 = .ok (.iconst 0, 1) := dk_3 (dk_at dksX19_seed_0 19 rfl rfl)
theorem dX19_seed_20 : decode cX19_seed 20 = .ok (.ldc_w 567, 3) := dk_19 2 55 (dk_at dksX19_seed_0 20 rfl rfl)
theorem dX19_seed_23 : decode cX19_seed 23 = .ok (.invokestatic 169, 3) := dk_184 0 169 (dk_at dksX19_seed_1 0 rfl rfl)
theorem dX19_seed_26 : decode cX19_seed 26 = .ok (.ifCond .ne 9, 3) := dk_154 0 9 (dk_at dksX19_seed_1 3 rfl rfl)
theorem dX19_seed_29 : decode cX19_seed 29 = .ok (.aload_n 0, 1) := dk_42 (dk_at dksX19_seed_1 6 rfl rfl)
theorem dX19_seed_30 : decode cX19_seed 30 = .ok (.iconst 2, 1) := dk_5 (dk_at dksX19_seed_1 7 rfl rfl)
theorem dX19_seed_31 : decode cX19_seed 31 = .ok (.invokevirtual 542, 3) := dk_182 2 30 (dk_at dksX19_seed_1 8 rfl rfl)
theorem dX19_seed_34 : decode cX19_seed 34 = .ok (.ireturn, 1) := dk_172 (dk_at dksX19_seed_1 11 rfl rfl)
theorem dX19_seed_35 : decode cX19_seed 35 = .ok (.aload_n 0, 1) := dk_42 (dk_at dksX19_seed_1 12 rfl rfl)
theorem dX19_seed_36 : decode cX19_seed 36 = .ok (.getfield 21, 3) := dk_180 0 21 (dk_at dksX19_seed_1 13 rfl rfl)
theorem dX19_seed_39 : decode cX19_seed 39 = .ok (.bipush 58, 2) := dk_16 58 (dk_at dksX19_seed_1 16 rfl rfl)
theorem dX19_seed_41 : decode cX19_seed 41 = .ok (.iload_n 1, 1) := dk_27 (dk_at dksX19_seed_1 18 rfl rfl)
theorem dX19_seed_42 : decode cX19_seed 42 = .ok (.iastore, 1) := dk_79 (dk_at dksX19_seed_1 19 rfl rfl)
theorem dX19_seed_43 : decode cX19_seed 43 = .ok (.aload_n 0, 1) := dk_42 (dk_at dksX19_seed_1 20 rfl rfl)
theorem dX19_seed_44 : decode cX19_seed 44 = .ok (.invokevirtual 552, 3) := dk_182 2 40 (dk_at dksX19_seed_1 21 rfl rfl)
theorem dX19_seed_47 : decode cX19_seed 47 = .ok (.ireturn, 1) := dk_172 (dk_at dksX19_seed_2 0 rfl rfl)
abbrev cX19_undo : ByteArray := prog_24_method_127_code
def yX19_undo : MethodName := ⟨RX19, "undo", "()Z"⟩
def dkwX19_undo_3 : List UInt8 := [167, 255, 227, 42, 182, 2, 40, 172]
abbrev dktX19_undo_3 : List UInt8 := dkwX19_undo_3 ++ []
def dkwX19_undo_2 : List UInt8 := [180, 0, 21, 27, 42, 180, 0, 24, 16, 59, 42, 180, 1, 109, 104, 27, 96, 46, 79, 132, 1, 1]
abbrev dktX19_undo_2 : List UInt8 := dkwX19_undo_2 ++ dktX19_undo_3
def dkwX19_undo_1 : List UInt8 := [182, 2, 30, 172, 42, 89, 180, 1, 109, 4, 100, 181, 1, 109, 3, 60, 27, 16, 59, 162, 0, 29, 42]
abbrev dktX19_undo_1 : List UInt8 := dkwX19_undo_1 ++ dktX19_undo_2
def dkwX19_undo_0 : List UInt8 := [42, 3, 181, 0, 88, 42, 180, 1, 107, 198, 0, 10, 42, 180, 1, 109, 154, 0, 10, 42, 16, 6]
abbrev dktX19_undo_0 : List UInt8 := dkwX19_undo_0 ++ dktX19_undo_1
theorem dksX19_undo_0 : cX19_undo.data.toList.drop 0 = dktX19_undo_0 := by decide +kernel
theorem dksX19_undo_1 : cX19_undo.data.toList.drop 22 = dktX19_undo_1 := dk_seg dksX19_undo_0 22 rfl rfl
theorem dksX19_undo_2 : cX19_undo.data.toList.drop 45 = dktX19_undo_2 := dk_seg dksX19_undo_1 23 rfl rfl
theorem dksX19_undo_3 : cX19_undo.data.toList.drop 67 = dktX19_undo_3 := dk_seg dksX19_undo_2 22 rfl rfl
theorem dX19_undo_0 : decode cX19_undo 0 = .ok (.aload_n 0, 1) := dk_42 (dk_at dksX19_undo_0 0 rfl rfl)
theorem dX19_undo_1 : decode cX19_undo 1 = .ok (.iconst 0, 1) := dk_3 (dk_at dksX19_undo_0 1 rfl rfl)
theorem dX19_undo_2 : decode cX19_undo 2 = .ok (.putfield 88, 3) := dk_181 0 88 (dk_at dksX19_undo_0 2 rfl rfl)
theorem dX19_undo_5 : decode cX19_undo 5 = .ok (.aload_n 0, 1) := dk_42 (dk_at dksX19_undo_0 5 rfl rfl)
theorem dX19_undo_6 : decode cX19_undo 6 = .ok (.getfield 363, 3) := dk_180 1 107 (dk_at dksX19_undo_0 6 rfl rfl)
theorem dX19_undo_9 : decode cX19_undo 9 = .ok (.ifnull 10, 3) := dk_198 0 10 (dk_at dksX19_undo_0 9 rfl rfl)
theorem dX19_undo_12 : decode cX19_undo 12 = .ok (.aload_n 0, 1) := dk_42 (dk_at dksX19_undo_0 12 rfl rfl)
theorem dX19_undo_13 : decode cX19_undo 13 = .ok (.getfield 365, 3) := dk_180 1 109 (dk_at dksX19_undo_0 13 rfl rfl)
theorem dX19_undo_16 : decode cX19_undo 16 = .ok (.ifCond .ne 10, 3) := dk_154 0 10 (dk_at dksX19_undo_0 16 rfl rfl)
theorem dX19_undo_19 : decode cX19_undo 19 = .ok (.aload_n 0, 1) := dk_42 (dk_at dksX19_undo_0 19 rfl rfl)
theorem dX19_undo_20 : decode cX19_undo 20 = .ok (.bipush 6, 2) := dk_16 6 (dk_at dksX19_undo_0 20 rfl rfl)
theorem dX19_undo_22 : decode cX19_undo 22 = .ok (.invokevirtual 542, 3) := dk_182 2 30 (dk_at dksX19_undo_1 0 rfl rfl)
theorem dX19_undo_25 : decode cX19_undo 25 = .ok (.ireturn, 1) := dk_172 (dk_at dksX19_undo_1 3 rfl rfl)
theorem dX19_undo_26 : decode cX19_undo 26 = .ok (.aload_n 0, 1) := dk_42 (dk_at dksX19_undo_1 4 rfl rfl)
theorem dX19_undo_27 : decode cX19_undo 27 = .ok (.dup, 1) := dk_89 (dk_at dksX19_undo_1 5 rfl rfl)
theorem dX19_undo_28 : decode cX19_undo 28 = .ok (.getfield 365, 3) := dk_180 1 109 (dk_at dksX19_undo_1 6 rfl rfl)
theorem dX19_undo_31 : decode cX19_undo 31 = .ok (.iconst 1, 1) := dk_4 (dk_at dksX19_undo_1 9 rfl rfl)
theorem dX19_undo_32 : decode cX19_undo 32 = .ok (.isub, 1) := dk_100 (dk_at dksX19_undo_1 10 rfl rfl)
theorem dX19_undo_33 : decode cX19_undo 33 = .ok (.putfield 365, 3) := dk_181 1 109 (dk_at dksX19_undo_1 11 rfl rfl)
theorem dX19_undo_36 : decode cX19_undo 36 = .ok (.iconst 0, 1) := dk_3 (dk_at dksX19_undo_1 14 rfl rfl)
theorem dX19_undo_37 : decode cX19_undo 37 = .ok (.istore_n 1, 1) := dk_60 (dk_at dksX19_undo_1 15 rfl rfl)
theorem dX19_undo_38 : decode cX19_undo 38 = .ok (.iload_n 1, 1) := dk_27 (dk_at dksX19_undo_1 16 rfl rfl)
theorem dX19_undo_39 : decode cX19_undo 39 = .ok (.bipush 59, 2) := dk_16 59 (dk_at dksX19_undo_1 17 rfl rfl)
theorem dX19_undo_41 : decode cX19_undo 41 = .ok (.if_icmp .ge 29, 3) := dk_162 0 29 (dk_at dksX19_undo_1 19 rfl rfl)
theorem dX19_undo_44 : decode cX19_undo 44 = .ok (.aload_n 0, 1) := dk_42 (dk_at dksX19_undo_1 22 rfl rfl)
theorem dX19_undo_45 : decode cX19_undo 45 = .ok (.getfield 21, 3) := dk_180 0 21 (dk_at dksX19_undo_2 0 rfl rfl)
theorem dX19_undo_48 : decode cX19_undo 48 = .ok (.iload_n 1, 1) := dk_27 (dk_at dksX19_undo_2 3 rfl rfl)
theorem dX19_undo_49 : decode cX19_undo 49 = .ok (.aload_n 0, 1) := dk_42 (dk_at dksX19_undo_2 4 rfl rfl)
theorem dX19_undo_50 : decode cX19_undo 50 = .ok (.getfield 24, 3) := dk_180 0 24 (dk_at dksX19_undo_2 5 rfl rfl)
theorem dX19_undo_53 : decode cX19_undo 53 = .ok (.bipush 59, 2) := dk_16 59 (dk_at dksX19_undo_2 8 rfl rfl)
theorem dX19_undo_55 : decode cX19_undo 55 = .ok (.aload_n 0, 1) := dk_42 (dk_at dksX19_undo_2 10 rfl rfl)
theorem dX19_undo_56 : decode cX19_undo 56 = .ok (.getfield 365, 3) := dk_180 1 109 (dk_at dksX19_undo_2 11 rfl rfl)
theorem dX19_undo_59 : decode cX19_undo 59 = .ok (.imul, 1) := dk_104 (dk_at dksX19_undo_2 14 rfl rfl)
theorem dX19_undo_60 : decode cX19_undo 60 = .ok (.iload_n 1, 1) := dk_27 (dk_at dksX19_undo_2 15 rfl rfl)
theorem dX19_undo_61 : decode cX19_undo 61 = .ok (.iadd, 1) := dk_96 (dk_at dksX19_undo_2 16 rfl rfl)
theorem dX19_undo_62 : decode cX19_undo 62 = .ok (.iaload, 1) := dk_46 (dk_at dksX19_undo_2 17 rfl rfl)
theorem dX19_undo_63 : decode cX19_undo 63 = .ok (.iastore, 1) := dk_79 (dk_at dksX19_undo_2 18 rfl rfl)
theorem dX19_undo_64 : decode cX19_undo 64 = .ok (.iinc 1 1, 3) := dk_132 1 1 (dk_at dksX19_undo_2 19 rfl rfl)
theorem dX19_undo_67 : decode cX19_undo 67 = .ok (.goto (-29), 3) := dk_167 255 227 (dk_at dksX19_undo_3 0 rfl rfl)
theorem dX19_undo_70 : decode cX19_undo 70 = .ok (.aload_n 0, 1) := dk_42 (dk_at dksX19_undo_3 3 rfl rfl)
theorem dX19_undo_71 : decode cX19_undo 71 = .ok (.invokevirtual 552, 3) := dk_182 2 40 (dk_at dksX19_undo_3 4 rfl rfl)
theorem dX19_undo_74 : decode cX19_undo 74 = .ok (.ireturn, 1) := dk_172 (dk_at dksX19_undo_3 7 rfl rfl)
abbrev cX19_mark : ByteArray := prog_24_method_128_code
def yX19_mark : MethodName := ⟨RX19, "mark", "()I"⟩
def dkwX19_mark_3 : List UInt8 := [4, 96, 181, 1, 112, 42, 42, 180, 1, 112, 4, 100, 182, 0, 98, 172]
abbrev dktX19_mark_3 : List UInt8 := dkwX19_mark_3 ++ []
def dkwX19_mark_2 : List UInt8 := [180, 1, 112, 104, 27, 96, 42, 180, 0, 21, 27, 46, 79, 132, 1, 1, 167, 255, 227, 42, 89, 180, 1, 112]
abbrev dktX19_mark_2 : List UInt8 := dkwX19_mark_2 ++ dktX19_mark_3
def dkwX19_mark_1 : List UInt8 := [160, 0, 9, 42, 6, 182, 0, 94, 172, 3, 60, 27, 16, 59, 162, 0, 29, 42, 180, 0, 27, 16, 59, 42]
abbrev dktX19_mark_1 : List UInt8 := dkwX19_mark_1 ++ dktX19_mark_2
def dkwX19_mark_0 : List UInt8 := [42, 3, 181, 0, 88, 42, 180, 1, 107, 199, 0, 9, 42, 4, 182, 0, 94, 172, 42, 180, 1, 112, 6]
abbrev dktX19_mark_0 : List UInt8 := dkwX19_mark_0 ++ dktX19_mark_1
theorem dksX19_mark_0 : cX19_mark.data.toList.drop 0 = dktX19_mark_0 := by decide +kernel
theorem dksX19_mark_1 : cX19_mark.data.toList.drop 23 = dktX19_mark_1 := dk_seg dksX19_mark_0 23 rfl rfl
theorem dksX19_mark_2 : cX19_mark.data.toList.drop 47 = dktX19_mark_2 := dk_seg dksX19_mark_1 24 rfl rfl
theorem dksX19_mark_3 : cX19_mark.data.toList.drop 71 = dktX19_mark_3 := dk_seg dksX19_mark_2 24 rfl rfl
theorem dX19_mark_0 : decode cX19_mark 0 = .ok (.aload_n 0, 1) := dk_42 (dk_at dksX19_mark_0 0 rfl rfl)
theorem dX19_mark_1 : decode cX19_mark 1 = .ok (.iconst 0, 1) := dk_3 (dk_at dksX19_mark_0 1 rfl rfl)
theorem dX19_mark_2 : decode cX19_mark 2 = .ok (.putfield 88, 3) := dk_181 0 88 (dk_at dksX19_mark_0 2 rfl rfl)
theorem dX19_mark_5 : decode cX19_mark 5 = .ok (.aload_n 0, 1) := dk_42 (dk_at dksX19_mark_0 5 rfl rfl)
theorem dX19_mark_6 : decode cX19_mark 6 = .ok (.getfield 363, 3) := dk_180 1 107 (dk_at dksX19_mark_0 6 rfl rfl)
theorem dX19_mark_9 : decode cX19_mark 9 = .ok (.ifnonnull 9, 3) := dk_199 0 9 (dk_at dksX19_mark_0 9 rfl rfl)
theorem dX19_mark_12 : decode cX19_mark 12 = .ok (.aload_n 0, 1) := dk_42 (dk_at dksX19_mark_0 12 rfl rfl)
theorem dX19_mark_13 : decode cX19_mark 13 = .ok (.iconst 1, 1) := dk_4 (dk_at dksX19_mark_0 13 rfl rfl)
theorem dX19_mark_14 : decode cX19_mark 14 = .ok (.invokevirtual 94, 3) := dk_182 0 94 (dk_at dksX19_mark_0 14 rfl rfl)
theorem dX19_mark_17 : decode cX19_mark 17 = .ok (.ireturn, 1) := dk_172 (dk_at dksX19_mark_0 17 rfl rfl)
theorem dX19_mark_18 : decode cX19_mark 18 = .ok (.aload_n 0, 1) := dk_42 (dk_at dksX19_mark_0 18 rfl rfl)
theorem dX19_mark_19 : decode cX19_mark 19 = .ok (.getfield 368, 3) := dk_180 1 112 (dk_at dksX19_mark_0 19 rfl rfl)
theorem dX19_mark_22 : decode cX19_mark 22 = .ok (.iconst 3, 1) := dk_6 (dk_at dksX19_mark_0 22 rfl rfl)
theorem dX19_mark_23 : decode cX19_mark 23 = .ok (.if_icmp .ne 9, 3) := dk_160 0 9 (dk_at dksX19_mark_1 0 rfl rfl)
theorem dX19_mark_26 : decode cX19_mark 26 = .ok (.aload_n 0, 1) := dk_42 (dk_at dksX19_mark_1 3 rfl rfl)
theorem dX19_mark_27 : decode cX19_mark 27 = .ok (.iconst 3, 1) := dk_6 (dk_at dksX19_mark_1 4 rfl rfl)
theorem dX19_mark_28 : decode cX19_mark 28 = .ok (.invokevirtual 94, 3) := dk_182 0 94 (dk_at dksX19_mark_1 5 rfl rfl)
theorem dX19_mark_31 : decode cX19_mark 31 = .ok (.ireturn, 1) := dk_172 (dk_at dksX19_mark_1 8 rfl rfl)
theorem dX19_mark_32 : decode cX19_mark 32 = .ok (.iconst 0, 1) := dk_3 (dk_at dksX19_mark_1 9 rfl rfl)
theorem dX19_mark_33 : decode cX19_mark 33 = .ok (.istore_n 1, 1) := dk_60 (dk_at dksX19_mark_1 10 rfl rfl)
theorem dX19_mark_34 : decode cX19_mark 34 = .ok (.iload_n 1, 1) := dk_27 (dk_at dksX19_mark_1 11 rfl rfl)
theorem dX19_mark_35 : decode cX19_mark 35 = .ok (.bipush 59, 2) := dk_16 59 (dk_at dksX19_mark_1 12 rfl rfl)
theorem dX19_mark_37 : decode cX19_mark 37 = .ok (.if_icmp .ge 29, 3) := dk_162 0 29 (dk_at dksX19_mark_1 14 rfl rfl)
theorem dX19_mark_40 : decode cX19_mark 40 = .ok (.aload_n 0, 1) := dk_42 (dk_at dksX19_mark_1 17 rfl rfl)
theorem dX19_mark_41 : decode cX19_mark 41 = .ok (.getfield 27, 3) := dk_180 0 27 (dk_at dksX19_mark_1 18 rfl rfl)
theorem dX19_mark_44 : decode cX19_mark 44 = .ok (.bipush 59, 2) := dk_16 59 (dk_at dksX19_mark_1 21 rfl rfl)
theorem dX19_mark_46 : decode cX19_mark 46 = .ok (.aload_n 0, 1) := dk_42 (dk_at dksX19_mark_1 23 rfl rfl)
theorem dX19_mark_47 : decode cX19_mark 47 = .ok (.getfield 368, 3) := dk_180 1 112 (dk_at dksX19_mark_2 0 rfl rfl)
theorem dX19_mark_50 : decode cX19_mark 50 = .ok (.imul, 1) := dk_104 (dk_at dksX19_mark_2 3 rfl rfl)
theorem dX19_mark_51 : decode cX19_mark 51 = .ok (.iload_n 1, 1) := dk_27 (dk_at dksX19_mark_2 4 rfl rfl)
theorem dX19_mark_52 : decode cX19_mark 52 = .ok (.iadd, 1) := dk_96 (dk_at dksX19_mark_2 5 rfl rfl)
theorem dX19_mark_53 : decode cX19_mark 53 = .ok (.aload_n 0, 1) := dk_42 (dk_at dksX19_mark_2 6 rfl rfl)
theorem dX19_mark_54 : decode cX19_mark 54 = .ok (.getfield 21, 3) := dk_180 0 21 (dk_at dksX19_mark_2 7 rfl rfl)
theorem dX19_mark_57 : decode cX19_mark 57 = .ok (.iload_n 1, 1) := dk_27 (dk_at dksX19_mark_2 10 rfl rfl)
theorem dX19_mark_58 : decode cX19_mark 58 = .ok (.iaload, 1) := dk_46 (dk_at dksX19_mark_2 11 rfl rfl)
theorem dX19_mark_59 : decode cX19_mark 59 = .ok (.iastore, 1) := dk_79 (dk_at dksX19_mark_2 12 rfl rfl)
theorem dX19_mark_60 : decode cX19_mark 60 = .ok (.iinc 1 1, 3) := dk_132 1 1 (dk_at dksX19_mark_2 13 rfl rfl)
theorem dX19_mark_63 : decode cX19_mark 63 = .ok (.goto (-29), 3) := dk_167 255 227 (dk_at dksX19_mark_2 16 rfl rfl)
theorem dX19_mark_66 : decode cX19_mark 66 = .ok (.aload_n 0, 1) := dk_42 (dk_at dksX19_mark_2 19 rfl rfl)
theorem dX19_mark_67 : decode cX19_mark 67 = .ok (.dup, 1) := dk_89 (dk_at dksX19_mark_2 20 rfl rfl)
theorem dX19_mark_68 : decode cX19_mark 68 = .ok (.getfield 368, 3) := dk_180 1 112 (dk_at dksX19_mark_2 21 rfl rfl)
theorem dX19_mark_71 : decode cX19_mark 71 = .ok (.iconst 1, 1) := dk_4 (dk_at dksX19_mark_3 0 rfl rfl)
theorem dX19_mark_72 : decode cX19_mark 72 = .ok (.iadd, 1) := dk_96 (dk_at dksX19_mark_3 1 rfl rfl)
theorem dX19_mark_73 : decode cX19_mark 73 = .ok (.putfield 368, 3) := dk_181 1 112 (dk_at dksX19_mark_3 2 rfl rfl)
theorem dX19_mark_76 : decode cX19_mark 76 = .ok (.aload_n 0, 1) := dk_42 (dk_at dksX19_mark_3 5 rfl rfl)
theorem dX19_mark_77 : decode cX19_mark 77 = .ok (.aload_n 0, 1) := dk_42 (dk_at dksX19_mark_3 6 rfl rfl)
theorem dX19_mark_78 : decode cX19_mark 78 = .ok (.getfield 368, 3) := dk_180 1 112 (dk_at dksX19_mark_3 7 rfl rfl)
theorem dX19_mark_81 : decode cX19_mark 81 = .ok (.iconst 1, 1) := dk_4 (dk_at dksX19_mark_3 10 rfl rfl)
theorem dX19_mark_82 : decode cX19_mark 82 = .ok (.isub, 1) := dk_100 (dk_at dksX19_mark_3 11 rfl rfl)
theorem dX19_mark_83 : decode cX19_mark 83 = .ok (.invokevirtual 98, 3) := dk_182 0 98 (dk_at dksX19_mark_3 12 rfl rfl)
theorem dX19_mark_86 : decode cX19_mark 86 = .ok (.ireturn, 1) := dk_172 (dk_at dksX19_mark_3 15 rfl rfl)
abbrev cX19_back : ByteArray := prog_24_method_129_code
def yX19_back : MethodName := ⟨RX19, "back", "(I)Z"⟩
def dkwX19_back_2 : List UInt8 := [16, 59, 27, 104, 28, 96, 46, 79, 132, 2, 1, 167, 255, 230, 42, 3, 181, 1, 109, 42, 182, 2, 40, 172]
abbrev dktX19_back_2 : List UInt8 := dkwX19_back_2 ++ []
def dkwX19_back_1 : List UInt8 := [42, 4, 182, 2, 30, 172, 3, 61, 28, 16, 59, 162, 0, 26, 42, 180, 0, 21, 28, 42, 180, 0, 27]
abbrev dktX19_back_1 : List UInt8 := dkwX19_back_1 ++ dktX19_back_2
def dkwX19_back_0 : List UInt8 := [42, 3, 181, 0, 88, 42, 180, 1, 107, 198, 0, 15, 27, 155, 0, 11, 27, 42, 180, 1, 112, 161, 0, 9]
abbrev dktX19_back_0 : List UInt8 := dkwX19_back_0 ++ dktX19_back_1
theorem dksX19_back_0 : cX19_back.data.toList.drop 0 = dktX19_back_0 := by decide +kernel
theorem dksX19_back_1 : cX19_back.data.toList.drop 24 = dktX19_back_1 := dk_seg dksX19_back_0 24 rfl rfl
theorem dksX19_back_2 : cX19_back.data.toList.drop 47 = dktX19_back_2 := dk_seg dksX19_back_1 23 rfl rfl
theorem dX19_back_0 : decode cX19_back 0 = .ok (.aload_n 0, 1) := dk_42 (dk_at dksX19_back_0 0 rfl rfl)
theorem dX19_back_1 : decode cX19_back 1 = .ok (.iconst 0, 1) := dk_3 (dk_at dksX19_back_0 1 rfl rfl)
theorem dX19_back_2 : decode cX19_back 2 = .ok (.putfield 88, 3) := dk_181 0 88 (dk_at dksX19_back_0 2 rfl rfl)
theorem dX19_back_5 : decode cX19_back 5 = .ok (.aload_n 0, 1) := dk_42 (dk_at dksX19_back_0 5 rfl rfl)
theorem dX19_back_6 : decode cX19_back 6 = .ok (.getfield 363, 3) := dk_180 1 107 (dk_at dksX19_back_0 6 rfl rfl)
theorem dX19_back_9 : decode cX19_back 9 = .ok (.ifnull 15, 3) := dk_198 0 15 (dk_at dksX19_back_0 9 rfl rfl)
theorem dX19_back_12 : decode cX19_back 12 = .ok (.iload_n 1, 1) := dk_27 (dk_at dksX19_back_0 12 rfl rfl)
theorem dX19_back_13 : decode cX19_back 13 = .ok (.ifCond .lt 11, 3) := dk_155 0 11 (dk_at dksX19_back_0 13 rfl rfl)
theorem dX19_back_16 : decode cX19_back 16 = .ok (.iload_n 1, 1) := dk_27 (dk_at dksX19_back_0 16 rfl rfl)
theorem dX19_back_17 : decode cX19_back 17 = .ok (.aload_n 0, 1) := dk_42 (dk_at dksX19_back_0 17 rfl rfl)
theorem dX19_back_18 : decode cX19_back 18 = .ok (.getfield 368, 3) := dk_180 1 112 (dk_at dksX19_back_0 18 rfl rfl)
theorem dX19_back_21 : decode cX19_back 21 = .ok (.if_icmp .lt 9, 3) := dk_161 0 9 (dk_at dksX19_back_0 21 rfl rfl)
theorem dX19_back_24 : decode cX19_back 24 = .ok (.aload_n 0, 1) := dk_42 (dk_at dksX19_back_1 0 rfl rfl)
theorem dX19_back_25 : decode cX19_back 25 = .ok (.iconst 1, 1) := dk_4 (dk_at dksX19_back_1 1 rfl rfl)
theorem dX19_back_26 : decode cX19_back 26 = .ok (.invokevirtual 542, 3) := dk_182 2 30 (dk_at dksX19_back_1 2 rfl rfl)
theorem dX19_back_29 : decode cX19_back 29 = .ok (.ireturn, 1) := dk_172 (dk_at dksX19_back_1 5 rfl rfl)
theorem dX19_back_30 : decode cX19_back 30 = .ok (.iconst 0, 1) := dk_3 (dk_at dksX19_back_1 6 rfl rfl)
theorem dX19_back_31 : decode cX19_back 31 = .ok (.istore_n 2, 1) := dk_61 (dk_at dksX19_back_1 7 rfl rfl)
theorem dX19_back_32 : decode cX19_back 32 = .ok (.iload_n 2, 1) := dk_28 (dk_at dksX19_back_1 8 rfl rfl)
theorem dX19_back_33 : decode cX19_back 33 = .ok (.bipush 59, 2) := dk_16 59 (dk_at dksX19_back_1 9 rfl rfl)
theorem dX19_back_35 : decode cX19_back 35 = .ok (.if_icmp .ge 26, 3) := dk_162 0 26 (dk_at dksX19_back_1 11 rfl rfl)
theorem dX19_back_38 : decode cX19_back 38 = .ok (.aload_n 0, 1) := dk_42 (dk_at dksX19_back_1 14 rfl rfl)
theorem dX19_back_39 : decode cX19_back 39 = .ok (.getfield 21, 3) := dk_180 0 21 (dk_at dksX19_back_1 15 rfl rfl)
theorem dX19_back_42 : decode cX19_back 42 = .ok (.iload_n 2, 1) := dk_28 (dk_at dksX19_back_1 18 rfl rfl)
theorem dX19_back_43 : decode cX19_back 43 = .ok (.aload_n 0, 1) := dk_42 (dk_at dksX19_back_1 19 rfl rfl)
theorem dX19_back_44 : decode cX19_back 44 = .ok (.getfield 27, 3) := dk_180 0 27 (dk_at dksX19_back_1 20 rfl rfl)
theorem dX19_back_47 : decode cX19_back 47 = .ok (.bipush 59, 2) := dk_16 59 (dk_at dksX19_back_2 0 rfl rfl)
theorem dX19_back_49 : decode cX19_back 49 = .ok (.iload_n 1, 1) := dk_27 (dk_at dksX19_back_2 2 rfl rfl)
theorem dX19_back_50 : decode cX19_back 50 = .ok (.imul, 1) := dk_104 (dk_at dksX19_back_2 3 rfl rfl)
theorem dX19_back_51 : decode cX19_back 51 = .ok (.iload_n 2, 1) := dk_28 (dk_at dksX19_back_2 4 rfl rfl)
theorem dX19_back_52 : decode cX19_back 52 = .ok (.iadd, 1) := dk_96 (dk_at dksX19_back_2 5 rfl rfl)
theorem dX19_back_53 : decode cX19_back 53 = .ok (.iaload, 1) := dk_46 (dk_at dksX19_back_2 6 rfl rfl)
theorem dX19_back_54 : decode cX19_back 54 = .ok (.iastore, 1) := dk_79 (dk_at dksX19_back_2 7 rfl rfl)
theorem dX19_back_55 : decode cX19_back 55 = .ok (.iinc 2 1, 3) := dk_132 2 1 (dk_at dksX19_back_2 8 rfl rfl)
theorem dX19_back_58 : decode cX19_back 58 = .ok (.goto (-26), 3) := dk_167 255 230 (dk_at dksX19_back_2 11 rfl rfl)
theorem dX19_back_61 : decode cX19_back 61 = .ok (.aload_n 0, 1) := dk_42 (dk_at dksX19_back_2 14 rfl rfl)
theorem dX19_back_62 : decode cX19_back 62 = .ok (.iconst 0, 1) := dk_3 (dk_at dksX19_back_2 15 rfl rfl)
theorem dX19_back_63 : decode cX19_back 63 = .ok (.putfield 365, 3) := dk_181 1 109 (dk_at dksX19_back_2 16 rfl rfl)
theorem dX19_back_66 : decode cX19_back 66 = .ok (.aload_n 0, 1) := dk_42 (dk_at dksX19_back_2 19 rfl rfl)
theorem dX19_back_67 : decode cX19_back 67 = .ok (.invokevirtual 552, 3) := dk_182 2 40 (dk_at dksX19_back_2 20 rfl rfl)
theorem dX19_back_70 : decode cX19_back 70 = .ok (.ireturn, 1) := dk_172 (dk_at dksX19_back_2 23 rfl rfl)
abbrev cX19_led : ByteArray := prog_24_method_130_code
def yX19_led : MethodName := ⟨RX19, "led", "(I)I"⟩
def dkwX19_led_3 : List UInt8 := [3, 172]
abbrev dktX19_led_3 : List UInt8 := dkwX19_led_3 ++ []
def dkwX19_led_2 : List UInt8 := [167, 0, 13, 28, 27, 160, 0, 5, 29, 172, 132, 2, 1, 132, 3, 1, 167, 255, 214, 42, 4, 181, 0, 88]
abbrev dktX19_led_2 : List UInt8 := dkwX19_led_2 ++ dktX19_led_3
def dkwX19_led_1 : List UInt8 := [198, 0, 41, 29, 42, 180, 1, 107, 180, 0, 219, 162, 0, 30, 42, 29, 182, 1, 218, 154, 0, 6]
abbrev dktX19_led_1 : List UInt8 := dkwX19_led_1 ++ dktX19_led_2
def dkwX19_led_0 : List UInt8 := [42, 3, 181, 0, 88, 3, 61, 42, 180, 1, 107, 198, 0, 7, 42, 182, 1, 191, 3, 62, 42, 180, 1, 107]
abbrev dktX19_led_0 : List UInt8 := dkwX19_led_0 ++ dktX19_led_1
theorem dksX19_led_0 : cX19_led.data.toList.drop 0 = dktX19_led_0 := by decide +kernel
theorem dksX19_led_1 : cX19_led.data.toList.drop 24 = dktX19_led_1 := dk_seg dksX19_led_0 24 rfl rfl
theorem dksX19_led_2 : cX19_led.data.toList.drop 46 = dktX19_led_2 := dk_seg dksX19_led_1 22 rfl rfl
theorem dksX19_led_3 : cX19_led.data.toList.drop 70 = dktX19_led_3 := dk_seg dksX19_led_2 24 rfl rfl
theorem dX19_led_0 : decode cX19_led 0 = .ok (.aload_n 0, 1) := dk_42 (dk_at dksX19_led_0 0 rfl rfl)
theorem dX19_led_1 : decode cX19_led 1 = .ok (.iconst 0, 1) := dk_3 (dk_at dksX19_led_0 1 rfl rfl)
theorem dX19_led_2 : decode cX19_led 2 = .ok (.putfield 88, 3) := dk_181 0 88 (dk_at dksX19_led_0 2 rfl rfl)
theorem dX19_led_5 : decode cX19_led 5 = .ok (.iconst 0, 1) := dk_3 (dk_at dksX19_led_0 5 rfl rfl)
theorem dX19_led_6 : decode cX19_led 6 = .ok (.istore_n 2, 1) := dk_61 (dk_at dksX19_led_0 6 rfl rfl)
theorem dX19_led_7 : decode cX19_led 7 = .ok (.aload_n 0, 1) := dk_42 (dk_at dksX19_led_0 7 rfl rfl)
theorem dX19_led_8 : decode cX19_led 8 = .ok (.getfield 363, 3) := dk_180 1 107 (dk_at dksX19_led_0 8 rfl rfl)
theorem dX19_led_11 : decode cX19_led 11 = .ok (.ifnull 7, 3) := dk_198 0 7 (dk_at dksX19_led_0 11 rfl rfl)
theorem dX19_led_14 : decode cX19_led 14 = .ok (.aload_n 0, 1) := dk_42 (dk_at dksX19_led_0 14 rfl rfl)
theorem dX19_led_15 : decode cX19_led 15 = .ok (.invokevirtual 447, 3) := dk_182 1 191 (dk_at dksX19_led_0 15 rfl rfl)
theorem dX19_led_18 : decode cX19_led 18 = .ok (.iconst 0, 1) := dk_3 (dk_at dksX19_led_0 18 rfl rfl)
theorem dX19_led_19 : decode cX19_led 19 = .ok (.istore_n 3, 1) := dk_62 (dk_at dksX19_led_0 19 rfl rfl)
theorem dX19_led_20 : decode cX19_led 20 = .ok (.aload_n 0, 1) := dk_42 (dk_at dksX19_led_0 20 rfl rfl)
theorem dX19_led_21 : decode cX19_led 21 = .ok (.getfield 363, 3) := dk_180 1 107 (dk_at dksX19_led_0 21 rfl rfl)
theorem dX19_led_24 : decode cX19_led 24 = .ok (.ifnull 41, 3) := dk_198 0 41 (dk_at dksX19_led_1 0 rfl rfl)
theorem dX19_led_27 : decode cX19_led 27 = .ok (.iload_n 3, 1) := dk_29 (dk_at dksX19_led_1 3 rfl rfl)
theorem dX19_led_28 : decode cX19_led 28 = .ok (.aload_n 0, 1) := dk_42 (dk_at dksX19_led_1 4 rfl rfl)
theorem dX19_led_29 : decode cX19_led 29 = .ok (.getfield 363, 3) := dk_180 1 107 (dk_at dksX19_led_1 5 rfl rfl)
theorem dX19_led_32 : decode cX19_led 32 = .ok (.getfield 219, 3) := dk_180 0 219 (dk_at dksX19_led_1 8 rfl rfl)
theorem dX19_led_35 : decode cX19_led 35 = .ok (.if_icmp .ge 30, 3) := dk_162 0 30 (dk_at dksX19_led_1 11 rfl rfl)
theorem dX19_led_38 : decode cX19_led 38 = .ok (.aload_n 0, 1) := dk_42 (dk_at dksX19_led_1 14 rfl rfl)
theorem dX19_led_39 : decode cX19_led 39 = .ok (.iload_n 3, 1) := dk_29 (dk_at dksX19_led_1 15 rfl rfl)
theorem dX19_led_40 : decode cX19_led 40 = .ok (.invokevirtual 474, 3) := dk_182 1 218 (dk_at dksX19_led_1 16 rfl rfl)
theorem dX19_led_43 : decode cX19_led 43 = .ok (.ifCond .ne 6, 3) := dk_154 0 6 (dk_at dksX19_led_1 19 rfl rfl)
theorem dX19_led_46 : decode cX19_led 46 = .ok (.goto 13, 3) := dk_167 0 13 (dk_at dksX19_led_2 0 rfl rfl)
theorem dX19_led_49 : decode cX19_led 49 = .ok (.iload_n 2, 1) := dk_28 (dk_at dksX19_led_2 3 rfl rfl)
theorem dX19_led_50 : decode cX19_led 50 = .ok (.iload_n 1, 1) := dk_27 (dk_at dksX19_led_2 4 rfl rfl)
theorem dX19_led_51 : decode cX19_led 51 = .ok (.if_icmp .ne 5, 3) := dk_160 0 5 (dk_at dksX19_led_2 5 rfl rfl)
theorem dX19_led_54 : decode cX19_led 54 = .ok (.iload_n 3, 1) := dk_29 (dk_at dksX19_led_2 8 rfl rfl)
theorem dX19_led_55 : decode cX19_led 55 = .ok (.ireturn, 1) := dk_172 (dk_at dksX19_led_2 9 rfl rfl)
theorem dX19_led_56 : decode cX19_led 56 = .ok (.iinc 2 1, 3) := dk_132 2 1 (dk_at dksX19_led_2 10 rfl rfl)
theorem dX19_led_59 : decode cX19_led 59 = .ok (.iinc 3 1, 3) := dk_132 3 1 (dk_at dksX19_led_2 13 rfl rfl)
theorem dX19_led_62 : decode cX19_led 62 = .ok (.goto (-42), 3) := dk_167 255 214 (dk_at dksX19_led_2 16 rfl rfl)
theorem dX19_led_65 : decode cX19_led 65 = .ok (.aload_n 0, 1) := dk_42 (dk_at dksX19_led_2 19 rfl rfl)
theorem dX19_led_66 : decode cX19_led 66 = .ok (.iconst 1, 1) := dk_4 (dk_at dksX19_led_2 20 rfl rfl)
theorem dX19_led_67 : decode cX19_led 67 = .ok (.putfield 88, 3) := dk_181 0 88 (dk_at dksX19_led_2 21 rfl rfl)
theorem dX19_led_70 : decode cX19_led 70 = .ok (.iconst 0, 1) := dk_3 (dk_at dksX19_led_3 0 rfl rfl)
theorem dX19_led_71 : decode cX19_led 71 = .ok (.ireturn, 1) := dk_172 (dk_at dksX19_led_3 1 rfl rfl)
abbrev cX19_size : ByteArray := prog_24_method_131_code
def yX19_size : MethodName := ⟨RX19, "size", "(I)I"⟩
def dkwX19_size_6 : List UInt8 := [42, 180, 0, 21, 16, 58, 46, 172, 42, 180, 1, 109, 172, 42, 180, 1, 112, 172]
abbrev dktX19_size_6 : List UInt8 := dkwX19_size_6 ++ []
def dkwX19_size_5 : List UInt8 := [180, 0, 21, 16, 21, 46, 96, 172, 42, 180, 1, 107, 180, 1, 80, 172, 42, 180, 1, 107, 180, 1, 88, 172]
abbrev dktX19_size_5 : List UInt8 := dkwX19_size_5 ++ dktX19_size_6
def dkwX19_size_4 : List UInt8 := [42, 180, 1, 107, 180, 0, 255, 172, 42, 180, 1, 107, 180, 0, 219, 172, 42, 180, 1, 107, 180, 1, 66, 42]
abbrev dktX19_size_4 : List UInt8 := dkwX19_size_4 ++ dktX19_size_5
def dkwX19_size_3 : List UInt8 := [42, 180, 1, 107, 180, 0, 200, 172, 42, 180, 1, 107, 180, 0, 251, 172, 42, 180, 1, 107, 180, 0, 253, 172]
abbrev dktX19_size_3 : List UInt8 := dkwX19_size_3 ++ dktX19_size_4
def dkwX19_size_2 : List UInt8 := [170, 0, 0, 0, 0, 139, 0, 0, 0, 0, 0, 0, 0, 9, 0, 0, 0, 54, 0, 0, 0, 62, 0, 0, 0, 70, 0, 0, 0, 78, 0, 0, 0, 86, 0, 0, 0, 94, 0, 0, 0, 110, 0, 0, 0, 118, 0, 0, 0, 126, 0, 0, 0, 134]
abbrev dktX19_size_2 : List UInt8 := dkwX19_size_2 ++ dktX19_size_3
def dkwX19_size_1 : List UInt8 := [154, 0, 5, 2, 172, 42, 180, 1, 107, 199, 0, 5, 3, 172, 27]
abbrev dktX19_size_1 : List UInt8 := dkwX19_size_1 ++ dktX19_size_2
def dkwX19_size_0 : List UInt8 := [42, 3, 181, 0, 88, 27, 16, 11, 160, 0, 8, 42, 180, 1, 100, 172, 27, 3, 16, 10, 184, 0, 169]
abbrev dktX19_size_0 : List UInt8 := dkwX19_size_0 ++ dktX19_size_1
theorem dksX19_size_0 : cX19_size.data.toList.drop 0 = dktX19_size_0 := by decide +kernel
theorem dksX19_size_1 : cX19_size.data.toList.drop 23 = dktX19_size_1 := dk_seg dksX19_size_0 23 rfl rfl
theorem dksX19_size_2 : cX19_size.data.toList.drop 38 = dktX19_size_2 := dk_seg dksX19_size_1 15 rfl rfl
theorem dksX19_size_3 : cX19_size.data.toList.drop 92 = dktX19_size_3 := dk_seg dksX19_size_2 54 rfl rfl
theorem dksX19_size_4 : cX19_size.data.toList.drop 116 = dktX19_size_4 := dk_seg dksX19_size_3 24 rfl rfl
theorem dksX19_size_5 : cX19_size.data.toList.drop 140 = dktX19_size_5 := dk_seg dksX19_size_4 24 rfl rfl
theorem dksX19_size_6 : cX19_size.data.toList.drop 164 = dktX19_size_6 := dk_seg dksX19_size_5 24 rfl rfl
theorem dX19_size_0 : decode cX19_size 0 = .ok (.aload_n 0, 1) := dk_42 (dk_at dksX19_size_0 0 rfl rfl)
theorem dX19_size_1 : decode cX19_size 1 = .ok (.iconst 0, 1) := dk_3 (dk_at dksX19_size_0 1 rfl rfl)
theorem dX19_size_2 : decode cX19_size 2 = .ok (.putfield 88, 3) := dk_181 0 88 (dk_at dksX19_size_0 2 rfl rfl)
theorem dX19_size_5 : decode cX19_size 5 = .ok (.iload_n 1, 1) := dk_27 (dk_at dksX19_size_0 5 rfl rfl)
theorem dX19_size_6 : decode cX19_size 6 = .ok (.bipush 11, 2) := dk_16 11 (dk_at dksX19_size_0 6 rfl rfl)
theorem dX19_size_8 : decode cX19_size 8 = .ok (.if_icmp .ne 8, 3) := dk_160 0 8 (dk_at dksX19_size_0 8 rfl rfl)
theorem dX19_size_11 : decode cX19_size 11 = .ok (.aload_n 0, 1) := dk_42 (dk_at dksX19_size_0 11 rfl rfl)
theorem dX19_size_12 : decode cX19_size 12 = .ok (.getfield 356, 3) := dk_180 1 100 (dk_at dksX19_size_0 12 rfl rfl)
theorem dX19_size_15 : decode cX19_size 15 = .ok (.ireturn, 1) := dk_172 (dk_at dksX19_size_0 15 rfl rfl)
theorem dX19_size_16 : decode cX19_size 16 = .ok (.iload_n 1, 1) := dk_27 (dk_at dksX19_size_0 16 rfl rfl)
theorem dX19_size_17 : decode cX19_size 17 = .ok (.iconst 0, 1) := dk_3 (dk_at dksX19_size_0 17 rfl rfl)
theorem dX19_size_18 : decode cX19_size 18 = .ok (.bipush 10, 2) := dk_16 10 (dk_at dksX19_size_0 18 rfl rfl)
theorem dX19_size_20 : decode cX19_size 20 = .ok (.invokestatic 169, 3) := dk_184 0 169 (dk_at dksX19_size_0 20 rfl rfl)
theorem dX19_size_23 : decode cX19_size 23 = .ok (.ifCond .ne 5, 3) := dk_154 0 5 (dk_at dksX19_size_1 0 rfl rfl)
theorem dX19_size_26 : decode cX19_size 26 = .ok (.iconst (-1), 1) := dk_2 (dk_at dksX19_size_1 3 rfl rfl)
theorem dX19_size_27 : decode cX19_size 27 = .ok (.ireturn, 1) := dk_172 (dk_at dksX19_size_1 4 rfl rfl)
theorem dX19_size_28 : decode cX19_size 28 = .ok (.aload_n 0, 1) := dk_42 (dk_at dksX19_size_1 5 rfl rfl)
theorem dX19_size_29 : decode cX19_size 29 = .ok (.getfield 363, 3) := dk_180 1 107 (dk_at dksX19_size_1 6 rfl rfl)
theorem dX19_size_32 : decode cX19_size 32 = .ok (.ifnonnull 5, 3) := dk_199 0 5 (dk_at dksX19_size_1 9 rfl rfl)
theorem dX19_size_35 : decode cX19_size 35 = .ok (.iconst 0, 1) := dk_3 (dk_at dksX19_size_1 12 rfl rfl)
theorem dX19_size_36 : decode cX19_size 36 = .ok (.ireturn, 1) := dk_172 (dk_at dksX19_size_1 13 rfl rfl)
theorem dX19_size_37 : decode cX19_size 37 = .ok (.iload_n 1, 1) := dk_27 (dk_at dksX19_size_1 14 rfl rfl)
theorem dX19_size_38 : decode cX19_size 38 = .ok (.tableswitch 139 0 9 #[54, 62, 70, 78, 86, 94, 110, 118, 126, 134], 54) := by decide +kernel
theorem dX19_size_92 : decode cX19_size 92 = .ok (.aload_n 0, 1) := dk_42 (dk_at dksX19_size_3 0 rfl rfl)
theorem dX19_size_93 : decode cX19_size 93 = .ok (.getfield 363, 3) := dk_180 1 107 (dk_at dksX19_size_3 1 rfl rfl)
theorem dX19_size_96 : decode cX19_size 96 = .ok (.getfield 200, 3) := dk_180 0 200 (dk_at dksX19_size_3 4 rfl rfl)
theorem dX19_size_99 : decode cX19_size 99 = .ok (.ireturn, 1) := dk_172 (dk_at dksX19_size_3 7 rfl rfl)
theorem dX19_size_100 : decode cX19_size 100 = .ok (.aload_n 0, 1) := dk_42 (dk_at dksX19_size_3 8 rfl rfl)
theorem dX19_size_101 : decode cX19_size 101 = .ok (.getfield 363, 3) := dk_180 1 107 (dk_at dksX19_size_3 9 rfl rfl)
theorem dX19_size_104 : decode cX19_size 104 = .ok (.getfield 251, 3) := dk_180 0 251 (dk_at dksX19_size_3 12 rfl rfl)
theorem dX19_size_107 : decode cX19_size 107 = .ok (.ireturn, 1) := dk_172 (dk_at dksX19_size_3 15 rfl rfl)
theorem dX19_size_108 : decode cX19_size 108 = .ok (.aload_n 0, 1) := dk_42 (dk_at dksX19_size_3 16 rfl rfl)
theorem dX19_size_109 : decode cX19_size 109 = .ok (.getfield 363, 3) := dk_180 1 107 (dk_at dksX19_size_3 17 rfl rfl)
theorem dX19_size_112 : decode cX19_size 112 = .ok (.getfield 253, 3) := dk_180 0 253 (dk_at dksX19_size_3 20 rfl rfl)
theorem dX19_size_115 : decode cX19_size 115 = .ok (.ireturn, 1) := dk_172 (dk_at dksX19_size_3 23 rfl rfl)
theorem dX19_size_116 : decode cX19_size 116 = .ok (.aload_n 0, 1) := dk_42 (dk_at dksX19_size_4 0 rfl rfl)
theorem dX19_size_117 : decode cX19_size 117 = .ok (.getfield 363, 3) := dk_180 1 107 (dk_at dksX19_size_4 1 rfl rfl)
theorem dX19_size_120 : decode cX19_size 120 = .ok (.getfield 255, 3) := dk_180 0 255 (dk_at dksX19_size_4 4 rfl rfl)
theorem dX19_size_123 : decode cX19_size 123 = .ok (.ireturn, 1) := dk_172 (dk_at dksX19_size_4 7 rfl rfl)
theorem dX19_size_124 : decode cX19_size 124 = .ok (.aload_n 0, 1) := dk_42 (dk_at dksX19_size_4 8 rfl rfl)
theorem dX19_size_125 : decode cX19_size 125 = .ok (.getfield 363, 3) := dk_180 1 107 (dk_at dksX19_size_4 9 rfl rfl)
theorem dX19_size_128 : decode cX19_size 128 = .ok (.getfield 219, 3) := dk_180 0 219 (dk_at dksX19_size_4 12 rfl rfl)
theorem dX19_size_131 : decode cX19_size 131 = .ok (.ireturn, 1) := dk_172 (dk_at dksX19_size_4 15 rfl rfl)
theorem dX19_size_132 : decode cX19_size 132 = .ok (.aload_n 0, 1) := dk_42 (dk_at dksX19_size_4 16 rfl rfl)
theorem dX19_size_133 : decode cX19_size 133 = .ok (.getfield 363, 3) := dk_180 1 107 (dk_at dksX19_size_4 17 rfl rfl)
theorem dX19_size_136 : decode cX19_size 136 = .ok (.getfield 322, 3) := dk_180 1 66 (dk_at dksX19_size_4 20 rfl rfl)
theorem dX19_size_139 : decode cX19_size 139 = .ok (.aload_n 0, 1) := dk_42 (dk_at dksX19_size_4 23 rfl rfl)
theorem dX19_size_140 : decode cX19_size 140 = .ok (.getfield 21, 3) := dk_180 0 21 (dk_at dksX19_size_5 0 rfl rfl)
theorem dX19_size_143 : decode cX19_size 143 = .ok (.bipush 21, 2) := dk_16 21 (dk_at dksX19_size_5 3 rfl rfl)
theorem dX19_size_145 : decode cX19_size 145 = .ok (.iaload, 1) := dk_46 (dk_at dksX19_size_5 5 rfl rfl)
theorem dX19_size_146 : decode cX19_size 146 = .ok (.iadd, 1) := dk_96 (dk_at dksX19_size_5 6 rfl rfl)
theorem dX19_size_147 : decode cX19_size 147 = .ok (.ireturn, 1) := dk_172 (dk_at dksX19_size_5 7 rfl rfl)
theorem dX19_size_148 : decode cX19_size 148 = .ok (.aload_n 0, 1) := dk_42 (dk_at dksX19_size_5 8 rfl rfl)
theorem dX19_size_149 : decode cX19_size 149 = .ok (.getfield 363, 3) := dk_180 1 107 (dk_at dksX19_size_5 9 rfl rfl)
theorem dX19_size_152 : decode cX19_size 152 = .ok (.getfield 336, 3) := dk_180 1 80 (dk_at dksX19_size_5 12 rfl rfl)
theorem dX19_size_155 : decode cX19_size 155 = .ok (.ireturn, 1) := dk_172 (dk_at dksX19_size_5 15 rfl rfl)
theorem dX19_size_156 : decode cX19_size 156 = .ok (.aload_n 0, 1) := dk_42 (dk_at dksX19_size_5 16 rfl rfl)
theorem dX19_size_157 : decode cX19_size 157 = .ok (.getfield 363, 3) := dk_180 1 107 (dk_at dksX19_size_5 17 rfl rfl)
theorem dX19_size_160 : decode cX19_size 160 = .ok (.getfield 344, 3) := dk_180 1 88 (dk_at dksX19_size_5 20 rfl rfl)
theorem dX19_size_163 : decode cX19_size 163 = .ok (.ireturn, 1) := dk_172 (dk_at dksX19_size_5 23 rfl rfl)
theorem dX19_size_164 : decode cX19_size 164 = .ok (.aload_n 0, 1) := dk_42 (dk_at dksX19_size_6 0 rfl rfl)
theorem dX19_size_165 : decode cX19_size 165 = .ok (.getfield 21, 3) := dk_180 0 21 (dk_at dksX19_size_6 1 rfl rfl)
theorem dX19_size_168 : decode cX19_size 168 = .ok (.bipush 58, 2) := dk_16 58 (dk_at dksX19_size_6 4 rfl rfl)
theorem dX19_size_170 : decode cX19_size 170 = .ok (.iaload, 1) := dk_46 (dk_at dksX19_size_6 6 rfl rfl)
theorem dX19_size_171 : decode cX19_size 171 = .ok (.ireturn, 1) := dk_172 (dk_at dksX19_size_6 7 rfl rfl)
theorem dX19_size_172 : decode cX19_size 172 = .ok (.aload_n 0, 1) := dk_42 (dk_at dksX19_size_6 8 rfl rfl)
theorem dX19_size_173 : decode cX19_size 173 = .ok (.getfield 365, 3) := dk_180 1 109 (dk_at dksX19_size_6 9 rfl rfl)
theorem dX19_size_176 : decode cX19_size 176 = .ok (.ireturn, 1) := dk_172 (dk_at dksX19_size_6 12 rfl rfl)
theorem dX19_size_177 : decode cX19_size 177 = .ok (.aload_n 0, 1) := dk_42 (dk_at dksX19_size_6 13 rfl rfl)
theorem dX19_size_178 : decode cX19_size 178 = .ok (.getfield 368, 3) := dk_180 1 112 (dk_at dksX19_size_6 14 rfl rfl)
theorem dX19_size_181 : decode cX19_size 181 = .ok (.ireturn, 1) := dk_172 (dk_at dksX19_size_6 17 rfl rfl)
abbrev cX19_trouble : ByteArray := prog_24_method_132_code
def yX19_trouble : MethodName := ⟨RX19, "trouble", "()I"⟩
def dkwX19_trouble_0 : List UInt8 := [42, 3, 181, 0, 88, 42, 180, 0, 91, 172]
abbrev dktX19_trouble_0 : List UInt8 := dkwX19_trouble_0 ++ []
theorem dksX19_trouble_0 : cX19_trouble.data.toList.drop 0 = dktX19_trouble_0 := by decide +kernel
theorem dX19_trouble_0 : decode cX19_trouble 0 = .ok (.aload_n 0, 1) := dk_42 (dk_at dksX19_trouble_0 0 rfl rfl)
theorem dX19_trouble_1 : decode cX19_trouble 1 = .ok (.iconst 0, 1) := dk_3 (dk_at dksX19_trouble_0 1 rfl rfl)
theorem dX19_trouble_2 : decode cX19_trouble 2 = .ok (.putfield 88, 3) := dk_181 0 88 (dk_at dksX19_trouble_0 2 rfl rfl)
theorem dX19_trouble_5 : decode cX19_trouble 5 = .ok (.aload_n 0, 1) := dk_42 (dk_at dksX19_trouble_0 5 rfl rfl)
theorem dX19_trouble_6 : decode cX19_trouble 6 = .ok (.getfield 91, 3) := dk_180 0 91 (dk_at dksX19_trouble_0 6 rfl rfl)
theorem dX19_trouble_9 : decode cX19_trouble 9 = .ok (.ireturn, 1) := dk_172 (dk_at dksX19_trouble_0 9 rfl rfl)
theorem q151 : (Jvm.Cond.initialized "BrushGlassModel") ∈ lw_all := lw_g (lw_at lw_m1 22 rfl) rfl
theorem q1746 : (Jvm.Cond.instantiable "BrushGlassModel" (52 : Nat)) ∈ lw_all := lw_g (lw_at lw_m7 177 rfl) rfl
theorem q1748 : (Jvm.Cond.instanceMethod ({ cls := "BrushGlassModel", name := "<init>", desc := "()V" } : Jvm.MethodName)) ∈ lw_all := lw_g (lw_at lw_m7 179 rfl) rfl
theorem q1749 : (Jvm.Cond.code ({ cls := "BrushGlassModel", name := "<init>", desc := "()V" } : Jvm.MethodName) prog_24_method_1_code (1 : Nat) (Option.none : Option Jvm.ClassFile.FieldType)) ∈ lw_all := lw_g (lw_at lw_m7 180 rfl) rfl
theorem q1750 : (Jvm.Cond.methodLink "BrushGlassModel" (3 : Nat) ({ cls := "java/lang/Object", name := "<init>", desc := "()V" } : Jvm.MethodName)) ∈ lw_all := lw_g (lw_at lw_m7 181 rfl) rfl
theorem q1751 : (Jvm.Cond.fieldLink "BrushGlassModel" (88 : Nat) "BrushGlassModel" "thrown" "I") ∈ lw_all := lw_g (lw_at lw_m7 182 rfl) rfl
theorem q1752 : (Jvm.Cond.fieldLink "BrushGlassModel" (91 : Nat) "BrushGlassModel" "trouble" "I") ∈ lw_all := lw_g (lw_at lw_m7 183 rfl) rfl
theorem q1753 : (Jvm.Cond.fieldLink "BrushGlassModel" (9 : Nat) "BrushGlassModel" "where" "I") ∈ lw_all := lw_g (lw_at lw_m7 184 rfl) rfl
theorem q1754 : (Jvm.Cond.fieldLink "BrushGlassModel" (363 : Nat) "BrushGlassModel" "glass" "LBrushGlassModel$Glass;") ∈ lw_all := lw_g (lw_at lw_m7 185 rfl) rfl
theorem q1755 : (Jvm.Cond.fieldLink "BrushGlassModel" (196 : Nat) "BrushGlassModel" "read" "LBrushGlassModel$Glass;") ∈ lw_all := lw_g (lw_at lw_m7 186 rfl) rfl
theorem q1756 : (Jvm.Cond.fieldLink "BrushGlassModel" (13 : Nat) "BrushGlassModel" "tape" "[B") ∈ lw_all := lw_g (lw_at lw_m7 187 rfl) rfl
theorem q1757 : (Jvm.Cond.fieldLink "BrushGlassModel" (356 : Nat) "BrushGlassModel" "taped" "I") ∈ lw_all := lw_g (lw_at lw_m7 188 rfl) rfl
theorem q1758 : (Jvm.Cond.fieldLink "BrushGlassModel" (101 : Nat) "BrushGlassModel" "size" "I") ∈ lw_all := lw_g (lw_at lw_m7 189 rfl) rfl
theorem q1759 : (Jvm.Cond.fieldLink "BrushGlassModel" (119 : Nat) "BrushGlassModel" "spot" "I") ∈ lw_all := lw_g (lw_at lw_m7 190 rfl) rfl
theorem q1760 : (Jvm.Cond.fieldLink "BrushGlassModel" (116 : Nat) "BrushGlassModel" "sort" "I") ∈ lw_all := lw_g (lw_at lw_m7 191 rfl) rfl
theorem q1761 : (Jvm.Cond.fieldLink "BrushGlassModel" (125 : Nat) "BrushGlassModel" "place" "I") ∈ lw_all := lw_g (lw_at lw_m7 192 rfl) rfl
theorem q1762 : (Jvm.Cond.fieldLink "BrushGlassModel" (128 : Nat) "BrushGlassModel" "sign" "I") ∈ lw_all := lw_g (lw_at lw_m7 193 rfl) rfl
theorem q1763 : (Jvm.Cond.fieldLink "BrushGlassModel" (145 : Nat) "BrushGlassModel" "number" "I") ∈ lw_all := lw_g (lw_at lw_m7 194 rfl) rfl
theorem q1764 : (Jvm.Cond.fieldLink "BrushGlassModel" (139 : Nat) "BrushGlassModel" "letters" "I") ∈ lw_all := lw_g (lw_at lw_m7 195 rfl) rfl
theorem q1765 : (Jvm.Cond.fieldLink "BrushGlassModel" (148 : Nat) "BrushGlassModel" "fault" "I") ∈ lw_all := lw_g (lw_at lw_m7 196 rfl) rfl
theorem q1766 : (Jvm.Cond.fieldLink "BrushGlassModel" (151 : Nat) "BrushGlassModel" "wrongAt" "I") ∈ lw_all := lw_g (lw_at lw_m7 197 rfl) rfl
theorem q1767 : (Jvm.Cond.fieldLink "BrushGlassModel" (17 : Nat) "BrushGlassModel" "spelt" "[I") ∈ lw_all := lw_g (lw_at lw_m7 198 rfl) rfl
theorem q1768 : (Jvm.Cond.fieldLink "BrushGlassModel" (135 : Nat) "BrushGlassModel" "word" "J") ∈ lw_all := lw_g (lw_at lw_m7 199 rfl) rfl
theorem q1769 : (Jvm.Cond.fieldLink "BrushGlassModel" (21 : Nat) "BrushGlassModel" "v" "[I") ∈ lw_all := lw_g (lw_at lw_m7 200 rfl) rfl
theorem q1770 : (Jvm.Cond.fieldLink "BrushGlassModel" (24 : Nat) "BrushGlassModel" "past" "[I") ∈ lw_all := lw_g (lw_at lw_m7 201 rfl) rfl
theorem q1771 : (Jvm.Cond.fieldLink "BrushGlassModel" (27 : Nat) "BrushGlassModel" "kept" "[I") ∈ lw_all := lw_g (lw_at lw_m7 202 rfl) rfl
theorem q1772 : (Jvm.Cond.fieldLink "BrushGlassModel" (365 : Nat) "BrushGlassModel" "acts" "I") ∈ lw_all := lw_g (lw_at lw_m7 203 rfl) rfl
theorem q1773 : (Jvm.Cond.fieldLink "BrushGlassModel" (368 : Nat) "BrushGlassModel" "marks" "I") ∈ lw_all := lw_g (lw_at lw_m7 204 rfl) rfl
theorem q1774 : (Jvm.Cond.fieldLink "BrushGlassModel" (30 : Nat) "BrushGlassModel" "owner" "[I") ∈ lw_all := lw_g (lw_at lw_m7 205 rfl) rfl
theorem q1775 : (Jvm.Cond.fieldLink "BrushGlassModel" (33 : Nat) "BrushGlassModel" "colourOf" "[I") ∈ lw_all := lw_g (lw_at lw_m7 206 rfl) rfl
theorem q1776 : (Jvm.Cond.fieldLink "BrushGlassModel" (36 : Nat) "BrushGlassModel" "bought" "[I") ∈ lw_all := lw_g (lw_at lw_m7 207 rfl) rfl
theorem q1777 : (Jvm.Cond.fieldLink "BrushGlassModel" (39 : Nat) "BrushGlassModel" "away" "[I") ∈ lw_all := lw_g (lw_at lw_m7 208 rfl) rfl
theorem q1778 : (Jvm.Cond.fieldLink "BrushGlassModel" (42 : Nat) "BrushGlassModel" "worn" "[I") ∈ lw_all := lw_g (lw_at lw_m7 209 rfl) rfl
theorem q1779 : (Jvm.Cond.fieldLink "BrushGlassModel" (45 : Nat) "BrushGlassModel" "own" "[I") ∈ lw_all := lw_g (lw_at lw_m7 210 rfl) rfl
theorem q1780 : (Jvm.Cond.fieldLink "BrushGlassModel" (48 : Nat) "BrushGlassModel" "is" "[I") ∈ lw_all := lw_g (lw_at lw_m7 211 rfl) rfl
theorem q1781 : (Jvm.Cond.fieldLink "BrushGlassModel" (51 : Nat) "BrushGlassModel" "putAt" "[I") ∈ lw_all := lw_g (lw_at lw_m7 212 rfl) rfl
theorem q1782 : (Jvm.Cond.fieldLink "BrushGlassModel" (54 : Nat) "BrushGlassModel" "stands" "[I") ∈ lw_all := lw_g (lw_at lw_m7 213 rfl) rfl
theorem q1783 : (Jvm.Cond.fieldLink "BrushGlassModel" (57 : Nat) "BrushGlassModel" "eveningAt" "[I") ∈ lw_all := lw_g (lw_at lw_m7 214 rfl) rfl
theorem q1784 : (Jvm.Cond.fieldLink "BrushGlassModel" (60 : Nat) "BrushGlassModel" "eveningIs" "[I") ∈ lw_all := lw_g (lw_at lw_m7 215 rfl) rfl
theorem q1785 : (Jvm.Cond.fieldLink "BrushGlassModel" (63 : Nat) "BrushGlassModel" "eveningUse" "[I") ∈ lw_all := lw_g (lw_at lw_m7 216 rfl) rfl
theorem q1786 : (Jvm.Cond.fieldLink "BrushGlassModel" (383 : Nat) "BrushGlassModel" "brushes" "I") ∈ lw_all := lw_g (lw_at lw_m7 217 rfl) rfl
theorem q1787 : (Jvm.Cond.fieldLink "BrushGlassModel" (377 : Nat) "BrushGlassModel" "moreDay" "I") ∈ lw_all := lw_g (lw_at lw_m7 218 rfl) rfl
theorem q1788 : (Jvm.Cond.fieldLink "BrushGlassModel" (404 : Nat) "BrushGlassModel" "moreOne" "I") ∈ lw_all := lw_g (lw_at lw_m7 219 rfl) rfl
theorem q1789 : (Jvm.Cond.fieldLink "BrushGlassModel" (407 : Nat) "BrushGlassModel" "moreTwo" "I") ∈ lw_all := lw_g (lw_at lw_m7 220 rfl) rfl
theorem q1790 : (Jvm.Cond.fieldLink "BrushGlassModel" (374 : Nat) "BrushGlassModel" "allHabit" "I") ∈ lw_all := lw_g (lw_at lw_m7 221 rfl) rfl
theorem q1791 : (Jvm.Cond.fieldLink "BrushGlassModel" (371 : Nat) "BrushGlassModel" "allKind" "I") ∈ lw_all := lw_g (lw_at lw_m7 222 rfl) rfl
theorem q1792 : (Jvm.Cond.fieldLink "BrushGlassModel" (66 : Nat) "BrushGlassModel" "given" "[I") ∈ lw_all := lw_g (lw_at lw_m7 223 rfl) rfl
theorem q1793 : (Jvm.Cond.fieldLink "BrushGlassModel" (507 : Nat) "BrushGlassModel" "foundDay" "I") ∈ lw_all := lw_g (lw_at lw_m7 224 rfl) rfl
theorem q1794 : (Jvm.Cond.fieldLink "BrushGlassModel" (510 : Nat) "BrushGlassModel" "foundOne" "I") ∈ lw_all := lw_g (lw_at lw_m7 225 rfl) rfl
theorem q1795 : (Jvm.Cond.fieldLink "BrushGlassModel" (513 : Nat) "BrushGlassModel" "foundTwo" "I") ∈ lw_all := lw_g (lw_at lw_m7 226 rfl) rfl
theorem q1796 : (Jvm.Cond.fieldLink "BrushGlassModel" (69 : Nat) "BrushGlassModel" "who" "[I") ∈ lw_all := lw_g (lw_at lw_m7 227 rfl) rfl
theorem q1797 : (Jvm.Cond.fieldLink "BrushGlassModel" (72 : Nat) "BrushGlassModel" "has" "[I") ∈ lw_all := lw_g (lw_at lw_m7 228 rfl) rfl
theorem q1798 : (Jvm.Cond.fieldLink "BrushGlassModel" (75 : Nat) "BrushGlassModel" "could" "[I") ∈ lw_all := lw_g (lw_at lw_m7 229 rfl) rfl
theorem q1799 : (Jvm.Cond.fieldLink "BrushGlassModel" (78 : Nat) "BrushGlassModel" "surePlace" "[I") ∈ lw_all := lw_g (lw_at lw_m7 230 rfl) rfl
theorem q1800 : (Jvm.Cond.fieldLink "BrushGlassModel" (525 : Nat) "BrushGlassModel" "among" "I") ∈ lw_all := lw_g (lw_at lw_m7 231 rfl) rfl
theorem q1801 : (Jvm.Cond.fieldLink "BrushGlassModel" (81 : Nat) "BrushGlassModel" "chance" "[J") ∈ lw_all := lw_g (lw_at lw_m7 232 rfl) rfl
theorem q1802 : (Jvm.Cond.fieldLink "BrushGlassModel" (85 : Nat) "BrushGlassModel" "next" "[J") ∈ lw_all := lw_g (lw_at lw_m7 233 rfl) rfl
theorem q1803 : (Jvm.Cond.lays "BrushGlassModel" "BrushGlassModel" "thrown" "I") ∈ lw_all := lw_g (lw_at lw_m7 234 rfl) rfl
theorem q1804 : (Jvm.Cond.soleField "BrushGlassModel" "thrown") ∈ lw_all := lw_g (lw_at lw_m7 235 rfl) rfl
theorem q1805 : (Jvm.Cond.lays "BrushGlassModel" "BrushGlassModel" "trouble" "I") ∈ lw_all := lw_g (lw_at lw_m7 236 rfl) rfl
theorem q1806 : (Jvm.Cond.soleField "BrushGlassModel" "trouble") ∈ lw_all := lw_g (lw_at lw_m7 237 rfl) rfl
theorem q1807 : (Jvm.Cond.lays "BrushGlassModel" "BrushGlassModel" "where" "I") ∈ lw_all := lw_g (lw_at lw_m7 238 rfl) rfl
theorem q1808 : (Jvm.Cond.soleField "BrushGlassModel" "where") ∈ lw_all := lw_g (lw_at lw_m7 239 rfl) rfl
theorem q1809 : (Jvm.Cond.lays "BrushGlassModel" "BrushGlassModel" "glass" "LBrushGlassModel$Glass;") ∈ lw_all := lw_g (lw_at lw_m8 0 rfl) rfl
theorem q1810 : (Jvm.Cond.soleField "BrushGlassModel" "glass") ∈ lw_all := lw_g (lw_at lw_m8 1 rfl) rfl
theorem q1811 : (Jvm.Cond.lays "BrushGlassModel" "BrushGlassModel" "read" "LBrushGlassModel$Glass;") ∈ lw_all := lw_g (lw_at lw_m8 2 rfl) rfl
theorem q1812 : (Jvm.Cond.soleField "BrushGlassModel" "read") ∈ lw_all := lw_g (lw_at lw_m8 3 rfl) rfl
theorem q1813 : (Jvm.Cond.laysFinal "BrushGlassModel" "BrushGlassModel" "tape" "[B") ∈ lw_all := lw_g (lw_at lw_m8 4 rfl) rfl
theorem q1814 : (Jvm.Cond.soleField "BrushGlassModel" "tape") ∈ lw_all := lw_g (lw_at lw_m8 5 rfl) rfl
theorem q1815 : (Jvm.Cond.lays "BrushGlassModel" "BrushGlassModel" "taped" "I") ∈ lw_all := lw_g (lw_at lw_m8 6 rfl) rfl
theorem q1816 : (Jvm.Cond.soleField "BrushGlassModel" "taped") ∈ lw_all := lw_g (lw_at lw_m8 7 rfl) rfl
theorem q1817 : (Jvm.Cond.lays "BrushGlassModel" "BrushGlassModel" "size" "I") ∈ lw_all := lw_g (lw_at lw_m8 8 rfl) rfl
theorem q1818 : (Jvm.Cond.soleField "BrushGlassModel" "size") ∈ lw_all := lw_g (lw_at lw_m8 9 rfl) rfl
theorem q1819 : (Jvm.Cond.lays "BrushGlassModel" "BrushGlassModel" "spot" "I") ∈ lw_all := lw_g (lw_at lw_m8 10 rfl) rfl
theorem q1820 : (Jvm.Cond.soleField "BrushGlassModel" "spot") ∈ lw_all := lw_g (lw_at lw_m8 11 rfl) rfl
theorem q1821 : (Jvm.Cond.lays "BrushGlassModel" "BrushGlassModel" "sort" "I") ∈ lw_all := lw_g (lw_at lw_m8 12 rfl) rfl
theorem q1822 : (Jvm.Cond.soleField "BrushGlassModel" "sort") ∈ lw_all := lw_g (lw_at lw_m8 13 rfl) rfl
theorem q1823 : (Jvm.Cond.lays "BrushGlassModel" "BrushGlassModel" "place" "I") ∈ lw_all := lw_g (lw_at lw_m8 14 rfl) rfl
theorem q1824 : (Jvm.Cond.soleField "BrushGlassModel" "place") ∈ lw_all := lw_g (lw_at lw_m8 15 rfl) rfl
theorem q1825 : (Jvm.Cond.lays "BrushGlassModel" "BrushGlassModel" "sign" "I") ∈ lw_all := lw_g (lw_at lw_m8 16 rfl) rfl
theorem q1826 : (Jvm.Cond.soleField "BrushGlassModel" "sign") ∈ lw_all := lw_g (lw_at lw_m8 17 rfl) rfl
theorem q1827 : (Jvm.Cond.lays "BrushGlassModel" "BrushGlassModel" "number" "I") ∈ lw_all := lw_g (lw_at lw_m8 18 rfl) rfl
theorem q1828 : (Jvm.Cond.soleField "BrushGlassModel" "number") ∈ lw_all := lw_g (lw_at lw_m8 19 rfl) rfl
theorem q1829 : (Jvm.Cond.lays "BrushGlassModel" "BrushGlassModel" "letters" "I") ∈ lw_all := lw_g (lw_at lw_m8 20 rfl) rfl
theorem q1830 : (Jvm.Cond.soleField "BrushGlassModel" "letters") ∈ lw_all := lw_g (lw_at lw_m8 21 rfl) rfl
theorem q1831 : (Jvm.Cond.lays "BrushGlassModel" "BrushGlassModel" "fault" "I") ∈ lw_all := lw_g (lw_at lw_m8 22 rfl) rfl
theorem q1832 : (Jvm.Cond.soleField "BrushGlassModel" "fault") ∈ lw_all := lw_g (lw_at lw_m8 23 rfl) rfl
theorem q1833 : (Jvm.Cond.lays "BrushGlassModel" "BrushGlassModel" "wrongAt" "I") ∈ lw_all := lw_g (lw_at lw_m8 24 rfl) rfl
theorem q1834 : (Jvm.Cond.soleField "BrushGlassModel" "wrongAt") ∈ lw_all := lw_g (lw_at lw_m8 25 rfl) rfl
theorem q1835 : (Jvm.Cond.laysFinal "BrushGlassModel" "BrushGlassModel" "spelt" "[I") ∈ lw_all := lw_g (lw_at lw_m8 26 rfl) rfl
theorem q1836 : (Jvm.Cond.soleField "BrushGlassModel" "spelt") ∈ lw_all := lw_g (lw_at lw_m8 27 rfl) rfl
theorem q1837 : (Jvm.Cond.lays "BrushGlassModel" "BrushGlassModel" "word" "J") ∈ lw_all := lw_g (lw_at lw_m8 28 rfl) rfl
theorem q1838 : (Jvm.Cond.soleField "BrushGlassModel" "word") ∈ lw_all := lw_g (lw_at lw_m8 29 rfl) rfl
theorem q1839 : (Jvm.Cond.laysFinal "BrushGlassModel" "BrushGlassModel" "v" "[I") ∈ lw_all := lw_g (lw_at lw_m8 30 rfl) rfl
theorem q1840 : (Jvm.Cond.soleField "BrushGlassModel" "v") ∈ lw_all := lw_g (lw_at lw_m8 31 rfl) rfl
theorem q1841 : (Jvm.Cond.laysFinal "BrushGlassModel" "BrushGlassModel" "past" "[I") ∈ lw_all := lw_g (lw_at lw_m8 32 rfl) rfl
theorem q1842 : (Jvm.Cond.soleField "BrushGlassModel" "past") ∈ lw_all := lw_g (lw_at lw_m8 33 rfl) rfl
theorem q1843 : (Jvm.Cond.laysFinal "BrushGlassModel" "BrushGlassModel" "kept" "[I") ∈ lw_all := lw_g (lw_at lw_m8 34 rfl) rfl
theorem q1844 : (Jvm.Cond.soleField "BrushGlassModel" "kept") ∈ lw_all := lw_g (lw_at lw_m8 35 rfl) rfl
theorem q1845 : (Jvm.Cond.lays "BrushGlassModel" "BrushGlassModel" "acts" "I") ∈ lw_all := lw_g (lw_at lw_m8 36 rfl) rfl
theorem q1846 : (Jvm.Cond.soleField "BrushGlassModel" "acts") ∈ lw_all := lw_g (lw_at lw_m8 37 rfl) rfl
theorem q1847 : (Jvm.Cond.lays "BrushGlassModel" "BrushGlassModel" "marks" "I") ∈ lw_all := lw_g (lw_at lw_m8 38 rfl) rfl
theorem q1848 : (Jvm.Cond.soleField "BrushGlassModel" "marks") ∈ lw_all := lw_g (lw_at lw_m8 39 rfl) rfl
theorem q1849 : (Jvm.Cond.laysFinal "BrushGlassModel" "BrushGlassModel" "owner" "[I") ∈ lw_all := lw_g (lw_at lw_m8 40 rfl) rfl
theorem q1850 : (Jvm.Cond.soleField "BrushGlassModel" "owner") ∈ lw_all := lw_g (lw_at lw_m8 41 rfl) rfl
theorem q1851 : (Jvm.Cond.laysFinal "BrushGlassModel" "BrushGlassModel" "colourOf" "[I") ∈ lw_all := lw_g (lw_at lw_m8 42 rfl) rfl
theorem q1852 : (Jvm.Cond.soleField "BrushGlassModel" "colourOf") ∈ lw_all := lw_g (lw_at lw_m8 43 rfl) rfl
theorem q1853 : (Jvm.Cond.laysFinal "BrushGlassModel" "BrushGlassModel" "bought" "[I") ∈ lw_all := lw_g (lw_at lw_m8 44 rfl) rfl
theorem q1854 : (Jvm.Cond.soleField "BrushGlassModel" "bought") ∈ lw_all := lw_g (lw_at lw_m8 45 rfl) rfl
theorem q1855 : (Jvm.Cond.laysFinal "BrushGlassModel" "BrushGlassModel" "away" "[I") ∈ lw_all := lw_g (lw_at lw_m8 46 rfl) rfl
theorem q1856 : (Jvm.Cond.soleField "BrushGlassModel" "away") ∈ lw_all := lw_g (lw_at lw_m8 47 rfl) rfl
theorem q1857 : (Jvm.Cond.laysFinal "BrushGlassModel" "BrushGlassModel" "worn" "[I") ∈ lw_all := lw_g (lw_at lw_m8 48 rfl) rfl
theorem q1858 : (Jvm.Cond.soleField "BrushGlassModel" "worn") ∈ lw_all := lw_g (lw_at lw_m8 49 rfl) rfl
theorem q1859 : (Jvm.Cond.laysFinal "BrushGlassModel" "BrushGlassModel" "own" "[I") ∈ lw_all := lw_g (lw_at lw_m8 50 rfl) rfl
theorem q1860 : (Jvm.Cond.soleField "BrushGlassModel" "own") ∈ lw_all := lw_g (lw_at lw_m8 51 rfl) rfl
theorem q1861 : (Jvm.Cond.laysFinal "BrushGlassModel" "BrushGlassModel" "is" "[I") ∈ lw_all := lw_g (lw_at lw_m8 52 rfl) rfl
theorem q1862 : (Jvm.Cond.soleField "BrushGlassModel" "is") ∈ lw_all := lw_g (lw_at lw_m8 53 rfl) rfl
theorem q1863 : (Jvm.Cond.laysFinal "BrushGlassModel" "BrushGlassModel" "putAt" "[I") ∈ lw_all := lw_g (lw_at lw_m8 54 rfl) rfl
theorem q1864 : (Jvm.Cond.soleField "BrushGlassModel" "putAt") ∈ lw_all := lw_g (lw_at lw_m8 55 rfl) rfl
theorem q1865 : (Jvm.Cond.laysFinal "BrushGlassModel" "BrushGlassModel" "stands" "[I") ∈ lw_all := lw_g (lw_at lw_m8 56 rfl) rfl
theorem q1866 : (Jvm.Cond.soleField "BrushGlassModel" "stands") ∈ lw_all := lw_g (lw_at lw_m8 57 rfl) rfl
theorem q1867 : (Jvm.Cond.laysFinal "BrushGlassModel" "BrushGlassModel" "eveningAt" "[I") ∈ lw_all := lw_g (lw_at lw_m8 58 rfl) rfl
theorem q1868 : (Jvm.Cond.soleField "BrushGlassModel" "eveningAt") ∈ lw_all := lw_g (lw_at lw_m8 59 rfl) rfl
theorem q1869 : (Jvm.Cond.laysFinal "BrushGlassModel" "BrushGlassModel" "eveningIs" "[I") ∈ lw_all := lw_g (lw_at lw_m8 60 rfl) rfl
theorem q1870 : (Jvm.Cond.soleField "BrushGlassModel" "eveningIs") ∈ lw_all := lw_g (lw_at lw_m8 61 rfl) rfl
theorem q1871 : (Jvm.Cond.laysFinal "BrushGlassModel" "BrushGlassModel" "eveningUse" "[I") ∈ lw_all := lw_g (lw_at lw_m8 62 rfl) rfl
theorem q1872 : (Jvm.Cond.soleField "BrushGlassModel" "eveningUse") ∈ lw_all := lw_g (lw_at lw_m8 63 rfl) rfl
theorem q1873 : (Jvm.Cond.lays "BrushGlassModel" "BrushGlassModel" "brushes" "I") ∈ lw_all := lw_g (lw_at lw_m8 64 rfl) rfl
theorem q1874 : (Jvm.Cond.soleField "BrushGlassModel" "brushes") ∈ lw_all := lw_g (lw_at lw_m8 65 rfl) rfl
theorem q1875 : (Jvm.Cond.lays "BrushGlassModel" "BrushGlassModel" "moreDay" "I") ∈ lw_all := lw_g (lw_at lw_m8 66 rfl) rfl
theorem q1876 : (Jvm.Cond.soleField "BrushGlassModel" "moreDay") ∈ lw_all := lw_g (lw_at lw_m8 67 rfl) rfl
theorem q1877 : (Jvm.Cond.lays "BrushGlassModel" "BrushGlassModel" "moreOne" "I") ∈ lw_all := lw_g (lw_at lw_m8 68 rfl) rfl
theorem q1878 : (Jvm.Cond.soleField "BrushGlassModel" "moreOne") ∈ lw_all := lw_g (lw_at lw_m8 69 rfl) rfl
theorem q1879 : (Jvm.Cond.lays "BrushGlassModel" "BrushGlassModel" "moreTwo" "I") ∈ lw_all := lw_g (lw_at lw_m8 70 rfl) rfl
theorem q1880 : (Jvm.Cond.soleField "BrushGlassModel" "moreTwo") ∈ lw_all := lw_g (lw_at lw_m8 71 rfl) rfl
theorem q1881 : (Jvm.Cond.lays "BrushGlassModel" "BrushGlassModel" "allHabit" "I") ∈ lw_all := lw_g (lw_at lw_m8 72 rfl) rfl
theorem q1882 : (Jvm.Cond.soleField "BrushGlassModel" "allHabit") ∈ lw_all := lw_g (lw_at lw_m8 73 rfl) rfl
theorem q1883 : (Jvm.Cond.lays "BrushGlassModel" "BrushGlassModel" "allKind" "I") ∈ lw_all := lw_g (lw_at lw_m8 74 rfl) rfl
theorem q1884 : (Jvm.Cond.soleField "BrushGlassModel" "allKind") ∈ lw_all := lw_g (lw_at lw_m8 75 rfl) rfl
theorem q1885 : (Jvm.Cond.laysFinal "BrushGlassModel" "BrushGlassModel" "given" "[I") ∈ lw_all := lw_g (lw_at lw_m8 76 rfl) rfl
theorem q1886 : (Jvm.Cond.soleField "BrushGlassModel" "given") ∈ lw_all := lw_g (lw_at lw_m8 77 rfl) rfl
theorem q1887 : (Jvm.Cond.lays "BrushGlassModel" "BrushGlassModel" "foundDay" "I") ∈ lw_all := lw_g (lw_at lw_m8 78 rfl) rfl
theorem q1888 : (Jvm.Cond.soleField "BrushGlassModel" "foundDay") ∈ lw_all := lw_g (lw_at lw_m8 79 rfl) rfl
theorem q1889 : (Jvm.Cond.lays "BrushGlassModel" "BrushGlassModel" "foundOne" "I") ∈ lw_all := lw_g (lw_at lw_m8 80 rfl) rfl
theorem q1890 : (Jvm.Cond.soleField "BrushGlassModel" "foundOne") ∈ lw_all := lw_g (lw_at lw_m8 81 rfl) rfl
theorem q1891 : (Jvm.Cond.lays "BrushGlassModel" "BrushGlassModel" "foundTwo" "I") ∈ lw_all := lw_g (lw_at lw_m8 82 rfl) rfl
theorem q1892 : (Jvm.Cond.soleField "BrushGlassModel" "foundTwo") ∈ lw_all := lw_g (lw_at lw_m8 83 rfl) rfl
theorem q1893 : (Jvm.Cond.laysFinal "BrushGlassModel" "BrushGlassModel" "who" "[I") ∈ lw_all := lw_g (lw_at lw_m8 84 rfl) rfl
theorem q1894 : (Jvm.Cond.soleField "BrushGlassModel" "who") ∈ lw_all := lw_g (lw_at lw_m8 85 rfl) rfl
theorem q1895 : (Jvm.Cond.laysFinal "BrushGlassModel" "BrushGlassModel" "has" "[I") ∈ lw_all := lw_g (lw_at lw_m8 86 rfl) rfl
theorem q1896 : (Jvm.Cond.soleField "BrushGlassModel" "has") ∈ lw_all := lw_g (lw_at lw_m8 87 rfl) rfl
theorem q1897 : (Jvm.Cond.laysFinal "BrushGlassModel" "BrushGlassModel" "could" "[I") ∈ lw_all := lw_g (lw_at lw_m8 88 rfl) rfl
theorem q1898 : (Jvm.Cond.soleField "BrushGlassModel" "could") ∈ lw_all := lw_g (lw_at lw_m8 89 rfl) rfl
theorem q1899 : (Jvm.Cond.laysFinal "BrushGlassModel" "BrushGlassModel" "surePlace" "[I") ∈ lw_all := lw_g (lw_at lw_m8 90 rfl) rfl
theorem q1900 : (Jvm.Cond.soleField "BrushGlassModel" "surePlace") ∈ lw_all := lw_g (lw_at lw_m8 91 rfl) rfl
theorem q1901 : (Jvm.Cond.lays "BrushGlassModel" "BrushGlassModel" "among" "I") ∈ lw_all := lw_g (lw_at lw_m8 92 rfl) rfl
theorem q1902 : (Jvm.Cond.soleField "BrushGlassModel" "among") ∈ lw_all := lw_g (lw_at lw_m8 93 rfl) rfl
theorem q1903 : (Jvm.Cond.laysFinal "BrushGlassModel" "BrushGlassModel" "chance" "[J") ∈ lw_all := lw_g (lw_at lw_m8 94 rfl) rfl
theorem q1904 : (Jvm.Cond.soleField "BrushGlassModel" "chance") ∈ lw_all := lw_g (lw_at lw_m8 95 rfl) rfl
theorem q1905 : (Jvm.Cond.laysFinal "BrushGlassModel" "BrushGlassModel" "next" "[J") ∈ lw_all := lw_g (lw_at lw_m8 96 rfl) rfl
theorem q1906 : (Jvm.Cond.soleField "BrushGlassModel" "next") ∈ lw_all := lw_g (lw_at lw_m8 97 rfl) rfl
theorem q1907 : (Jvm.Cond.superclass "BrushGlassModel" "java/lang/Object") ∈ lw_all := lw_g (lw_at lw_m8 98 rfl) rfl
theorem q1909 : (Jvm.Cond.instanceMethod ({ cls := "BrushGlassModel", name := "thrown", desc := "()I" } : Jvm.MethodName)) ∈ lw_all := lw_g (lw_at lw_m8 100 rfl) rfl
theorem q1910 : (Jvm.Cond.selects "BrushGlassModel" ({ cls := "BrushGlassModel", name := "thrown", desc := "()I" } : Jvm.MethodName) ({ cls := "BrushGlassModel", name := "thrown", desc := "()I" } : Jvm.MethodName)) ∈ lw_all := lw_g (lw_at lw_m8 101 rfl) rfl
theorem q1911 : (Jvm.Cond.code ({ cls := "BrushGlassModel", name := "thrown", desc := "()I" } : Jvm.MethodName) prog_24_method_2_code (1 : Nat) (Option.some Jvm.ClassFile.FieldType.int)) ∈ lw_all := lw_g (lw_at lw_m8 102 rfl) rfl
theorem q1913 : (Jvm.Cond.instanceMethod ({ cls := "BrushGlassModel", name := "feed", desc := "(IIIII)I" } : Jvm.MethodName)) ∈ lw_all := lw_g (lw_at lw_m8 104 rfl) rfl
theorem q1914 : (Jvm.Cond.selects "BrushGlassModel" ({ cls := "BrushGlassModel", name := "feed", desc := "(IIIII)I" } : Jvm.MethodName) ({ cls := "BrushGlassModel", name := "feed", desc := "(IIIII)I" } : Jvm.MethodName)) ∈ lw_all := lw_g (lw_at lw_m8 105 rfl) rfl
theorem q1915 : (Jvm.Cond.code ({ cls := "BrushGlassModel", name := "feed", desc := "(IIIII)I" } : Jvm.MethodName) prog_24_method_34_code (8 : Nat) (Option.some Jvm.ClassFile.FieldType.int)) ∈ lw_all := lw_g (lw_at lw_m8 106 rfl) rfl
theorem q1917 : (Jvm.Cond.instanceMethod ({ cls := "BrushGlassModel", name := "glass", desc := "(I)I" } : Jvm.MethodName)) ∈ lw_all := lw_g (lw_at lw_m8 108 rfl) rfl
theorem q1918 : (Jvm.Cond.selects "BrushGlassModel" ({ cls := "BrushGlassModel", name := "glass", desc := "(I)I" } : Jvm.MethodName) ({ cls := "BrushGlassModel", name := "glass", desc := "(I)I" } : Jvm.MethodName)) ∈ lw_all := lw_g (lw_at lw_m8 109 rfl) rfl
theorem q1919 : (Jvm.Cond.code ({ cls := "BrushGlassModel", name := "glass", desc := "(I)I" } : Jvm.MethodName) prog_24_method_35_code (3 : Nat) (Option.some Jvm.ClassFile.FieldType.int)) ∈ lw_all := lw_g (lw_at lw_m8 110 rfl) rfl
theorem q1920 : (Jvm.Cond.methodLink "BrushGlassModel" (94 : Nat) ({ cls := "BrushGlassModel", name := "refused", desc := "(I)I" } : Jvm.MethodName)) ∈ lw_all := lw_g (lw_at lw_m8 111 rfl) rfl
theorem q1921 : (Jvm.Cond.privateMethod ({ cls := "BrushGlassModel", name := "refused", desc := "(I)I" } : Jvm.MethodName)) ∈ lw_tbl := lw_at lw_m8 112 rfl
theorem q1922 : (Jvm.Cond.instanceMethod ({ cls := "BrushGlassModel", name := "refused", desc := "(I)I" } : Jvm.MethodName)) ∈ lw_all := lw_g (lw_at lw_m8 113 rfl) rfl
theorem q1923 : (Jvm.Cond.code ({ cls := "BrushGlassModel", name := "refused", desc := "(I)I" } : Jvm.MethodName) prog_24_method_3_code (2 : Nat) (Option.some Jvm.ClassFile.FieldType.int)) ∈ lw_all := lw_g (lw_at lw_m8 114 rfl) rfl
theorem q1924 : (Jvm.Cond.classLink "BrushGlassModel" (201 : Nat) "BrushGlassModel$Glass") ∈ lw_all := lw_g (lw_at lw_m8 115 rfl) rfl
theorem q1926 : (Jvm.Cond.methodLinkNest "BrushGlassModel" (359 : Nat) ({ cls := "BrushGlassModel$Glass", name := "<init>", desc := "()V" } : Jvm.MethodName) "BrushGlassModel") ∈ lw_tbl := lw_at lw_m8 117 rfl
theorem q1930 : (Jvm.Cond.fieldLinkNest "BrushGlassModel" (200 : Nat) "BrushGlassModel$Glass" "days" "I" "BrushGlassModel") ∈ lw_tbl := lw_at lw_m8 121 rfl
theorem q1931 : (Jvm.Cond.fieldLinkNest "BrushGlassModel" (251 : Nat) "BrushGlassModel$Glass" "places" "I" "BrushGlassModel") ∈ lw_tbl := lw_at lw_m8 122 rfl
theorem q1932 : (Jvm.Cond.fieldLinkNest "BrushGlassModel" (253 : Nat) "BrushGlassModel$Glass" "colours" "I" "BrushGlassModel") ∈ lw_tbl := lw_at lw_m8 123 rfl
theorem q1933 : (Jvm.Cond.fieldLinkNest "BrushGlassModel" (255 : Nat) "BrushGlassModel$Glass" "reach" "I" "BrushGlassModel") ∈ lw_tbl := lw_at lw_m8 124 rfl
theorem q1935 : (Jvm.Cond.fieldLinkNest "BrushGlassModel" (219 : Nat) "BrushGlassModel$Glass" "people" "I" "BrushGlassModel") ∈ lw_tbl := lw_at lw_m8 126 rfl
theorem q1936 : (Jvm.Cond.fieldLinkNest "BrushGlassModel" (322 : Nat) "BrushGlassModel$Glass" "moves" "I" "BrushGlassModel") ∈ lw_tbl := lw_at lw_m8 127 rfl
theorem q1937 : (Jvm.Cond.fieldLinkNest "BrushGlassModel" (336 : Nat) "BrushGlassModel$Glass" "seeings" "I" "BrushGlassModel") ∈ lw_tbl := lw_at lw_m8 128 rfl
theorem q1938 : (Jvm.Cond.fieldLinkNest "BrushGlassModel" (344 : Nat) "BrushGlassModel$Glass" "sayings" "I" "BrushGlassModel") ∈ lw_tbl := lw_at lw_m8 129 rfl
theorem q1940 : (Jvm.Cond.fieldLinkNest "BrushGlassModel" (290 : Nat) "BrushGlassModel$Glass" "name" "[J" "BrushGlassModel") ∈ lw_tbl := lw_at lw_m8 131 rfl
theorem q1942 : (Jvm.Cond.fieldLinkNest "BrushGlassModel" (293 : Nat) "BrushGlassModel$Glass" "kind" "[I" "BrushGlassModel") ∈ lw_tbl := lw_at lw_m8 133 rfl
theorem q1944 : (Jvm.Cond.fieldLinkNest "BrushGlassModel" (296 : Nat) "BrushGlassModel$Glass" "habit" "[I" "BrushGlassModel") ∈ lw_tbl := lw_at lw_m8 135 rfl
theorem q1946 : (Jvm.Cond.fieldLinkNest "BrushGlassModel" (299 : Nat) "BrushGlassModel$Glass" "liked" "[I" "BrushGlassModel") ∈ lw_tbl := lw_at lw_m8 137 rfl
theorem q1948 : (Jvm.Cond.fieldLinkNest "BrushGlassModel" (278 : Nat) "BrushGlassModel$Glass" "likes" "[I" "BrushGlassModel") ∈ lw_tbl := lw_at lw_m8 139 rfl
theorem q1950 : (Jvm.Cond.fieldLinkNest "BrushGlassModel" (302 : Nat) "BrushGlassModel$Glass" "keeps" "[I" "BrushGlassModel") ∈ lw_tbl := lw_at lw_m8 141 rfl
theorem q1952 : (Jvm.Cond.fieldLinkNest "BrushGlassModel" (304 : Nat) "BrushGlassModel$Glass" "wears" "[I" "BrushGlassModel") ∈ lw_tbl := lw_at lw_m8 143 rfl
theorem q1954 : (Jvm.Cond.fieldLinkNest "BrushGlassModel" (312 : Nat) "BrushGlassModel$Glass" "stays" "[I" "BrushGlassModel") ∈ lw_tbl := lw_at lw_m8 145 rfl
theorem q1956 : (Jvm.Cond.fieldLinkNest "BrushGlassModel" (319 : Nat) "BrushGlassModel$Glass" "from" "[I" "BrushGlassModel") ∈ lw_tbl := lw_at lw_m8 147 rfl
theorem q1958 : (Jvm.Cond.fieldLinkNest "BrushGlassModel" (315 : Nat) "BrushGlassModel$Glass" "to" "[I" "BrushGlassModel") ∈ lw_tbl := lw_at lw_m8 149 rfl
theorem q1960 : (Jvm.Cond.fieldLinkNest "BrushGlassModel" (306 : Nat) "BrushGlassModel$Glass" "takes" "[Z" "BrushGlassModel") ∈ lw_tbl := lw_at lw_m8 151 rfl
theorem q1962 : (Jvm.Cond.fieldLinkNest "BrushGlassModel" (327 : Nat) "BrushGlassModel$Glass" "moveDay" "[I" "BrushGlassModel") ∈ lw_tbl := lw_at lw_m8 153 rfl
theorem q1964 : (Jvm.Cond.fieldLinkNest "BrushGlassModel" (330 : Nat) "BrushGlassModel$Glass" "moveOne" "[I" "BrushGlassModel") ∈ lw_tbl := lw_at lw_m8 155 rfl
theorem q1966 : (Jvm.Cond.fieldLinkNest "BrushGlassModel" (333 : Nat) "BrushGlassModel$Glass" "moveTwo" "[I" "BrushGlassModel") ∈ lw_tbl := lw_at lw_m8 157 rfl
theorem q1968 : (Jvm.Cond.fieldLinkNest "BrushGlassModel" (341 : Nat) "BrushGlassModel$Glass" "seenDay" "[I" "BrushGlassModel") ∈ lw_tbl := lw_at lw_m8 159 rfl
theorem q1970 : (Jvm.Cond.fieldLinkNest "BrushGlassModel" (339 : Nat) "BrushGlassModel$Glass" "seen" "[I" "BrushGlassModel") ∈ lw_tbl := lw_at lw_m8 161 rfl
theorem q1972 : (Jvm.Cond.fieldLinkNest "BrushGlassModel" (347 : Nat) "BrushGlassModel$Glass" "saidBy" "[I" "BrushGlassModel") ∈ lw_tbl := lw_at lw_m8 163 rfl
theorem q1974 : (Jvm.Cond.fieldLinkNest "BrushGlassModel" (350 : Nat) "BrushGlassModel$Glass" "saidDay" "[I" "BrushGlassModel") ∈ lw_tbl := lw_at lw_m8 165 rfl
theorem q1976 : (Jvm.Cond.fieldLinkNest "BrushGlassModel" (353 : Nat) "BrushGlassModel$Glass" "saidPlace" "[I" "BrushGlassModel") ∈ lw_tbl := lw_at lw_m8 167 rfl
theorem q2033 : (Jvm.Cond.methodLink "BrushGlassModel" (158 : Nat) ({ cls := "BrushGlassModel", name := "goesOn", desc := "()V" } : Jvm.MethodName)) ∈ lw_all := lw_g (lw_at lw_m8 224 rfl) rfl
theorem q2034 : (Jvm.Cond.privateMethod ({ cls := "BrushGlassModel", name := "goesOn", desc := "()V" } : Jvm.MethodName)) ∈ lw_tbl := lw_at lw_m8 225 rfl
theorem q2035 : (Jvm.Cond.instanceMethod ({ cls := "BrushGlassModel", name := "goesOn", desc := "()V" } : Jvm.MethodName)) ∈ lw_all := lw_g (lw_at lw_m8 226 rfl) rfl
theorem q2036 : (Jvm.Cond.code ({ cls := "BrushGlassModel", name := "goesOn", desc := "()V" } : Jvm.MethodName) prog_24_method_14_code (3 : Nat) (Option.none : Option Jvm.ClassFile.FieldType)) ∈ lw_all := lw_g (lw_at lw_m8 227 rfl) rfl
theorem q2037 : (Jvm.Cond.methodLink "BrushGlassModel" (122 : Nat) ({ cls := "BrushGlassModel", name := "byteAt", desc := "(I)I" } : Jvm.MethodName)) ∈ lw_all := lw_g (lw_at lw_m8 228 rfl) rfl
theorem q2038 : (Jvm.Cond.privateMethod ({ cls := "BrushGlassModel", name := "byteAt", desc := "(I)I" } : Jvm.MethodName)) ∈ lw_tbl := lw_at lw_m8 229 rfl
theorem q2039 : (Jvm.Cond.instanceMethod ({ cls := "BrushGlassModel", name := "byteAt", desc := "(I)I" } : Jvm.MethodName)) ∈ lw_all := lw_g (lw_at lw_m8 230 rfl) rfl
theorem q2040 : (Jvm.Cond.code ({ cls := "BrushGlassModel", name := "byteAt", desc := "(I)I" } : Jvm.MethodName) prog_24_method_10_code (2 : Nat) (Option.some Jvm.ClassFile.FieldType.int)) ∈ lw_all := lw_g (lw_at lw_m8 231 rfl) rfl
theorem q2041 : (Jvm.Cond.methodLink "BrushGlassModel" (131 : Nat) ({ cls := "BrushGlassModel", name := "isLetter", desc := "(I)Z" } : Jvm.MethodName)) ∈ lw_all := lw_g (lw_at lw_m8 232 rfl) rfl
theorem q2042 : (Jvm.Cond.static ({ cls := "BrushGlassModel", name := "isLetter", desc := "(I)Z" } : Jvm.MethodName)) ∈ lw_all := lw_g (lw_at lw_m8 233 rfl) rfl
theorem q2043 : (Jvm.Cond.code ({ cls := "BrushGlassModel", name := "isLetter", desc := "(I)Z" } : Jvm.MethodName) prog_24_method_11_code (1 : Nat) (Option.some Jvm.ClassFile.FieldType.boolean)) ∈ lw_all := lw_g (lw_at lw_m8 234 rfl) rfl
theorem q2044 : (Jvm.Cond.constantLong "BrushGlassModel" (110 : Nat) (32 : Int64)) ∈ lw_all := lw_g (lw_at lw_m8 235 rfl) rfl
theorem q2045 : (Jvm.Cond.methodLink "BrushGlassModel" (142 : Nat) ({ cls := "BrushGlassModel", name := "isDigit", desc := "(I)Z" } : Jvm.MethodName)) ∈ lw_all := lw_g (lw_at lw_m8 236 rfl) rfl
theorem q2046 : (Jvm.Cond.static ({ cls := "BrushGlassModel", name := "isDigit", desc := "(I)Z" } : Jvm.MethodName)) ∈ lw_all := lw_g (lw_at lw_m8 237 rfl) rfl
theorem q2047 : (Jvm.Cond.code ({ cls := "BrushGlassModel", name := "isDigit", desc := "(I)Z" } : Jvm.MethodName) prog_24_method_12_code (1 : Nat) (Option.some Jvm.ClassFile.FieldType.boolean)) ∈ lw_all := lw_g (lw_at lw_m8 238 rfl) rfl
theorem q2048 : (Jvm.Cond.methodLink "BrushGlassModel" (360 : Nat) ({ cls := "BrushGlassModel", name := "readAll", desc := "()V" } : Jvm.MethodName)) ∈ lw_all := lw_g (lw_at lw_m8 239 rfl) rfl
theorem q2049 : (Jvm.Cond.privateMethod ({ cls := "BrushGlassModel", name := "readAll", desc := "()V" } : Jvm.MethodName)) ∈ lw_tbl := lw_at lw_m9 0 rfl
theorem q2050 : (Jvm.Cond.instanceMethod ({ cls := "BrushGlassModel", name := "readAll", desc := "()V" } : Jvm.MethodName)) ∈ lw_all := lw_g (lw_at lw_m9 1 rfl) rfl
theorem q2051 : (Jvm.Cond.code ({ cls := "BrushGlassModel", name := "readAll", desc := "()V" } : Jvm.MethodName) prog_24_method_26_code (2 : Nat) (Option.none : Option Jvm.ClassFile.FieldType)) ∈ lw_all := lw_g (lw_at lw_m9 2 rfl) rfl
theorem q2052 : (Jvm.Cond.methodLink "BrushGlassModel" (213 : Nat) ({ cls := "BrushGlassModel", name := "readLine", desc := "()V" } : Jvm.MethodName)) ∈ lw_all := lw_g (lw_at lw_m9 3 rfl) rfl
theorem q2053 : (Jvm.Cond.privateMethod ({ cls := "BrushGlassModel", name := "readLine", desc := "()V" } : Jvm.MethodName)) ∈ lw_tbl := lw_at lw_m9 4 rfl
theorem q2054 : (Jvm.Cond.instanceMethod ({ cls := "BrushGlassModel", name := "readLine", desc := "()V" } : Jvm.MethodName)) ∈ lw_all := lw_g (lw_at lw_m9 5 rfl) rfl
theorem q2055 : (Jvm.Cond.code ({ cls := "BrushGlassModel", name := "readLine", desc := "()V" } : Jvm.MethodName) prog_24_method_27_code (1 : Nat) (Option.none : Option Jvm.ClassFile.FieldType)) ∈ lw_all := lw_g (lw_at lw_m9 6 rfl) rfl
theorem q2056 : (Jvm.Cond.stringRef "BrushGlassModel" (184 : Nat) "glass") ∈ lw_tbl := lw_at lw_m9 7 rfl
theorem q2057 : (Jvm.Cond.methodLink "BrushGlassModel" (161 : Nat) ({ cls := "BrushGlassModel", name := "isWord", desc := "(Ljava/lang/String;)Z" } : Jvm.MethodName)) ∈ lw_all := lw_g (lw_at lw_m9 8 rfl) rfl
theorem q2058 : (Jvm.Cond.privateMethod ({ cls := "BrushGlassModel", name := "isWord", desc := "(Ljava/lang/String;)Z" } : Jvm.MethodName)) ∈ lw_tbl := lw_at lw_m9 9 rfl
theorem q2059 : (Jvm.Cond.instanceMethod ({ cls := "BrushGlassModel", name := "isWord", desc := "(Ljava/lang/String;)Z" } : Jvm.MethodName)) ∈ lw_all := lw_g (lw_at lw_m9 10 rfl) rfl
theorem q2060 : (Jvm.Cond.code ({ cls := "BrushGlassModel", name := "isWord", desc := "(Ljava/lang/String;)Z" } : Jvm.MethodName) prog_24_method_16_code (2 : Nat) (Option.some Jvm.ClassFile.FieldType.boolean)) ∈ lw_all := lw_g (lw_at lw_m9 11 rfl) rfl
theorem q2061 : (Jvm.Cond.methodLink "BrushGlassModel" (154 : Nat) ({ cls := "BrushGlassModel", name := "wordOf", desc := "(Ljava/lang/String;)J" } : Jvm.MethodName)) ∈ lw_all := lw_g (lw_at lw_m9 12 rfl) rfl
theorem q2062 : (Jvm.Cond.static ({ cls := "BrushGlassModel", name := "wordOf", desc := "(Ljava/lang/String;)J" } : Jvm.MethodName)) ∈ lw_all := lw_g (lw_at lw_m9 13 rfl) rfl
theorem q2063 : (Jvm.Cond.code ({ cls := "BrushGlassModel", name := "wordOf", desc := "(Ljava/lang/String;)J" } : Jvm.MethodName) prog_24_method_13_code (4 : Nat) (Option.some Jvm.ClassFile.FieldType.long)) ∈ lw_all := lw_g (lw_at lw_m9 14 rfl) rfl
theorem q2064 : (Jvm.Cond.methodLink "BrushGlassModel" (104 : Nat) ({ cls := "java/lang/String", name := "length", desc := "()I" } : Jvm.MethodName)) ∈ lw_all := lw_g (lw_at lw_m9 15 rfl) rfl
theorem q2065 : (Jvm.Cond.methodLink "BrushGlassModel" (112 : Nat) ({ cls := "java/lang/String", name := "charAt", desc := "(I)C" } : Jvm.MethodName)) ∈ lw_all := lw_g (lw_at lw_m9 16 rfl) rfl
theorem q2066 : (Jvm.Cond.methodLink "BrushGlassModel" (222 : Nat) ({ cls := "BrushGlassModel", name := "readGlass", desc := "()V" } : Jvm.MethodName)) ∈ lw_all := lw_g (lw_at lw_m9 17 rfl) rfl
theorem q2067 : (Jvm.Cond.privateMethod ({ cls := "BrushGlassModel", name := "readGlass", desc := "()V" } : Jvm.MethodName)) ∈ lw_tbl := lw_at lw_m9 18 rfl
theorem q2068 : (Jvm.Cond.instanceMethod ({ cls := "BrushGlassModel", name := "readGlass", desc := "()V" } : Jvm.MethodName)) ∈ lw_all := lw_g (lw_at lw_m9 19 rfl) rfl
theorem q2069 : (Jvm.Cond.code ({ cls := "BrushGlassModel", name := "readGlass", desc := "()V" } : Jvm.MethodName) prog_24_method_28_code (5 : Nat) (Option.none : Option Jvm.ClassFile.FieldType)) ∈ lw_all := lw_g (lw_at lw_m9 20 rfl) rfl
theorem q2070 : (Jvm.Cond.methodLink "BrushGlassModel" (165 : Nat) ({ cls := "BrushGlassModel", name := "flaw", desc := "(I)V" } : Jvm.MethodName)) ∈ lw_all := lw_g (lw_at lw_m9 21 rfl) rfl
theorem q2071 : (Jvm.Cond.privateMethod ({ cls := "BrushGlassModel", name := "flaw", desc := "(I)V" } : Jvm.MethodName)) ∈ lw_tbl := lw_at lw_m9 22 rfl
theorem q2072 : (Jvm.Cond.instanceMethod ({ cls := "BrushGlassModel", name := "flaw", desc := "(I)V" } : Jvm.MethodName)) ∈ lw_all := lw_g (lw_at lw_m9 23 rfl) rfl
theorem q2073 : (Jvm.Cond.code ({ cls := "BrushGlassModel", name := "flaw", desc := "(I)V" } : Jvm.MethodName) prog_24_method_15_code (2 : Nat) (Option.none : Option Jvm.ClassFile.FieldType)) ∈ lw_all := lw_g (lw_at lw_m9 24 rfl) rfl
theorem q2074 : (Jvm.Cond.stringRef "BrushGlassModel" (240 : Nat) "days") ∈ lw_tbl := lw_at lw_m9 25 rfl
theorem q2075 : (Jvm.Cond.methodLink "BrushGlassModel" (241 : Nat) ({ cls := "BrushGlassModel", name := "readPart", desc := "(Ljava/lang/String;II)I" } : Jvm.MethodName)) ∈ lw_all := lw_g (lw_at lw_m9 26 rfl) rfl
theorem q2076 : (Jvm.Cond.privateMethod ({ cls := "BrushGlassModel", name := "readPart", desc := "(Ljava/lang/String;II)I" } : Jvm.MethodName)) ∈ lw_tbl := lw_at lw_m9 27 rfl
theorem q2077 : (Jvm.Cond.instanceMethod ({ cls := "BrushGlassModel", name := "readPart", desc := "(Ljava/lang/String;II)I" } : Jvm.MethodName)) ∈ lw_all := lw_g (lw_at lw_m9 28 rfl) rfl
theorem q2078 : (Jvm.Cond.code ({ cls := "BrushGlassModel", name := "readPart", desc := "(Ljava/lang/String;II)I" } : Jvm.MethodName) prog_24_method_22_code (4 : Nat) (Option.some Jvm.ClassFile.FieldType.int)) ∈ lw_all := lw_g (lw_at lw_m9 29 rfl) rfl
theorem q2079 : (Jvm.Cond.methodLink "BrushGlassModel" (177 : Nat) ({ cls := "BrushGlassModel", name := "needs", desc := "(Ljava/lang/String;)V" } : Jvm.MethodName)) ∈ lw_all := lw_g (lw_at lw_m9 30 rfl) rfl
theorem q2080 : (Jvm.Cond.privateMethod ({ cls := "BrushGlassModel", name := "needs", desc := "(Ljava/lang/String;)V" } : Jvm.MethodName)) ∈ lw_tbl := lw_at lw_m9 31 rfl
theorem q2081 : (Jvm.Cond.instanceMethod ({ cls := "BrushGlassModel", name := "needs", desc := "(Ljava/lang/String;)V" } : Jvm.MethodName)) ∈ lw_all := lw_g (lw_at lw_m9 32 rfl) rfl
theorem q2082 : (Jvm.Cond.code ({ cls := "BrushGlassModel", name := "needs", desc := "(Ljava/lang/String;)V" } : Jvm.MethodName) prog_24_method_18_code (2 : Nat) (Option.none : Option Jvm.ClassFile.FieldType)) ∈ lw_all := lw_g (lw_at lw_m9 33 rfl) rfl
theorem q2083 : (Jvm.Cond.methodLink "BrushGlassModel" (181 : Nat) ({ cls := "BrushGlassModel", name := "readWhole", desc := "(II)I" } : Jvm.MethodName)) ∈ lw_all := lw_g (lw_at lw_m9 34 rfl) rfl
theorem q2084 : (Jvm.Cond.privateMethod ({ cls := "BrushGlassModel", name := "readWhole", desc := "(II)I" } : Jvm.MethodName)) ∈ lw_tbl := lw_at lw_m9 35 rfl
theorem q2085 : (Jvm.Cond.instanceMethod ({ cls := "BrushGlassModel", name := "readWhole", desc := "(II)I" } : Jvm.MethodName)) ∈ lw_all := lw_g (lw_at lw_m9 36 rfl) rfl
theorem q2086 : (Jvm.Cond.code ({ cls := "BrushGlassModel", name := "readWhole", desc := "(II)I" } : Jvm.MethodName) prog_24_method_21_code (4 : Nat) (Option.some Jvm.ClassFile.FieldType.int)) ∈ lw_all := lw_g (lw_at lw_m9 37 rfl) rfl
theorem q2087 : (Jvm.Cond.methodLink "BrushGlassModel" (173 : Nat) ({ cls := "BrushGlassModel", name := "bounded", desc := "(II)I" } : Jvm.MethodName)) ∈ lw_all := lw_g (lw_at lw_m9 38 rfl) rfl
theorem q2088 : (Jvm.Cond.privateMethod ({ cls := "BrushGlassModel", name := "bounded", desc := "(II)I" } : Jvm.MethodName)) ∈ lw_tbl := lw_at lw_m9 39 rfl
theorem q2089 : (Jvm.Cond.instanceMethod ({ cls := "BrushGlassModel", name := "bounded", desc := "(II)I" } : Jvm.MethodName)) ∈ lw_all := lw_g (lw_at lw_m9 40 rfl) rfl
theorem q2090 : (Jvm.Cond.code ({ cls := "BrushGlassModel", name := "bounded", desc := "(II)I" } : Jvm.MethodName) prog_24_method_20_code (3 : Nat) (Option.some Jvm.ClassFile.FieldType.int)) ∈ lw_all := lw_g (lw_at lw_m9 41 rfl) rfl
theorem q2091 : (Jvm.Cond.methodLink "BrushGlassModel" (169 : Nat) ({ cls := "BrushGlassModel", name := "in", desc := "(III)Z" } : Jvm.MethodName)) ∈ lw_all := lw_g (lw_at lw_m9 42 rfl) rfl
theorem q2092 : (Jvm.Cond.static ({ cls := "BrushGlassModel", name := "in", desc := "(III)Z" } : Jvm.MethodName)) ∈ lw_all := lw_g (lw_at lw_m9 43 rfl) rfl
theorem q2093 : (Jvm.Cond.code ({ cls := "BrushGlassModel", name := "in", desc := "(III)Z" } : Jvm.MethodName) prog_24_method_7_code (3 : Nat) (Option.some Jvm.ClassFile.FieldType.boolean)) ∈ lw_all := lw_g (lw_at lw_m9 44 rfl) rfl
theorem q2094 : (Jvm.Cond.stringRef "BrushGlassModel" (245 : Nat) "places") ∈ lw_tbl := lw_at lw_m9 45 rfl
theorem q2095 : (Jvm.Cond.stringRef "BrushGlassModel" (247 : Nat) "colours") ∈ lw_tbl := lw_at lw_m9 46 rfl
theorem q2096 : (Jvm.Cond.stringRef "BrushGlassModel" (249 : Nat) "reach") ∈ lw_tbl := lw_at lw_m9 47 rfl
theorem q2097 : (Jvm.Cond.stringRef "BrushGlassModel" (186 : Nat) "person") ∈ lw_tbl := lw_at lw_m9 48 rfl
theorem q2098 : (Jvm.Cond.methodLink "BrushGlassModel" (225 : Nat) ({ cls := "BrushGlassModel", name := "readPerson", desc := "()V" } : Jvm.MethodName)) ∈ lw_all := lw_g (lw_at lw_m9 49 rfl) rfl
theorem q2099 : (Jvm.Cond.privateMethod ({ cls := "BrushGlassModel", name := "readPerson", desc := "()V" } : Jvm.MethodName)) ∈ lw_tbl := lw_at lw_m9 50 rfl
theorem q2100 : (Jvm.Cond.instanceMethod ({ cls := "BrushGlassModel", name := "readPerson", desc := "()V" } : Jvm.MethodName)) ∈ lw_all := lw_g (lw_at lw_m9 51 rfl) rfl
theorem q2101 : (Jvm.Cond.code ({ cls := "BrushGlassModel", name := "readPerson", desc := "()V" } : Jvm.MethodName) prog_24_method_29_code (10 : Nat) (Option.none : Option Jvm.ClassFile.FieldType)) ∈ lw_all := lw_g (lw_at lw_m9 52 rfl) rfl
theorem q2102 : (Jvm.Cond.methodLink "BrushGlassModel" (257 : Nat) ({ cls := "BrushGlassModel", name := "begins", desc := "(II)V" } : Jvm.MethodName)) ∈ lw_all := lw_g (lw_at lw_m9 53 rfl) rfl
theorem q2103 : (Jvm.Cond.privateMethod ({ cls := "BrushGlassModel", name := "begins", desc := "(II)V" } : Jvm.MethodName)) ∈ lw_tbl := lw_at lw_m9 54 rfl
theorem q2104 : (Jvm.Cond.instanceMethod ({ cls := "BrushGlassModel", name := "begins", desc := "(II)V" } : Jvm.MethodName)) ∈ lw_all := lw_g (lw_at lw_m9 55 rfl) rfl
theorem q2105 : (Jvm.Cond.code ({ cls := "BrushGlassModel", name := "begins", desc := "(II)V" } : Jvm.MethodName) prog_24_method_24_code (3 : Nat) (Option.none : Option Jvm.ClassFile.FieldType)) ∈ lw_all := lw_g (lw_at lw_m9 56 rfl) rfl
theorem q2106 : (Jvm.Cond.methodLink "BrushGlassModel" (205 : Nat) ({ cls := "BrushGlassModel", name := "isName", desc := "()Z" } : Jvm.MethodName)) ∈ lw_all := lw_g (lw_at lw_m9 57 rfl) rfl
theorem q2107 : (Jvm.Cond.privateMethod ({ cls := "BrushGlassModel", name := "isName", desc := "()Z" } : Jvm.MethodName)) ∈ lw_tbl := lw_at lw_m9 58 rfl
theorem q2108 : (Jvm.Cond.instanceMethod ({ cls := "BrushGlassModel", name := "isName", desc := "()Z" } : Jvm.MethodName)) ∈ lw_all := lw_g (lw_at lw_m9 59 rfl) rfl
theorem q2109 : (Jvm.Cond.code ({ cls := "BrushGlassModel", name := "isName", desc := "()Z" } : Jvm.MethodName) prog_24_method_23_code (1 : Nat) (Option.some Jvm.ClassFile.FieldType.boolean)) ∈ lw_all := lw_g (lw_at lw_m9 60 rfl) rfl
theorem q2110 : (Jvm.Cond.stringRef "BrushGlassModel" (188 : Nat) "stay") ∈ lw_tbl := lw_at lw_m9 61 rfl
theorem q2111 : (Jvm.Cond.stringRef "BrushGlassModel" (190 : Nat) "moves") ∈ lw_tbl := lw_at lw_m9 62 rfl
theorem q2112 : (Jvm.Cond.stringRef "BrushGlassModel" (192 : Nat) "seen") ∈ lw_tbl := lw_at lw_m9 63 rfl
theorem q2113 : (Jvm.Cond.stringRef "BrushGlassModel" (194 : Nat) "says") ∈ lw_tbl := lw_at lw_m9 64 rfl
theorem q2114 : (Jvm.Cond.methodLink "BrushGlassModel" (209 : Nat) ({ cls := "BrushGlassModel$Glass", name := "find", desc := "(J)I" } : Jvm.MethodName)) ∈ lw_all := lw_g (lw_at lw_m9 65 rfl) rfl
theorem q2118 : (Jvm.Cond.stringRef "BrushGlassModel" (261 : Nat) "sure") ∈ lw_tbl := lw_at lw_m9 69 rfl
theorem q2119 : (Jvm.Cond.stringRef "BrushGlassModel" (263 : Nat) "colour") ∈ lw_tbl := lw_at lw_m9 70 rfl
theorem q2120 : (Jvm.Cond.stringRef "BrushGlassModel" (265 : Nat) "place") ∈ lw_tbl := lw_at lw_m9 71 rfl
theorem q2121 : (Jvm.Cond.stringRef "BrushGlassModel" (266 : Nat) "messy") ∈ lw_tbl := lw_at lw_m9 72 rfl
theorem q2122 : (Jvm.Cond.stringRef "BrushGlassModel" (268 : Nat) "buys") ∈ lw_tbl := lw_at lw_m9 73 rfl
theorem q2123 : (Jvm.Cond.stringRef "BrushGlassModel" (270 : Nat) "first") ∈ lw_tbl := lw_at lw_m9 74 rfl
theorem q2124 : (Jvm.Cond.stringRef "BrushGlassModel" (272 : Nat) "unlike") ∈ lw_tbl := lw_at lw_m9 75 rfl
theorem q2125 : (Jvm.Cond.stringRef "BrushGlassModel" (274 : Nat) "rare") ∈ lw_tbl := lw_at lw_m9 76 rfl
theorem q2126 : (Jvm.Cond.stringRef "BrushGlassModel" (276 : Nat) "likes") ∈ lw_tbl := lw_at lw_m9 77 rfl
theorem q2127 : (Jvm.Cond.stringRef "BrushGlassModel" (280 : Nat) "keeps") ∈ lw_tbl := lw_at lw_m9 78 rfl
theorem q2128 : (Jvm.Cond.stringRef "BrushGlassModel" (282 : Nat) "wears") ∈ lw_tbl := lw_at lw_m9 79 rfl
theorem q2129 : (Jvm.Cond.stringRef "BrushGlassModel" (284 : Nat) "takes") ∈ lw_tbl := lw_at lw_m9 80 rfl
theorem q2130 : (Jvm.Cond.stringRef "BrushGlassModel" (286 : Nat) "yes") ∈ lw_tbl := lw_at lw_m9 81 rfl
theorem q2131 : (Jvm.Cond.stringRef "BrushGlassModel" (288 : Nat) "no") ∈ lw_tbl := lw_at lw_m9 82 rfl
theorem q2132 : (Jvm.Cond.methodLink "BrushGlassModel" (228 : Nat) ({ cls := "BrushGlassModel", name := "readStay", desc := "()V" } : Jvm.MethodName)) ∈ lw_all := lw_g (lw_at lw_m9 83 rfl) rfl
theorem q2133 : (Jvm.Cond.privateMethod ({ cls := "BrushGlassModel", name := "readStay", desc := "()V" } : Jvm.MethodName)) ∈ lw_tbl := lw_at lw_m9 84 rfl
theorem q2134 : (Jvm.Cond.instanceMethod ({ cls := "BrushGlassModel", name := "readStay", desc := "()V" } : Jvm.MethodName)) ∈ lw_all := lw_g (lw_at lw_m9 85 rfl) rfl
theorem q2135 : (Jvm.Cond.code ({ cls := "BrushGlassModel", name := "readStay", desc := "()V" } : Jvm.MethodName) prog_24_method_30_code (5 : Nat) (Option.none : Option Jvm.ClassFile.FieldType)) ∈ lw_all := lw_g (lw_at lw_m9 86 rfl) rfl
theorem q2136 : (Jvm.Cond.methodLink "BrushGlassModel" (309 : Nat) ({ cls := "BrushGlassModel", name := "known", desc := "()I" } : Jvm.MethodName)) ∈ lw_all := lw_g (lw_at lw_m9 87 rfl) rfl
theorem q2137 : (Jvm.Cond.privateMethod ({ cls := "BrushGlassModel", name := "known", desc := "()I" } : Jvm.MethodName)) ∈ lw_tbl := lw_at lw_m9 88 rfl
theorem q2138 : (Jvm.Cond.instanceMethod ({ cls := "BrushGlassModel", name := "known", desc := "()I" } : Jvm.MethodName)) ∈ lw_all := lw_g (lw_at lw_m9 89 rfl) rfl
theorem q2139 : (Jvm.Cond.code ({ cls := "BrushGlassModel", name := "known", desc := "()I" } : Jvm.MethodName) prog_24_method_25_code (2 : Nat) (Option.some Jvm.ClassFile.FieldType.int)) ∈ lw_all := lw_g (lw_at lw_m9 90 rfl) rfl
theorem q2140 : (Jvm.Cond.stringRef "BrushGlassModel" (318 : Nat) "to") ∈ lw_tbl := lw_at lw_m9 91 rfl
theorem q2141 : (Jvm.Cond.methodLink "BrushGlassModel" (231 : Nat) ({ cls := "BrushGlassModel", name := "readMove", desc := "()V" } : Jvm.MethodName)) ∈ lw_all := lw_g (lw_at lw_m9 92 rfl) rfl
theorem q2142 : (Jvm.Cond.privateMethod ({ cls := "BrushGlassModel", name := "readMove", desc := "()V" } : Jvm.MethodName)) ∈ lw_tbl := lw_at lw_m9 93 rfl
theorem q2143 : (Jvm.Cond.instanceMethod ({ cls := "BrushGlassModel", name := "readMove", desc := "()V" } : Jvm.MethodName)) ∈ lw_all := lw_g (lw_at lw_m9 94 rfl) rfl
theorem q2144 : (Jvm.Cond.code ({ cls := "BrushGlassModel", name := "readMove", desc := "()V" } : Jvm.MethodName) prog_24_method_31_code (4 : Nat) (Option.none : Option Jvm.ClassFile.FieldType)) ∈ lw_all := lw_g (lw_at lw_m9 95 rfl) rfl
theorem q2145 : (Jvm.Cond.methodLink "BrushGlassModel" (324 : Nat) ({ cls := "BrushGlassModel", name := "needsComma", desc := "()V" } : Jvm.MethodName)) ∈ lw_all := lw_g (lw_at lw_m9 96 rfl) rfl
theorem q2146 : (Jvm.Cond.privateMethod ({ cls := "BrushGlassModel", name := "needsComma", desc := "()V" } : Jvm.MethodName)) ∈ lw_tbl := lw_at lw_m9 97 rfl
theorem q2147 : (Jvm.Cond.instanceMethod ({ cls := "BrushGlassModel", name := "needsComma", desc := "()V" } : Jvm.MethodName)) ∈ lw_all := lw_g (lw_at lw_m9 98 rfl) rfl
theorem q2148 : (Jvm.Cond.code ({ cls := "BrushGlassModel", name := "needsComma", desc := "()V" } : Jvm.MethodName) prog_24_method_19_code (1 : Nat) (Option.none : Option Jvm.ClassFile.FieldType)) ∈ lw_all := lw_g (lw_at lw_m9 99 rfl) rfl
theorem q2149 : (Jvm.Cond.methodLink "BrushGlassModel" (234 : Nat) ({ cls := "BrushGlassModel", name := "readSeen", desc := "()V" } : Jvm.MethodName)) ∈ lw_all := lw_g (lw_at lw_m9 100 rfl) rfl
theorem q2150 : (Jvm.Cond.privateMethod ({ cls := "BrushGlassModel", name := "readSeen", desc := "()V" } : Jvm.MethodName)) ∈ lw_tbl := lw_at lw_m9 101 rfl
theorem q2151 : (Jvm.Cond.instanceMethod ({ cls := "BrushGlassModel", name := "readSeen", desc := "()V" } : Jvm.MethodName)) ∈ lw_all := lw_g (lw_at lw_m9 102 rfl) rfl
theorem q2152 : (Jvm.Cond.code ({ cls := "BrushGlassModel", name := "readSeen", desc := "()V" } : Jvm.MethodName) prog_24_method_32_code (4 : Nat) (Option.none : Option Jvm.ClassFile.FieldType)) ∈ lw_all := lw_g (lw_at lw_m9 103 rfl) rfl
theorem q2153 : (Jvm.Cond.methodLink "BrushGlassModel" (237 : Nat) ({ cls := "BrushGlassModel", name := "readSays", desc := "()V" } : Jvm.MethodName)) ∈ lw_all := lw_g (lw_at lw_m9 104 rfl) rfl
theorem q2154 : (Jvm.Cond.privateMethod ({ cls := "BrushGlassModel", name := "readSays", desc := "()V" } : Jvm.MethodName)) ∈ lw_tbl := lw_at lw_m9 105 rfl
theorem q2155 : (Jvm.Cond.instanceMethod ({ cls := "BrushGlassModel", name := "readSays", desc := "()V" } : Jvm.MethodName)) ∈ lw_all := lw_g (lw_at lw_m9 106 rfl) rfl
theorem q2156 : (Jvm.Cond.code ({ cls := "BrushGlassModel", name := "readSays", desc := "()V" } : Jvm.MethodName) prog_24_method_33_code (4 : Nat) (Option.none : Option Jvm.ClassFile.FieldType)) ∈ lw_all := lw_g (lw_at lw_m9 107 rfl) rfl
theorem q2157 : (Jvm.Cond.methodLink "BrushGlassModel" (216 : Nat) ({ cls := "BrushGlassModel", name := "eatsSemicolon", desc := "()Z" } : Jvm.MethodName)) ∈ lw_all := lw_g (lw_at lw_m9 108 rfl) rfl
theorem q2158 : (Jvm.Cond.privateMethod ({ cls := "BrushGlassModel", name := "eatsSemicolon", desc := "()Z" } : Jvm.MethodName)) ∈ lw_tbl := lw_at lw_m9 109 rfl
theorem q2159 : (Jvm.Cond.instanceMethod ({ cls := "BrushGlassModel", name := "eatsSemicolon", desc := "()Z" } : Jvm.MethodName)) ∈ lw_all := lw_g (lw_at lw_m9 110 rfl) rfl
theorem q2160 : (Jvm.Cond.code ({ cls := "BrushGlassModel", name := "eatsSemicolon", desc := "()Z" } : Jvm.MethodName) prog_24_method_17_code (2 : Nat) (Option.some Jvm.ClassFile.FieldType.boolean)) ∈ lw_all := lw_g (lw_at lw_m9 111 rfl) rfl
theorem q2161 : (Jvm.Cond.methodLink "BrushGlassModel" (98 : Nat) ({ cls := "BrushGlassModel", name := "good", desc := "(I)I" } : Jvm.MethodName)) ∈ lw_all := lw_g (lw_at lw_m9 112 rfl) rfl
theorem q2162 : (Jvm.Cond.privateMethod ({ cls := "BrushGlassModel", name := "good", desc := "(I)I" } : Jvm.MethodName)) ∈ lw_tbl := lw_at lw_m9 113 rfl
theorem q2163 : (Jvm.Cond.instanceMethod ({ cls := "BrushGlassModel", name := "good", desc := "(I)I" } : Jvm.MethodName)) ∈ lw_all := lw_g (lw_at lw_m9 114 rfl) rfl
theorem q2164 : (Jvm.Cond.code ({ cls := "BrushGlassModel", name := "good", desc := "(I)I" } : Jvm.MethodName) prog_24_method_5_code (2 : Nat) (Option.some Jvm.ClassFile.FieldType.int)) ∈ lw_all := lw_g (lw_at lw_m9 115 rfl) rfl
theorem q2166 : (Jvm.Cond.instanceMethod ({ cls := "BrushGlassModel", name := "fault", desc := "()I" } : Jvm.MethodName)) ∈ lw_all := lw_g (lw_at lw_m9 117 rfl) rfl
theorem q2167 : (Jvm.Cond.selects "BrushGlassModel" ({ cls := "BrushGlassModel", name := "fault", desc := "()I" } : Jvm.MethodName) ({ cls := "BrushGlassModel", name := "fault", desc := "()I" } : Jvm.MethodName)) ∈ lw_all := lw_g (lw_at lw_m9 118 rfl) rfl
theorem q2168 : (Jvm.Cond.code ({ cls := "BrushGlassModel", name := "fault", desc := "()I" } : Jvm.MethodName) prog_24_method_36_code (1 : Nat) (Option.some Jvm.ClassFile.FieldType.int)) ∈ lw_all := lw_g (lw_at lw_m9 119 rfl) rfl
theorem q2170 : (Jvm.Cond.instanceMethod ({ cls := "BrushGlassModel", name := "where", desc := "()I" } : Jvm.MethodName)) ∈ lw_all := lw_g (lw_at lw_m9 121 rfl) rfl
theorem q2171 : (Jvm.Cond.selects "BrushGlassModel" ({ cls := "BrushGlassModel", name := "where", desc := "()I" } : Jvm.MethodName) ({ cls := "BrushGlassModel", name := "where", desc := "()I" } : Jvm.MethodName)) ∈ lw_all := lw_g (lw_at lw_m9 122 rfl) rfl
theorem q2172 : (Jvm.Cond.code ({ cls := "BrushGlassModel", name := "where", desc := "()I" } : Jvm.MethodName) prog_24_method_37_code (1 : Nat) (Option.some Jvm.ClassFile.FieldType.int)) ∈ lw_all := lw_g (lw_at lw_m9 123 rfl) rfl
theorem q2174 : (Jvm.Cond.instanceMethod ({ cls := "BrushGlassModel", name := "person", desc := "(II)I" } : Jvm.MethodName)) ∈ lw_all := lw_g (lw_at lw_m9 125 rfl) rfl
theorem q2175 : (Jvm.Cond.selects "BrushGlassModel" ({ cls := "BrushGlassModel", name := "person", desc := "(II)I" } : Jvm.MethodName) ({ cls := "BrushGlassModel", name := "person", desc := "(II)I" } : Jvm.MethodName)) ∈ lw_all := lw_g (lw_at lw_m9 126 rfl) rfl
theorem q2176 : (Jvm.Cond.code ({ cls := "BrushGlassModel", name := "person", desc := "(II)I" } : Jvm.MethodName) prog_24_method_54_code (3 : Nat) (Option.some Jvm.ClassFile.FieldType.int)) ∈ lw_all := lw_g (lw_at lw_m9 127 rfl) rfl
theorem q2177 : (Jvm.Cond.methodLink "BrushGlassModel" (434 : Nat) ({ cls := "BrushGlassModel", name := "isPerson", desc := "(I)Z" } : Jvm.MethodName)) ∈ lw_all := lw_g (lw_at lw_m9 128 rfl) rfl
theorem q2178 : (Jvm.Cond.privateMethod ({ cls := "BrushGlassModel", name := "isPerson", desc := "(I)Z" } : Jvm.MethodName)) ∈ lw_tbl := lw_at lw_m9 129 rfl
theorem q2179 : (Jvm.Cond.instanceMethod ({ cls := "BrushGlassModel", name := "isPerson", desc := "(I)Z" } : Jvm.MethodName)) ∈ lw_all := lw_g (lw_at lw_m9 130 rfl) rfl
theorem q2180 : (Jvm.Cond.code ({ cls := "BrushGlassModel", name := "isPerson", desc := "(I)Z" } : Jvm.MethodName) prog_24_method_50_code (2 : Nat) (Option.some Jvm.ClassFile.FieldType.boolean)) ∈ lw_all := lw_g (lw_at lw_m9 131 rfl) rfl
theorem q2182 : (Jvm.Cond.instanceMethod ({ cls := "BrushGlassModel", name := "likes", desc := "(II)I" } : Jvm.MethodName)) ∈ lw_all := lw_g (lw_at lw_m9 133 rfl) rfl
theorem q2183 : (Jvm.Cond.selects "BrushGlassModel" ({ cls := "BrushGlassModel", name := "likes", desc := "(II)I" } : Jvm.MethodName) ({ cls := "BrushGlassModel", name := "likes", desc := "(II)I" } : Jvm.MethodName)) ∈ lw_all := lw_g (lw_at lw_m9 134 rfl) rfl
theorem q2184 : (Jvm.Cond.code ({ cls := "BrushGlassModel", name := "likes", desc := "(II)I" } : Jvm.MethodName) prog_24_method_55_code (3 : Nat) (Option.some Jvm.ClassFile.FieldType.int)) ∈ lw_all := lw_g (lw_at lw_m9 135 rfl) rfl
theorem q2186 : (Jvm.Cond.instanceMethod ({ cls := "BrushGlassModel", name := "stay", desc := "(III)I" } : Jvm.MethodName)) ∈ lw_all := lw_g (lw_at lw_m9 137 rfl) rfl
theorem q2187 : (Jvm.Cond.selects "BrushGlassModel" ({ cls := "BrushGlassModel", name := "stay", desc := "(III)I" } : Jvm.MethodName) ({ cls := "BrushGlassModel", name := "stay", desc := "(III)I" } : Jvm.MethodName)) ∈ lw_all := lw_g (lw_at lw_m9 138 rfl) rfl
theorem q2188 : (Jvm.Cond.code ({ cls := "BrushGlassModel", name := "stay", desc := "(III)I" } : Jvm.MethodName) prog_24_method_56_code (4 : Nat) (Option.some Jvm.ClassFile.FieldType.int)) ∈ lw_all := lw_g (lw_at lw_m9 139 rfl) rfl
theorem q2190 : (Jvm.Cond.instanceMethod ({ cls := "BrushGlassModel", name := "here", desc := "(I)I" } : Jvm.MethodName)) ∈ lw_all := lw_g (lw_at lw_m9 141 rfl) rfl
theorem q2191 : (Jvm.Cond.selects "BrushGlassModel" ({ cls := "BrushGlassModel", name := "here", desc := "(I)I" } : Jvm.MethodName) ({ cls := "BrushGlassModel", name := "here", desc := "(I)I" } : Jvm.MethodName)) ∈ lw_all := lw_g (lw_at lw_m9 142 rfl) rfl
theorem q2192 : (Jvm.Cond.code ({ cls := "BrushGlassModel", name := "here", desc := "(I)I" } : Jvm.MethodName) prog_24_method_57_code (3 : Nat) (Option.some Jvm.ClassFile.FieldType.int)) ∈ lw_all := lw_g (lw_at lw_m9 143 rfl) rfl
theorem q2193 : (Jvm.Cond.methodLink "BrushGlassModel" (437 : Nat) ({ cls := "BrushGlassModel", name := "refusesDay", desc := "(ZI)I" } : Jvm.MethodName)) ∈ lw_all := lw_g (lw_at lw_m9 144 rfl) rfl
theorem q2194 : (Jvm.Cond.privateMethod ({ cls := "BrushGlassModel", name := "refusesDay", desc := "(ZI)I" } : Jvm.MethodName)) ∈ lw_tbl := lw_at lw_m9 145 rfl
theorem q2195 : (Jvm.Cond.instanceMethod ({ cls := "BrushGlassModel", name := "refusesDay", desc := "(ZI)I" } : Jvm.MethodName)) ∈ lw_all := lw_g (lw_at lw_m9 146 rfl) rfl
theorem q2196 : (Jvm.Cond.code ({ cls := "BrushGlassModel", name := "refusesDay", desc := "(ZI)I" } : Jvm.MethodName) prog_24_method_53_code (3 : Nat) (Option.some Jvm.ClassFile.FieldType.int)) ∈ lw_all := lw_g (lw_at lw_m9 147 rfl) rfl
theorem q2197 : (Jvm.Cond.methodLink "BrushGlassModel" (431 : Nat) ({ cls := "BrushGlassModel", name := "isDay", desc := "(I)Z" } : Jvm.MethodName)) ∈ lw_all := lw_g (lw_at lw_m9 148 rfl) rfl
theorem q2198 : (Jvm.Cond.privateMethod ({ cls := "BrushGlassModel", name := "isDay", desc := "(I)Z" } : Jvm.MethodName)) ∈ lw_tbl := lw_at lw_m9 149 rfl
theorem q2199 : (Jvm.Cond.instanceMethod ({ cls := "BrushGlassModel", name := "isDay", desc := "(I)Z" } : Jvm.MethodName)) ∈ lw_all := lw_g (lw_at lw_m9 150 rfl) rfl
theorem q2200 : (Jvm.Cond.code ({ cls := "BrushGlassModel", name := "isDay", desc := "(I)Z" } : Jvm.MethodName) prog_24_method_51_code (2 : Nat) (Option.some Jvm.ClassFile.FieldType.boolean)) ∈ lw_all := lw_g (lw_at lw_m9 151 rfl) rfl
theorem q2201 : (Jvm.Cond.methodLink "BrushGlassModel" (441 : Nat) ({ cls := "BrushGlassModel$Glass", name := "here", desc := "(I)I" } : Jvm.MethodName)) ∈ lw_all := lw_g (lw_at lw_m9 152 rfl) rfl
theorem q2211 : (Jvm.Cond.instanceMethod ({ cls := "BrushGlassModel", name := "most", desc := "()I" } : Jvm.MethodName)) ∈ lw_all := lw_g (lw_at lw_m9 162 rfl) rfl
theorem q2212 : (Jvm.Cond.selects "BrushGlassModel" ({ cls := "BrushGlassModel", name := "most", desc := "()I" } : Jvm.MethodName) ({ cls := "BrushGlassModel", name := "most", desc := "()I" } : Jvm.MethodName)) ∈ lw_all := lw_g (lw_at lw_m9 163 rfl) rfl
theorem q2213 : (Jvm.Cond.code ({ cls := "BrushGlassModel", name := "most", desc := "()I" } : Jvm.MethodName) prog_24_method_58_code (3 : Nat) (Option.some Jvm.ClassFile.FieldType.int)) ∈ lw_all := lw_g (lw_at lw_m9 164 rfl) rfl
theorem q2214 : (Jvm.Cond.methodLink "BrushGlassModel" (444 : Nat) ({ cls := "BrushGlassModel", name := "bits", desc := "(I)I" } : Jvm.MethodName)) ∈ lw_all := lw_g (lw_at lw_m9 165 rfl) rfl
theorem q2215 : (Jvm.Cond.static ({ cls := "BrushGlassModel", name := "bits", desc := "(I)I" } : Jvm.MethodName)) ∈ lw_all := lw_g (lw_at lw_m9 166 rfl) rfl
theorem q2216 : (Jvm.Cond.code ({ cls := "BrushGlassModel", name := "bits", desc := "(I)I" } : Jvm.MethodName) prog_24_method_9_code (3 : Nat) (Option.some Jvm.ClassFile.FieldType.int)) ∈ lw_all := lw_g (lw_at lw_m9 167 rfl) rfl
theorem q2218 : (Jvm.Cond.instanceMethod ({ cls := "BrushGlassModel", name := "brushes", desc := "()I" } : Jvm.MethodName)) ∈ lw_all := lw_g (lw_at lw_m9 169 rfl) rfl
theorem q2219 : (Jvm.Cond.selects "BrushGlassModel" ({ cls := "BrushGlassModel", name := "brushes", desc := "()I" } : Jvm.MethodName) ({ cls := "BrushGlassModel", name := "brushes", desc := "()I" } : Jvm.MethodName)) ∈ lw_all := lw_g (lw_at lw_m9 170 rfl) rfl
theorem q2220 : (Jvm.Cond.code ({ cls := "BrushGlassModel", name := "brushes", desc := "()I" } : Jvm.MethodName) prog_24_method_59_code (1 : Nat) (Option.some Jvm.ClassFile.FieldType.int)) ∈ lw_all := lw_g (lw_at lw_m9 171 rfl) rfl
theorem q2221 : (Jvm.Cond.methodLink "BrushGlassModel" (447 : Nat) ({ cls := "BrushGlassModel", name := "runs", desc := "()V" } : Jvm.MethodName)) ∈ lw_all := lw_g (lw_at lw_m9 172 rfl) rfl
theorem q2222 : (Jvm.Cond.privateMethod ({ cls := "BrushGlassModel", name := "runs", desc := "()V" } : Jvm.MethodName)) ∈ lw_tbl := lw_at lw_m9 173 rfl
theorem q2223 : (Jvm.Cond.instanceMethod ({ cls := "BrushGlassModel", name := "runs", desc := "()V" } : Jvm.MethodName)) ∈ lw_all := lw_g (lw_at lw_m9 174 rfl) rfl
theorem q2224 : (Jvm.Cond.code ({ cls := "BrushGlassModel", name := "runs", desc := "()V" } : Jvm.MethodName) prog_24_method_40_code (1 : Nat) (Option.none : Option Jvm.ClassFile.FieldType)) ∈ lw_all := lw_g (lw_at lw_m9 175 rfl) rfl
theorem q2225 : (Jvm.Cond.methodLink "BrushGlassModel" (380 : Nat) ({ cls := "BrushGlassModel", name := "runsBy", desc := "()V" } : Jvm.MethodName)) ∈ lw_all := lw_g (lw_at lw_m9 176 rfl) rfl
theorem q2226 : (Jvm.Cond.privateMethod ({ cls := "BrushGlassModel", name := "runsBy", desc := "()V" } : Jvm.MethodName)) ∈ lw_tbl := lw_at lw_m9 177 rfl
theorem q2227 : (Jvm.Cond.instanceMethod ({ cls := "BrushGlassModel", name := "runsBy", desc := "()V" } : Jvm.MethodName)) ∈ lw_all := lw_g (lw_at lw_m9 178 rfl) rfl
theorem q2228 : (Jvm.Cond.code ({ cls := "BrushGlassModel", name := "runsBy", desc := "()V" } : Jvm.MethodName) prog_24_method_41_code (2 : Nat) (Option.none : Option Jvm.ClassFile.FieldType)) ∈ lw_all := lw_g (lw_at lw_m9 179 rfl) rfl
theorem q2229 : (Jvm.Cond.methodLink "BrushGlassModel" (386 : Nat) ({ cls := "BrushGlassModel", name := "day", desc := "(I)V" } : Jvm.MethodName)) ∈ lw_all := lw_g (lw_at lw_m9 180 rfl) rfl
theorem q2230 : (Jvm.Cond.privateMethod ({ cls := "BrushGlassModel", name := "day", desc := "(I)V" } : Jvm.MethodName)) ∈ lw_tbl := lw_at lw_m9 181 rfl
theorem q2231 : (Jvm.Cond.instanceMethod ({ cls := "BrushGlassModel", name := "day", desc := "(I)V" } : Jvm.MethodName)) ∈ lw_all := lw_g (lw_at lw_m9 182 rfl) rfl
theorem q2232 : (Jvm.Cond.code ({ cls := "BrushGlassModel", name := "day", desc := "(I)V" } : Jvm.MethodName) prog_24_method_42_code (3 : Nat) (Option.none : Option Jvm.ClassFile.FieldType)) ∈ lw_all := lw_g (lw_at lw_m9 183 rfl) rfl
theorem q2233 : (Jvm.Cond.methodLink "BrushGlassModel" (389 : Nat) ({ cls := "BrushGlassModel$Glass", name := "comes", desc := "(II)Z" } : Jvm.MethodName)) ∈ lw_all := lw_g (lw_at lw_m9 184 rfl) rfl
theorem q2237 : (Jvm.Cond.methodLink "BrushGlassModel" (393 : Nat) ({ cls := "BrushGlassModel", name := "buys", desc := "(II)V" } : Jvm.MethodName)) ∈ lw_all := lw_g (lw_at lw_m9 188 rfl) rfl
theorem q2238 : (Jvm.Cond.privateMethod ({ cls := "BrushGlassModel", name := "buys", desc := "(II)V" } : Jvm.MethodName)) ∈ lw_tbl := lw_at lw_m9 189 rfl
theorem q2239 : (Jvm.Cond.instanceMethod ({ cls := "BrushGlassModel", name := "buys", desc := "(II)V" } : Jvm.MethodName)) ∈ lw_all := lw_g (lw_at lw_m9 190 rfl) rfl
theorem q2240 : (Jvm.Cond.code ({ cls := "BrushGlassModel", name := "buys", desc := "(II)V" } : Jvm.MethodName) prog_24_method_45_code (4 : Nat) (Option.none : Option Jvm.ClassFile.FieldType)) ∈ lw_all := lw_g (lw_at lw_m9 191 rfl) rfl
theorem q2241 : (Jvm.Cond.methodLink "BrushGlassModel" (422 : Nat) ({ cls := "BrushGlassModel", name := "chosen", desc := "(I)I" } : Jvm.MethodName)) ∈ lw_all := lw_g (lw_at lw_m9 192 rfl) rfl
theorem q2242 : (Jvm.Cond.privateMethod ({ cls := "BrushGlassModel", name := "chosen", desc := "(I)I" } : Jvm.MethodName)) ∈ lw_tbl := lw_at lw_m9 193 rfl
theorem q2243 : (Jvm.Cond.instanceMethod ({ cls := "BrushGlassModel", name := "chosen", desc := "(I)I" } : Jvm.MethodName)) ∈ lw_all := lw_g (lw_at lw_m9 194 rfl) rfl
theorem q2244 : (Jvm.Cond.code ({ cls := "BrushGlassModel", name := "chosen", desc := "(I)I" } : Jvm.MethodName) prog_24_method_44_code (5 : Nat) (Option.some Jvm.ClassFile.FieldType.int)) ∈ lw_all := lw_g (lw_at lw_m9 195 rfl) rfl
theorem q2245 : (Jvm.Cond.methodLink "BrushGlassModel" (416 : Nat) ({ cls := "BrushGlassModel", name := "habitOf", desc := "(I)I" } : Jvm.MethodName)) ∈ lw_all := lw_g (lw_at lw_m9 196 rfl) rfl
theorem q2246 : (Jvm.Cond.privateMethod ({ cls := "BrushGlassModel", name := "habitOf", desc := "(I)I" } : Jvm.MethodName)) ∈ lw_tbl := lw_at lw_m9 197 rfl
theorem q2247 : (Jvm.Cond.instanceMethod ({ cls := "BrushGlassModel", name := "habitOf", desc := "(I)I" } : Jvm.MethodName)) ∈ lw_all := lw_g (lw_at lw_m9 198 rfl) rfl
theorem q2248 : (Jvm.Cond.code ({ cls := "BrushGlassModel", name := "habitOf", desc := "(I)I" } : Jvm.MethodName) prog_24_method_39_code (2 : Nat) (Option.some Jvm.ClassFile.FieldType.int)) ∈ lw_all := lw_g (lw_at lw_m9 199 rfl) rfl
theorem q2249 : (Jvm.Cond.methodLink "BrushGlassModel" (419 : Nat) ({ cls := "BrushGlassModel", name := "inGlass", desc := "(I)I" } : Jvm.MethodName)) ∈ lw_all := lw_g (lw_at lw_m9 200 rfl) rfl
theorem q2250 : (Jvm.Cond.privateMethod ({ cls := "BrushGlassModel", name := "inGlass", desc := "(I)I" } : Jvm.MethodName)) ∈ lw_tbl := lw_at lw_m9 201 rfl
theorem q2251 : (Jvm.Cond.instanceMethod ({ cls := "BrushGlassModel", name := "inGlass", desc := "(I)I" } : Jvm.MethodName)) ∈ lw_all := lw_g (lw_at lw_m9 202 rfl) rfl
theorem q2252 : (Jvm.Cond.code ({ cls := "BrushGlassModel", name := "inGlass", desc := "(I)I" } : Jvm.MethodName) prog_24_method_43_code (4 : Nat) (Option.some Jvm.ClassFile.FieldType.int)) ∈ lw_all := lw_g (lw_at lw_m9 203 rfl) rfl
theorem q2253 : (Jvm.Cond.methodLink "BrushGlassModel" (395 : Nat) ({ cls := "BrushGlassModel", name := "puts", desc := "(I)V" } : Jvm.MethodName)) ∈ lw_all := lw_g (lw_at lw_m9 204 rfl) rfl
theorem q2254 : (Jvm.Cond.privateMethod ({ cls := "BrushGlassModel", name := "puts", desc := "(I)V" } : Jvm.MethodName)) ∈ lw_tbl := lw_at lw_m9 205 rfl
theorem q2255 : (Jvm.Cond.instanceMethod ({ cls := "BrushGlassModel", name := "puts", desc := "(I)V" } : Jvm.MethodName)) ∈ lw_all := lw_g (lw_at lw_m9 206 rfl) rfl
theorem q2256 : (Jvm.Cond.code ({ cls := "BrushGlassModel", name := "puts", desc := "(I)V" } : Jvm.MethodName) prog_24_method_47_code (2 : Nat) (Option.none : Option Jvm.ClassFile.FieldType)) ∈ lw_all := lw_g (lw_at lw_m9 207 rfl) rfl
theorem q2257 : (Jvm.Cond.methodLink "BrushGlassModel" (425 : Nat) ({ cls := "BrushGlassModel", name := "firstFree", desc := "()I" } : Jvm.MethodName)) ∈ lw_all := lw_g (lw_at lw_m9 208 rfl) rfl
theorem q2258 : (Jvm.Cond.privateMethod ({ cls := "BrushGlassModel", name := "firstFree", desc := "()I" } : Jvm.MethodName)) ∈ lw_tbl := lw_at lw_m9 209 rfl
theorem q2259 : (Jvm.Cond.instanceMethod ({ cls := "BrushGlassModel", name := "firstFree", desc := "()I" } : Jvm.MethodName)) ∈ lw_all := lw_g (lw_at lw_m9 210 rfl) rfl
theorem q2260 : (Jvm.Cond.code ({ cls := "BrushGlassModel", name := "firstFree", desc := "()I" } : Jvm.MethodName) prog_24_method_46_code (2 : Nat) (Option.some Jvm.ClassFile.FieldType.int)) ∈ lw_all := lw_g (lw_at lw_m9 211 rfl) rfl
theorem q2261 : (Jvm.Cond.methodLink "BrushGlassModel" (398 : Nat) ({ cls := "BrushGlassModel$Glass", name := "isHere", desc := "(II)Z" } : Jvm.MethodName)) ∈ lw_all := lw_g (lw_at lw_m9 212 rfl) rfl
theorem q2262 : (Jvm.Cond.methodLink "BrushGlassModel" (401 : Nat) ({ cls := "BrushGlassModel", name := "exchanges", desc := "(II)V" } : Jvm.MethodName)) ∈ lw_all := lw_g (lw_at lw_m9 213 rfl) rfl
theorem q2263 : (Jvm.Cond.privateMethod ({ cls := "BrushGlassModel", name := "exchanges", desc := "(II)V" } : Jvm.MethodName)) ∈ lw_tbl := lw_at lw_m9 214 rfl
theorem q2264 : (Jvm.Cond.instanceMethod ({ cls := "BrushGlassModel", name := "exchanges", desc := "(II)V" } : Jvm.MethodName)) ∈ lw_all := lw_g (lw_at lw_m9 215 rfl) rfl
theorem q2265 : (Jvm.Cond.code ({ cls := "BrushGlassModel", name := "exchanges", desc := "(II)V" } : Jvm.MethodName) prog_24_method_48_code (5 : Nat) (Option.none : Option Jvm.ClassFile.FieldType)) ∈ lw_all := lw_g (lw_at lw_m9 216 rfl) rfl
theorem q2266 : (Jvm.Cond.methodLink "BrushGlassModel" (410 : Nat) ({ cls := "BrushGlassModel", name := "brushesAt", desc := "(II)V" } : Jvm.MethodName)) ∈ lw_all := lw_g (lw_at lw_m9 217 rfl) rfl
theorem q2267 : (Jvm.Cond.privateMethod ({ cls := "BrushGlassModel", name := "brushesAt", desc := "(II)V" } : Jvm.MethodName)) ∈ lw_tbl := lw_at lw_m9 218 rfl
theorem q2268 : (Jvm.Cond.instanceMethod ({ cls := "BrushGlassModel", name := "brushesAt", desc := "(II)V" } : Jvm.MethodName)) ∈ lw_all := lw_g (lw_at lw_m9 219 rfl) rfl
theorem q2269 : (Jvm.Cond.code ({ cls := "BrushGlassModel", name := "brushesAt", desc := "(II)V" } : Jvm.MethodName) prog_24_method_49_code (5 : Nat) (Option.none : Option Jvm.ClassFile.FieldType)) ∈ lw_all := lw_g (lw_at lw_m9 220 rfl) rfl
theorem q2270 : (Jvm.Cond.methodLink "BrushGlassModel" (428 : Nat) ({ cls := "BrushGlassModel", name := "kindOf", desc := "(I)I" } : Jvm.MethodName)) ∈ lw_all := lw_g (lw_at lw_m9 221 rfl) rfl
theorem q2271 : (Jvm.Cond.privateMethod ({ cls := "BrushGlassModel", name := "kindOf", desc := "(I)I" } : Jvm.MethodName)) ∈ lw_tbl := lw_at lw_m9 222 rfl
theorem q2272 : (Jvm.Cond.instanceMethod ({ cls := "BrushGlassModel", name := "kindOf", desc := "(I)I" } : Jvm.MethodName)) ∈ lw_all := lw_g (lw_at lw_m9 223 rfl) rfl
theorem q2273 : (Jvm.Cond.code ({ cls := "BrushGlassModel", name := "kindOf", desc := "(I)I" } : Jvm.MethodName) prog_24_method_38_code (2 : Nat) (Option.some Jvm.ClassFile.FieldType.int)) ∈ lw_all := lw_g (lw_at lw_m9 224 rfl) rfl
theorem q2274 : (Jvm.Cond.methodLink "BrushGlassModel" (413 : Nat) ({ cls := "BrushGlassModel$Glass", name := "goes", desc := "(II)Z" } : Jvm.MethodName)) ∈ lw_all := lw_g (lw_at lw_m9 225 rfl) rfl
theorem q2279 : (Jvm.Cond.instanceMethod ({ cls := "BrushGlassModel", name := "brush", desc := "(II)I" } : Jvm.MethodName)) ∈ lw_all := lw_g (lw_at lw_m9 230 rfl) rfl
theorem q2280 : (Jvm.Cond.selects "BrushGlassModel" ({ cls := "BrushGlassModel", name := "brush", desc := "(II)I" } : Jvm.MethodName) ({ cls := "BrushGlassModel", name := "brush", desc := "(II)I" } : Jvm.MethodName)) ∈ lw_all := lw_g (lw_at lw_m9 231 rfl) rfl
theorem q2281 : (Jvm.Cond.code ({ cls := "BrushGlassModel", name := "brush", desc := "(II)I" } : Jvm.MethodName) prog_24_method_60_code (3 : Nat) (Option.some Jvm.ClassFile.FieldType.int)) ∈ lw_all := lw_g (lw_at lw_m9 232 rfl) rfl
theorem q2283 : (Jvm.Cond.instanceMethod ({ cls := "BrushGlassModel", name := "at", desc := "(II)I" } : Jvm.MethodName)) ∈ lw_all := lw_g (lw_at lw_m9 234 rfl) rfl
theorem q2284 : (Jvm.Cond.selects "BrushGlassModel" ({ cls := "BrushGlassModel", name := "at", desc := "(II)I" } : Jvm.MethodName) ({ cls := "BrushGlassModel", name := "at", desc := "(II)I" } : Jvm.MethodName)) ∈ lw_all := lw_g (lw_at lw_m9 235 rfl) rfl
theorem q2285 : (Jvm.Cond.code ({ cls := "BrushGlassModel", name := "at", desc := "(II)I" } : Jvm.MethodName) prog_24_method_62_code (4 : Nat) (Option.some Jvm.ClassFile.FieldType.int)) ∈ lw_all := lw_g (lw_at lw_m9 236 rfl) rfl
theorem q2286 : (Jvm.Cond.methodLink "BrushGlassModel" (450 : Nat) ({ cls := "BrushGlassModel", name := "isPlace", desc := "(I)Z" } : Jvm.MethodName)) ∈ lw_all := lw_g (lw_at lw_m9 237 rfl) rfl
theorem q2287 : (Jvm.Cond.privateMethod ({ cls := "BrushGlassModel", name := "isPlace", desc := "(I)Z" } : Jvm.MethodName)) ∈ lw_tbl := lw_at lw_m9 238 rfl
theorem q2288 : (Jvm.Cond.instanceMethod ({ cls := "BrushGlassModel", name := "isPlace", desc := "(I)Z" } : Jvm.MethodName)) ∈ lw_all := lw_g (lw_at lw_m9 239 rfl) rfl
theorem q2289 : (Jvm.Cond.code ({ cls := "BrushGlassModel", name := "isPlace", desc := "(I)Z" } : Jvm.MethodName) prog_24_method_52_code (2 : Nat) (Option.some Jvm.ClassFile.FieldType.boolean)) ∈ lw_all := lw_g (lw_at lw_m10 0 rfl) rfl
theorem q2290 : (Jvm.Cond.methodLink "BrushGlassModel" (453 : Nat) ({ cls := "BrushGlassModel", name := "standsIn", desc := "(II)I" } : Jvm.MethodName)) ∈ lw_all := lw_g (lw_at lw_m10 1 rfl) rfl
theorem q2291 : (Jvm.Cond.privateMethod ({ cls := "BrushGlassModel", name := "standsIn", desc := "(II)I" } : Jvm.MethodName)) ∈ lw_tbl := lw_at lw_m10 2 rfl
theorem q2292 : (Jvm.Cond.instanceMethod ({ cls := "BrushGlassModel", name := "standsIn", desc := "(II)I" } : Jvm.MethodName)) ∈ lw_all := lw_g (lw_at lw_m10 3 rfl) rfl
theorem q2293 : (Jvm.Cond.code ({ cls := "BrushGlassModel", name := "standsIn", desc := "(II)I" } : Jvm.MethodName) prog_24_method_61_code (3 : Nat) (Option.some Jvm.ClassFile.FieldType.int)) ∈ lw_all := lw_g (lw_at lw_m10 4 rfl) rfl
theorem q2295 : (Jvm.Cond.instanceMethod ({ cls := "BrushGlassModel", name := "colour", desc := "(II)I" } : Jvm.MethodName)) ∈ lw_all := lw_g (lw_at lw_m10 6 rfl) rfl
theorem q2296 : (Jvm.Cond.selects "BrushGlassModel" ({ cls := "BrushGlassModel", name := "colour", desc := "(II)I" } : Jvm.MethodName) ({ cls := "BrushGlassModel", name := "colour", desc := "(II)I" } : Jvm.MethodName)) ∈ lw_all := lw_g (lw_at lw_m10 7 rfl) rfl
theorem q2297 : (Jvm.Cond.code ({ cls := "BrushGlassModel", name := "colour", desc := "(II)I" } : Jvm.MethodName) prog_24_method_63_code (4 : Nat) (Option.some Jvm.ClassFile.FieldType.int)) ∈ lw_all := lw_g (lw_at lw_m10 8 rfl) rfl
theorem q2298 : (Jvm.Cond.methodLink "BrushGlassModel" (456 : Nat) ({ cls := "BrushGlassModel", name := "colourIn", desc := "(II)I" } : Jvm.MethodName)) ∈ lw_all := lw_g (lw_at lw_m10 9 rfl) rfl
theorem q2299 : (Jvm.Cond.privateMethod ({ cls := "BrushGlassModel", name := "colourIn", desc := "(II)I" } : Jvm.MethodName)) ∈ lw_tbl := lw_at lw_m10 10 rfl
theorem q2300 : (Jvm.Cond.instanceMethod ({ cls := "BrushGlassModel", name := "colourIn", desc := "(II)I" } : Jvm.MethodName)) ∈ lw_all := lw_g (lw_at lw_m10 11 rfl) rfl
theorem q2301 : (Jvm.Cond.code ({ cls := "BrushGlassModel", name := "colourIn", desc := "(II)I" } : Jvm.MethodName) prog_24_method_64_code (3 : Nat) (Option.some Jvm.ClassFile.FieldType.int)) ∈ lw_all := lw_g (lw_at lw_m10 12 rfl) rfl
theorem q2303 : (Jvm.Cond.instanceMethod ({ cls := "BrushGlassModel", name := "whose", desc := "(II)I" } : Jvm.MethodName)) ∈ lw_all := lw_g (lw_at lw_m10 14 rfl) rfl
theorem q2304 : (Jvm.Cond.selects "BrushGlassModel" ({ cls := "BrushGlassModel", name := "whose", desc := "(II)I" } : Jvm.MethodName) ({ cls := "BrushGlassModel", name := "whose", desc := "(II)I" } : Jvm.MethodName)) ∈ lw_all := lw_g (lw_at lw_m10 15 rfl) rfl
theorem q2305 : (Jvm.Cond.code ({ cls := "BrushGlassModel", name := "whose", desc := "(II)I" } : Jvm.MethodName) prog_24_method_65_code (4 : Nat) (Option.some Jvm.ClassFile.FieldType.int)) ∈ lw_all := lw_g (lw_at lw_m10 16 rfl) rfl
theorem q2307 : (Jvm.Cond.instanceMethod ({ cls := "BrushGlassModel", name := "place", desc := "(II)I" } : Jvm.MethodName)) ∈ lw_all := lw_g (lw_at lw_m10 18 rfl) rfl
theorem q2308 : (Jvm.Cond.selects "BrushGlassModel" ({ cls := "BrushGlassModel", name := "place", desc := "(II)I" } : Jvm.MethodName) ({ cls := "BrushGlassModel", name := "place", desc := "(II)I" } : Jvm.MethodName)) ∈ lw_all := lw_g (lw_at lw_m10 19 rfl) rfl
theorem q2309 : (Jvm.Cond.code ({ cls := "BrushGlassModel", name := "place", desc := "(II)I" } : Jvm.MethodName) prog_24_method_66_code (5 : Nat) (Option.some Jvm.ClassFile.FieldType.int)) ∈ lw_all := lw_g (lw_at lw_m10 20 rfl) rfl
theorem q2311 : (Jvm.Cond.instanceMethod ({ cls := "BrushGlassModel", name := "many", desc := "(I)I" } : Jvm.MethodName)) ∈ lw_all := lw_g (lw_at lw_m10 22 rfl) rfl
theorem q2312 : (Jvm.Cond.selects "BrushGlassModel" ({ cls := "BrushGlassModel", name := "many", desc := "(I)I" } : Jvm.MethodName) ({ cls := "BrushGlassModel", name := "many", desc := "(I)I" } : Jvm.MethodName)) ∈ lw_all := lw_g (lw_at lw_m10 23 rfl) rfl
theorem q2313 : (Jvm.Cond.code ({ cls := "BrushGlassModel", name := "many", desc := "(I)I" } : Jvm.MethodName) prog_24_method_68_code (3 : Nat) (Option.some Jvm.ClassFile.FieldType.int)) ∈ lw_all := lw_g (lw_at lw_m10 24 rfl) rfl
theorem q2314 : (Jvm.Cond.methodLink "BrushGlassModel" (459 : Nat) ({ cls := "BrushGlassModel", name := "there", desc := "(I)I" } : Jvm.MethodName)) ∈ lw_all := lw_g (lw_at lw_m10 25 rfl) rfl
theorem q2315 : (Jvm.Cond.privateMethod ({ cls := "BrushGlassModel", name := "there", desc := "(I)I" } : Jvm.MethodName)) ∈ lw_tbl := lw_at lw_m10 26 rfl
theorem q2316 : (Jvm.Cond.instanceMethod ({ cls := "BrushGlassModel", name := "there", desc := "(I)I" } : Jvm.MethodName)) ∈ lw_all := lw_g (lw_at lw_m10 27 rfl) rfl
theorem q2317 : (Jvm.Cond.code ({ cls := "BrushGlassModel", name := "there", desc := "(I)I" } : Jvm.MethodName) prog_24_method_67_code (4 : Nat) (Option.some Jvm.ClassFile.FieldType.int)) ∈ lw_all := lw_g (lw_at lw_m10 28 rfl) rfl
theorem q2319 : (Jvm.Cond.instanceMethod ({ cls := "BrushGlassModel", name := "full", desc := "()I" } : Jvm.MethodName)) ∈ lw_all := lw_g (lw_at lw_m10 30 rfl) rfl
theorem q2320 : (Jvm.Cond.selects "BrushGlassModel" ({ cls := "BrushGlassModel", name := "full", desc := "()I" } : Jvm.MethodName) ({ cls := "BrushGlassModel", name := "full", desc := "()I" } : Jvm.MethodName)) ∈ lw_all := lw_g (lw_at lw_m10 31 rfl) rfl
theorem q2321 : (Jvm.Cond.code ({ cls := "BrushGlassModel", name := "full", desc := "()I" } : Jvm.MethodName) prog_24_method_69_code (3 : Nat) (Option.some Jvm.ClassFile.FieldType.int)) ∈ lw_all := lw_g (lw_at lw_m10 32 rfl) rfl
theorem q2323 : (Jvm.Cond.instanceMethod ({ cls := "BrushGlassModel", name := "uses", desc := "(II)I" } : Jvm.MethodName)) ∈ lw_all := lw_g (lw_at lw_m10 34 rfl) rfl
theorem q2324 : (Jvm.Cond.selects "BrushGlassModel" ({ cls := "BrushGlassModel", name := "uses", desc := "(II)I" } : Jvm.MethodName) ({ cls := "BrushGlassModel", name := "uses", desc := "(II)I" } : Jvm.MethodName)) ∈ lw_all := lw_g (lw_at lw_m10 35 rfl) rfl
theorem q2325 : (Jvm.Cond.code ({ cls := "BrushGlassModel", name := "uses", desc := "(II)I" } : Jvm.MethodName) prog_24_method_71_code (4 : Nat) (Option.some Jvm.ClassFile.FieldType.int)) ∈ lw_all := lw_g (lw_at lw_m10 36 rfl) rfl
theorem q2326 : (Jvm.Cond.methodLink "BrushGlassModel" (462 : Nat) ({ cls := "BrushGlassModel", name := "useOf", desc := "(II)I" } : Jvm.MethodName)) ∈ lw_all := lw_g (lw_at lw_m10 37 rfl) rfl
theorem q2327 : (Jvm.Cond.privateMethod ({ cls := "BrushGlassModel", name := "useOf", desc := "(II)I" } : Jvm.MethodName)) ∈ lw_tbl := lw_at lw_m10 38 rfl
theorem q2328 : (Jvm.Cond.instanceMethod ({ cls := "BrushGlassModel", name := "useOf", desc := "(II)I" } : Jvm.MethodName)) ∈ lw_all := lw_g (lw_at lw_m10 39 rfl) rfl
theorem q2329 : (Jvm.Cond.code ({ cls := "BrushGlassModel", name := "useOf", desc := "(II)I" } : Jvm.MethodName) prog_24_method_70_code (3 : Nat) (Option.some Jvm.ClassFile.FieldType.int)) ∈ lw_all := lw_g (lw_at lw_m10 40 rfl) rfl
theorem q2331 : (Jvm.Cond.instanceMethod ({ cls := "BrushGlassModel", name := "wet", desc := "(II)I" } : Jvm.MethodName)) ∈ lw_all := lw_g (lw_at lw_m10 42 rfl) rfl
theorem q2332 : (Jvm.Cond.selects "BrushGlassModel" ({ cls := "BrushGlassModel", name := "wet", desc := "(II)I" } : Jvm.MethodName) ({ cls := "BrushGlassModel", name := "wet", desc := "(II)I" } : Jvm.MethodName)) ∈ lw_all := lw_g (lw_at lw_m10 43 rfl) rfl
theorem q2333 : (Jvm.Cond.code ({ cls := "BrushGlassModel", name := "wet", desc := "(II)I" } : Jvm.MethodName) prog_24_method_72_code (6 : Nat) (Option.some Jvm.ClassFile.FieldType.int)) ∈ lw_all := lw_g (lw_at lw_m10 44 rfl) rfl
theorem q2335 : (Jvm.Cond.instanceMethod ({ cls := "BrushGlassModel", name := "shared", desc := "(I)I" } : Jvm.MethodName)) ∈ lw_all := lw_g (lw_at lw_m10 46 rfl) rfl
theorem q2336 : (Jvm.Cond.selects "BrushGlassModel" ({ cls := "BrushGlassModel", name := "shared", desc := "(I)I" } : Jvm.MethodName) ({ cls := "BrushGlassModel", name := "shared", desc := "(I)I" } : Jvm.MethodName)) ∈ lw_all := lw_g (lw_at lw_m10 47 rfl) rfl
theorem q2337 : (Jvm.Cond.code ({ cls := "BrushGlassModel", name := "shared", desc := "(I)I" } : Jvm.MethodName) prog_24_method_76_code (3 : Nat) (Option.some Jvm.ClassFile.FieldType.int)) ∈ lw_all := lw_g (lw_at lw_m10 48 rfl) rfl
theorem q2338 : (Jvm.Cond.methodLink "BrushGlassModel" (468 : Nat) ({ cls := "BrushGlassModel", name := "sharedIn", desc := "(I)I" } : Jvm.MethodName)) ∈ lw_all := lw_g (lw_at lw_m10 49 rfl) rfl
theorem q2339 : (Jvm.Cond.privateMethod ({ cls := "BrushGlassModel", name := "sharedIn", desc := "(I)I" } : Jvm.MethodName)) ∈ lw_tbl := lw_at lw_m10 50 rfl
theorem q2340 : (Jvm.Cond.instanceMethod ({ cls := "BrushGlassModel", name := "sharedIn", desc := "(I)I" } : Jvm.MethodName)) ∈ lw_all := lw_g (lw_at lw_m10 51 rfl) rfl
theorem q2341 : (Jvm.Cond.code ({ cls := "BrushGlassModel", name := "sharedIn", desc := "(I)I" } : Jvm.MethodName) prog_24_method_74_code (4 : Nat) (Option.some Jvm.ClassFile.FieldType.int)) ∈ lw_all := lw_g (lw_at lw_m10 52 rfl) rfl
theorem q2342 : (Jvm.Cond.methodLink "BrushGlassModel" (465 : Nat) ({ cls := "BrushGlassModel", name := "isShared", desc := "(II)Z" } : Jvm.MethodName)) ∈ lw_all := lw_g (lw_at lw_m10 53 rfl) rfl
theorem q2343 : (Jvm.Cond.privateMethod ({ cls := "BrushGlassModel", name := "isShared", desc := "(II)Z" } : Jvm.MethodName)) ∈ lw_tbl := lw_at lw_m10 54 rfl
theorem q2344 : (Jvm.Cond.instanceMethod ({ cls := "BrushGlassModel", name := "isShared", desc := "(II)Z" } : Jvm.MethodName)) ∈ lw_all := lw_g (lw_at lw_m10 55 rfl) rfl
theorem q2345 : (Jvm.Cond.code ({ cls := "BrushGlassModel", name := "isShared", desc := "(II)Z" } : Jvm.MethodName) prog_24_method_73_code (3 : Nat) (Option.some Jvm.ClassFile.FieldType.boolean)) ∈ lw_all := lw_g (lw_at lw_m10 56 rfl) rfl
theorem q2347 : (Jvm.Cond.instanceMethod ({ cls := "BrushGlassModel", name := "sharedAll", desc := "()I" } : Jvm.MethodName)) ∈ lw_all := lw_g (lw_at lw_m10 58 rfl) rfl
theorem q2348 : (Jvm.Cond.selects "BrushGlassModel" ({ cls := "BrushGlassModel", name := "sharedAll", desc := "()I" } : Jvm.MethodName) ({ cls := "BrushGlassModel", name := "sharedAll", desc := "()I" } : Jvm.MethodName)) ∈ lw_all := lw_g (lw_at lw_m10 59 rfl) rfl
theorem q2349 : (Jvm.Cond.code ({ cls := "BrushGlassModel", name := "sharedAll", desc := "()I" } : Jvm.MethodName) prog_24_method_77_code (1 : Nat) (Option.some Jvm.ClassFile.FieldType.int)) ∈ lw_all := lw_g (lw_at lw_m10 60 rfl) rfl
theorem q2350 : (Jvm.Cond.methodLink "BrushGlassModel" (471 : Nat) ({ cls := "BrushGlassModel", name := "sharedInAll", desc := "()I" } : Jvm.MethodName)) ∈ lw_all := lw_g (lw_at lw_m10 61 rfl) rfl
theorem q2351 : (Jvm.Cond.privateMethod ({ cls := "BrushGlassModel", name := "sharedInAll", desc := "()I" } : Jvm.MethodName)) ∈ lw_tbl := lw_at lw_m10 62 rfl
theorem q2352 : (Jvm.Cond.instanceMethod ({ cls := "BrushGlassModel", name := "sharedInAll", desc := "()I" } : Jvm.MethodName)) ∈ lw_all := lw_g (lw_at lw_m10 63 rfl) rfl
theorem q2353 : (Jvm.Cond.code ({ cls := "BrushGlassModel", name := "sharedInAll", desc := "()I" } : Jvm.MethodName) prog_24_method_75_code (3 : Nat) (Option.some Jvm.ClassFile.FieldType.int)) ∈ lw_all := lw_g (lw_at lw_m10 64 rfl) rfl
theorem q2355 : (Jvm.Cond.instanceMethod ({ cls := "BrushGlassModel", name := "suffers", desc := "(I)I" } : Jvm.MethodName)) ∈ lw_all := lw_g (lw_at lw_m10 66 rfl) rfl
theorem q2356 : (Jvm.Cond.selects "BrushGlassModel" ({ cls := "BrushGlassModel", name := "suffers", desc := "(I)I" } : Jvm.MethodName) ({ cls := "BrushGlassModel", name := "suffers", desc := "(I)I" } : Jvm.MethodName)) ∈ lw_all := lw_g (lw_at lw_m10 67 rfl) rfl
theorem q2357 : (Jvm.Cond.code ({ cls := "BrushGlassModel", name := "suffers", desc := "(I)I" } : Jvm.MethodName) prog_24_method_78_code (5 : Nat) (Option.some Jvm.ClassFile.FieldType.int)) ∈ lw_all := lw_g (lw_at lw_m10 68 rfl) rfl
theorem q2359 : (Jvm.Cond.instanceMethod ({ cls := "BrushGlassModel", name := "sins", desc := "(I)I" } : Jvm.MethodName)) ∈ lw_all := lw_g (lw_at lw_m10 70 rfl) rfl
theorem q2360 : (Jvm.Cond.selects "BrushGlassModel" ({ cls := "BrushGlassModel", name := "sins", desc := "(I)I" } : Jvm.MethodName) ({ cls := "BrushGlassModel", name := "sins", desc := "(I)I" } : Jvm.MethodName)) ∈ lw_all := lw_g (lw_at lw_m10 71 rfl) rfl
theorem q2361 : (Jvm.Cond.code ({ cls := "BrushGlassModel", name := "sins", desc := "(I)I" } : Jvm.MethodName) prog_24_method_80_code (2 : Nat) (Option.some Jvm.ClassFile.FieldType.int)) ∈ lw_all := lw_g (lw_at lw_m10 72 rfl) rfl
theorem q2362 : (Jvm.Cond.methodLink "BrushGlassModel" (474 : Nat) ({ cls := "BrushGlassModel", name := "sinsOf", desc := "(I)I" } : Jvm.MethodName)) ∈ lw_all := lw_g (lw_at lw_m10 73 rfl) rfl
theorem q2363 : (Jvm.Cond.privateMethod ({ cls := "BrushGlassModel", name := "sinsOf", desc := "(I)I" } : Jvm.MethodName)) ∈ lw_tbl := lw_at lw_m10 74 rfl
theorem q2364 : (Jvm.Cond.instanceMethod ({ cls := "BrushGlassModel", name := "sinsOf", desc := "(I)I" } : Jvm.MethodName)) ∈ lw_all := lw_g (lw_at lw_m10 75 rfl) rfl
theorem q2365 : (Jvm.Cond.code ({ cls := "BrushGlassModel", name := "sinsOf", desc := "(I)I" } : Jvm.MethodName) prog_24_method_79_code (4 : Nat) (Option.some Jvm.ClassFile.FieldType.int)) ∈ lw_all := lw_g (lw_at lw_m10 76 rfl) rfl
theorem q2367 : (Jvm.Cond.instanceMethod ({ cls := "BrushGlassModel", name := "alike", desc := "(I)I" } : Jvm.MethodName)) ∈ lw_all := lw_g (lw_at lw_m10 78 rfl) rfl
theorem q2368 : (Jvm.Cond.selects "BrushGlassModel" ({ cls := "BrushGlassModel", name := "alike", desc := "(I)I" } : Jvm.MethodName) ({ cls := "BrushGlassModel", name := "alike", desc := "(I)I" } : Jvm.MethodName)) ∈ lw_all := lw_g (lw_at lw_m10 79 rfl) rfl
theorem q2369 : (Jvm.Cond.code ({ cls := "BrushGlassModel", name := "alike", desc := "(I)I" } : Jvm.MethodName) prog_24_method_83_code (3 : Nat) (Option.some Jvm.ClassFile.FieldType.int)) ∈ lw_all := lw_g (lw_at lw_m10 80 rfl) rfl
theorem q2370 : (Jvm.Cond.methodLink "BrushGlassModel" (477 : Nat) ({ cls := "BrushGlassModel", name := "alikeIn", desc := "(I)I" } : Jvm.MethodName)) ∈ lw_all := lw_g (lw_at lw_m10 81 rfl) rfl
theorem q2371 : (Jvm.Cond.privateMethod ({ cls := "BrushGlassModel", name := "alikeIn", desc := "(I)I" } : Jvm.MethodName)) ∈ lw_tbl := lw_at lw_m10 82 rfl
theorem q2372 : (Jvm.Cond.instanceMethod ({ cls := "BrushGlassModel", name := "alikeIn", desc := "(I)I" } : Jvm.MethodName)) ∈ lw_all := lw_g (lw_at lw_m10 83 rfl) rfl
theorem q2373 : (Jvm.Cond.code ({ cls := "BrushGlassModel", name := "alikeIn", desc := "(I)I" } : Jvm.MethodName) prog_24_method_81_code (5 : Nat) (Option.some Jvm.ClassFile.FieldType.int)) ∈ lw_all := lw_g (lw_at lw_m10 84 rfl) rfl
theorem q2375 : (Jvm.Cond.instanceMethod ({ cls := "BrushGlassModel", name := "alikeDays", desc := "()I" } : Jvm.MethodName)) ∈ lw_all := lw_g (lw_at lw_m10 86 rfl) rfl
theorem q2376 : (Jvm.Cond.selects "BrushGlassModel" ({ cls := "BrushGlassModel", name := "alikeDays", desc := "()I" } : Jvm.MethodName) ({ cls := "BrushGlassModel", name := "alikeDays", desc := "()I" } : Jvm.MethodName)) ∈ lw_all := lw_g (lw_at lw_m10 87 rfl) rfl
theorem q2377 : (Jvm.Cond.code ({ cls := "BrushGlassModel", name := "alikeDays", desc := "()I" } : Jvm.MethodName) prog_24_method_84_code (1 : Nat) (Option.some Jvm.ClassFile.FieldType.int)) ∈ lw_all := lw_g (lw_at lw_m10 88 rfl) rfl
theorem q2378 : (Jvm.Cond.methodLink "BrushGlassModel" (480 : Nat) ({ cls := "BrushGlassModel", name := "alikeInAll", desc := "()I" } : Jvm.MethodName)) ∈ lw_all := lw_g (lw_at lw_m10 89 rfl) rfl
theorem q2379 : (Jvm.Cond.privateMethod ({ cls := "BrushGlassModel", name := "alikeInAll", desc := "()I" } : Jvm.MethodName)) ∈ lw_tbl := lw_at lw_m10 90 rfl
theorem q2380 : (Jvm.Cond.instanceMethod ({ cls := "BrushGlassModel", name := "alikeInAll", desc := "()I" } : Jvm.MethodName)) ∈ lw_all := lw_g (lw_at lw_m10 91 rfl) rfl
theorem q2381 : (Jvm.Cond.code ({ cls := "BrushGlassModel", name := "alikeInAll", desc := "()I" } : Jvm.MethodName) prog_24_method_82_code (3 : Nat) (Option.some Jvm.ClassFile.FieldType.int)) ∈ lw_all := lw_g (lw_at lw_m10 92 rfl) rfl
theorem q2383 : (Jvm.Cond.instanceMethod ({ cls := "BrushGlassModel", name := "notches", desc := "()I" } : Jvm.MethodName)) ∈ lw_all := lw_g (lw_at lw_m10 94 rfl) rfl
theorem q2384 : (Jvm.Cond.selects "BrushGlassModel" ({ cls := "BrushGlassModel", name := "notches", desc := "()I" } : Jvm.MethodName) ({ cls := "BrushGlassModel", name := "notches", desc := "()I" } : Jvm.MethodName)) ∈ lw_all := lw_g (lw_at lw_m10 95 rfl) rfl
theorem q2385 : (Jvm.Cond.code ({ cls := "BrushGlassModel", name := "notches", desc := "()I" } : Jvm.MethodName) prog_24_method_85_code (6 : Nat) (Option.some Jvm.ClassFile.FieldType.int)) ∈ lw_all := lw_g (lw_at lw_m10 96 rfl) rfl
theorem q2387 : (Jvm.Cond.instanceMethod ({ cls := "BrushGlassModel", name := "byHabit", desc := "(I)I" } : Jvm.MethodName)) ∈ lw_all := lw_g (lw_at lw_m10 98 rfl) rfl
theorem q2388 : (Jvm.Cond.selects "BrushGlassModel" ({ cls := "BrushGlassModel", name := "byHabit", desc := "(I)I" } : Jvm.MethodName) ({ cls := "BrushGlassModel", name := "byHabit", desc := "(I)I" } : Jvm.MethodName)) ∈ lw_all := lw_g (lw_at lw_m10 99 rfl) rfl
theorem q2389 : (Jvm.Cond.code ({ cls := "BrushGlassModel", name := "byHabit", desc := "(I)I" } : Jvm.MethodName) prog_24_method_88_code (2 : Nat) (Option.some Jvm.ClassFile.FieldType.int)) ∈ lw_all := lw_g (lw_at lw_m10 100 rfl) rfl
theorem q2390 : (Jvm.Cond.methodLink "BrushGlassModel" (483 : Nat) ({ cls := "BrushGlassModel", name := "daysByHabit", desc := "(I)I" } : Jvm.MethodName)) ∈ lw_all := lw_g (lw_at lw_m10 101 rfl) rfl
theorem q2391 : (Jvm.Cond.privateMethod ({ cls := "BrushGlassModel", name := "daysByHabit", desc := "(I)I" } : Jvm.MethodName)) ∈ lw_tbl := lw_at lw_m10 102 rfl
theorem q2392 : (Jvm.Cond.instanceMethod ({ cls := "BrushGlassModel", name := "daysByHabit", desc := "(I)I" } : Jvm.MethodName)) ∈ lw_all := lw_g (lw_at lw_m10 103 rfl) rfl
theorem q2393 : (Jvm.Cond.code ({ cls := "BrushGlassModel", name := "daysByHabit", desc := "(I)I" } : Jvm.MethodName) prog_24_method_86_code (2 : Nat) (Option.some Jvm.ClassFile.FieldType.int)) ∈ lw_all := lw_g (lw_at lw_m10 104 rfl) rfl
theorem q2395 : (Jvm.Cond.instanceMethod ({ cls := "BrushGlassModel", name := "bestHabit", desc := "()I" } : Jvm.MethodName)) ∈ lw_all := lw_g (lw_at lw_m10 106 rfl) rfl
theorem q2396 : (Jvm.Cond.selects "BrushGlassModel" ({ cls := "BrushGlassModel", name := "bestHabit", desc := "()I" } : Jvm.MethodName) ({ cls := "BrushGlassModel", name := "bestHabit", desc := "()I" } : Jvm.MethodName)) ∈ lw_all := lw_g (lw_at lw_m10 107 rfl) rfl
theorem q2397 : (Jvm.Cond.code ({ cls := "BrushGlassModel", name := "bestHabit", desc := "()I" } : Jvm.MethodName) prog_24_method_89_code (3 : Nat) (Option.some Jvm.ClassFile.FieldType.int)) ∈ lw_all := lw_g (lw_at lw_m10 108 rfl) rfl
theorem q2399 : (Jvm.Cond.instanceMethod ({ cls := "BrushGlassModel", name := "byKind", desc := "(I)I" } : Jvm.MethodName)) ∈ lw_all := lw_g (lw_at lw_m10 110 rfl) rfl
theorem q2400 : (Jvm.Cond.selects "BrushGlassModel" ({ cls := "BrushGlassModel", name := "byKind", desc := "(I)I" } : Jvm.MethodName) ({ cls := "BrushGlassModel", name := "byKind", desc := "(I)I" } : Jvm.MethodName)) ∈ lw_all := lw_g (lw_at lw_m10 111 rfl) rfl
theorem q2401 : (Jvm.Cond.code ({ cls := "BrushGlassModel", name := "byKind", desc := "(I)I" } : Jvm.MethodName) prog_24_method_90_code (2 : Nat) (Option.some Jvm.ClassFile.FieldType.int)) ∈ lw_all := lw_g (lw_at lw_m10 112 rfl) rfl
theorem q2402 : (Jvm.Cond.methodLink "BrushGlassModel" (486 : Nat) ({ cls := "BrushGlassModel", name := "sharedByKind", desc := "(I)I" } : Jvm.MethodName)) ∈ lw_all := lw_g (lw_at lw_m10 113 rfl) rfl
theorem q2403 : (Jvm.Cond.privateMethod ({ cls := "BrushGlassModel", name := "sharedByKind", desc := "(I)I" } : Jvm.MethodName)) ∈ lw_tbl := lw_at lw_m10 114 rfl
theorem q2404 : (Jvm.Cond.instanceMethod ({ cls := "BrushGlassModel", name := "sharedByKind", desc := "(I)I" } : Jvm.MethodName)) ∈ lw_all := lw_g (lw_at lw_m10 115 rfl) rfl
theorem q2405 : (Jvm.Cond.code ({ cls := "BrushGlassModel", name := "sharedByKind", desc := "(I)I" } : Jvm.MethodName) prog_24_method_87_code (2 : Nat) (Option.some Jvm.ClassFile.FieldType.int)) ∈ lw_all := lw_g (lw_at lw_m10 116 rfl) rfl
theorem q2407 : (Jvm.Cond.instanceMethod ({ cls := "BrushGlassModel", name := "bestKind", desc := "()I" } : Jvm.MethodName)) ∈ lw_all := lw_g (lw_at lw_m10 118 rfl) rfl
theorem q2408 : (Jvm.Cond.selects "BrushGlassModel" ({ cls := "BrushGlassModel", name := "bestKind", desc := "()I" } : Jvm.MethodName) ({ cls := "BrushGlassModel", name := "bestKind", desc := "()I" } : Jvm.MethodName)) ∈ lw_all := lw_g (lw_at lw_m10 119 rfl) rfl
theorem q2409 : (Jvm.Cond.code ({ cls := "BrushGlassModel", name := "bestKind", desc := "()I" } : Jvm.MethodName) prog_24_method_91_code (3 : Nat) (Option.some Jvm.ClassFile.FieldType.int)) ∈ lw_all := lw_g (lw_at lw_m10 120 rfl) rfl
theorem q2411 : (Jvm.Cond.instanceMethod ({ cls := "BrushGlassModel", name := "colours", desc := "()I" } : Jvm.MethodName)) ∈ lw_all := lw_g (lw_at lw_m10 122 rfl) rfl
theorem q2412 : (Jvm.Cond.selects "BrushGlassModel" ({ cls := "BrushGlassModel", name := "colours", desc := "()I" } : Jvm.MethodName) ({ cls := "BrushGlassModel", name := "colours", desc := "()I" } : Jvm.MethodName)) ∈ lw_all := lw_g (lw_at lw_m10 123 rfl) rfl
theorem q2413 : (Jvm.Cond.code ({ cls := "BrushGlassModel", name := "colours", desc := "()I" } : Jvm.MethodName) prog_24_method_96_code (1 : Nat) (Option.some Jvm.ClassFile.FieldType.int)) ∈ lw_all := lw_g (lw_at lw_m10 124 rfl) rfl
theorem q2414 : (Jvm.Cond.methodLink "BrushGlassModel" (498 : Nat) ({ cls := "BrushGlassModel", name := "fewestColours", desc := "()I" } : Jvm.MethodName)) ∈ lw_all := lw_g (lw_at lw_m10 125 rfl) rfl
theorem q2415 : (Jvm.Cond.privateMethod ({ cls := "BrushGlassModel", name := "fewestColours", desc := "()I" } : Jvm.MethodName)) ∈ lw_tbl := lw_at lw_m10 126 rfl
theorem q2416 : (Jvm.Cond.instanceMethod ({ cls := "BrushGlassModel", name := "fewestColours", desc := "()I" } : Jvm.MethodName)) ∈ lw_all := lw_g (lw_at lw_m10 127 rfl) rfl
theorem q2417 : (Jvm.Cond.code ({ cls := "BrushGlassModel", name := "fewestColours", desc := "()I" } : Jvm.MethodName) prog_24_method_95_code (2 : Nat) (Option.some Jvm.ClassFile.FieldType.int)) ∈ lw_all := lw_g (lw_at lw_m10 128 rfl) rfl
theorem q2418 : (Jvm.Cond.methodLink "BrushGlassModel" (495 : Nat) ({ cls := "BrushGlassModel", name := "gives", desc := "(I)Z" } : Jvm.MethodName)) ∈ lw_all := lw_g (lw_at lw_m10 129 rfl) rfl
theorem q2419 : (Jvm.Cond.privateMethod ({ cls := "BrushGlassModel", name := "gives", desc := "(I)Z" } : Jvm.MethodName)) ∈ lw_tbl := lw_at lw_m10 130 rfl
theorem q2420 : (Jvm.Cond.instanceMethod ({ cls := "BrushGlassModel", name := "gives", desc := "(I)Z" } : Jvm.MethodName)) ∈ lw_all := lw_g (lw_at lw_m10 131 rfl) rfl
theorem q2421 : (Jvm.Cond.code ({ cls := "BrushGlassModel", name := "gives", desc := "(I)Z" } : Jvm.MethodName) prog_24_method_94_code (4 : Nat) (Option.some Jvm.ClassFile.FieldType.boolean)) ∈ lw_all := lw_g (lw_at lw_m10 132 rfl) rfl
theorem q2422 : (Jvm.Cond.methodLink "BrushGlassModel" (492 : Nat) ({ cls := "BrushGlassModel", name := "isGood", desc := "(I)Z" } : Jvm.MethodName)) ∈ lw_all := lw_g (lw_at lw_m10 133 rfl) rfl
theorem q2423 : (Jvm.Cond.privateMethod ({ cls := "BrushGlassModel", name := "isGood", desc := "(I)Z" } : Jvm.MethodName)) ∈ lw_tbl := lw_at lw_m10 134 rfl
theorem q2424 : (Jvm.Cond.instanceMethod ({ cls := "BrushGlassModel", name := "isGood", desc := "(I)Z" } : Jvm.MethodName)) ∈ lw_all := lw_g (lw_at lw_m10 135 rfl) rfl
theorem q2425 : (Jvm.Cond.code ({ cls := "BrushGlassModel", name := "isGood", desc := "(I)Z" } : Jvm.MethodName) prog_24_method_93_code (3 : Nat) (Option.some Jvm.ClassFile.FieldType.boolean)) ∈ lw_all := lw_g (lw_at lw_m10 136 rfl) rfl
theorem q2426 : (Jvm.Cond.methodLink "BrushGlassModel" (489 : Nat) ({ cls := "BrushGlassModel", name := "areTogether", desc := "(II)Z" } : Jvm.MethodName)) ∈ lw_all := lw_g (lw_at lw_m10 137 rfl) rfl
theorem q2427 : (Jvm.Cond.privateMethod ({ cls := "BrushGlassModel", name := "areTogether", desc := "(II)Z" } : Jvm.MethodName)) ∈ lw_tbl := lw_at lw_m10 138 rfl
theorem q2428 : (Jvm.Cond.instanceMethod ({ cls := "BrushGlassModel", name := "areTogether", desc := "(II)Z" } : Jvm.MethodName)) ∈ lw_all := lw_g (lw_at lw_m10 139 rfl) rfl
theorem q2429 : (Jvm.Cond.code ({ cls := "BrushGlassModel", name := "areTogether", desc := "(II)Z" } : Jvm.MethodName) prog_24_method_92_code (4 : Nat) (Option.some Jvm.ClassFile.FieldType.boolean)) ∈ lw_all := lw_g (lw_at lw_m10 140 rfl) rfl
theorem q2431 : (Jvm.Cond.instanceMethod ({ cls := "BrushGlassModel", name := "colourOf", desc := "(I)I" } : Jvm.MethodName)) ∈ lw_all := lw_g (lw_at lw_m10 142 rfl) rfl
theorem q2432 : (Jvm.Cond.selects "BrushGlassModel" ({ cls := "BrushGlassModel", name := "colourOf", desc := "(I)I" } : Jvm.MethodName) ({ cls := "BrushGlassModel", name := "colourOf", desc := "(I)I" } : Jvm.MethodName)) ∈ lw_all := lw_g (lw_at lw_m10 143 rfl) rfl
theorem q2433 : (Jvm.Cond.code ({ cls := "BrushGlassModel", name := "colourOf", desc := "(I)I" } : Jvm.MethodName) prog_24_method_97_code (2 : Nat) (Option.some Jvm.ClassFile.FieldType.int)) ∈ lw_all := lw_g (lw_at lw_m10 144 rfl) rfl
theorem q2435 : (Jvm.Cond.instanceMethod ({ cls := "BrushGlassModel", name := "judge", desc := "()I" } : Jvm.MethodName)) ∈ lw_all := lw_g (lw_at lw_m10 146 rfl) rfl
theorem q2436 : (Jvm.Cond.selects "BrushGlassModel" ({ cls := "BrushGlassModel", name := "judge", desc := "()I" } : Jvm.MethodName) ({ cls := "BrushGlassModel", name := "judge", desc := "()I" } : Jvm.MethodName)) ∈ lw_all := lw_g (lw_at lw_m10 147 rfl) rfl
theorem q2437 : (Jvm.Cond.code ({ cls := "BrushGlassModel", name := "judge", desc := "()I" } : Jvm.MethodName) prog_24_method_100_code (1 : Nat) (Option.some Jvm.ClassFile.FieldType.int)) ∈ lw_all := lw_g (lw_at lw_m10 148 rfl) rfl
theorem q2438 : (Jvm.Cond.methodLink "BrushGlassModel" (504 : Nat) ({ cls := "BrushGlassModel", name := "firstWrong", desc := "()I" } : Jvm.MethodName)) ∈ lw_all := lw_g (lw_at lw_m10 149 rfl) rfl
theorem q2439 : (Jvm.Cond.privateMethod ({ cls := "BrushGlassModel", name := "firstWrong", desc := "()I" } : Jvm.MethodName)) ∈ lw_tbl := lw_at lw_m10 150 rfl
theorem q2440 : (Jvm.Cond.instanceMethod ({ cls := "BrushGlassModel", name := "firstWrong", desc := "()I" } : Jvm.MethodName)) ∈ lw_all := lw_g (lw_at lw_m10 151 rfl) rfl
theorem q2441 : (Jvm.Cond.code ({ cls := "BrushGlassModel", name := "firstWrong", desc := "()I" } : Jvm.MethodName) prog_24_method_99_code (2 : Nat) (Option.some Jvm.ClassFile.FieldType.int)) ∈ lw_all := lw_g (lw_at lw_m10 152 rfl) rfl
theorem q2442 : (Jvm.Cond.methodLink "BrushGlassModel" (501 : Nat) ({ cls := "BrushGlassModel", name := "wrongPlace", desc := "(I)I" } : Jvm.MethodName)) ∈ lw_all := lw_g (lw_at lw_m10 153 rfl) rfl
theorem q2443 : (Jvm.Cond.privateMethod ({ cls := "BrushGlassModel", name := "wrongPlace", desc := "(I)I" } : Jvm.MethodName)) ∈ lw_tbl := lw_at lw_m10 154 rfl
theorem q2444 : (Jvm.Cond.instanceMethod ({ cls := "BrushGlassModel", name := "wrongPlace", desc := "(I)I" } : Jvm.MethodName)) ∈ lw_all := lw_g (lw_at lw_m10 155 rfl) rfl
theorem q2445 : (Jvm.Cond.code ({ cls := "BrushGlassModel", name := "wrongPlace", desc := "(I)I" } : Jvm.MethodName) prog_24_method_98_code (3 : Nat) (Option.some Jvm.ClassFile.FieldType.int)) ∈ lw_all := lw_g (lw_at lw_m10 156 rfl) rfl
theorem q2447 : (Jvm.Cond.instanceMethod ({ cls := "BrushGlassModel", name := "judgeAt", desc := "(I)I" } : Jvm.MethodName)) ∈ lw_all := lw_g (lw_at lw_m10 158 rfl) rfl
theorem q2448 : (Jvm.Cond.selects "BrushGlassModel" ({ cls := "BrushGlassModel", name := "judgeAt", desc := "(I)I" } : Jvm.MethodName) ({ cls := "BrushGlassModel", name := "judgeAt", desc := "(I)I" } : Jvm.MethodName)) ∈ lw_all := lw_g (lw_at lw_m10 159 rfl) rfl
theorem q2449 : (Jvm.Cond.code ({ cls := "BrushGlassModel", name := "judgeAt", desc := "(I)I" } : Jvm.MethodName) prog_24_method_101_code (2 : Nat) (Option.some Jvm.ClassFile.FieldType.int)) ∈ lw_all := lw_g (lw_at lw_m10 160 rfl) rfl
theorem q2451 : (Jvm.Cond.instanceMethod ({ cls := "BrushGlassModel", name := "explains", desc := "()I" } : Jvm.MethodName)) ∈ lw_all := lw_g (lw_at lw_m10 162 rfl) rfl
theorem q2452 : (Jvm.Cond.selects "BrushGlassModel" ({ cls := "BrushGlassModel", name := "explains", desc := "()I" } : Jvm.MethodName) ({ cls := "BrushGlassModel", name := "explains", desc := "()I" } : Jvm.MethodName)) ∈ lw_all := lw_g (lw_at lw_m10 163 rfl) rfl
theorem q2453 : (Jvm.Cond.code ({ cls := "BrushGlassModel", name := "explains", desc := "()I" } : Jvm.MethodName) prog_24_method_104_code (2 : Nat) (Option.some Jvm.ClassFile.FieldType.int)) ∈ lw_all := lw_g (lw_at lw_m10 164 rfl) rfl
theorem q2454 : (Jvm.Cond.methodLink "BrushGlassModel" (516 : Nat) ({ cls := "BrushGlassModel", name := "refusesExplain", desc := "()I" } : Jvm.MethodName)) ∈ lw_all := lw_g (lw_at lw_m10 165 rfl) rfl
theorem q2455 : (Jvm.Cond.privateMethod ({ cls := "BrushGlassModel", name := "refusesExplain", desc := "()I" } : Jvm.MethodName)) ∈ lw_tbl := lw_at lw_m10 166 rfl
theorem q2456 : (Jvm.Cond.instanceMethod ({ cls := "BrushGlassModel", name := "refusesExplain", desc := "()I" } : Jvm.MethodName)) ∈ lw_all := lw_g (lw_at lw_m10 167 rfl) rfl
theorem q2457 : (Jvm.Cond.code ({ cls := "BrushGlassModel", name := "refusesExplain", desc := "()I" } : Jvm.MethodName) prog_24_method_103_code (1 : Nat) (Option.some Jvm.ClassFile.FieldType.int)) ∈ lw_all := lw_g (lw_at lw_m10 168 rfl) rfl
theorem q2458 : (Jvm.Cond.methodLink "BrushGlassModel" (519 : Nat) ({ cls := "BrushGlassModel", name := "explaining", desc := "(I)I" } : Jvm.MethodName)) ∈ lw_all := lw_g (lw_at lw_m10 169 rfl) rfl
theorem q2459 : (Jvm.Cond.privateMethod ({ cls := "BrushGlassModel", name := "explaining", desc := "(I)I" } : Jvm.MethodName)) ∈ lw_tbl := lw_at lw_m10 170 rfl
theorem q2460 : (Jvm.Cond.instanceMethod ({ cls := "BrushGlassModel", name := "explaining", desc := "(I)I" } : Jvm.MethodName)) ∈ lw_all := lw_g (lw_at lw_m10 171 rfl) rfl
theorem q2461 : (Jvm.Cond.code ({ cls := "BrushGlassModel", name := "explaining", desc := "(I)I" } : Jvm.MethodName) prog_24_method_102_code (6 : Nat) (Option.some Jvm.ClassFile.FieldType.int)) ∈ lw_all := lw_g (lw_at lw_m10 172 rfl) rfl
theorem q2463 : (Jvm.Cond.instanceMethod ({ cls := "BrushGlassModel", name := "explain", desc := "(II)I" } : Jvm.MethodName)) ∈ lw_all := lw_g (lw_at lw_m10 174 rfl) rfl
theorem q2464 : (Jvm.Cond.selects "BrushGlassModel" ({ cls := "BrushGlassModel", name := "explain", desc := "(II)I" } : Jvm.MethodName) ({ cls := "BrushGlassModel", name := "explain", desc := "(II)I" } : Jvm.MethodName)) ∈ lw_all := lw_g (lw_at lw_m10 175 rfl) rfl
theorem q2465 : (Jvm.Cond.code ({ cls := "BrushGlassModel", name := "explain", desc := "(II)I" } : Jvm.MethodName) prog_24_method_105_code (4 : Nat) (Option.some Jvm.ClassFile.FieldType.int)) ∈ lw_all := lw_g (lw_at lw_m10 176 rfl) rfl
theorem q2467 : (Jvm.Cond.instanceMethod ({ cls := "BrushGlassModel", name := "isTrue", desc := "(I)I" } : Jvm.MethodName)) ∈ lw_all := lw_g (lw_at lw_m10 178 rfl) rfl
theorem q2468 : (Jvm.Cond.selects "BrushGlassModel" ({ cls := "BrushGlassModel", name := "isTrue", desc := "(I)I" } : Jvm.MethodName) ({ cls := "BrushGlassModel", name := "isTrue", desc := "(I)I" } : Jvm.MethodName)) ∈ lw_all := lw_g (lw_at lw_m10 179 rfl) rfl
theorem q2469 : (Jvm.Cond.code ({ cls := "BrushGlassModel", name := "isTrue", desc := "(I)I" } : Jvm.MethodName) prog_24_method_107_code (2 : Nat) (Option.some Jvm.ClassFile.FieldType.int)) ∈ lw_all := lw_g (lw_at lw_m10 180 rfl) rfl
theorem q2470 : (Jvm.Cond.methodLink "BrushGlassModel" (522 : Nat) ({ cls := "BrushGlassModel", name := "holds", desc := "(I)Z" } : Jvm.MethodName)) ∈ lw_all := lw_g (lw_at lw_m10 181 rfl) rfl
theorem q2471 : (Jvm.Cond.privateMethod ({ cls := "BrushGlassModel", name := "holds", desc := "(I)Z" } : Jvm.MethodName)) ∈ lw_tbl := lw_at lw_m10 182 rfl
theorem q2472 : (Jvm.Cond.instanceMethod ({ cls := "BrushGlassModel", name := "holds", desc := "(I)Z" } : Jvm.MethodName)) ∈ lw_all := lw_g (lw_at lw_m10 183 rfl) rfl
theorem q2473 : (Jvm.Cond.code ({ cls := "BrushGlassModel", name := "holds", desc := "(I)Z" } : Jvm.MethodName) prog_24_method_106_code (2 : Nat) (Option.some Jvm.ClassFile.FieldType.boolean)) ∈ lw_all := lw_g (lw_at lw_m10 184 rfl) rfl
theorem q2475 : (Jvm.Cond.instanceMethod ({ cls := "BrushGlassModel", name := "wrongOnes", desc := "()I" } : Jvm.MethodName)) ∈ lw_all := lw_g (lw_at lw_m10 186 rfl) rfl
theorem q2476 : (Jvm.Cond.selects "BrushGlassModel" ({ cls := "BrushGlassModel", name := "wrongOnes", desc := "()I" } : Jvm.MethodName) ({ cls := "BrushGlassModel", name := "wrongOnes", desc := "()I" } : Jvm.MethodName)) ∈ lw_all := lw_g (lw_at lw_m10 187 rfl) rfl
theorem q2477 : (Jvm.Cond.code ({ cls := "BrushGlassModel", name := "wrongOnes", desc := "()I" } : Jvm.MethodName) prog_24_method_108_code (3 : Nat) (Option.some Jvm.ClassFile.FieldType.int)) ∈ lw_all := lw_g (lw_at lw_m10 188 rfl) rfl
theorem q2479 : (Jvm.Cond.instanceMethod ({ cls := "BrushGlassModel", name := "pairings", desc := "(I)I" } : Jvm.MethodName)) ∈ lw_all := lw_g (lw_at lw_m10 190 rfl) rfl
theorem q2480 : (Jvm.Cond.selects "BrushGlassModel" ({ cls := "BrushGlassModel", name := "pairings", desc := "(I)I" } : Jvm.MethodName) ({ cls := "BrushGlassModel", name := "pairings", desc := "(I)I" } : Jvm.MethodName)) ∈ lw_all := lw_g (lw_at lw_m10 191 rfl) rfl
theorem q2481 : (Jvm.Cond.code ({ cls := "BrushGlassModel", name := "pairings", desc := "(I)I" } : Jvm.MethodName) prog_24_method_112_code (3 : Nat) (Option.some Jvm.ClassFile.FieldType.int)) ∈ lw_all := lw_g (lw_at lw_m10 192 rfl) rfl
theorem q2482 : (Jvm.Cond.methodLink "BrushGlassModel" (537 : Nat) ({ cls := "BrushGlassModel", name := "pairs", desc := "(II)I" } : Jvm.MethodName)) ∈ lw_all := lw_g (lw_at lw_m10 193 rfl) rfl
theorem q2483 : (Jvm.Cond.privateMethod ({ cls := "BrushGlassModel", name := "pairs", desc := "(II)I" } : Jvm.MethodName)) ∈ lw_tbl := lw_at lw_m10 194 rfl
theorem q2484 : (Jvm.Cond.instanceMethod ({ cls := "BrushGlassModel", name := "pairs", desc := "(II)I" } : Jvm.MethodName)) ∈ lw_all := lw_g (lw_at lw_m10 195 rfl) rfl
theorem q2485 : (Jvm.Cond.code ({ cls := "BrushGlassModel", name := "pairs", desc := "(II)I" } : Jvm.MethodName) prog_24_method_111_code (8 : Nat) (Option.some Jvm.ClassFile.FieldType.int)) ∈ lw_all := lw_g (lw_at lw_m10 196 rfl) rfl
theorem q2486 : (Jvm.Cond.methodLink "BrushGlassModel" (528 : Nat) ({ cls := "BrushGlassModel", name := "laysWho", desc := "(I)V" } : Jvm.MethodName)) ∈ lw_all := lw_g (lw_at lw_m10 197 rfl) rfl
theorem q2487 : (Jvm.Cond.privateMethod ({ cls := "BrushGlassModel", name := "laysWho", desc := "(I)V" } : Jvm.MethodName)) ∈ lw_tbl := lw_at lw_m10 198 rfl
theorem q2488 : (Jvm.Cond.instanceMethod ({ cls := "BrushGlassModel", name := "laysWho", desc := "(I)V" } : Jvm.MethodName)) ∈ lw_all := lw_g (lw_at lw_m10 199 rfl) rfl
theorem q2489 : (Jvm.Cond.code ({ cls := "BrushGlassModel", name := "laysWho", desc := "(I)V" } : Jvm.MethodName) prog_24_method_110_code (3 : Nat) (Option.none : Option Jvm.ClassFile.FieldType)) ∈ lw_all := lw_g (lw_at lw_m10 200 rfl) rfl
theorem q2490 : (Jvm.Cond.methodLink "BrushGlassModel" (531 : Nat) ({ cls := "BrushGlassModel", name := "bit", desc := "(II)Z" } : Jvm.MethodName)) ∈ lw_all := lw_g (lw_at lw_m10 201 rfl) rfl
theorem q2491 : (Jvm.Cond.static ({ cls := "BrushGlassModel", name := "bit", desc := "(II)Z" } : Jvm.MethodName)) ∈ lw_all := lw_g (lw_at lw_m10 202 rfl) rfl
theorem q2492 : (Jvm.Cond.code ({ cls := "BrushGlassModel", name := "bit", desc := "(II)Z" } : Jvm.MethodName) prog_24_method_8_code (2 : Nat) (Option.some Jvm.ClassFile.FieldType.boolean)) ∈ lw_all := lw_g (lw_at lw_m10 203 rfl) rfl
theorem q2493 : (Jvm.Cond.methodLink "BrushGlassModel" (534 : Nat) ({ cls := "BrushGlassModel", name := "mayHave", desc := "(III)Z" } : Jvm.MethodName)) ∈ lw_all := lw_g (lw_at lw_m10 204 rfl) rfl
theorem q2494 : (Jvm.Cond.privateMethod ({ cls := "BrushGlassModel", name := "mayHave", desc := "(III)Z" } : Jvm.MethodName)) ∈ lw_tbl := lw_at lw_m10 205 rfl
theorem q2495 : (Jvm.Cond.instanceMethod ({ cls := "BrushGlassModel", name := "mayHave", desc := "(III)Z" } : Jvm.MethodName)) ∈ lw_all := lw_g (lw_at lw_m10 206 rfl) rfl
theorem q2496 : (Jvm.Cond.code ({ cls := "BrushGlassModel", name := "mayHave", desc := "(III)Z" } : Jvm.MethodName) prog_24_method_109_code (5 : Nat) (Option.some Jvm.ClassFile.FieldType.boolean)) ∈ lw_all := lw_g (lw_at lw_m10 207 rfl) rfl
theorem q2498 : (Jvm.Cond.instanceMethod ({ cls := "BrushGlassModel", name := "could", desc := "(II)I" } : Jvm.MethodName)) ∈ lw_all := lw_g (lw_at lw_m10 209 rfl) rfl
theorem q2499 : (Jvm.Cond.selects "BrushGlassModel" ({ cls := "BrushGlassModel", name := "could", desc := "(II)I" } : Jvm.MethodName) ({ cls := "BrushGlassModel", name := "could", desc := "(II)I" } : Jvm.MethodName)) ∈ lw_all := lw_g (lw_at lw_m10 210 rfl) rfl
theorem q2500 : (Jvm.Cond.code ({ cls := "BrushGlassModel", name := "could", desc := "(II)I" } : Jvm.MethodName) prog_24_method_113_code (4 : Nat) (Option.some Jvm.ClassFile.FieldType.int)) ∈ lw_all := lw_g (lw_at lw_m10 211 rfl) rfl
theorem q2502 : (Jvm.Cond.instanceMethod ({ cls := "BrushGlassModel", name := "surely", desc := "(II)I" } : Jvm.MethodName)) ∈ lw_all := lw_g (lw_at lw_m10 213 rfl) rfl
theorem q2503 : (Jvm.Cond.selects "BrushGlassModel" ({ cls := "BrushGlassModel", name := "surely", desc := "(II)I" } : Jvm.MethodName) ({ cls := "BrushGlassModel", name := "surely", desc := "(II)I" } : Jvm.MethodName)) ∈ lw_all := lw_g (lw_at lw_m10 214 rfl) rfl
theorem q2504 : (Jvm.Cond.code ({ cls := "BrushGlassModel", name := "surely", desc := "(II)I" } : Jvm.MethodName) prog_24_method_114_code (5 : Nat) (Option.some Jvm.ClassFile.FieldType.int)) ∈ lw_all := lw_g (lw_at lw_m10 215 rfl) rfl
theorem q2506 : (Jvm.Cond.instanceMethod ({ cls := "BrushGlassModel", name := "ask", desc := "(I)I" } : Jvm.MethodName)) ∈ lw_all := lw_g (lw_at lw_m10 217 rfl) rfl
theorem q2507 : (Jvm.Cond.selects "BrushGlassModel" ({ cls := "BrushGlassModel", name := "ask", desc := "(I)I" } : Jvm.MethodName) ({ cls := "BrushGlassModel", name := "ask", desc := "(I)I" } : Jvm.MethodName)) ∈ lw_all := lw_g (lw_at lw_m10 218 rfl) rfl
theorem q2508 : (Jvm.Cond.code ({ cls := "BrushGlassModel", name := "ask", desc := "(I)I" } : Jvm.MethodName) prog_24_method_115_code (6 : Nat) (Option.some Jvm.ClassFile.FieldType.int)) ∈ lw_all := lw_g (lw_at lw_m10 219 rfl) rfl
theorem q2510 : (Jvm.Cond.instanceMethod ({ cls := "BrushGlassModel", name := "drift", desc := "(IIZ)J" } : Jvm.MethodName)) ∈ lw_all := lw_g (lw_at lw_m10 221 rfl) rfl
theorem q2511 : (Jvm.Cond.selects "BrushGlassModel" ({ cls := "BrushGlassModel", name := "drift", desc := "(IIZ)J" } : Jvm.MethodName) ({ cls := "BrushGlassModel", name := "drift", desc := "(IIZ)J" } : Jvm.MethodName)) ∈ lw_all := lw_g (lw_at lw_m10 222 rfl) rfl
theorem q2512 : (Jvm.Cond.code ({ cls := "BrushGlassModel", name := "drift", desc := "(IIZ)J" } : Jvm.MethodName) prog_24_method_116_code (12 : Nat) (Option.some Jvm.ClassFile.FieldType.long)) ∈ lw_all := lw_g (lw_at lw_m10 223 rfl) rfl
theorem q2513 : (Jvm.Cond.constantLong "BrushGlassModel" (540 : Nat) (100 : Int64)) ∈ lw_all := lw_g (lw_at lw_m10 224 rfl) rfl
theorem q2515 : (Jvm.Cond.instanceMethod ({ cls := "BrushGlassModel", name := "move", desc := "(III)Z" } : Jvm.MethodName)) ∈ lw_all := lw_g (lw_at lw_m10 226 rfl) rfl
theorem q2516 : (Jvm.Cond.selects "BrushGlassModel" ({ cls := "BrushGlassModel", name := "move", desc := "(III)Z" } : Jvm.MethodName) ({ cls := "BrushGlassModel", name := "move", desc := "(III)Z" } : Jvm.MethodName)) ∈ lw_all := lw_g (lw_at lw_m10 227 rfl) rfl
theorem q2517 : (Jvm.Cond.code ({ cls := "BrushGlassModel", name := "move", desc := "(III)Z" } : Jvm.MethodName) prog_24_method_119_code (4 : Nat) (Option.some Jvm.ClassFile.FieldType.boolean)) ∈ lw_all := lw_g (lw_at lw_m10 228 rfl) rfl
theorem q2518 : (Jvm.Cond.methodLink "BrushGlassModel" (542 : Nat) ({ cls := "BrushGlassModel", name := "denied", desc := "(I)Z" } : Jvm.MethodName)) ∈ lw_all := lw_g (lw_at lw_m10 229 rfl) rfl
theorem q2519 : (Jvm.Cond.privateMethod ({ cls := "BrushGlassModel", name := "denied", desc := "(I)Z" } : Jvm.MethodName)) ∈ lw_tbl := lw_at lw_m10 230 rfl
theorem q2520 : (Jvm.Cond.instanceMethod ({ cls := "BrushGlassModel", name := "denied", desc := "(I)Z" } : Jvm.MethodName)) ∈ lw_all := lw_g (lw_at lw_m10 231 rfl) rfl
theorem q2521 : (Jvm.Cond.code ({ cls := "BrushGlassModel", name := "denied", desc := "(I)Z" } : Jvm.MethodName) prog_24_method_4_code (2 : Nat) (Option.some Jvm.ClassFile.FieldType.boolean)) ∈ lw_all := lw_g (lw_at lw_m10 232 rfl) rfl
theorem q2522 : (Jvm.Cond.methodLink "BrushGlassModel" (545 : Nat) ({ cls := "BrushGlassModel", name := "keepsAll", desc := "()V" } : Jvm.MethodName)) ∈ lw_all := lw_g (lw_at lw_m10 233 rfl) rfl
theorem q2523 : (Jvm.Cond.privateMethod ({ cls := "BrushGlassModel", name := "keepsAll", desc := "()V" } : Jvm.MethodName)) ∈ lw_tbl := lw_at lw_m10 234 rfl
theorem q2524 : (Jvm.Cond.instanceMethod ({ cls := "BrushGlassModel", name := "keepsAll", desc := "()V" } : Jvm.MethodName)) ∈ lw_all := lw_g (lw_at lw_m10 235 rfl) rfl
theorem q2525 : (Jvm.Cond.code ({ cls := "BrushGlassModel", name := "keepsAll", desc := "()V" } : Jvm.MethodName) prog_24_method_117_code (2 : Nat) (Option.none : Option Jvm.ClassFile.FieldType)) ∈ lw_all := lw_g (lw_at lw_m10 236 rfl) rfl
theorem q2526 : (Jvm.Cond.methodLink "BrushGlassModel" (548 : Nat) ({ cls := "BrushGlassModel", name := "adds", desc := "(III)V" } : Jvm.MethodName)) ∈ lw_all := lw_g (lw_at lw_m10 237 rfl) rfl
theorem q2527 : (Jvm.Cond.privateMethod ({ cls := "BrushGlassModel", name := "adds", desc := "(III)V" } : Jvm.MethodName)) ∈ lw_tbl := lw_at lw_m10 238 rfl
theorem q2528 : (Jvm.Cond.instanceMethod ({ cls := "BrushGlassModel", name := "adds", desc := "(III)V" } : Jvm.MethodName)) ∈ lw_all := lw_g (lw_at lw_m10 239 rfl) rfl
theorem q2529 : (Jvm.Cond.code ({ cls := "BrushGlassModel", name := "adds", desc := "(III)V" } : Jvm.MethodName) prog_24_method_118_code (5 : Nat) (Option.none : Option Jvm.ClassFile.FieldType)) ∈ lw_all := lw_g (lw_at lw_m11 0 rfl) rfl
theorem q2530 : (Jvm.Cond.methodLink "BrushGlassModel" (552 : Nat) ({ cls := "BrushGlassModel", name := "granted", desc := "()Z" } : Jvm.MethodName)) ∈ lw_all := lw_g (lw_at lw_m11 1 rfl) rfl
theorem q2531 : (Jvm.Cond.privateMethod ({ cls := "BrushGlassModel", name := "granted", desc := "()Z" } : Jvm.MethodName)) ∈ lw_tbl := lw_at lw_m11 2 rfl
theorem q2532 : (Jvm.Cond.instanceMethod ({ cls := "BrushGlassModel", name := "granted", desc := "()Z" } : Jvm.MethodName)) ∈ lw_all := lw_g (lw_at lw_m11 3 rfl) rfl
theorem q2533 : (Jvm.Cond.code ({ cls := "BrushGlassModel", name := "granted", desc := "()Z" } : Jvm.MethodName) prog_24_method_6_code (1 : Nat) (Option.some Jvm.ClassFile.FieldType.boolean)) ∈ lw_all := lw_g (lw_at lw_m11 4 rfl) rfl
theorem q2535 : (Jvm.Cond.instanceMethod ({ cls := "BrushGlassModel", name := "shake", desc := "()I" } : Jvm.MethodName)) ∈ lw_all := lw_g (lw_at lw_m11 6 rfl) rfl
theorem q2536 : (Jvm.Cond.selects "BrushGlassModel" ({ cls := "BrushGlassModel", name := "shake", desc := "()I" } : Jvm.MethodName) ({ cls := "BrushGlassModel", name := "shake", desc := "()I" } : Jvm.MethodName)) ∈ lw_all := lw_g (lw_at lw_m11 7 rfl) rfl
theorem q2537 : (Jvm.Cond.code ({ cls := "BrushGlassModel", name := "shake", desc := "()I" } : Jvm.MethodName) prog_24_method_121_code (3 : Nat) (Option.some Jvm.ClassFile.FieldType.int)) ∈ lw_all := lw_g (lw_at lw_m11 8 rfl) rfl
theorem q2538 : (Jvm.Cond.methodLink "BrushGlassModel" (561 : Nat) ({ cls := "BrushGlassModel", name := "drawn", desc := "()I" } : Jvm.MethodName)) ∈ lw_all := lw_g (lw_at lw_m11 9 rfl) rfl
theorem q2539 : (Jvm.Cond.privateMethod ({ cls := "BrushGlassModel", name := "drawn", desc := "()I" } : Jvm.MethodName)) ∈ lw_tbl := lw_at lw_m11 10 rfl
theorem q2540 : (Jvm.Cond.instanceMethod ({ cls := "BrushGlassModel", name := "drawn", desc := "()I" } : Jvm.MethodName)) ∈ lw_all := lw_g (lw_at lw_m11 11 rfl) rfl
theorem q2541 : (Jvm.Cond.code ({ cls := "BrushGlassModel", name := "drawn", desc := "()I" } : Jvm.MethodName) prog_24_method_120_code (1 : Nat) (Option.some Jvm.ClassFile.FieldType.int)) ∈ lw_all := lw_g (lw_at lw_m11 12 rfl) rfl
theorem q2542 : (Jvm.Cond.constantLong "BrushGlassModel" (555 : Nat) (75 : Int64)) ∈ lw_all := lw_g (lw_at lw_m11 13 rfl) rfl
theorem q2543 : (Jvm.Cond.constantLong "BrushGlassModel" (557 : Nat) (74 : Int64)) ∈ lw_all := lw_g (lw_at lw_m11 14 rfl) rfl
theorem q2544 : (Jvm.Cond.constantLong "BrushGlassModel" (559 : Nat) (65537 : Int64)) ∈ lw_all := lw_g (lw_at lw_m11 15 rfl) rfl
theorem q2546 : (Jvm.Cond.instanceMethod ({ cls := "BrushGlassModel", name := "kind", desc := "(II)Z" } : Jvm.MethodName)) ∈ lw_all := lw_g (lw_at lw_m11 17 rfl) rfl
theorem q2547 : (Jvm.Cond.selects "BrushGlassModel" ({ cls := "BrushGlassModel", name := "kind", desc := "(II)Z" } : Jvm.MethodName) ({ cls := "BrushGlassModel", name := "kind", desc := "(II)Z" } : Jvm.MethodName)) ∈ lw_all := lw_g (lw_at lw_m11 18 rfl) rfl
theorem q2548 : (Jvm.Cond.code ({ cls := "BrushGlassModel", name := "kind", desc := "(II)Z" } : Jvm.MethodName) prog_24_method_123_code (3 : Nat) (Option.some Jvm.ClassFile.FieldType.boolean)) ∈ lw_all := lw_g (lw_at lw_m11 19 rfl) rfl
theorem q2549 : (Jvm.Cond.methodLink "BrushGlassModel" (564 : Nat) ({ cls := "BrushGlassModel", name := "changes", desc := "(II)Z" } : Jvm.MethodName)) ∈ lw_all := lw_g (lw_at lw_m11 20 rfl) rfl
theorem q2550 : (Jvm.Cond.privateMethod ({ cls := "BrushGlassModel", name := "changes", desc := "(II)Z" } : Jvm.MethodName)) ∈ lw_tbl := lw_at lw_m11 21 rfl
theorem q2551 : (Jvm.Cond.instanceMethod ({ cls := "BrushGlassModel", name := "changes", desc := "(II)Z" } : Jvm.MethodName)) ∈ lw_all := lw_g (lw_at lw_m11 22 rfl) rfl
theorem q2552 : (Jvm.Cond.code ({ cls := "BrushGlassModel", name := "changes", desc := "(II)Z" } : Jvm.MethodName) prog_24_method_122_code (3 : Nat) (Option.some Jvm.ClassFile.FieldType.boolean)) ∈ lw_all := lw_g (lw_at lw_m11 23 rfl) rfl
theorem q2554 : (Jvm.Cond.instanceMethod ({ cls := "BrushGlassModel", name := "habit", desc := "(II)Z" } : Jvm.MethodName)) ∈ lw_all := lw_g (lw_at lw_m11 25 rfl) rfl
theorem q2555 : (Jvm.Cond.selects "BrushGlassModel" ({ cls := "BrushGlassModel", name := "habit", desc := "(II)Z" } : Jvm.MethodName) ({ cls := "BrushGlassModel", name := "habit", desc := "(II)Z" } : Jvm.MethodName)) ∈ lw_all := lw_g (lw_at lw_m11 26 rfl) rfl
theorem q2556 : (Jvm.Cond.code ({ cls := "BrushGlassModel", name := "habit", desc := "(II)Z" } : Jvm.MethodName) prog_24_method_124_code (3 : Nat) (Option.some Jvm.ClassFile.FieldType.boolean)) ∈ lw_all := lw_g (lw_at lw_m11 27 rfl) rfl
theorem q2558 : (Jvm.Cond.instanceMethod ({ cls := "BrushGlassModel", name := "keep", desc := "(II)Z" } : Jvm.MethodName)) ∈ lw_all := lw_g (lw_at lw_m11 29 rfl) rfl
theorem q2559 : (Jvm.Cond.selects "BrushGlassModel" ({ cls := "BrushGlassModel", name := "keep", desc := "(II)Z" } : Jvm.MethodName) ({ cls := "BrushGlassModel", name := "keep", desc := "(II)Z" } : Jvm.MethodName)) ∈ lw_all := lw_g (lw_at lw_m11 30 rfl) rfl
theorem q2560 : (Jvm.Cond.code ({ cls := "BrushGlassModel", name := "keep", desc := "(II)Z" } : Jvm.MethodName) prog_24_method_125_code (3 : Nat) (Option.some Jvm.ClassFile.FieldType.boolean)) ∈ lw_all := lw_g (lw_at lw_m11 31 rfl) rfl
theorem q2562 : (Jvm.Cond.instanceMethod ({ cls := "BrushGlassModel", name := "seed", desc := "(I)Z" } : Jvm.MethodName)) ∈ lw_all := lw_g (lw_at lw_m11 33 rfl) rfl
theorem q2563 : (Jvm.Cond.selects "BrushGlassModel" ({ cls := "BrushGlassModel", name := "seed", desc := "(I)Z" } : Jvm.MethodName) ({ cls := "BrushGlassModel", name := "seed", desc := "(I)Z" } : Jvm.MethodName)) ∈ lw_all := lw_g (lw_at lw_m11 34 rfl) rfl
theorem q2564 : (Jvm.Cond.code ({ cls := "BrushGlassModel", name := "seed", desc := "(I)Z" } : Jvm.MethodName) prog_24_method_126_code (2 : Nat) (Option.some Jvm.ClassFile.FieldType.boolean)) ∈ lw_all := lw_g (lw_at lw_m11 35 rfl) rfl
theorem q2565 : (Jvm.Cond.constant "BrushGlassModel" (567 : Nat) (65536 : Int32)) ∈ lw_all := lw_g (lw_at lw_m11 36 rfl) rfl
theorem q2567 : (Jvm.Cond.instanceMethod ({ cls := "BrushGlassModel", name := "undo", desc := "()Z" } : Jvm.MethodName)) ∈ lw_all := lw_g (lw_at lw_m11 38 rfl) rfl
theorem q2568 : (Jvm.Cond.selects "BrushGlassModel" ({ cls := "BrushGlassModel", name := "undo", desc := "()Z" } : Jvm.MethodName) ({ cls := "BrushGlassModel", name := "undo", desc := "()Z" } : Jvm.MethodName)) ∈ lw_all := lw_g (lw_at lw_m11 39 rfl) rfl
theorem q2569 : (Jvm.Cond.code ({ cls := "BrushGlassModel", name := "undo", desc := "()Z" } : Jvm.MethodName) prog_24_method_127_code (2 : Nat) (Option.some Jvm.ClassFile.FieldType.boolean)) ∈ lw_all := lw_g (lw_at lw_m11 40 rfl) rfl
theorem q2571 : (Jvm.Cond.instanceMethod ({ cls := "BrushGlassModel", name := "mark", desc := "()I" } : Jvm.MethodName)) ∈ lw_all := lw_g (lw_at lw_m11 42 rfl) rfl
theorem q2572 : (Jvm.Cond.selects "BrushGlassModel" ({ cls := "BrushGlassModel", name := "mark", desc := "()I" } : Jvm.MethodName) ({ cls := "BrushGlassModel", name := "mark", desc := "()I" } : Jvm.MethodName)) ∈ lw_all := lw_g (lw_at lw_m11 43 rfl) rfl
theorem q2573 : (Jvm.Cond.code ({ cls := "BrushGlassModel", name := "mark", desc := "()I" } : Jvm.MethodName) prog_24_method_128_code (2 : Nat) (Option.some Jvm.ClassFile.FieldType.int)) ∈ lw_all := lw_g (lw_at lw_m11 44 rfl) rfl
theorem q2575 : (Jvm.Cond.instanceMethod ({ cls := "BrushGlassModel", name := "back", desc := "(I)Z" } : Jvm.MethodName)) ∈ lw_all := lw_g (lw_at lw_m11 46 rfl) rfl
theorem q2576 : (Jvm.Cond.selects "BrushGlassModel" ({ cls := "BrushGlassModel", name := "back", desc := "(I)Z" } : Jvm.MethodName) ({ cls := "BrushGlassModel", name := "back", desc := "(I)Z" } : Jvm.MethodName)) ∈ lw_all := lw_g (lw_at lw_m11 47 rfl) rfl
theorem q2577 : (Jvm.Cond.code ({ cls := "BrushGlassModel", name := "back", desc := "(I)Z" } : Jvm.MethodName) prog_24_method_129_code (3 : Nat) (Option.some Jvm.ClassFile.FieldType.boolean)) ∈ lw_all := lw_g (lw_at lw_m11 48 rfl) rfl
theorem q2579 : (Jvm.Cond.instanceMethod ({ cls := "BrushGlassModel", name := "led", desc := "(I)I" } : Jvm.MethodName)) ∈ lw_all := lw_g (lw_at lw_m11 50 rfl) rfl
theorem q2580 : (Jvm.Cond.selects "BrushGlassModel" ({ cls := "BrushGlassModel", name := "led", desc := "(I)I" } : Jvm.MethodName) ({ cls := "BrushGlassModel", name := "led", desc := "(I)I" } : Jvm.MethodName)) ∈ lw_all := lw_g (lw_at lw_m11 51 rfl) rfl
theorem q2581 : (Jvm.Cond.code ({ cls := "BrushGlassModel", name := "led", desc := "(I)I" } : Jvm.MethodName) prog_24_method_130_code (4 : Nat) (Option.some Jvm.ClassFile.FieldType.int)) ∈ lw_all := lw_g (lw_at lw_m11 52 rfl) rfl
theorem q2583 : (Jvm.Cond.instanceMethod ({ cls := "BrushGlassModel", name := "size", desc := "(I)I" } : Jvm.MethodName)) ∈ lw_all := lw_g (lw_at lw_m11 54 rfl) rfl
theorem q2584 : (Jvm.Cond.selects "BrushGlassModel" ({ cls := "BrushGlassModel", name := "size", desc := "(I)I" } : Jvm.MethodName) ({ cls := "BrushGlassModel", name := "size", desc := "(I)I" } : Jvm.MethodName)) ∈ lw_all := lw_g (lw_at lw_m11 55 rfl) rfl
theorem q2585 : (Jvm.Cond.code ({ cls := "BrushGlassModel", name := "size", desc := "(I)I" } : Jvm.MethodName) prog_24_method_131_code (2 : Nat) (Option.some Jvm.ClassFile.FieldType.int)) ∈ lw_all := lw_g (lw_at lw_m11 56 rfl) rfl
theorem q2587 : (Jvm.Cond.instanceMethod ({ cls := "BrushGlassModel", name := "trouble", desc := "()I" } : Jvm.MethodName)) ∈ lw_all := lw_g (lw_at lw_m11 58 rfl) rfl
theorem q2588 : (Jvm.Cond.selects "BrushGlassModel" ({ cls := "BrushGlassModel", name := "trouble", desc := "()I" } : Jvm.MethodName) ({ cls := "BrushGlassModel", name := "trouble", desc := "()I" } : Jvm.MethodName)) ∈ lw_all := lw_g (lw_at lw_m11 59 rfl) rfl
theorem q2589 : (Jvm.Cond.code ({ cls := "BrushGlassModel", name := "trouble", desc := "()I" } : Jvm.MethodName) prog_24_method_132_code (1 : Nat) (Option.some Jvm.ClassFile.FieldType.int)) ∈ lw_all := lw_g (lw_at lw_m11 60 rfl) rfl
theorem q2607 : (Jvm.Cond.castable "BrushGlassModel" "java/lang/Object") ∈ lw_tbl := lw_at lw_m11 78 rfl
theorem in_X19 : ∀ w ∈ wsX190, w ∈ lw_all := lw_in wsX190 [1803, 1805, 1807, 1809, 1811, 1813, 1815, 1817, 1819, 1821, 1823, 1825, 1827, 1829, 1831, 1833, 1835, 1837, 1839, 1841, 1843, 1845, 1847, 1849, 1851, 1853, 1855, 1857, 1859, 1861, 1863, 1865, 1867, 1869, 1871, 1873, 1875, 1877, 1879, 1881, 1883, 1885, 1887, 1889, 1891, 1893, 1895, 1897, 1899, 1901, 1903, 1905] (by decide +kernel) (by decide +kernel)
