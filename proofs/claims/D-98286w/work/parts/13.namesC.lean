/-! BrushGlass -/
set_option maxRecDepth 100000
def RX1 : String := "BrushGlass"
def TX1 : u_T := fun k => match k with
  | 0 => ("BrushGlass", "tape", "[B", true)
  | 1 => ("BrushGlass", "taped", "I", false)
  | 2 => ("BrushGlass", "reader", "LBrushGlass$Reader;", true)
  | 3 => ("BrushGlass", "glass", "LBrushGlass$Glass;", false)
  | 4 => ("BrushGlass", "trouble", "I", false)
  | 5 => ("BrushGlass", "fault", "I", false)
  | 6 => ("BrushGlass", "where", "I", false)
  | 7 => ("BrushGlass", "markMany", "I", false)
  | 8 => ("BrushGlass", "undoMany", "I", false)
  | 9 => ("BrushGlass", "plan", "LBrushGlass$Plan;", true)
  | 10 => ("BrushGlass", "was", "LBrushGlass$Plan;", true)
  | 11 => ("BrushGlass", "trial", "LBrushGlass$Plan;", true)
  | 12 => ("BrushGlass", "month", "LBrushGlass$Month;", true)
  | 13 => ("BrushGlass", "tried", "LBrushGlass$Month;", true)
  | 14 => ("BrushGlass", "pairs", "LBrushGlass$Pairings;", true)
  | 15 => ("BrushGlass", "colouring", "LBrushGlass$Colouring;", true)
  | 16 => ("BrushGlass", "undone", "[LBrushGlass$Plan;", true)
  | 17 => ("BrushGlass", "marks", "[LBrushGlass$Plan;", true)
  | 18 => ("BrushGlass", "one", "LBrushGlass$Move;", true)
  | 19 => ("BrushGlass", "odds", "[J", true)
  | _ => ("BrushGlass", "then", "[J", true)
def tyX1 : Nat → FieldType := fun k => match k with
  | 0 => .array .byte
  | 1 => .int
  | 2 => .object "BrushGlass$Reader"
  | 3 => .object "BrushGlass$Glass"
  | 4 => .int
  | 5 => .int
  | 6 => .int
  | 7 => .int
  | 8 => .int
  | 9 => .object "BrushGlass$Plan"
  | 10 => .object "BrushGlass$Plan"
  | 11 => .object "BrushGlass$Plan"
  | 12 => .object "BrushGlass$Month"
  | 13 => .object "BrushGlass$Month"
  | 14 => .object "BrushGlass$Pairings"
  | 15 => .object "BrushGlass$Colouring"
  | 16 => .array (.object "BrushGlass$Plan")
  | 17 => .array (.object "BrushGlass$Plan")
  | 18 => .object "BrushGlass$Move"
  | 19 => .array .long
  | _ => .array .long
abbrev wsX10 : List Cond := u_ws RX1 TX1 21
set_option maxRecDepth 100000 in
theorem nmX1 : ∀ a, a < 21 → ∀ b, b < 21 → a ≠ b → (TX1 a).2.1 ≠ (TX1 b).2.1 := by decide +kernel
set_option maxRecDepth 100000 in
theorem tyX1_ok : ∀ k, k < 21 → parseFieldDescriptor (TX1 k).2.2.1 = some (tyX1 k) := by decide +kernel
abbrev cX1_init : ByteArray := prog_1_method_4_code
def yX1_init : MethodName := ⟨RX1, "<init>", "()V"⟩
def dkwX1_init_9 : List UInt8 := [177]
abbrev dktX1_init_9 : List UInt8 := dkwX1_init_9 ++ []
def dkwX1_init_8 : List UInt8 := [27, 6, 162, 0, 22, 42, 180, 0, 67, 27, 187, 0, 26, 89, 183, 0, 28, 83, 132, 1, 1, 167, 255, 235]
abbrev dktX1_init_8 : List UInt8 := dkwX1_init_8 ++ dktX1_init_9
def dkwX1_init_7 : List UInt8 := [162, 0, 22, 42, 180, 0, 63, 27, 187, 0, 26, 89, 183, 0, 28, 83, 132, 1, 1, 167, 255, 234, 3, 60]
abbrev dktX1_init_7 : List UInt8 := dkwX1_init_7 ++ dktX1_init_8
def dkwX1_init_6 : List UInt8 := [181, 0, 73, 42, 16, 8, 188, 11, 181, 0, 77, 42, 16, 8, 188, 11, 181, 0, 81, 3, 60, 27, 16, 16]
abbrev dktX1_init_6 : List UInt8 := dkwX1_init_6 ++ dktX1_init_7
def dkwX1_init_5 : List UInt8 := [189, 0, 26, 181, 0, 63, 42, 6, 189, 0, 26, 181, 0, 67, 42, 187, 0, 70, 89, 183, 0, 72]
abbrev dktX1_init_5 : List UInt8 := dkwX1_init_5 ++ dktX1_init_6
def dkwX1_init_4 : List UInt8 := [187, 0, 49, 89, 183, 0, 51, 181, 0, 52, 42, 187, 0, 56, 89, 183, 0, 58, 181, 0, 59, 42, 16, 16]
abbrev dktX1_init_4 : List UInt8 := dkwX1_init_4 ++ dktX1_init_5
def dkwX1_init_3 : List UInt8 := [187, 0, 39, 89, 183, 0, 41, 181, 0, 42, 42, 187, 0, 39, 89, 183, 0, 41, 181, 0, 46, 42]
abbrev dktX1_init_3 : List UInt8 := dkwX1_init_3 ++ dktX1_init_4
def dkwX1_init_2 : List UInt8 := [187, 0, 26, 89, 183, 0, 28, 181, 0, 33, 42, 187, 0, 26, 89, 183, 0, 28, 181, 0, 36, 42]
abbrev dktX1_init_2 : List UInt8 := dkwX1_init_2 ++ dktX1_init_3
def dkwX1_init_1 : List UInt8 := [183, 0, 15, 181, 0, 18, 42, 2, 181, 0, 22, 42, 187, 0, 26, 89, 183, 0, 28, 181, 0, 29, 42]
abbrev dktX1_init_1 : List UInt8 := dkwX1_init_1 ++ dktX1_init_2
def dkwX1_init_0 : List UInt8 := [42, 183, 0, 1, 42, 17, 3, 232, 188, 8, 181, 0, 9, 42, 187, 0, 13, 89, 42, 180, 0, 9]
abbrev dktX1_init_0 : List UInt8 := dkwX1_init_0 ++ dktX1_init_1
theorem dksX1_init_0 : cX1_init.data.toList.drop 0 = dktX1_init_0 := by decide +kernel
theorem dksX1_init_1 : cX1_init.data.toList.drop 22 = dktX1_init_1 := dk_seg dksX1_init_0 22 rfl rfl
theorem dksX1_init_2 : cX1_init.data.toList.drop 45 = dktX1_init_2 := dk_seg dksX1_init_1 23 rfl rfl
theorem dksX1_init_3 : cX1_init.data.toList.drop 67 = dktX1_init_3 := dk_seg dksX1_init_2 22 rfl rfl
theorem dksX1_init_4 : cX1_init.data.toList.drop 89 = dktX1_init_4 := dk_seg dksX1_init_3 22 rfl rfl
theorem dksX1_init_5 : cX1_init.data.toList.drop 113 = dktX1_init_5 := dk_seg dksX1_init_4 24 rfl rfl
theorem dksX1_init_6 : cX1_init.data.toList.drop 135 = dktX1_init_6 := dk_seg dksX1_init_5 22 rfl rfl
theorem dksX1_init_7 : cX1_init.data.toList.drop 159 = dktX1_init_7 := dk_seg dksX1_init_6 24 rfl rfl
theorem dksX1_init_8 : cX1_init.data.toList.drop 183 = dktX1_init_8 := dk_seg dksX1_init_7 24 rfl rfl
theorem dksX1_init_9 : cX1_init.data.toList.drop 207 = dktX1_init_9 := dk_seg dksX1_init_8 24 rfl rfl
theorem dX1_init_0 : decode cX1_init 0 = .ok (.aload_n 0, 1) := dk_42 (dk_at dksX1_init_0 0 rfl rfl)
theorem dX1_init_1 : decode cX1_init 1 = .ok (.invokespecial 1, 3) := dk_183 0 1 (dk_at dksX1_init_0 1 rfl rfl)
theorem dX1_init_4 : decode cX1_init 4 = .ok (.aload_n 0, 1) := dk_42 (dk_at dksX1_init_0 4 rfl rfl)
theorem dX1_init_5 : decode cX1_init 5 = .ok (.sipush 1000, 3) := dk_17 3 232 (dk_at dksX1_init_0 5 rfl rfl)
theorem dX1_init_8 : decode cX1_init 8 = .ok (.newarray .byte, 2) := dk_188_8 (dk_at dksX1_init_0 8 rfl rfl)
theorem dX1_init_10 : decode cX1_init 10 = .ok (.putfield 9, 3) := dk_181 0 9 (dk_at dksX1_init_0 10 rfl rfl)
theorem dX1_init_13 : decode cX1_init 13 = .ok (.aload_n 0, 1) := dk_42 (dk_at dksX1_init_0 13 rfl rfl)
theorem dX1_init_14 : decode cX1_init 14 = .ok (.new 13, 3) := dk_187 0 13 (dk_at dksX1_init_0 14 rfl rfl)
theorem dX1_init_17 : decode cX1_init 17 = .ok (.dup, 1) := dk_89 (dk_at dksX1_init_0 17 rfl rfl)
theorem dX1_init_18 : decode cX1_init 18 = .ok (.aload_n 0, 1) := dk_42 (dk_at dksX1_init_0 18 rfl rfl)
theorem dX1_init_19 : decode cX1_init 19 = .ok (.getfield 9, 3) := dk_180 0 9 (dk_at dksX1_init_0 19 rfl rfl)
theorem dX1_init_22 : decode cX1_init 22 = .ok (.invokespecial 15, 3) := dk_183 0 15 (dk_at dksX1_init_1 0 rfl rfl)
theorem dX1_init_25 : decode cX1_init 25 = .ok (.putfield 18, 3) := dk_181 0 18 (dk_at dksX1_init_1 3 rfl rfl)
theorem dX1_init_28 : decode cX1_init 28 = .ok (.aload_n 0, 1) := dk_42 (dk_at dksX1_init_1 6 rfl rfl)
theorem dX1_init_29 : decode cX1_init 29 = .ok (.iconst (-1), 1) := dk_2 (dk_at dksX1_init_1 7 rfl rfl)
theorem dX1_init_30 : decode cX1_init 30 = .ok (.putfield 22, 3) := dk_181 0 22 (dk_at dksX1_init_1 8 rfl rfl)
theorem dX1_init_33 : decode cX1_init 33 = .ok (.aload_n 0, 1) := dk_42 (dk_at dksX1_init_1 11 rfl rfl)
theorem dX1_init_34 : decode cX1_init 34 = .ok (.new 26, 3) := dk_187 0 26 (dk_at dksX1_init_1 12 rfl rfl)
theorem dX1_init_37 : decode cX1_init 37 = .ok (.dup, 1) := dk_89 (dk_at dksX1_init_1 15 rfl rfl)
theorem dX1_init_38 : decode cX1_init 38 = .ok (.invokespecial 28, 3) := dk_183 0 28 (dk_at dksX1_init_1 16 rfl rfl)
theorem dX1_init_41 : decode cX1_init 41 = .ok (.putfield 29, 3) := dk_181 0 29 (dk_at dksX1_init_1 19 rfl rfl)
theorem dX1_init_44 : decode cX1_init 44 = .ok (.aload_n 0, 1) := dk_42 (dk_at dksX1_init_1 22 rfl rfl)
theorem dX1_init_45 : decode cX1_init 45 = .ok (.new 26, 3) := dk_187 0 26 (dk_at dksX1_init_2 0 rfl rfl)
theorem dX1_init_48 : decode cX1_init 48 = .ok (.dup, 1) := dk_89 (dk_at dksX1_init_2 3 rfl rfl)
theorem dX1_init_49 : decode cX1_init 49 = .ok (.invokespecial 28, 3) := dk_183 0 28 (dk_at dksX1_init_2 4 rfl rfl)
theorem dX1_init_52 : decode cX1_init 52 = .ok (.putfield 33, 3) := dk_181 0 33 (dk_at dksX1_init_2 7 rfl rfl)
theorem dX1_init_55 : decode cX1_init 55 = .ok (.aload_n 0, 1) := dk_42 (dk_at dksX1_init_2 10 rfl rfl)
theorem dX1_init_56 : decode cX1_init 56 = .ok (.new 26, 3) := dk_187 0 26 (dk_at dksX1_init_2 11 rfl rfl)
theorem dX1_init_59 : decode cX1_init 59 = .ok (.dup, 1) := dk_89 (dk_at dksX1_init_2 14 rfl rfl)
theorem dX1_init_60 : decode cX1_init 60 = .ok (.invokespecial 28, 3) := dk_183 0 28 (dk_at dksX1_init_2 15 rfl rfl)
theorem dX1_init_63 : decode cX1_init 63 = .ok (.putfield 36, 3) := dk_181 0 36 (dk_at dksX1_init_2 18 rfl rfl)
theorem dX1_init_66 : decode cX1_init 66 = .ok (.aload_n 0, 1) := dk_42 (dk_at dksX1_init_2 21 rfl rfl)
theorem dX1_init_67 : decode cX1_init 67 = .ok (.new 39, 3) := dk_187 0 39 (dk_at dksX1_init_3 0 rfl rfl)
theorem dX1_init_70 : decode cX1_init 70 = .ok (.dup, 1) := dk_89 (dk_at dksX1_init_3 3 rfl rfl)
theorem dX1_init_71 : decode cX1_init 71 = .ok (.invokespecial 41, 3) := dk_183 0 41 (dk_at dksX1_init_3 4 rfl rfl)
theorem dX1_init_74 : decode cX1_init 74 = .ok (.putfield 42, 3) := dk_181 0 42 (dk_at dksX1_init_3 7 rfl rfl)
theorem dX1_init_77 : decode cX1_init 77 = .ok (.aload_n 0, 1) := dk_42 (dk_at dksX1_init_3 10 rfl rfl)
theorem dX1_init_78 : decode cX1_init 78 = .ok (.new 39, 3) := dk_187 0 39 (dk_at dksX1_init_3 11 rfl rfl)
theorem dX1_init_81 : decode cX1_init 81 = .ok (.dup, 1) := dk_89 (dk_at dksX1_init_3 14 rfl rfl)
theorem dX1_init_82 : decode cX1_init 82 = .ok (.invokespecial 41, 3) := dk_183 0 41 (dk_at dksX1_init_3 15 rfl rfl)
theorem dX1_init_85 : decode cX1_init 85 = .ok (.putfield 46, 3) := dk_181 0 46 (dk_at dksX1_init_3 18 rfl rfl)
theorem dX1_init_88 : decode cX1_init 88 = .ok (.aload_n 0, 1) := dk_42 (dk_at dksX1_init_3 21 rfl rfl)
theorem dX1_init_89 : decode cX1_init 89 = .ok (.new 49, 3) := dk_187 0 49 (dk_at dksX1_init_4 0 rfl rfl)
theorem dX1_init_92 : decode cX1_init 92 = .ok (.dup, 1) := dk_89 (dk_at dksX1_init_4 3 rfl rfl)
theorem dX1_init_93 : decode cX1_init 93 = .ok (.invokespecial 51, 3) := dk_183 0 51 (dk_at dksX1_init_4 4 rfl rfl)
theorem dX1_init_96 : decode cX1_init 96 = .ok (.putfield 52, 3) := dk_181 0 52 (dk_at dksX1_init_4 7 rfl rfl)
theorem dX1_init_99 : decode cX1_init 99 = .ok (.aload_n 0, 1) := dk_42 (dk_at dksX1_init_4 10 rfl rfl)
theorem dX1_init_100 : decode cX1_init 100 = .ok (.new 56, 3) := dk_187 0 56 (dk_at dksX1_init_4 11 rfl rfl)
theorem dX1_init_103 : decode cX1_init 103 = .ok (.dup, 1) := dk_89 (dk_at dksX1_init_4 14 rfl rfl)
theorem dX1_init_104 : decode cX1_init 104 = .ok (.invokespecial 58, 3) := dk_183 0 58 (dk_at dksX1_init_4 15 rfl rfl)
theorem dX1_init_107 : decode cX1_init 107 = .ok (.putfield 59, 3) := dk_181 0 59 (dk_at dksX1_init_4 18 rfl rfl)
theorem dX1_init_110 : decode cX1_init 110 = .ok (.aload_n 0, 1) := dk_42 (dk_at dksX1_init_4 21 rfl rfl)
theorem dX1_init_111 : decode cX1_init 111 = .ok (.bipush 16, 2) := dk_16 16 (dk_at dksX1_init_4 22 rfl rfl)
theorem dX1_init_113 : decode cX1_init 113 = .ok (.anewarray 26, 3) := dk_189 0 26 (dk_at dksX1_init_5 0 rfl rfl)
theorem dX1_init_116 : decode cX1_init 116 = .ok (.putfield 63, 3) := dk_181 0 63 (dk_at dksX1_init_5 3 rfl rfl)
theorem dX1_init_119 : decode cX1_init 119 = .ok (.aload_n 0, 1) := dk_42 (dk_at dksX1_init_5 6 rfl rfl)
theorem dX1_init_120 : decode cX1_init 120 = .ok (.iconst 3, 1) := dk_6 (dk_at dksX1_init_5 7 rfl rfl)
theorem dX1_init_121 : decode cX1_init 121 = .ok (.anewarray 26, 3) := dk_189 0 26 (dk_at dksX1_init_5 8 rfl rfl)
theorem dX1_init_124 : decode cX1_init 124 = .ok (.putfield 67, 3) := dk_181 0 67 (dk_at dksX1_init_5 11 rfl rfl)
theorem dX1_init_127 : decode cX1_init 127 = .ok (.aload_n 0, 1) := dk_42 (dk_at dksX1_init_5 14 rfl rfl)
theorem dX1_init_128 : decode cX1_init 128 = .ok (.new 70, 3) := dk_187 0 70 (dk_at dksX1_init_5 15 rfl rfl)
theorem dX1_init_131 : decode cX1_init 131 = .ok (.dup, 1) := dk_89 (dk_at dksX1_init_5 18 rfl rfl)
theorem dX1_init_132 : decode cX1_init 132 = .ok (.invokespecial 72, 3) := dk_183 0 72 (dk_at dksX1_init_5 19 rfl rfl)
theorem dX1_init_135 : decode cX1_init 135 = .ok (.putfield 73, 3) := dk_181 0 73 (dk_at dksX1_init_6 0 rfl rfl)
theorem dX1_init_138 : decode cX1_init 138 = .ok (.aload_n 0, 1) := dk_42 (dk_at dksX1_init_6 3 rfl rfl)
theorem dX1_init_139 : decode cX1_init 139 = .ok (.bipush 8, 2) := dk_16 8 (dk_at dksX1_init_6 4 rfl rfl)
theorem dX1_init_141 : decode cX1_init 141 = .ok (.newarray .long, 2) := dk_188_11 (dk_at dksX1_init_6 6 rfl rfl)
theorem dX1_init_143 : decode cX1_init 143 = .ok (.putfield 77, 3) := dk_181 0 77 (dk_at dksX1_init_6 8 rfl rfl)
theorem dX1_init_146 : decode cX1_init 146 = .ok (.aload_n 0, 1) := dk_42 (dk_at dksX1_init_6 11 rfl rfl)
theorem dX1_init_147 : decode cX1_init 147 = .ok (.bipush 8, 2) := dk_16 8 (dk_at dksX1_init_6 12 rfl rfl)
theorem dX1_init_149 : decode cX1_init 149 = .ok (.newarray .long, 2) := dk_188_11 (dk_at dksX1_init_6 14 rfl rfl)
theorem dX1_init_151 : decode cX1_init 151 = .ok (.putfield 81, 3) := dk_181 0 81 (dk_at dksX1_init_6 16 rfl rfl)
theorem dX1_init_154 : decode cX1_init 154 = .ok (.iconst 0, 1) := dk_3 (dk_at dksX1_init_6 19 rfl rfl)
theorem dX1_init_155 : decode cX1_init 155 = .ok (.istore_n 1, 1) := dk_60 (dk_at dksX1_init_6 20 rfl rfl)
theorem dX1_init_156 : decode cX1_init 156 = .ok (.iload_n 1, 1) := dk_27 (dk_at dksX1_init_6 21 rfl rfl)
theorem dX1_init_157 : decode cX1_init 157 = .ok (.bipush 16, 2) := dk_16 16 (dk_at dksX1_init_6 22 rfl rfl)
theorem dX1_init_159 : decode cX1_init 159 = .ok (.if_icmp .ge 22, 3) := dk_162 0 22 (dk_at dksX1_init_7 0 rfl rfl)
theorem dX1_init_162 : decode cX1_init 162 = .ok (.aload_n 0, 1) := dk_42 (dk_at dksX1_init_7 3 rfl rfl)
theorem dX1_init_163 : decode cX1_init 163 = .ok (.getfield 63, 3) := dk_180 0 63 (dk_at dksX1_init_7 4 rfl rfl)
theorem dX1_init_166 : decode cX1_init 166 = .ok (.iload_n 1, 1) := dk_27 (dk_at dksX1_init_7 7 rfl rfl)
theorem dX1_init_167 : decode cX1_init 167 = .ok (.new 26, 3) := dk_187 0 26 (dk_at dksX1_init_7 8 rfl rfl)
theorem dX1_init_170 : decode cX1_init 170 = .ok (.dup, 1) := dk_89 (dk_at dksX1_init_7 11 rfl rfl)
theorem dX1_init_171 : decode cX1_init 171 = .ok (.invokespecial 28, 3) := dk_183 0 28 (dk_at dksX1_init_7 12 rfl rfl)
theorem dX1_init_174 : decode cX1_init 174 = .ok (.aastore, 1) := dk_83 (dk_at dksX1_init_7 15 rfl rfl)
theorem dX1_init_175 : decode cX1_init 175 = .ok (.iinc 1 1, 3) := dk_132 1 1 (dk_at dksX1_init_7 16 rfl rfl)
theorem dX1_init_178 : decode cX1_init 178 = .ok (.goto (-22), 3) := dk_167 255 234 (dk_at dksX1_init_7 19 rfl rfl)
theorem dX1_init_181 : decode cX1_init 181 = .ok (.iconst 0, 1) := dk_3 (dk_at dksX1_init_7 22 rfl rfl)
theorem dX1_init_182 : decode cX1_init 182 = .ok (.istore_n 1, 1) := dk_60 (dk_at dksX1_init_7 23 rfl rfl)
theorem dX1_init_183 : decode cX1_init 183 = .ok (.iload_n 1, 1) := dk_27 (dk_at dksX1_init_8 0 rfl rfl)
theorem dX1_init_184 : decode cX1_init 184 = .ok (.iconst 3, 1) := dk_6 (dk_at dksX1_init_8 1 rfl rfl)
theorem dX1_init_185 : decode cX1_init 185 = .ok (.if_icmp .ge 22, 3) := dk_162 0 22 (dk_at dksX1_init_8 2 rfl rfl)
theorem dX1_init_188 : decode cX1_init 188 = .ok (.aload_n 0, 1) := dk_42 (dk_at dksX1_init_8 5 rfl rfl)
theorem dX1_init_189 : decode cX1_init 189 = .ok (.getfield 67, 3) := dk_180 0 67 (dk_at dksX1_init_8 6 rfl rfl)
theorem dX1_init_192 : decode cX1_init 192 = .ok (.iload_n 1, 1) := dk_27 (dk_at dksX1_init_8 9 rfl rfl)
theorem dX1_init_193 : decode cX1_init 193 = .ok (.new 26, 3) := dk_187 0 26 (dk_at dksX1_init_8 10 rfl rfl)
theorem dX1_init_196 : decode cX1_init 196 = .ok (.dup, 1) := dk_89 (dk_at dksX1_init_8 13 rfl rfl)
theorem dX1_init_197 : decode cX1_init 197 = .ok (.invokespecial 28, 3) := dk_183 0 28 (dk_at dksX1_init_8 14 rfl rfl)
theorem dX1_init_200 : decode cX1_init 200 = .ok (.aastore, 1) := dk_83 (dk_at dksX1_init_8 17 rfl rfl)
theorem dX1_init_201 : decode cX1_init 201 = .ok (.iinc 1 1, 3) := dk_132 1 1 (dk_at dksX1_init_8 18 rfl rfl)
theorem dX1_init_204 : decode cX1_init 204 = .ok (.goto (-21), 3) := dk_167 255 235 (dk_at dksX1_init_8 21 rfl rfl)
theorem dX1_init_207 : decode cX1_init 207 = .ok (.return_, 1) := dk_177 (dk_at dksX1_init_9 0 rfl rfl)
abbrev cX1_feed : ByteArray := prog_1_method_8_code
def yX1_feed : MethodName := ⟨RX1, "feed", "(IIIII)I"⟩
def dkwX1_feed_2 : List UInt8 := [172]
abbrev dktX1_feed_2 : List UInt8 := dkwX1_feed_2 ++ []
def dkwX1_feed_1 : List UInt8 := [182, 0, 93, 42, 29, 182, 0, 93, 42, 21, 4, 182, 0, 93, 42, 21, 5, 182, 0, 93, 42, 180, 0, 90]
abbrev dktX1_feed_1 : List UInt8 := dkwX1_feed_1 ++ dktX1_feed_2
def dkwX1_feed_0 : List UInt8 := [42, 180, 0, 90, 16, 20, 96, 17, 3, 232, 164, 0, 5, 2, 172, 42, 27, 182, 0, 93, 42, 28]
abbrev dktX1_feed_0 : List UInt8 := dkwX1_feed_0 ++ dktX1_feed_1
theorem dksX1_feed_0 : cX1_feed.data.toList.drop 0 = dktX1_feed_0 := by decide +kernel
theorem dksX1_feed_1 : cX1_feed.data.toList.drop 22 = dktX1_feed_1 := dk_seg dksX1_feed_0 22 rfl rfl
theorem dksX1_feed_2 : cX1_feed.data.toList.drop 46 = dktX1_feed_2 := dk_seg dksX1_feed_1 24 rfl rfl
theorem dX1_feed_0 : decode cX1_feed 0 = .ok (.aload_n 0, 1) := dk_42 (dk_at dksX1_feed_0 0 rfl rfl)
theorem dX1_feed_1 : decode cX1_feed 1 = .ok (.getfield 90, 3) := dk_180 0 90 (dk_at dksX1_feed_0 1 rfl rfl)
theorem dX1_feed_4 : decode cX1_feed 4 = .ok (.bipush 20, 2) := dk_16 20 (dk_at dksX1_feed_0 4 rfl rfl)
theorem dX1_feed_6 : decode cX1_feed 6 = .ok (.iadd, 1) := dk_96 (dk_at dksX1_feed_0 6 rfl rfl)
theorem dX1_feed_7 : decode cX1_feed 7 = .ok (.sipush 1000, 3) := dk_17 3 232 (dk_at dksX1_feed_0 7 rfl rfl)
theorem dX1_feed_10 : decode cX1_feed 10 = .ok (.if_icmp .le 5, 3) := dk_164 0 5 (dk_at dksX1_feed_0 10 rfl rfl)
theorem dX1_feed_13 : decode cX1_feed 13 = .ok (.iconst (-1), 1) := dk_2 (dk_at dksX1_feed_0 13 rfl rfl)
theorem dX1_feed_14 : decode cX1_feed 14 = .ok (.ireturn, 1) := dk_172 (dk_at dksX1_feed_0 14 rfl rfl)
theorem dX1_feed_15 : decode cX1_feed 15 = .ok (.aload_n 0, 1) := dk_42 (dk_at dksX1_feed_0 15 rfl rfl)
theorem dX1_feed_16 : decode cX1_feed 16 = .ok (.iload_n 1, 1) := dk_27 (dk_at dksX1_feed_0 16 rfl rfl)
theorem dX1_feed_17 : decode cX1_feed 17 = .ok (.invokevirtual 93, 3) := dk_182 0 93 (dk_at dksX1_feed_0 17 rfl rfl)
theorem dX1_feed_20 : decode cX1_feed 20 = .ok (.aload_n 0, 1) := dk_42 (dk_at dksX1_feed_0 20 rfl rfl)
theorem dX1_feed_21 : decode cX1_feed 21 = .ok (.iload_n 2, 1) := dk_28 (dk_at dksX1_feed_0 21 rfl rfl)
theorem dX1_feed_22 : decode cX1_feed 22 = .ok (.invokevirtual 93, 3) := dk_182 0 93 (dk_at dksX1_feed_1 0 rfl rfl)
theorem dX1_feed_25 : decode cX1_feed 25 = .ok (.aload_n 0, 1) := dk_42 (dk_at dksX1_feed_1 3 rfl rfl)
theorem dX1_feed_26 : decode cX1_feed 26 = .ok (.iload_n 3, 1) := dk_29 (dk_at dksX1_feed_1 4 rfl rfl)
theorem dX1_feed_27 : decode cX1_feed 27 = .ok (.invokevirtual 93, 3) := dk_182 0 93 (dk_at dksX1_feed_1 5 rfl rfl)
theorem dX1_feed_30 : decode cX1_feed 30 = .ok (.aload_n 0, 1) := dk_42 (dk_at dksX1_feed_1 8 rfl rfl)
theorem dX1_feed_31 : decode cX1_feed 31 = .ok (.iload 4, 2) := dk_21 4 (dk_at dksX1_feed_1 9 rfl rfl)
theorem dX1_feed_33 : decode cX1_feed 33 = .ok (.invokevirtual 93, 3) := dk_182 0 93 (dk_at dksX1_feed_1 11 rfl rfl)
theorem dX1_feed_36 : decode cX1_feed 36 = .ok (.aload_n 0, 1) := dk_42 (dk_at dksX1_feed_1 14 rfl rfl)
theorem dX1_feed_37 : decode cX1_feed 37 = .ok (.iload 5, 2) := dk_21 5 (dk_at dksX1_feed_1 15 rfl rfl)
theorem dX1_feed_39 : decode cX1_feed 39 = .ok (.invokevirtual 93, 3) := dk_182 0 93 (dk_at dksX1_feed_1 17 rfl rfl)
theorem dX1_feed_42 : decode cX1_feed 42 = .ok (.aload_n 0, 1) := dk_42 (dk_at dksX1_feed_1 20 rfl rfl)
theorem dX1_feed_43 : decode cX1_feed 43 = .ok (.getfield 90, 3) := dk_180 0 90 (dk_at dksX1_feed_1 21 rfl rfl)
theorem dX1_feed_46 : decode cX1_feed 46 = .ok (.ireturn, 1) := dk_172 (dk_at dksX1_feed_2 0 rfl rfl)
abbrev cX1_bytes : ByteArray := prog_1_method_9_code
def yX1_bytes : MethodName := ⟨RX1, "bytes", "(I)V"⟩
def dkwX1_bytes_1 : List UInt8 := [180, 0, 90, 4, 96, 181, 0, 90, 132, 2, 248, 167, 255, 226, 177]
abbrev dktX1_bytes_1 : List UInt8 := dkwX1_bytes_1 ++ []
def dkwX1_bytes_0 : List UInt8 := [16, 24, 61, 28, 155, 0, 32, 42, 180, 0, 9, 42, 180, 0, 90, 27, 28, 122, 145, 84, 42, 89]
abbrev dktX1_bytes_0 : List UInt8 := dkwX1_bytes_0 ++ dktX1_bytes_1
theorem dksX1_bytes_0 : cX1_bytes.data.toList.drop 0 = dktX1_bytes_0 := by decide +kernel
theorem dksX1_bytes_1 : cX1_bytes.data.toList.drop 22 = dktX1_bytes_1 := dk_seg dksX1_bytes_0 22 rfl rfl
theorem dX1_bytes_0 : decode cX1_bytes 0 = .ok (.bipush 24, 2) := dk_16 24 (dk_at dksX1_bytes_0 0 rfl rfl)
theorem dX1_bytes_2 : decode cX1_bytes 2 = .ok (.istore_n 2, 1) := dk_61 (dk_at dksX1_bytes_0 2 rfl rfl)
theorem dX1_bytes_3 : decode cX1_bytes 3 = .ok (.iload_n 2, 1) := dk_28 (dk_at dksX1_bytes_0 3 rfl rfl)
theorem dX1_bytes_4 : decode cX1_bytes 4 = .ok (.ifCond .lt 32, 3) := dk_155 0 32 (dk_at dksX1_bytes_0 4 rfl rfl)
theorem dX1_bytes_7 : decode cX1_bytes 7 = .ok (.aload_n 0, 1) := dk_42 (dk_at dksX1_bytes_0 7 rfl rfl)
theorem dX1_bytes_8 : decode cX1_bytes 8 = .ok (.getfield 9, 3) := dk_180 0 9 (dk_at dksX1_bytes_0 8 rfl rfl)
theorem dX1_bytes_11 : decode cX1_bytes 11 = .ok (.aload_n 0, 1) := dk_42 (dk_at dksX1_bytes_0 11 rfl rfl)
theorem dX1_bytes_12 : decode cX1_bytes 12 = .ok (.getfield 90, 3) := dk_180 0 90 (dk_at dksX1_bytes_0 12 rfl rfl)
theorem dX1_bytes_15 : decode cX1_bytes 15 = .ok (.iload_n 1, 1) := dk_27 (dk_at dksX1_bytes_0 15 rfl rfl)
theorem dX1_bytes_16 : decode cX1_bytes 16 = .ok (.iload_n 2, 1) := dk_28 (dk_at dksX1_bytes_0 16 rfl rfl)
theorem dX1_bytes_17 : decode cX1_bytes 17 = .ok (.ishr, 1) := dk_122 (dk_at dksX1_bytes_0 17 rfl rfl)
theorem dX1_bytes_18 : decode cX1_bytes 18 = .ok (.i2b, 1) := dk_145 (dk_at dksX1_bytes_0 18 rfl rfl)
theorem dX1_bytes_19 : decode cX1_bytes 19 = .ok (.bastore, 1) := dk_84 (dk_at dksX1_bytes_0 19 rfl rfl)
theorem dX1_bytes_20 : decode cX1_bytes 20 = .ok (.aload_n 0, 1) := dk_42 (dk_at dksX1_bytes_0 20 rfl rfl)
theorem dX1_bytes_21 : decode cX1_bytes 21 = .ok (.dup, 1) := dk_89 (dk_at dksX1_bytes_0 21 rfl rfl)
theorem dX1_bytes_22 : decode cX1_bytes 22 = .ok (.getfield 90, 3) := dk_180 0 90 (dk_at dksX1_bytes_1 0 rfl rfl)
theorem dX1_bytes_25 : decode cX1_bytes 25 = .ok (.iconst 1, 1) := dk_4 (dk_at dksX1_bytes_1 3 rfl rfl)
theorem dX1_bytes_26 : decode cX1_bytes 26 = .ok (.iadd, 1) := dk_96 (dk_at dksX1_bytes_1 4 rfl rfl)
theorem dX1_bytes_27 : decode cX1_bytes 27 = .ok (.putfield 90, 3) := dk_181 0 90 (dk_at dksX1_bytes_1 5 rfl rfl)
theorem dX1_bytes_30 : decode cX1_bytes 30 = .ok (.iinc 2 (-8), 3) := dk_132 2 248 (dk_at dksX1_bytes_1 8 rfl rfl)
theorem dX1_bytes_33 : decode cX1_bytes 33 = .ok (.goto (-30), 3) := dk_167 255 226 (dk_at dksX1_bytes_1 11 rfl rfl)
theorem dX1_bytes_36 : decode cX1_bytes 36 = .ok (.return_, 1) := dk_177 (dk_at dksX1_bytes_1 14 rfl rfl)
abbrev cX1_glass : ByteArray := prog_1_method_10_code
def yX1_glass : MethodName := ⟨RX1, "glass", "(I)I"⟩
def dkwX1_glass_4 : List UInt8 := [42, 180, 0, 112, 180, 0, 135, 172]
abbrev dktX1_glass_4 : List UInt8 := dkwX1_glass_4 ++ []
def dkwX1_glass_3 : List UInt8 := [180, 0, 29, 42, 180, 0, 112, 182, 0, 122, 42, 3, 181, 0, 126, 42, 3, 181, 0, 129, 42, 182, 0, 132]
abbrev dktX1_glass_3 : List UInt8 := dkwX1_glass_3 ++ dktX1_glass_4
def dkwX1_glass_2 : List UInt8 := [42, 44, 180, 0, 118, 181, 0, 105, 42, 44, 180, 0, 119, 181, 0, 22, 42, 7, 182, 0, 101, 172, 42]
abbrev dktX1_glass_2 : List UInt8 := dkwX1_glass_2 ++ dktX1_glass_3
def dkwX1_glass_1 : List UInt8 := [181, 0, 90, 42, 3, 181, 0, 105, 42, 42, 180, 0, 18, 27, 182, 0, 108, 181, 0, 112, 167, 0, 26, 77]
abbrev dktX1_glass_1 : List UInt8 := dkwX1_glass_1 ++ dktX1_glass_2
def dkwX1_glass_0 : List UInt8 := [42, 182, 0, 87, 27, 3, 42, 180, 0, 90, 184, 0, 97, 154, 0, 9, 42, 5, 182, 0, 101, 172, 42, 3]
abbrev dktX1_glass_0 : List UInt8 := dkwX1_glass_0 ++ dktX1_glass_1
theorem dksX1_glass_0 : cX1_glass.data.toList.drop 0 = dktX1_glass_0 := by decide +kernel
theorem dksX1_glass_1 : cX1_glass.data.toList.drop 24 = dktX1_glass_1 := dk_seg dksX1_glass_0 24 rfl rfl
theorem dksX1_glass_2 : cX1_glass.data.toList.drop 48 = dktX1_glass_2 := dk_seg dksX1_glass_1 24 rfl rfl
theorem dksX1_glass_3 : cX1_glass.data.toList.drop 71 = dktX1_glass_3 := dk_seg dksX1_glass_2 23 rfl rfl
theorem dksX1_glass_4 : cX1_glass.data.toList.drop 95 = dktX1_glass_4 := dk_seg dksX1_glass_3 24 rfl rfl
theorem dX1_glass_0 : decode cX1_glass 0 = .ok (.aload_n 0, 1) := dk_42 (dk_at dksX1_glass_0 0 rfl rfl)
theorem dX1_glass_1 : decode cX1_glass 1 = .ok (.invokevirtual 87, 3) := dk_182 0 87 (dk_at dksX1_glass_0 1 rfl rfl)
theorem dX1_glass_4 : decode cX1_glass 4 = .ok (.iload_n 1, 1) := dk_27 (dk_at dksX1_glass_0 4 rfl rfl)
theorem dX1_glass_5 : decode cX1_glass 5 = .ok (.iconst 0, 1) := dk_3 (dk_at dksX1_glass_0 5 rfl rfl)
theorem dX1_glass_6 : decode cX1_glass 6 = .ok (.aload_n 0, 1) := dk_42 (dk_at dksX1_glass_0 6 rfl rfl)
theorem dX1_glass_7 : decode cX1_glass 7 = .ok (.getfield 90, 3) := dk_180 0 90 (dk_at dksX1_glass_0 7 rfl rfl)
theorem dX1_glass_10 : decode cX1_glass 10 = .ok (.invokestatic 97, 3) := dk_184 0 97 (dk_at dksX1_glass_0 10 rfl rfl)
theorem dX1_glass_13 : decode cX1_glass 13 = .ok (.ifCond .ne 9, 3) := dk_154 0 9 (dk_at dksX1_glass_0 13 rfl rfl)
theorem dX1_glass_16 : decode cX1_glass 16 = .ok (.aload_n 0, 1) := dk_42 (dk_at dksX1_glass_0 16 rfl rfl)
theorem dX1_glass_17 : decode cX1_glass 17 = .ok (.iconst 2, 1) := dk_5 (dk_at dksX1_glass_0 17 rfl rfl)
theorem dX1_glass_18 : decode cX1_glass 18 = .ok (.invokevirtual 101, 3) := dk_182 0 101 (dk_at dksX1_glass_0 18 rfl rfl)
theorem dX1_glass_21 : decode cX1_glass 21 = .ok (.ireturn, 1) := dk_172 (dk_at dksX1_glass_0 21 rfl rfl)
theorem dX1_glass_22 : decode cX1_glass 22 = .ok (.aload_n 0, 1) := dk_42 (dk_at dksX1_glass_0 22 rfl rfl)
theorem dX1_glass_23 : decode cX1_glass 23 = .ok (.iconst 0, 1) := dk_3 (dk_at dksX1_glass_0 23 rfl rfl)
theorem dX1_glass_24 : decode cX1_glass 24 = .ok (.putfield 90, 3) := dk_181 0 90 (dk_at dksX1_glass_1 0 rfl rfl)
theorem dX1_glass_27 : decode cX1_glass 27 = .ok (.aload_n 0, 1) := dk_42 (dk_at dksX1_glass_1 3 rfl rfl)
theorem dX1_glass_28 : decode cX1_glass 28 = .ok (.iconst 0, 1) := dk_3 (dk_at dksX1_glass_1 4 rfl rfl)
theorem dX1_glass_29 : decode cX1_glass 29 = .ok (.putfield 105, 3) := dk_181 0 105 (dk_at dksX1_glass_1 5 rfl rfl)
theorem dX1_glass_32 : decode cX1_glass 32 = .ok (.aload_n 0, 1) := dk_42 (dk_at dksX1_glass_1 8 rfl rfl)
theorem dX1_glass_33 : decode cX1_glass 33 = .ok (.aload_n 0, 1) := dk_42 (dk_at dksX1_glass_1 9 rfl rfl)
theorem dX1_glass_34 : decode cX1_glass 34 = .ok (.getfield 18, 3) := dk_180 0 18 (dk_at dksX1_glass_1 10 rfl rfl)
theorem dX1_glass_37 : decode cX1_glass 37 = .ok (.iload_n 1, 1) := dk_27 (dk_at dksX1_glass_1 13 rfl rfl)
theorem dX1_glass_38 : decode cX1_glass 38 = .ok (.invokevirtual 108, 3) := dk_182 0 108 (dk_at dksX1_glass_1 14 rfl rfl)
theorem dX1_glass_41 : decode cX1_glass 41 = .ok (.putfield 112, 3) := dk_181 0 112 (dk_at dksX1_glass_1 17 rfl rfl)
theorem dX1_glass_44 : decode cX1_glass 44 = .ok (.goto 26, 3) := dk_167 0 26 (dk_at dksX1_glass_1 20 rfl rfl)
theorem dX1_glass_47 : decode cX1_glass 47 = .ok (.astore_n 2, 1) := dk_77 (dk_at dksX1_glass_1 23 rfl rfl)
theorem dX1_glass_48 : decode cX1_glass 48 = .ok (.aload_n 0, 1) := dk_42 (dk_at dksX1_glass_2 0 rfl rfl)
theorem dX1_glass_49 : decode cX1_glass 49 = .ok (.aload_n 2, 1) := dk_44 (dk_at dksX1_glass_2 1 rfl rfl)
theorem dX1_glass_50 : decode cX1_glass 50 = .ok (.getfield 118, 3) := dk_180 0 118 (dk_at dksX1_glass_2 2 rfl rfl)
theorem dX1_glass_53 : decode cX1_glass 53 = .ok (.putfield 105, 3) := dk_181 0 105 (dk_at dksX1_glass_2 5 rfl rfl)
theorem dX1_glass_56 : decode cX1_glass 56 = .ok (.aload_n 0, 1) := dk_42 (dk_at dksX1_glass_2 8 rfl rfl)
theorem dX1_glass_57 : decode cX1_glass 57 = .ok (.aload_n 2, 1) := dk_44 (dk_at dksX1_glass_2 9 rfl rfl)
theorem dX1_glass_58 : decode cX1_glass 58 = .ok (.getfield 119, 3) := dk_180 0 119 (dk_at dksX1_glass_2 10 rfl rfl)
theorem dX1_glass_61 : decode cX1_glass 61 = .ok (.putfield 22, 3) := dk_181 0 22 (dk_at dksX1_glass_2 13 rfl rfl)
theorem dX1_glass_64 : decode cX1_glass 64 = .ok (.aload_n 0, 1) := dk_42 (dk_at dksX1_glass_2 16 rfl rfl)
theorem dX1_glass_65 : decode cX1_glass 65 = .ok (.iconst 4, 1) := dk_7 (dk_at dksX1_glass_2 17 rfl rfl)
theorem dX1_glass_66 : decode cX1_glass 66 = .ok (.invokevirtual 101, 3) := dk_182 0 101 (dk_at dksX1_glass_2 18 rfl rfl)
theorem dX1_glass_69 : decode cX1_glass 69 = .ok (.ireturn, 1) := dk_172 (dk_at dksX1_glass_2 21 rfl rfl)
theorem dX1_glass_70 : decode cX1_glass 70 = .ok (.aload_n 0, 1) := dk_42 (dk_at dksX1_glass_2 22 rfl rfl)
theorem dX1_glass_71 : decode cX1_glass 71 = .ok (.getfield 29, 3) := dk_180 0 29 (dk_at dksX1_glass_3 0 rfl rfl)
theorem dX1_glass_74 : decode cX1_glass 74 = .ok (.aload_n 0, 1) := dk_42 (dk_at dksX1_glass_3 3 rfl rfl)
theorem dX1_glass_75 : decode cX1_glass 75 = .ok (.getfield 112, 3) := dk_180 0 112 (dk_at dksX1_glass_3 4 rfl rfl)
theorem dX1_glass_78 : decode cX1_glass 78 = .ok (.invokevirtual 122, 3) := dk_182 0 122 (dk_at dksX1_glass_3 7 rfl rfl)
theorem dX1_glass_81 : decode cX1_glass 81 = .ok (.aload_n 0, 1) := dk_42 (dk_at dksX1_glass_3 10 rfl rfl)
theorem dX1_glass_82 : decode cX1_glass 82 = .ok (.iconst 0, 1) := dk_3 (dk_at dksX1_glass_3 11 rfl rfl)
theorem dX1_glass_83 : decode cX1_glass 83 = .ok (.putfield 126, 3) := dk_181 0 126 (dk_at dksX1_glass_3 12 rfl rfl)
theorem dX1_glass_86 : decode cX1_glass 86 = .ok (.aload_n 0, 1) := dk_42 (dk_at dksX1_glass_3 15 rfl rfl)
theorem dX1_glass_87 : decode cX1_glass 87 = .ok (.iconst 0, 1) := dk_3 (dk_at dksX1_glass_3 16 rfl rfl)
theorem dX1_glass_88 : decode cX1_glass 88 = .ok (.putfield 129, 3) := dk_181 0 129 (dk_at dksX1_glass_3 17 rfl rfl)
theorem dX1_glass_91 : decode cX1_glass 91 = .ok (.aload_n 0, 1) := dk_42 (dk_at dksX1_glass_3 20 rfl rfl)
theorem dX1_glass_92 : decode cX1_glass 92 = .ok (.invokevirtual 132, 3) := dk_182 0 132 (dk_at dksX1_glass_3 21 rfl rfl)
theorem dX1_glass_95 : decode cX1_glass 95 = .ok (.aload_n 0, 1) := dk_42 (dk_at dksX1_glass_4 0 rfl rfl)
theorem dX1_glass_96 : decode cX1_glass 96 = .ok (.getfield 112, 3) := dk_180 0 112 (dk_at dksX1_glass_4 1 rfl rfl)
theorem dX1_glass_99 : decode cX1_glass 99 = .ok (.getfield 135, 3) := dk_180 0 135 (dk_at dksX1_glass_4 4 rfl rfl)
theorem dX1_glass_102 : decode cX1_glass 102 = .ok (.ireturn, 1) := dk_172 (dk_at dksX1_glass_4 7 rfl rfl)
abbrev cX1_anew : ByteArray := prog_1_method_5_code
def yX1_anew : MethodName := ⟨RX1, "anew", "()V"⟩
def dkwX1_anew_0 : List UInt8 := [42, 3, 181, 0, 84, 42, 2, 181, 0, 22, 177]
abbrev dktX1_anew_0 : List UInt8 := dkwX1_anew_0 ++ []
theorem dksX1_anew_0 : cX1_anew.data.toList.drop 0 = dktX1_anew_0 := by decide +kernel
theorem dX1_anew_0 : decode cX1_anew 0 = .ok (.aload_n 0, 1) := dk_42 (dk_at dksX1_anew_0 0 rfl rfl)
theorem dX1_anew_1 : decode cX1_anew 1 = .ok (.iconst 0, 1) := dk_3 (dk_at dksX1_anew_0 1 rfl rfl)
theorem dX1_anew_2 : decode cX1_anew 2 = .ok (.putfield 84, 3) := dk_181 0 84 (dk_at dksX1_anew_0 2 rfl rfl)
theorem dX1_anew_5 : decode cX1_anew 5 = .ok (.aload_n 0, 1) := dk_42 (dk_at dksX1_anew_0 5 rfl rfl)
theorem dX1_anew_6 : decode cX1_anew 6 = .ok (.iconst (-1), 1) := dk_2 (dk_at dksX1_anew_0 6 rfl rfl)
theorem dX1_anew_7 : decode cX1_anew 7 = .ok (.putfield 22, 3) := dk_181 0 22 (dk_at dksX1_anew_0 7 rfl rfl)
theorem dX1_anew_10 : decode cX1_anew 10 = .ok (.return_, 1) := dk_177 (dk_at dksX1_anew_0 10 rfl rfl)
abbrev cX1_in : ByteArray := prog_1_method_1_code
def yX1_in : MethodName := ⟨RX1, "in", "(III)Z"⟩
def dkwX1_in_0 : List UInt8 := [26, 27, 161, 0, 12, 26, 28, 163, 0, 7, 4, 167, 0, 4, 3, 172]
abbrev dktX1_in_0 : List UInt8 := dkwX1_in_0 ++ []
theorem dksX1_in_0 : cX1_in.data.toList.drop 0 = dktX1_in_0 := by decide +kernel
theorem dX1_in_0 : decode cX1_in 0 = .ok (.iload_n 0, 1) := dk_26 (dk_at dksX1_in_0 0 rfl rfl)
theorem dX1_in_1 : decode cX1_in 1 = .ok (.iload_n 1, 1) := dk_27 (dk_at dksX1_in_0 1 rfl rfl)
theorem dX1_in_2 : decode cX1_in 2 = .ok (.if_icmp .lt 12, 3) := dk_161 0 12 (dk_at dksX1_in_0 2 rfl rfl)
theorem dX1_in_5 : decode cX1_in 5 = .ok (.iload_n 0, 1) := dk_26 (dk_at dksX1_in_0 5 rfl rfl)
theorem dX1_in_6 : decode cX1_in 6 = .ok (.iload_n 2, 1) := dk_28 (dk_at dksX1_in_0 6 rfl rfl)
theorem dX1_in_7 : decode cX1_in 7 = .ok (.if_icmp .gt 7, 3) := dk_163 0 7 (dk_at dksX1_in_0 7 rfl rfl)
theorem dX1_in_10 : decode cX1_in 10 = .ok (.iconst 1, 1) := dk_4 (dk_at dksX1_in_0 10 rfl rfl)
theorem dX1_in_11 : decode cX1_in 11 = .ok (.goto 4, 3) := dk_167 0 4 (dk_at dksX1_in_0 11 rfl rfl)
theorem dX1_in_14 : decode cX1_in 14 = .ok (.iconst 0, 1) := dk_3 (dk_at dksX1_in_0 14 rfl rfl)
theorem dX1_in_15 : decode cX1_in 15 = .ok (.ireturn, 1) := dk_172 (dk_at dksX1_in_0 15 rfl rfl)
abbrev cX1_no : ByteArray := prog_1_method_6_code
def yX1_no : MethodName := ⟨RX1, "no", "(I)I"⟩
def dkwX1_no_0 : List UInt8 := [42, 27, 181, 0, 84, 2, 172]
abbrev dktX1_no_0 : List UInt8 := dkwX1_no_0 ++ []
theorem dksX1_no_0 : cX1_no.data.toList.drop 0 = dktX1_no_0 := by decide +kernel
theorem dX1_no_0 : decode cX1_no 0 = .ok (.aload_n 0, 1) := dk_42 (dk_at dksX1_no_0 0 rfl rfl)
theorem dX1_no_1 : decode cX1_no 1 = .ok (.iload_n 1, 1) := dk_27 (dk_at dksX1_no_0 1 rfl rfl)
theorem dX1_no_2 : decode cX1_no 2 = .ok (.putfield 84, 3) := dk_181 0 84 (dk_at dksX1_no_0 2 rfl rfl)
theorem dX1_no_5 : decode cX1_no 5 = .ok (.iconst (-1), 1) := dk_2 (dk_at dksX1_no_0 5 rfl rfl)
theorem dX1_no_6 : decode cX1_no 6 = .ok (.ireturn, 1) := dk_172 (dk_at dksX1_no_0 6 rfl rfl)
abbrev cX1_runMonth : ByteArray := prog_1_method_11_code
def yX1_runMonth : MethodName := ⟨RX1, "runMonth", "()V"⟩
def dkwX1_runMonth_0 : List UInt8 := [42, 180, 0, 42, 42, 180, 0, 112, 42, 180, 0, 29, 1, 182, 0, 140, 177]
abbrev dktX1_runMonth_0 : List UInt8 := dkwX1_runMonth_0 ++ []
theorem dksX1_runMonth_0 : cX1_runMonth.data.toList.drop 0 = dktX1_runMonth_0 := by decide +kernel
theorem dX1_runMonth_0 : decode cX1_runMonth 0 = .ok (.aload_n 0, 1) := dk_42 (dk_at dksX1_runMonth_0 0 rfl rfl)
theorem dX1_runMonth_1 : decode cX1_runMonth 1 = .ok (.getfield 42, 3) := dk_180 0 42 (dk_at dksX1_runMonth_0 1 rfl rfl)
theorem dX1_runMonth_4 : decode cX1_runMonth 4 = .ok (.aload_n 0, 1) := dk_42 (dk_at dksX1_runMonth_0 4 rfl rfl)
theorem dX1_runMonth_5 : decode cX1_runMonth 5 = .ok (.getfield 112, 3) := dk_180 0 112 (dk_at dksX1_runMonth_0 5 rfl rfl)
theorem dX1_runMonth_8 : decode cX1_runMonth 8 = .ok (.aload_n 0, 1) := dk_42 (dk_at dksX1_runMonth_0 8 rfl rfl)
theorem dX1_runMonth_9 : decode cX1_runMonth 9 = .ok (.getfield 29, 3) := dk_180 0 29 (dk_at dksX1_runMonth_0 9 rfl rfl)
theorem dX1_runMonth_12 : decode cX1_runMonth 12 = .ok (.aconst_null, 1) := dk_1 (dk_at dksX1_runMonth_0 12 rfl rfl)
theorem dX1_runMonth_13 : decode cX1_runMonth 13 = .ok (.invokevirtual 140, 3) := dk_182 0 140 (dk_at dksX1_runMonth_0 13 rfl rfl)
theorem dX1_runMonth_16 : decode cX1_runMonth 16 = .ok (.return_, 1) := dk_177 (dk_at dksX1_runMonth_0 16 rfl rfl)
abbrev cX1_fault : ByteArray := prog_1_method_12_code
def yX1_fault : MethodName := ⟨RX1, "fault", "()I"⟩
theorem dX1_fault_0 : decode cX1_fault 0 = .ok (.aload_n 0, 1) := by decide +kernel
theorem dX1_fault_1 : decode cX1_fault 1 = .ok (.getfield 105, 3) := by decide +kernel
theorem dX1_fault_4 : decode cX1_fault 4 = .ok (.ireturn, 1) := by decide +kernel
abbrev cX1_where : ByteArray := prog_1_method_13_code
def yX1_where : MethodName := ⟨RX1, "where", "()I"⟩
def dkwX1_where_0 : List UInt8 := [42, 180, 0, 84, 7, 160, 0, 10, 42, 180, 0, 22, 167, 0, 4, 2, 172]
abbrev dktX1_where_0 : List UInt8 := dkwX1_where_0 ++ []
theorem dksX1_where_0 : cX1_where.data.toList.drop 0 = dktX1_where_0 := by decide +kernel
theorem dX1_where_0 : decode cX1_where 0 = .ok (.aload_n 0, 1) := dk_42 (dk_at dksX1_where_0 0 rfl rfl)
theorem dX1_where_1 : decode cX1_where 1 = .ok (.getfield 84, 3) := dk_180 0 84 (dk_at dksX1_where_0 1 rfl rfl)
theorem dX1_where_4 : decode cX1_where 4 = .ok (.iconst 4, 1) := dk_7 (dk_at dksX1_where_0 4 rfl rfl)
theorem dX1_where_5 : decode cX1_where 5 = .ok (.if_icmp .ne 10, 3) := dk_160 0 10 (dk_at dksX1_where_0 5 rfl rfl)
theorem dX1_where_8 : decode cX1_where 8 = .ok (.aload_n 0, 1) := dk_42 (dk_at dksX1_where_0 8 rfl rfl)
theorem dX1_where_9 : decode cX1_where 9 = .ok (.getfield 22, 3) := dk_180 0 22 (dk_at dksX1_where_0 9 rfl rfl)
theorem dX1_where_12 : decode cX1_where 12 = .ok (.goto 4, 3) := dk_167 0 4 (dk_at dksX1_where_0 12 rfl rfl)
theorem dX1_where_15 : decode cX1_where 15 = .ok (.iconst (-1), 1) := dk_2 (dk_at dksX1_where_0 15 rfl rfl)
theorem dX1_where_16 : decode cX1_where 16 = .ok (.ireturn, 1) := dk_172 (dk_at dksX1_where_0 16 rfl rfl)
abbrev cX1_person : ByteArray := prog_1_method_18_code
def yX1_person : MethodName := ⟨RX1, "person", "(II)I"⟩
def dkwX1_person_5 : List UInt8 := [45, 180, 0, 180, 172, 42, 4, 182, 0, 101, 172]
abbrev dktX1_person_5 : List UInt8 := dkwX1_person_5 ++ []
def dkwX1_person_4 : List UInt8 := [180, 0, 168, 27, 46, 172, 45, 180, 0, 171, 172, 45, 180, 0, 176, 153, 0, 7, 4, 167, 0, 4, 3, 172]
abbrev dktX1_person_4 : List UInt8 := dkwX1_person_4 ++ dktX1_person_5
def dkwX1_person_3 : List UInt8 := [42, 180, 0, 29, 180, 0, 161, 27, 46, 172, 42, 180, 0, 29, 180, 0, 165, 27, 46, 172, 42, 180, 0, 29]
abbrev dktX1_person_3 : List UInt8 := dkwX1_person_3 ++ dktX1_person_4
def dkwX1_person_2 : List UInt8 := [170, 0, 0, 0, 0, 0, 92, 0, 0, 0, 0, 0, 0, 0, 5, 0, 0, 0, 39, 0, 0, 0, 49, 0, 0, 0, 59, 0, 0, 0, 69, 0, 0, 0, 74, 0, 0, 0, 87]
abbrev dktX1_person_2 : List UInt8 := dkwX1_person_2 ++ dktX1_person_3
def dkwX1_person_1 : List UInt8 := [180, 0, 157, 27, 50, 78, 28]
abbrev dktX1_person_1 : List UInt8 := dkwX1_person_1 ++ dktX1_person_2
def dkwX1_person_0 : List UInt8 := [42, 182, 0, 87, 42, 27, 182, 0, 154, 154, 0, 9, 42, 4, 182, 0, 101, 172, 42, 180, 0, 112]
abbrev dktX1_person_0 : List UInt8 := dkwX1_person_0 ++ dktX1_person_1
theorem dksX1_person_0 : cX1_person.data.toList.drop 0 = dktX1_person_0 := by decide +kernel
theorem dksX1_person_1 : cX1_person.data.toList.drop 22 = dktX1_person_1 := dk_seg dksX1_person_0 22 rfl rfl
theorem dksX1_person_2 : cX1_person.data.toList.drop 29 = dktX1_person_2 := dk_seg dksX1_person_1 7 rfl rfl
theorem dksX1_person_3 : cX1_person.data.toList.drop 68 = dktX1_person_3 := dk_seg dksX1_person_2 39 rfl rfl
theorem dksX1_person_4 : cX1_person.data.toList.drop 92 = dktX1_person_4 := dk_seg dksX1_person_3 24 rfl rfl
theorem dksX1_person_5 : cX1_person.data.toList.drop 116 = dktX1_person_5 := dk_seg dksX1_person_4 24 rfl rfl
theorem dX1_person_0 : decode cX1_person 0 = .ok (.aload_n 0, 1) := dk_42 (dk_at dksX1_person_0 0 rfl rfl)
theorem dX1_person_1 : decode cX1_person 1 = .ok (.invokevirtual 87, 3) := dk_182 0 87 (dk_at dksX1_person_0 1 rfl rfl)
theorem dX1_person_4 : decode cX1_person 4 = .ok (.aload_n 0, 1) := dk_42 (dk_at dksX1_person_0 4 rfl rfl)
theorem dX1_person_5 : decode cX1_person 5 = .ok (.iload_n 1, 1) := dk_27 (dk_at dksX1_person_0 5 rfl rfl)
theorem dX1_person_6 : decode cX1_person 6 = .ok (.invokevirtual 154, 3) := dk_182 0 154 (dk_at dksX1_person_0 6 rfl rfl)
theorem dX1_person_9 : decode cX1_person 9 = .ok (.ifCond .ne 9, 3) := dk_154 0 9 (dk_at dksX1_person_0 9 rfl rfl)
theorem dX1_person_12 : decode cX1_person 12 = .ok (.aload_n 0, 1) := dk_42 (dk_at dksX1_person_0 12 rfl rfl)
theorem dX1_person_13 : decode cX1_person 13 = .ok (.iconst 1, 1) := dk_4 (dk_at dksX1_person_0 13 rfl rfl)
theorem dX1_person_14 : decode cX1_person 14 = .ok (.invokevirtual 101, 3) := dk_182 0 101 (dk_at dksX1_person_0 14 rfl rfl)
theorem dX1_person_17 : decode cX1_person 17 = .ok (.ireturn, 1) := dk_172 (dk_at dksX1_person_0 17 rfl rfl)
theorem dX1_person_18 : decode cX1_person 18 = .ok (.aload_n 0, 1) := dk_42 (dk_at dksX1_person_0 18 rfl rfl)
theorem dX1_person_19 : decode cX1_person 19 = .ok (.getfield 112, 3) := dk_180 0 112 (dk_at dksX1_person_0 19 rfl rfl)
theorem dX1_person_22 : decode cX1_person 22 = .ok (.getfield 157, 3) := dk_180 0 157 (dk_at dksX1_person_1 0 rfl rfl)
theorem dX1_person_25 : decode cX1_person 25 = .ok (.iload_n 1, 1) := dk_27 (dk_at dksX1_person_1 3 rfl rfl)
theorem dX1_person_26 : decode cX1_person 26 = .ok (.aaload, 1) := dk_50 (dk_at dksX1_person_1 4 rfl rfl)
theorem dX1_person_27 : decode cX1_person 27 = .ok (.astore_n 3, 1) := dk_78 (dk_at dksX1_person_1 5 rfl rfl)
theorem dX1_person_28 : decode cX1_person 28 = .ok (.iload_n 2, 1) := dk_28 (dk_at dksX1_person_1 6 rfl rfl)
theorem dX1_person_29 : decode cX1_person 29 = .ok (.tableswitch 92 0 5 #[39, 49, 59, 69, 74, 87], 39) := by decide +kernel
theorem dX1_person_68 : decode cX1_person 68 = .ok (.aload_n 0, 1) := dk_42 (dk_at dksX1_person_3 0 rfl rfl)
theorem dX1_person_69 : decode cX1_person 69 = .ok (.getfield 29, 3) := dk_180 0 29 (dk_at dksX1_person_3 1 rfl rfl)
theorem dX1_person_72 : decode cX1_person 72 = .ok (.getfield 161, 3) := dk_180 0 161 (dk_at dksX1_person_3 4 rfl rfl)
theorem dX1_person_75 : decode cX1_person 75 = .ok (.iload_n 1, 1) := dk_27 (dk_at dksX1_person_3 7 rfl rfl)
theorem dX1_person_76 : decode cX1_person 76 = .ok (.iaload, 1) := dk_46 (dk_at dksX1_person_3 8 rfl rfl)
theorem dX1_person_77 : decode cX1_person 77 = .ok (.ireturn, 1) := dk_172 (dk_at dksX1_person_3 9 rfl rfl)
theorem dX1_person_78 : decode cX1_person 78 = .ok (.aload_n 0, 1) := dk_42 (dk_at dksX1_person_3 10 rfl rfl)
theorem dX1_person_79 : decode cX1_person 79 = .ok (.getfield 29, 3) := dk_180 0 29 (dk_at dksX1_person_3 11 rfl rfl)
theorem dX1_person_82 : decode cX1_person 82 = .ok (.getfield 165, 3) := dk_180 0 165 (dk_at dksX1_person_3 14 rfl rfl)
theorem dX1_person_85 : decode cX1_person 85 = .ok (.iload_n 1, 1) := dk_27 (dk_at dksX1_person_3 17 rfl rfl)
theorem dX1_person_86 : decode cX1_person 86 = .ok (.iaload, 1) := dk_46 (dk_at dksX1_person_3 18 rfl rfl)
theorem dX1_person_87 : decode cX1_person 87 = .ok (.ireturn, 1) := dk_172 (dk_at dksX1_person_3 19 rfl rfl)
theorem dX1_person_88 : decode cX1_person 88 = .ok (.aload_n 0, 1) := dk_42 (dk_at dksX1_person_3 20 rfl rfl)
theorem dX1_person_89 : decode cX1_person 89 = .ok (.getfield 29, 3) := dk_180 0 29 (dk_at dksX1_person_3 21 rfl rfl)
theorem dX1_person_92 : decode cX1_person 92 = .ok (.getfield 168, 3) := dk_180 0 168 (dk_at dksX1_person_4 0 rfl rfl)
theorem dX1_person_95 : decode cX1_person 95 = .ok (.iload_n 1, 1) := dk_27 (dk_at dksX1_person_4 3 rfl rfl)
theorem dX1_person_96 : decode cX1_person 96 = .ok (.iaload, 1) := dk_46 (dk_at dksX1_person_4 4 rfl rfl)
theorem dX1_person_97 : decode cX1_person 97 = .ok (.ireturn, 1) := dk_172 (dk_at dksX1_person_4 5 rfl rfl)
theorem dX1_person_98 : decode cX1_person 98 = .ok (.aload_n 3, 1) := dk_45 (dk_at dksX1_person_4 6 rfl rfl)
theorem dX1_person_99 : decode cX1_person 99 = .ok (.getfield 171, 3) := dk_180 0 171 (dk_at dksX1_person_4 7 rfl rfl)
theorem dX1_person_102 : decode cX1_person 102 = .ok (.ireturn, 1) := dk_172 (dk_at dksX1_person_4 10 rfl rfl)
theorem dX1_person_103 : decode cX1_person 103 = .ok (.aload_n 3, 1) := dk_45 (dk_at dksX1_person_4 11 rfl rfl)
theorem dX1_person_104 : decode cX1_person 104 = .ok (.getfield 176, 3) := dk_180 0 176 (dk_at dksX1_person_4 12 rfl rfl)
theorem dX1_person_107 : decode cX1_person 107 = .ok (.ifCond .eq 7, 3) := dk_153 0 7 (dk_at dksX1_person_4 15 rfl rfl)
theorem dX1_person_110 : decode cX1_person 110 = .ok (.iconst 1, 1) := dk_4 (dk_at dksX1_person_4 18 rfl rfl)
theorem dX1_person_111 : decode cX1_person 111 = .ok (.goto 4, 3) := dk_167 0 4 (dk_at dksX1_person_4 19 rfl rfl)
theorem dX1_person_114 : decode cX1_person 114 = .ok (.iconst 0, 1) := dk_3 (dk_at dksX1_person_4 22 rfl rfl)
theorem dX1_person_115 : decode cX1_person 115 = .ok (.ireturn, 1) := dk_172 (dk_at dksX1_person_4 23 rfl rfl)
theorem dX1_person_116 : decode cX1_person 116 = .ok (.aload_n 3, 1) := dk_45 (dk_at dksX1_person_5 0 rfl rfl)
theorem dX1_person_117 : decode cX1_person 117 = .ok (.getfield 180, 3) := dk_180 0 180 (dk_at dksX1_person_5 1 rfl rfl)
theorem dX1_person_120 : decode cX1_person 120 = .ok (.ireturn, 1) := dk_172 (dk_at dksX1_person_5 4 rfl rfl)
theorem dX1_person_121 : decode cX1_person 121 = .ok (.aload_n 0, 1) := dk_42 (dk_at dksX1_person_5 5 rfl rfl)
theorem dX1_person_122 : decode cX1_person 122 = .ok (.iconst 1, 1) := dk_4 (dk_at dksX1_person_5 6 rfl rfl)
theorem dX1_person_123 : decode cX1_person 123 = .ok (.invokevirtual 101, 3) := dk_182 0 101 (dk_at dksX1_person_5 7 rfl rfl)
theorem dX1_person_126 : decode cX1_person 126 = .ok (.ireturn, 1) := dk_172 (dk_at dksX1_person_5 10 rfl rfl)
abbrev cX1_isPerson : ByteArray := prog_1_method_14_code
def yX1_isPerson : MethodName := ⟨RX1, "isPerson", "(I)Z"⟩
def dkwX1_isPerson_1 : List UInt8 := [4, 167, 0, 4, 3, 172]
abbrev dktX1_isPerson_1 : List UInt8 := dkwX1_isPerson_1 ++ []
def dkwX1_isPerson_0 : List UInt8 := [42, 180, 0, 112, 198, 0, 24, 27, 3, 42, 180, 0, 112, 180, 0, 135, 4, 100, 184, 0, 97, 153, 0, 7]
abbrev dktX1_isPerson_0 : List UInt8 := dkwX1_isPerson_0 ++ dktX1_isPerson_1
theorem dksX1_isPerson_0 : cX1_isPerson.data.toList.drop 0 = dktX1_isPerson_0 := by decide +kernel
theorem dksX1_isPerson_1 : cX1_isPerson.data.toList.drop 24 = dktX1_isPerson_1 := dk_seg dksX1_isPerson_0 24 rfl rfl
theorem dX1_isPerson_0 : decode cX1_isPerson 0 = .ok (.aload_n 0, 1) := dk_42 (dk_at dksX1_isPerson_0 0 rfl rfl)
theorem dX1_isPerson_1 : decode cX1_isPerson 1 = .ok (.getfield 112, 3) := dk_180 0 112 (dk_at dksX1_isPerson_0 1 rfl rfl)
theorem dX1_isPerson_4 : decode cX1_isPerson 4 = .ok (.ifnull 24, 3) := dk_198 0 24 (dk_at dksX1_isPerson_0 4 rfl rfl)
theorem dX1_isPerson_7 : decode cX1_isPerson 7 = .ok (.iload_n 1, 1) := dk_27 (dk_at dksX1_isPerson_0 7 rfl rfl)
theorem dX1_isPerson_8 : decode cX1_isPerson 8 = .ok (.iconst 0, 1) := dk_3 (dk_at dksX1_isPerson_0 8 rfl rfl)
theorem dX1_isPerson_9 : decode cX1_isPerson 9 = .ok (.aload_n 0, 1) := dk_42 (dk_at dksX1_isPerson_0 9 rfl rfl)
theorem dX1_isPerson_10 : decode cX1_isPerson 10 = .ok (.getfield 112, 3) := dk_180 0 112 (dk_at dksX1_isPerson_0 10 rfl rfl)
theorem dX1_isPerson_13 : decode cX1_isPerson 13 = .ok (.getfield 135, 3) := dk_180 0 135 (dk_at dksX1_isPerson_0 13 rfl rfl)
theorem dX1_isPerson_16 : decode cX1_isPerson 16 = .ok (.iconst 1, 1) := dk_4 (dk_at dksX1_isPerson_0 16 rfl rfl)
theorem dX1_isPerson_17 : decode cX1_isPerson 17 = .ok (.isub, 1) := dk_100 (dk_at dksX1_isPerson_0 17 rfl rfl)
theorem dX1_isPerson_18 : decode cX1_isPerson 18 = .ok (.invokestatic 97, 3) := dk_184 0 97 (dk_at dksX1_isPerson_0 18 rfl rfl)
theorem dX1_isPerson_21 : decode cX1_isPerson 21 = .ok (.ifCond .eq 7, 3) := dk_153 0 7 (dk_at dksX1_isPerson_0 21 rfl rfl)
theorem dX1_isPerson_24 : decode cX1_isPerson 24 = .ok (.iconst 1, 1) := dk_4 (dk_at dksX1_isPerson_1 0 rfl rfl)
theorem dX1_isPerson_25 : decode cX1_isPerson 25 = .ok (.goto 4, 3) := dk_167 0 4 (dk_at dksX1_isPerson_1 1 rfl rfl)
theorem dX1_isPerson_28 : decode cX1_isPerson 28 = .ok (.iconst 0, 1) := dk_3 (dk_at dksX1_isPerson_1 4 rfl rfl)
theorem dX1_isPerson_29 : decode cX1_isPerson 29 = .ok (.ireturn, 1) := dk_172 (dk_at dksX1_isPerson_1 5 rfl rfl)
abbrev cX1_likes : ByteArray := prog_1_method_19_code
def yX1_likes : MethodName := ⟨RX1, "likes", "(II)I"⟩
def dkwX1_likes_2 : List UInt8 := [46, 167, 0, 8, 42, 4, 182, 0, 101, 172]
abbrev dktX1_likes_2 : List UInt8 := dkwX1_likes_2 ++ []
def dkwX1_likes_1 : List UInt8 := [180, 0, 183, 4, 100, 184, 0, 97, 153, 0, 20, 42, 180, 0, 112, 180, 0, 157, 27, 50, 180, 0, 186, 28]
abbrev dktX1_likes_1 : List UInt8 := dkwX1_likes_1 ++ dktX1_likes_2
def dkwX1_likes_0 : List UInt8 := [42, 182, 0, 87, 42, 27, 182, 0, 154, 153, 0, 42, 28, 3, 42, 180, 0, 112, 180, 0, 157, 27, 50]
abbrev dktX1_likes_0 : List UInt8 := dkwX1_likes_0 ++ dktX1_likes_1
theorem dksX1_likes_0 : cX1_likes.data.toList.drop 0 = dktX1_likes_0 := by decide +kernel
theorem dksX1_likes_1 : cX1_likes.data.toList.drop 23 = dktX1_likes_1 := dk_seg dksX1_likes_0 23 rfl rfl
theorem dksX1_likes_2 : cX1_likes.data.toList.drop 47 = dktX1_likes_2 := dk_seg dksX1_likes_1 24 rfl rfl
theorem dX1_likes_0 : decode cX1_likes 0 = .ok (.aload_n 0, 1) := dk_42 (dk_at dksX1_likes_0 0 rfl rfl)
theorem dX1_likes_1 : decode cX1_likes 1 = .ok (.invokevirtual 87, 3) := dk_182 0 87 (dk_at dksX1_likes_0 1 rfl rfl)
theorem dX1_likes_4 : decode cX1_likes 4 = .ok (.aload_n 0, 1) := dk_42 (dk_at dksX1_likes_0 4 rfl rfl)
theorem dX1_likes_5 : decode cX1_likes 5 = .ok (.iload_n 1, 1) := dk_27 (dk_at dksX1_likes_0 5 rfl rfl)
theorem dX1_likes_6 : decode cX1_likes 6 = .ok (.invokevirtual 154, 3) := dk_182 0 154 (dk_at dksX1_likes_0 6 rfl rfl)
theorem dX1_likes_9 : decode cX1_likes 9 = .ok (.ifCond .eq 42, 3) := dk_153 0 42 (dk_at dksX1_likes_0 9 rfl rfl)
theorem dX1_likes_12 : decode cX1_likes 12 = .ok (.iload_n 2, 1) := dk_28 (dk_at dksX1_likes_0 12 rfl rfl)
theorem dX1_likes_13 : decode cX1_likes 13 = .ok (.iconst 0, 1) := dk_3 (dk_at dksX1_likes_0 13 rfl rfl)
theorem dX1_likes_14 : decode cX1_likes 14 = .ok (.aload_n 0, 1) := dk_42 (dk_at dksX1_likes_0 14 rfl rfl)
theorem dX1_likes_15 : decode cX1_likes 15 = .ok (.getfield 112, 3) := dk_180 0 112 (dk_at dksX1_likes_0 15 rfl rfl)
theorem dX1_likes_18 : decode cX1_likes 18 = .ok (.getfield 157, 3) := dk_180 0 157 (dk_at dksX1_likes_0 18 rfl rfl)
theorem dX1_likes_21 : decode cX1_likes 21 = .ok (.iload_n 1, 1) := dk_27 (dk_at dksX1_likes_0 21 rfl rfl)
theorem dX1_likes_22 : decode cX1_likes 22 = .ok (.aaload, 1) := dk_50 (dk_at dksX1_likes_0 22 rfl rfl)
theorem dX1_likes_23 : decode cX1_likes 23 = .ok (.getfield 183, 3) := dk_180 0 183 (dk_at dksX1_likes_1 0 rfl rfl)
theorem dX1_likes_26 : decode cX1_likes 26 = .ok (.iconst 1, 1) := dk_4 (dk_at dksX1_likes_1 3 rfl rfl)
theorem dX1_likes_27 : decode cX1_likes 27 = .ok (.isub, 1) := dk_100 (dk_at dksX1_likes_1 4 rfl rfl)
theorem dX1_likes_28 : decode cX1_likes 28 = .ok (.invokestatic 97, 3) := dk_184 0 97 (dk_at dksX1_likes_1 5 rfl rfl)
theorem dX1_likes_31 : decode cX1_likes 31 = .ok (.ifCond .eq 20, 3) := dk_153 0 20 (dk_at dksX1_likes_1 8 rfl rfl)
theorem dX1_likes_34 : decode cX1_likes 34 = .ok (.aload_n 0, 1) := dk_42 (dk_at dksX1_likes_1 11 rfl rfl)
theorem dX1_likes_35 : decode cX1_likes 35 = .ok (.getfield 112, 3) := dk_180 0 112 (dk_at dksX1_likes_1 12 rfl rfl)
theorem dX1_likes_38 : decode cX1_likes 38 = .ok (.getfield 157, 3) := dk_180 0 157 (dk_at dksX1_likes_1 15 rfl rfl)
theorem dX1_likes_41 : decode cX1_likes 41 = .ok (.iload_n 1, 1) := dk_27 (dk_at dksX1_likes_1 18 rfl rfl)
theorem dX1_likes_42 : decode cX1_likes 42 = .ok (.aaload, 1) := dk_50 (dk_at dksX1_likes_1 19 rfl rfl)
theorem dX1_likes_43 : decode cX1_likes 43 = .ok (.getfield 186, 3) := dk_180 0 186 (dk_at dksX1_likes_1 20 rfl rfl)
theorem dX1_likes_46 : decode cX1_likes 46 = .ok (.iload_n 2, 1) := dk_28 (dk_at dksX1_likes_1 23 rfl rfl)
theorem dX1_likes_47 : decode cX1_likes 47 = .ok (.iaload, 1) := dk_46 (dk_at dksX1_likes_2 0 rfl rfl)
theorem dX1_likes_48 : decode cX1_likes 48 = .ok (.goto 8, 3) := dk_167 0 8 (dk_at dksX1_likes_2 1 rfl rfl)
theorem dX1_likes_51 : decode cX1_likes 51 = .ok (.aload_n 0, 1) := dk_42 (dk_at dksX1_likes_2 4 rfl rfl)
theorem dX1_likes_52 : decode cX1_likes 52 = .ok (.iconst 1, 1) := dk_4 (dk_at dksX1_likes_2 5 rfl rfl)
theorem dX1_likes_53 : decode cX1_likes 53 = .ok (.invokevirtual 101, 3) := dk_182 0 101 (dk_at dksX1_likes_2 6 rfl rfl)
theorem dX1_likes_56 : decode cX1_likes 56 = .ok (.ireturn, 1) := dk_172 (dk_at dksX1_likes_2 9 rfl rfl)
abbrev cX1_stay : ByteArray := prog_1_method_20_code
def yX1_stay : MethodName := ⟨RX1, "stay", "(III)I"⟩
def dkwX1_stay_3 : List UInt8 := [167, 0, 17, 42, 180, 0, 112, 180, 0, 157, 27, 50, 180, 0, 192, 28, 46, 172]
abbrev dktX1_stay_3 : List UInt8 := dkwX1_stay_3 ++ []
def dkwX1_stay_2 : List UInt8 := [182, 0, 101, 172, 29, 154, 0, 20, 42, 180, 0, 112, 180, 0, 157, 27, 50, 180, 0, 189, 28, 46]
abbrev dktX1_stay_2 : List UInt8 := dkwX1_stay_2 ++ dktX1_stay_3
def dkwX1_stay_1 : List UInt8 := [180, 0, 180, 4, 100, 184, 0, 97, 153, 0, 12, 29, 3, 4, 184, 0, 97, 154, 0, 9, 42, 4]
abbrev dktX1_stay_1 : List UInt8 := dkwX1_stay_1 ++ dktX1_stay_2
def dkwX1_stay_0 : List UInt8 := [42, 182, 0, 87, 42, 27, 182, 0, 154, 153, 0, 34, 28, 3, 42, 180, 0, 112, 180, 0, 157, 27, 50]
abbrev dktX1_stay_0 : List UInt8 := dkwX1_stay_0 ++ dktX1_stay_1
theorem dksX1_stay_0 : cX1_stay.data.toList.drop 0 = dktX1_stay_0 := by decide +kernel
theorem dksX1_stay_1 : cX1_stay.data.toList.drop 23 = dktX1_stay_1 := dk_seg dksX1_stay_0 23 rfl rfl
theorem dksX1_stay_2 : cX1_stay.data.toList.drop 45 = dktX1_stay_2 := dk_seg dksX1_stay_1 22 rfl rfl
theorem dksX1_stay_3 : cX1_stay.data.toList.drop 67 = dktX1_stay_3 := dk_seg dksX1_stay_2 22 rfl rfl
theorem dX1_stay_0 : decode cX1_stay 0 = .ok (.aload_n 0, 1) := dk_42 (dk_at dksX1_stay_0 0 rfl rfl)
theorem dX1_stay_1 : decode cX1_stay 1 = .ok (.invokevirtual 87, 3) := dk_182 0 87 (dk_at dksX1_stay_0 1 rfl rfl)
theorem dX1_stay_4 : decode cX1_stay 4 = .ok (.aload_n 0, 1) := dk_42 (dk_at dksX1_stay_0 4 rfl rfl)
theorem dX1_stay_5 : decode cX1_stay 5 = .ok (.iload_n 1, 1) := dk_27 (dk_at dksX1_stay_0 5 rfl rfl)
theorem dX1_stay_6 : decode cX1_stay 6 = .ok (.invokevirtual 154, 3) := dk_182 0 154 (dk_at dksX1_stay_0 6 rfl rfl)
theorem dX1_stay_9 : decode cX1_stay 9 = .ok (.ifCond .eq 34, 3) := dk_153 0 34 (dk_at dksX1_stay_0 9 rfl rfl)
theorem dX1_stay_12 : decode cX1_stay 12 = .ok (.iload_n 2, 1) := dk_28 (dk_at dksX1_stay_0 12 rfl rfl)
theorem dX1_stay_13 : decode cX1_stay 13 = .ok (.iconst 0, 1) := dk_3 (dk_at dksX1_stay_0 13 rfl rfl)
theorem dX1_stay_14 : decode cX1_stay 14 = .ok (.aload_n 0, 1) := dk_42 (dk_at dksX1_stay_0 14 rfl rfl)
theorem dX1_stay_15 : decode cX1_stay 15 = .ok (.getfield 112, 3) := dk_180 0 112 (dk_at dksX1_stay_0 15 rfl rfl)
theorem dX1_stay_18 : decode cX1_stay 18 = .ok (.getfield 157, 3) := dk_180 0 157 (dk_at dksX1_stay_0 18 rfl rfl)
theorem dX1_stay_21 : decode cX1_stay 21 = .ok (.iload_n 1, 1) := dk_27 (dk_at dksX1_stay_0 21 rfl rfl)
theorem dX1_stay_22 : decode cX1_stay 22 = .ok (.aaload, 1) := dk_50 (dk_at dksX1_stay_0 22 rfl rfl)
theorem dX1_stay_23 : decode cX1_stay 23 = .ok (.getfield 180, 3) := dk_180 0 180 (dk_at dksX1_stay_1 0 rfl rfl)
theorem dX1_stay_26 : decode cX1_stay 26 = .ok (.iconst 1, 1) := dk_4 (dk_at dksX1_stay_1 3 rfl rfl)
theorem dX1_stay_27 : decode cX1_stay 27 = .ok (.isub, 1) := dk_100 (dk_at dksX1_stay_1 4 rfl rfl)
theorem dX1_stay_28 : decode cX1_stay 28 = .ok (.invokestatic 97, 3) := dk_184 0 97 (dk_at dksX1_stay_1 5 rfl rfl)
theorem dX1_stay_31 : decode cX1_stay 31 = .ok (.ifCond .eq 12, 3) := dk_153 0 12 (dk_at dksX1_stay_1 8 rfl rfl)
theorem dX1_stay_34 : decode cX1_stay 34 = .ok (.iload_n 3, 1) := dk_29 (dk_at dksX1_stay_1 11 rfl rfl)
theorem dX1_stay_35 : decode cX1_stay 35 = .ok (.iconst 0, 1) := dk_3 (dk_at dksX1_stay_1 12 rfl rfl)
theorem dX1_stay_36 : decode cX1_stay 36 = .ok (.iconst 1, 1) := dk_4 (dk_at dksX1_stay_1 13 rfl rfl)
theorem dX1_stay_37 : decode cX1_stay 37 = .ok (.invokestatic 97, 3) := dk_184 0 97 (dk_at dksX1_stay_1 14 rfl rfl)
theorem dX1_stay_40 : decode cX1_stay 40 = .ok (.ifCond .ne 9, 3) := dk_154 0 9 (dk_at dksX1_stay_1 17 rfl rfl)
theorem dX1_stay_43 : decode cX1_stay 43 = .ok (.aload_n 0, 1) := dk_42 (dk_at dksX1_stay_1 20 rfl rfl)
theorem dX1_stay_44 : decode cX1_stay 44 = .ok (.iconst 1, 1) := dk_4 (dk_at dksX1_stay_1 21 rfl rfl)
theorem dX1_stay_45 : decode cX1_stay 45 = .ok (.invokevirtual 101, 3) := dk_182 0 101 (dk_at dksX1_stay_2 0 rfl rfl)
theorem dX1_stay_48 : decode cX1_stay 48 = .ok (.ireturn, 1) := dk_172 (dk_at dksX1_stay_2 3 rfl rfl)
theorem dX1_stay_49 : decode cX1_stay 49 = .ok (.iload_n 3, 1) := dk_29 (dk_at dksX1_stay_2 4 rfl rfl)
theorem dX1_stay_50 : decode cX1_stay 50 = .ok (.ifCond .ne 20, 3) := dk_154 0 20 (dk_at dksX1_stay_2 5 rfl rfl)
theorem dX1_stay_53 : decode cX1_stay 53 = .ok (.aload_n 0, 1) := dk_42 (dk_at dksX1_stay_2 8 rfl rfl)
theorem dX1_stay_54 : decode cX1_stay 54 = .ok (.getfield 112, 3) := dk_180 0 112 (dk_at dksX1_stay_2 9 rfl rfl)
theorem dX1_stay_57 : decode cX1_stay 57 = .ok (.getfield 157, 3) := dk_180 0 157 (dk_at dksX1_stay_2 12 rfl rfl)
theorem dX1_stay_60 : decode cX1_stay 60 = .ok (.iload_n 1, 1) := dk_27 (dk_at dksX1_stay_2 15 rfl rfl)
theorem dX1_stay_61 : decode cX1_stay 61 = .ok (.aaload, 1) := dk_50 (dk_at dksX1_stay_2 16 rfl rfl)
theorem dX1_stay_62 : decode cX1_stay 62 = .ok (.getfield 189, 3) := dk_180 0 189 (dk_at dksX1_stay_2 17 rfl rfl)
theorem dX1_stay_65 : decode cX1_stay 65 = .ok (.iload_n 2, 1) := dk_28 (dk_at dksX1_stay_2 20 rfl rfl)
theorem dX1_stay_66 : decode cX1_stay 66 = .ok (.iaload, 1) := dk_46 (dk_at dksX1_stay_2 21 rfl rfl)
theorem dX1_stay_67 : decode cX1_stay 67 = .ok (.goto 17, 3) := dk_167 0 17 (dk_at dksX1_stay_3 0 rfl rfl)
theorem dX1_stay_70 : decode cX1_stay 70 = .ok (.aload_n 0, 1) := dk_42 (dk_at dksX1_stay_3 3 rfl rfl)
theorem dX1_stay_71 : decode cX1_stay 71 = .ok (.getfield 112, 3) := dk_180 0 112 (dk_at dksX1_stay_3 4 rfl rfl)
theorem dX1_stay_74 : decode cX1_stay 74 = .ok (.getfield 157, 3) := dk_180 0 157 (dk_at dksX1_stay_3 7 rfl rfl)
theorem dX1_stay_77 : decode cX1_stay 77 = .ok (.iload_n 1, 1) := dk_27 (dk_at dksX1_stay_3 10 rfl rfl)
theorem dX1_stay_78 : decode cX1_stay 78 = .ok (.aaload, 1) := dk_50 (dk_at dksX1_stay_3 11 rfl rfl)
theorem dX1_stay_79 : decode cX1_stay 79 = .ok (.getfield 192, 3) := dk_180 0 192 (dk_at dksX1_stay_3 12 rfl rfl)
theorem dX1_stay_82 : decode cX1_stay 82 = .ok (.iload_n 2, 1) := dk_28 (dk_at dksX1_stay_3 15 rfl rfl)
theorem dX1_stay_83 : decode cX1_stay 83 = .ok (.iaload, 1) := dk_46 (dk_at dksX1_stay_3 16 rfl rfl)
theorem dX1_stay_84 : decode cX1_stay 84 = .ok (.ireturn, 1) := dk_172 (dk_at dksX1_stay_3 17 rfl rfl)
abbrev cX1_here : ByteArray := prog_1_method_21_code
def yX1_here : MethodName := ⟨RX1, "here", "(I)I"⟩
def dkwX1_here_1 : List UInt8 := [153, 0, 11, 42, 28, 182, 0, 101, 167, 0, 11, 42, 180, 0, 112, 27, 182, 0, 199, 172]
abbrev dktX1_here_1 : List UInt8 := dkwX1_here_1 ++ []
def dkwX1_here_0 : List UInt8 := [42, 182, 0, 87, 42, 42, 180, 0, 112, 198, 0, 7, 4, 167, 0, 4, 3, 27, 182, 0, 195, 61, 28]
abbrev dktX1_here_0 : List UInt8 := dkwX1_here_0 ++ dktX1_here_1
theorem dksX1_here_0 : cX1_here.data.toList.drop 0 = dktX1_here_0 := by decide +kernel
theorem dksX1_here_1 : cX1_here.data.toList.drop 23 = dktX1_here_1 := dk_seg dksX1_here_0 23 rfl rfl
theorem dX1_here_0 : decode cX1_here 0 = .ok (.aload_n 0, 1) := dk_42 (dk_at dksX1_here_0 0 rfl rfl)
theorem dX1_here_1 : decode cX1_here 1 = .ok (.invokevirtual 87, 3) := dk_182 0 87 (dk_at dksX1_here_0 1 rfl rfl)
theorem dX1_here_4 : decode cX1_here 4 = .ok (.aload_n 0, 1) := dk_42 (dk_at dksX1_here_0 4 rfl rfl)
theorem dX1_here_5 : decode cX1_here 5 = .ok (.aload_n 0, 1) := dk_42 (dk_at dksX1_here_0 5 rfl rfl)
theorem dX1_here_6 : decode cX1_here 6 = .ok (.getfield 112, 3) := dk_180 0 112 (dk_at dksX1_here_0 6 rfl rfl)
theorem dX1_here_9 : decode cX1_here 9 = .ok (.ifnull 7, 3) := dk_198 0 7 (dk_at dksX1_here_0 9 rfl rfl)
theorem dX1_here_12 : decode cX1_here 12 = .ok (.iconst 1, 1) := dk_4 (dk_at dksX1_here_0 12 rfl rfl)
theorem dX1_here_13 : decode cX1_here 13 = .ok (.goto 4, 3) := dk_167 0 4 (dk_at dksX1_here_0 13 rfl rfl)
theorem dX1_here_16 : decode cX1_here 16 = .ok (.iconst 0, 1) := dk_3 (dk_at dksX1_here_0 16 rfl rfl)
theorem dX1_here_17 : decode cX1_here 17 = .ok (.iload_n 1, 1) := dk_27 (dk_at dksX1_here_0 17 rfl rfl)
theorem dX1_here_18 : decode cX1_here 18 = .ok (.invokevirtual 195, 3) := dk_182 0 195 (dk_at dksX1_here_0 18 rfl rfl)
theorem dX1_here_21 : decode cX1_here 21 = .ok (.istore_n 2, 1) := dk_61 (dk_at dksX1_here_0 21 rfl rfl)
theorem dX1_here_22 : decode cX1_here 22 = .ok (.iload_n 2, 1) := dk_28 (dk_at dksX1_here_0 22 rfl rfl)
theorem dX1_here_23 : decode cX1_here 23 = .ok (.ifCond .eq 11, 3) := dk_153 0 11 (dk_at dksX1_here_1 0 rfl rfl)
theorem dX1_here_26 : decode cX1_here 26 = .ok (.aload_n 0, 1) := dk_42 (dk_at dksX1_here_1 3 rfl rfl)
theorem dX1_here_27 : decode cX1_here 27 = .ok (.iload_n 2, 1) := dk_28 (dk_at dksX1_here_1 4 rfl rfl)
theorem dX1_here_28 : decode cX1_here 28 = .ok (.invokevirtual 101, 3) := dk_182 0 101 (dk_at dksX1_here_1 5 rfl rfl)
theorem dX1_here_31 : decode cX1_here 31 = .ok (.goto 11, 3) := dk_167 0 11 (dk_at dksX1_here_1 8 rfl rfl)
theorem dX1_here_34 : decode cX1_here 34 = .ok (.aload_n 0, 1) := dk_42 (dk_at dksX1_here_1 11 rfl rfl)
theorem dX1_here_35 : decode cX1_here 35 = .ok (.getfield 112, 3) := dk_180 0 112 (dk_at dksX1_here_1 12 rfl rfl)
theorem dX1_here_38 : decode cX1_here 38 = .ok (.iload_n 1, 1) := dk_27 (dk_at dksX1_here_1 15 rfl rfl)
theorem dX1_here_39 : decode cX1_here 39 = .ok (.invokevirtual 199, 3) := dk_182 0 199 (dk_at dksX1_here_1 16 rfl rfl)
theorem dX1_here_42 : decode cX1_here 42 = .ok (.ireturn, 1) := dk_172 (dk_at dksX1_here_1 19 rfl rfl)
abbrev cX1_dayWhy : ByteArray := prog_1_method_17_code
def yX1_dayWhy : MethodName := ⟨RX1, "dayWhy", "(ZI)I"⟩
def dkwX1_dayWhy_0 : List UInt8 := [27, 154, 0, 7, 4, 167, 0, 16, 42, 28, 182, 0, 150, 153, 0, 7, 3, 167, 0, 4, 5, 172]
abbrev dktX1_dayWhy_0 : List UInt8 := dkwX1_dayWhy_0 ++ []
theorem dksX1_dayWhy_0 : cX1_dayWhy.data.toList.drop 0 = dktX1_dayWhy_0 := by decide +kernel
theorem dX1_dayWhy_0 : decode cX1_dayWhy 0 = .ok (.iload_n 1, 1) := dk_27 (dk_at dksX1_dayWhy_0 0 rfl rfl)
theorem dX1_dayWhy_1 : decode cX1_dayWhy 1 = .ok (.ifCond .ne 7, 3) := dk_154 0 7 (dk_at dksX1_dayWhy_0 1 rfl rfl)
theorem dX1_dayWhy_4 : decode cX1_dayWhy 4 = .ok (.iconst 1, 1) := dk_4 (dk_at dksX1_dayWhy_0 4 rfl rfl)
theorem dX1_dayWhy_5 : decode cX1_dayWhy 5 = .ok (.goto 16, 3) := dk_167 0 16 (dk_at dksX1_dayWhy_0 5 rfl rfl)
theorem dX1_dayWhy_8 : decode cX1_dayWhy 8 = .ok (.aload_n 0, 1) := dk_42 (dk_at dksX1_dayWhy_0 8 rfl rfl)
theorem dX1_dayWhy_9 : decode cX1_dayWhy 9 = .ok (.iload_n 2, 1) := dk_28 (dk_at dksX1_dayWhy_0 9 rfl rfl)
theorem dX1_dayWhy_10 : decode cX1_dayWhy 10 = .ok (.invokevirtual 150, 3) := dk_182 0 150 (dk_at dksX1_dayWhy_0 10 rfl rfl)
theorem dX1_dayWhy_13 : decode cX1_dayWhy 13 = .ok (.ifCond .eq 7, 3) := dk_153 0 7 (dk_at dksX1_dayWhy_0 13 rfl rfl)
theorem dX1_dayWhy_16 : decode cX1_dayWhy 16 = .ok (.iconst 0, 1) := dk_3 (dk_at dksX1_dayWhy_0 16 rfl rfl)
theorem dX1_dayWhy_17 : decode cX1_dayWhy 17 = .ok (.goto 4, 3) := dk_167 0 4 (dk_at dksX1_dayWhy_0 17 rfl rfl)
theorem dX1_dayWhy_20 : decode cX1_dayWhy 20 = .ok (.iconst 2, 1) := dk_5 (dk_at dksX1_dayWhy_0 20 rfl rfl)
theorem dX1_dayWhy_21 : decode cX1_dayWhy 21 = .ok (.ireturn, 1) := dk_172 (dk_at dksX1_dayWhy_0 21 rfl rfl)
abbrev cX1_isDay : ByteArray := prog_1_method_16_code
def yX1_isDay : MethodName := ⟨RX1, "isDay", "(I)Z"⟩
def dkwX1_isDay_0 : List UInt8 := [27, 3, 42, 180, 0, 112, 180, 0, 147, 4, 100, 184, 0, 97, 172]
abbrev dktX1_isDay_0 : List UInt8 := dkwX1_isDay_0 ++ []
theorem dksX1_isDay_0 : cX1_isDay.data.toList.drop 0 = dktX1_isDay_0 := by decide +kernel
theorem dX1_isDay_0 : decode cX1_isDay 0 = .ok (.iload_n 1, 1) := dk_27 (dk_at dksX1_isDay_0 0 rfl rfl)
theorem dX1_isDay_1 : decode cX1_isDay 1 = .ok (.iconst 0, 1) := dk_3 (dk_at dksX1_isDay_0 1 rfl rfl)
theorem dX1_isDay_2 : decode cX1_isDay 2 = .ok (.aload_n 0, 1) := dk_42 (dk_at dksX1_isDay_0 2 rfl rfl)
theorem dX1_isDay_3 : decode cX1_isDay 3 = .ok (.getfield 112, 3) := dk_180 0 112 (dk_at dksX1_isDay_0 3 rfl rfl)
theorem dX1_isDay_6 : decode cX1_isDay 6 = .ok (.getfield 147, 3) := dk_180 0 147 (dk_at dksX1_isDay_0 6 rfl rfl)
theorem dX1_isDay_9 : decode cX1_isDay 9 = .ok (.iconst 1, 1) := dk_4 (dk_at dksX1_isDay_0 9 rfl rfl)
theorem dX1_isDay_10 : decode cX1_isDay 10 = .ok (.isub, 1) := dk_100 (dk_at dksX1_isDay_0 10 rfl rfl)
theorem dX1_isDay_11 : decode cX1_isDay 11 = .ok (.invokestatic 97, 3) := dk_184 0 97 (dk_at dksX1_isDay_0 11 rfl rfl)
theorem dX1_isDay_14 : decode cX1_isDay 14 = .ok (.ireturn, 1) := dk_172 (dk_at dksX1_isDay_0 14 rfl rfl)
abbrev cX1_most : ByteArray := prog_1_method_22_code
def yX1_most : MethodName := ⟨RX1, "most", "()I"⟩
def dkwX1_most_2 : List UInt8 := [60, 132, 2, 1, 167, 255, 226, 27, 172]
abbrev dktX1_most_2 : List UInt8 := dkwX1_most_2 ++ []
def dkwX1_most_1 : List UInt8 := [180, 0, 112, 180, 0, 147, 162, 0, 25, 27, 42, 180, 0, 112, 28, 182, 0, 199, 184, 0, 202, 184, 0, 205]
abbrev dktX1_most_1 : List UInt8 := dkwX1_most_1 ++ dktX1_most_2
def dkwX1_most_0 : List UInt8 := [42, 182, 0, 87, 42, 180, 0, 112, 199, 0, 9, 42, 4, 182, 0, 101, 172, 3, 60, 3, 61, 28, 42]
abbrev dktX1_most_0 : List UInt8 := dkwX1_most_0 ++ dktX1_most_1
theorem dksX1_most_0 : cX1_most.data.toList.drop 0 = dktX1_most_0 := by decide +kernel
theorem dksX1_most_1 : cX1_most.data.toList.drop 23 = dktX1_most_1 := dk_seg dksX1_most_0 23 rfl rfl
theorem dksX1_most_2 : cX1_most.data.toList.drop 47 = dktX1_most_2 := dk_seg dksX1_most_1 24 rfl rfl
theorem dX1_most_0 : decode cX1_most 0 = .ok (.aload_n 0, 1) := dk_42 (dk_at dksX1_most_0 0 rfl rfl)
theorem dX1_most_1 : decode cX1_most 1 = .ok (.invokevirtual 87, 3) := dk_182 0 87 (dk_at dksX1_most_0 1 rfl rfl)
theorem dX1_most_4 : decode cX1_most 4 = .ok (.aload_n 0, 1) := dk_42 (dk_at dksX1_most_0 4 rfl rfl)
theorem dX1_most_5 : decode cX1_most 5 = .ok (.getfield 112, 3) := dk_180 0 112 (dk_at dksX1_most_0 5 rfl rfl)
theorem dX1_most_8 : decode cX1_most 8 = .ok (.ifnonnull 9, 3) := dk_199 0 9 (dk_at dksX1_most_0 8 rfl rfl)
theorem dX1_most_11 : decode cX1_most 11 = .ok (.aload_n 0, 1) := dk_42 (dk_at dksX1_most_0 11 rfl rfl)
theorem dX1_most_12 : decode cX1_most 12 = .ok (.iconst 1, 1) := dk_4 (dk_at dksX1_most_0 12 rfl rfl)
theorem dX1_most_13 : decode cX1_most 13 = .ok (.invokevirtual 101, 3) := dk_182 0 101 (dk_at dksX1_most_0 13 rfl rfl)
theorem dX1_most_16 : decode cX1_most 16 = .ok (.ireturn, 1) := dk_172 (dk_at dksX1_most_0 16 rfl rfl)
theorem dX1_most_17 : decode cX1_most 17 = .ok (.iconst 0, 1) := dk_3 (dk_at dksX1_most_0 17 rfl rfl)
theorem dX1_most_18 : decode cX1_most 18 = .ok (.istore_n 1, 1) := dk_60 (dk_at dksX1_most_0 18 rfl rfl)
theorem dX1_most_19 : decode cX1_most 19 = .ok (.iconst 0, 1) := dk_3 (dk_at dksX1_most_0 19 rfl rfl)
theorem dX1_most_20 : decode cX1_most 20 = .ok (.istore_n 2, 1) := dk_61 (dk_at dksX1_most_0 20 rfl rfl)
theorem dX1_most_21 : decode cX1_most 21 = .ok (.iload_n 2, 1) := dk_28 (dk_at dksX1_most_0 21 rfl rfl)
theorem dX1_most_22 : decode cX1_most 22 = .ok (.aload_n 0, 1) := dk_42 (dk_at dksX1_most_0 22 rfl rfl)
theorem dX1_most_23 : decode cX1_most 23 = .ok (.getfield 112, 3) := dk_180 0 112 (dk_at dksX1_most_1 0 rfl rfl)
theorem dX1_most_26 : decode cX1_most 26 = .ok (.getfield 147, 3) := dk_180 0 147 (dk_at dksX1_most_1 3 rfl rfl)
theorem dX1_most_29 : decode cX1_most 29 = .ok (.if_icmp .ge 25, 3) := dk_162 0 25 (dk_at dksX1_most_1 6 rfl rfl)
theorem dX1_most_32 : decode cX1_most 32 = .ok (.iload_n 1, 1) := dk_27 (dk_at dksX1_most_1 9 rfl rfl)
theorem dX1_most_33 : decode cX1_most 33 = .ok (.aload_n 0, 1) := dk_42 (dk_at dksX1_most_1 10 rfl rfl)
theorem dX1_most_34 : decode cX1_most 34 = .ok (.getfield 112, 3) := dk_180 0 112 (dk_at dksX1_most_1 11 rfl rfl)
theorem dX1_most_37 : decode cX1_most 37 = .ok (.iload_n 2, 1) := dk_28 (dk_at dksX1_most_1 14 rfl rfl)
theorem dX1_most_38 : decode cX1_most 38 = .ok (.invokevirtual 199, 3) := dk_182 0 199 (dk_at dksX1_most_1 15 rfl rfl)
theorem dX1_most_41 : decode cX1_most 41 = .ok (.invokestatic 202, 3) := dk_184 0 202 (dk_at dksX1_most_1 18 rfl rfl)
theorem dX1_most_44 : decode cX1_most 44 = .ok (.invokestatic 205, 3) := dk_184 0 205 (dk_at dksX1_most_1 21 rfl rfl)
theorem dX1_most_47 : decode cX1_most 47 = .ok (.istore_n 1, 1) := dk_60 (dk_at dksX1_most_2 0 rfl rfl)
theorem dX1_most_48 : decode cX1_most 48 = .ok (.iinc 2 1, 3) := dk_132 2 1 (dk_at dksX1_most_2 1 rfl rfl)
theorem dX1_most_51 : decode cX1_most 51 = .ok (.goto (-30), 3) := dk_167 255 226 (dk_at dksX1_most_2 4 rfl rfl)
theorem dX1_most_54 : decode cX1_most 54 = .ok (.iload_n 1, 1) := dk_27 (dk_at dksX1_most_2 7 rfl rfl)
theorem dX1_most_55 : decode cX1_most 55 = .ok (.ireturn, 1) := dk_172 (dk_at dksX1_most_2 8 rfl rfl)
abbrev cX1_ones : ByteArray := prog_1_method_3_code
def yX1_ones : MethodName := ⟨RX1, "ones", "(I)I"⟩
def dkwX1_ones_0 : List UInt8 := [3, 60, 26, 61, 28, 153, 0, 15, 132, 1, 1, 28, 28, 4, 100, 126, 61, 167, 255, 243, 27, 172]
abbrev dktX1_ones_0 : List UInt8 := dkwX1_ones_0 ++ []
theorem dksX1_ones_0 : cX1_ones.data.toList.drop 0 = dktX1_ones_0 := by decide +kernel
theorem dX1_ones_0 : decode cX1_ones 0 = .ok (.iconst 0, 1) := dk_3 (dk_at dksX1_ones_0 0 rfl rfl)
theorem dX1_ones_1 : decode cX1_ones 1 = .ok (.istore_n 1, 1) := dk_60 (dk_at dksX1_ones_0 1 rfl rfl)
theorem dX1_ones_2 : decode cX1_ones 2 = .ok (.iload_n 0, 1) := dk_26 (dk_at dksX1_ones_0 2 rfl rfl)
theorem dX1_ones_3 : decode cX1_ones 3 = .ok (.istore_n 2, 1) := dk_61 (dk_at dksX1_ones_0 3 rfl rfl)
theorem dX1_ones_4 : decode cX1_ones 4 = .ok (.iload_n 2, 1) := dk_28 (dk_at dksX1_ones_0 4 rfl rfl)
theorem dX1_ones_5 : decode cX1_ones 5 = .ok (.ifCond .eq 15, 3) := dk_153 0 15 (dk_at dksX1_ones_0 5 rfl rfl)
theorem dX1_ones_8 : decode cX1_ones 8 = .ok (.iinc 1 1, 3) := dk_132 1 1 (dk_at dksX1_ones_0 8 rfl rfl)
theorem dX1_ones_11 : decode cX1_ones 11 = .ok (.iload_n 2, 1) := dk_28 (dk_at dksX1_ones_0 11 rfl rfl)
theorem dX1_ones_12 : decode cX1_ones 12 = .ok (.iload_n 2, 1) := dk_28 (dk_at dksX1_ones_0 12 rfl rfl)
theorem dX1_ones_13 : decode cX1_ones 13 = .ok (.iconst 1, 1) := dk_4 (dk_at dksX1_ones_0 13 rfl rfl)
theorem dX1_ones_14 : decode cX1_ones 14 = .ok (.isub, 1) := dk_100 (dk_at dksX1_ones_0 14 rfl rfl)
theorem dX1_ones_15 : decode cX1_ones 15 = .ok (.iand, 1) := dk_126 (dk_at dksX1_ones_0 15 rfl rfl)
theorem dX1_ones_16 : decode cX1_ones 16 = .ok (.istore_n 2, 1) := dk_61 (dk_at dksX1_ones_0 16 rfl rfl)
theorem dX1_ones_17 : decode cX1_ones 17 = .ok (.goto (-13), 3) := dk_167 255 243 (dk_at dksX1_ones_0 17 rfl rfl)
theorem dX1_ones_20 : decode cX1_ones 20 = .ok (.iload_n 1, 1) := dk_27 (dk_at dksX1_ones_0 20 rfl rfl)
theorem dX1_ones_21 : decode cX1_ones 21 = .ok (.ireturn, 1) := dk_172 (dk_at dksX1_ones_0 21 rfl rfl)
abbrev cX1_brushes : ByteArray := prog_1_method_23_code
def yX1_brushes : MethodName := ⟨RX1, "brushes", "()I"⟩
def dkwX1_brushes_1 : List UInt8 := [180, 0, 211, 172]
abbrev dktX1_brushes_1 : List UInt8 := dkwX1_brushes_1 ++ []
def dkwX1_brushes_0 : List UInt8 := [42, 182, 0, 87, 42, 180, 0, 112, 199, 0, 11, 42, 4, 182, 0, 101, 167, 0, 10, 42, 180, 0, 42]
abbrev dktX1_brushes_0 : List UInt8 := dkwX1_brushes_0 ++ dktX1_brushes_1
theorem dksX1_brushes_0 : cX1_brushes.data.toList.drop 0 = dktX1_brushes_0 := by decide +kernel
theorem dksX1_brushes_1 : cX1_brushes.data.toList.drop 23 = dktX1_brushes_1 := dk_seg dksX1_brushes_0 23 rfl rfl
theorem dX1_brushes_0 : decode cX1_brushes 0 = .ok (.aload_n 0, 1) := dk_42 (dk_at dksX1_brushes_0 0 rfl rfl)
theorem dX1_brushes_1 : decode cX1_brushes 1 = .ok (.invokevirtual 87, 3) := dk_182 0 87 (dk_at dksX1_brushes_0 1 rfl rfl)
theorem dX1_brushes_4 : decode cX1_brushes 4 = .ok (.aload_n 0, 1) := dk_42 (dk_at dksX1_brushes_0 4 rfl rfl)
theorem dX1_brushes_5 : decode cX1_brushes 5 = .ok (.getfield 112, 3) := dk_180 0 112 (dk_at dksX1_brushes_0 5 rfl rfl)
theorem dX1_brushes_8 : decode cX1_brushes 8 = .ok (.ifnonnull 11, 3) := dk_199 0 11 (dk_at dksX1_brushes_0 8 rfl rfl)
theorem dX1_brushes_11 : decode cX1_brushes 11 = .ok (.aload_n 0, 1) := dk_42 (dk_at dksX1_brushes_0 11 rfl rfl)
theorem dX1_brushes_12 : decode cX1_brushes 12 = .ok (.iconst 1, 1) := dk_4 (dk_at dksX1_brushes_0 12 rfl rfl)
theorem dX1_brushes_13 : decode cX1_brushes 13 = .ok (.invokevirtual 101, 3) := dk_182 0 101 (dk_at dksX1_brushes_0 13 rfl rfl)
theorem dX1_brushes_16 : decode cX1_brushes 16 = .ok (.goto 10, 3) := dk_167 0 10 (dk_at dksX1_brushes_0 16 rfl rfl)
theorem dX1_brushes_19 : decode cX1_brushes 19 = .ok (.aload_n 0, 1) := dk_42 (dk_at dksX1_brushes_0 19 rfl rfl)
theorem dX1_brushes_20 : decode cX1_brushes 20 = .ok (.getfield 42, 3) := dk_180 0 42 (dk_at dksX1_brushes_0 20 rfl rfl)
theorem dX1_brushes_23 : decode cX1_brushes 23 = .ok (.getfield 211, 3) := dk_180 0 211 (dk_at dksX1_brushes_1 0 rfl rfl)
theorem dX1_brushes_26 : decode cX1_brushes 26 = .ok (.ireturn, 1) := dk_172 (dk_at dksX1_brushes_1 3 rfl rfl)
abbrev cX1_brush : ByteArray := prog_1_method_24_code
def yX1_brush : MethodName := ⟨RX1, "brush", "(II)I"⟩
def dkwX1_brush_4 : List UInt8 := [172, 42, 4, 182, 0, 101, 172]
abbrev dktX1_brush_4 : List UInt8 := dkwX1_brush_4 ++ []
def dkwX1_brush_3 : List UInt8 := [45, 180, 0, 218, 172, 45, 180, 0, 223, 172, 45, 180, 0, 226, 172, 45, 180, 0, 229, 172, 45, 180, 0, 232]
abbrev dktX1_brush_3 : List UInt8 := dkwX1_brush_3 ++ dktX1_brush_4
def dkwX1_brush_2 : List UInt8 := [170, 0, 0, 0, 0, 0, 0, 61, 0, 0, 0, 0, 0, 0, 0, 4, 0, 0, 0, 36, 0, 0, 0, 41, 0, 0, 0, 46, 0, 0, 0, 51, 0, 0, 0, 56]
abbrev dktX1_brush_2 : List UInt8 := dkwX1_brush_2 ++ dktX1_brush_3
def dkwX1_brush_1 : List UInt8 := [184, 0, 97, 154, 0, 9, 42, 4, 182, 0, 101, 172, 42, 180, 0, 42, 27, 182, 0, 214, 78, 28]
abbrev dktX1_brush_1 : List UInt8 := dkwX1_brush_1 ++ dktX1_brush_2
def dkwX1_brush_0 : List UInt8 := [42, 182, 0, 87, 42, 180, 0, 112, 198, 0, 20, 27, 3, 42, 180, 0, 42, 180, 0, 211, 4, 100]
abbrev dktX1_brush_0 : List UInt8 := dkwX1_brush_0 ++ dktX1_brush_1
theorem dksX1_brush_0 : cX1_brush.data.toList.drop 0 = dktX1_brush_0 := by decide +kernel
theorem dksX1_brush_1 : cX1_brush.data.toList.drop 22 = dktX1_brush_1 := dk_seg dksX1_brush_0 22 rfl rfl
theorem dksX1_brush_2 : cX1_brush.data.toList.drop 44 = dktX1_brush_2 := dk_seg dksX1_brush_1 22 rfl rfl
theorem dksX1_brush_3 : cX1_brush.data.toList.drop 80 = dktX1_brush_3 := dk_seg dksX1_brush_2 36 rfl rfl
theorem dksX1_brush_4 : cX1_brush.data.toList.drop 104 = dktX1_brush_4 := dk_seg dksX1_brush_3 24 rfl rfl
theorem dX1_brush_0 : decode cX1_brush 0 = .ok (.aload_n 0, 1) := dk_42 (dk_at dksX1_brush_0 0 rfl rfl)
theorem dX1_brush_1 : decode cX1_brush 1 = .ok (.invokevirtual 87, 3) := dk_182 0 87 (dk_at dksX1_brush_0 1 rfl rfl)
theorem dX1_brush_4 : decode cX1_brush 4 = .ok (.aload_n 0, 1) := dk_42 (dk_at dksX1_brush_0 4 rfl rfl)
theorem dX1_brush_5 : decode cX1_brush 5 = .ok (.getfield 112, 3) := dk_180 0 112 (dk_at dksX1_brush_0 5 rfl rfl)
theorem dX1_brush_8 : decode cX1_brush 8 = .ok (.ifnull 20, 3) := dk_198 0 20 (dk_at dksX1_brush_0 8 rfl rfl)
theorem dX1_brush_11 : decode cX1_brush 11 = .ok (.iload_n 1, 1) := dk_27 (dk_at dksX1_brush_0 11 rfl rfl)
theorem dX1_brush_12 : decode cX1_brush 12 = .ok (.iconst 0, 1) := dk_3 (dk_at dksX1_brush_0 12 rfl rfl)
theorem dX1_brush_13 : decode cX1_brush 13 = .ok (.aload_n 0, 1) := dk_42 (dk_at dksX1_brush_0 13 rfl rfl)
theorem dX1_brush_14 : decode cX1_brush 14 = .ok (.getfield 42, 3) := dk_180 0 42 (dk_at dksX1_brush_0 14 rfl rfl)
theorem dX1_brush_17 : decode cX1_brush 17 = .ok (.getfield 211, 3) := dk_180 0 211 (dk_at dksX1_brush_0 17 rfl rfl)
theorem dX1_brush_20 : decode cX1_brush 20 = .ok (.iconst 1, 1) := dk_4 (dk_at dksX1_brush_0 20 rfl rfl)
theorem dX1_brush_21 : decode cX1_brush 21 = .ok (.isub, 1) := dk_100 (dk_at dksX1_brush_0 21 rfl rfl)
theorem dX1_brush_22 : decode cX1_brush 22 = .ok (.invokestatic 97, 3) := dk_184 0 97 (dk_at dksX1_brush_1 0 rfl rfl)
theorem dX1_brush_25 : decode cX1_brush 25 = .ok (.ifCond .ne 9, 3) := dk_154 0 9 (dk_at dksX1_brush_1 3 rfl rfl)
theorem dX1_brush_28 : decode cX1_brush 28 = .ok (.aload_n 0, 1) := dk_42 (dk_at dksX1_brush_1 6 rfl rfl)
theorem dX1_brush_29 : decode cX1_brush 29 = .ok (.iconst 1, 1) := dk_4 (dk_at dksX1_brush_1 7 rfl rfl)
theorem dX1_brush_30 : decode cX1_brush 30 = .ok (.invokevirtual 101, 3) := dk_182 0 101 (dk_at dksX1_brush_1 8 rfl rfl)
theorem dX1_brush_33 : decode cX1_brush 33 = .ok (.ireturn, 1) := dk_172 (dk_at dksX1_brush_1 11 rfl rfl)
theorem dX1_brush_34 : decode cX1_brush 34 = .ok (.aload_n 0, 1) := dk_42 (dk_at dksX1_brush_1 12 rfl rfl)
theorem dX1_brush_35 : decode cX1_brush 35 = .ok (.getfield 42, 3) := dk_180 0 42 (dk_at dksX1_brush_1 13 rfl rfl)
theorem dX1_brush_38 : decode cX1_brush 38 = .ok (.iload_n 1, 1) := dk_27 (dk_at dksX1_brush_1 16 rfl rfl)
theorem dX1_brush_39 : decode cX1_brush 39 = .ok (.invokevirtual 214, 3) := dk_182 0 214 (dk_at dksX1_brush_1 17 rfl rfl)
theorem dX1_brush_42 : decode cX1_brush 42 = .ok (.astore_n 3, 1) := dk_78 (dk_at dksX1_brush_1 20 rfl rfl)
theorem dX1_brush_43 : decode cX1_brush 43 = .ok (.iload_n 2, 1) := dk_28 (dk_at dksX1_brush_1 21 rfl rfl)
theorem dX1_brush_44 : decode cX1_brush 44 = .ok (.tableswitch 61 0 4 #[36, 41, 46, 51, 56], 36) := by decide +kernel
theorem dX1_brush_80 : decode cX1_brush 80 = .ok (.aload_n 3, 1) := dk_45 (dk_at dksX1_brush_3 0 rfl rfl)
theorem dX1_brush_81 : decode cX1_brush 81 = .ok (.getfield 218, 3) := dk_180 0 218 (dk_at dksX1_brush_3 1 rfl rfl)
theorem dX1_brush_84 : decode cX1_brush 84 = .ok (.ireturn, 1) := dk_172 (dk_at dksX1_brush_3 4 rfl rfl)
theorem dX1_brush_85 : decode cX1_brush 85 = .ok (.aload_n 3, 1) := dk_45 (dk_at dksX1_brush_3 5 rfl rfl)
theorem dX1_brush_86 : decode cX1_brush 86 = .ok (.getfield 223, 3) := dk_180 0 223 (dk_at dksX1_brush_3 6 rfl rfl)
theorem dX1_brush_89 : decode cX1_brush 89 = .ok (.ireturn, 1) := dk_172 (dk_at dksX1_brush_3 9 rfl rfl)
theorem dX1_brush_90 : decode cX1_brush 90 = .ok (.aload_n 3, 1) := dk_45 (dk_at dksX1_brush_3 10 rfl rfl)
theorem dX1_brush_91 : decode cX1_brush 91 = .ok (.getfield 226, 3) := dk_180 0 226 (dk_at dksX1_brush_3 11 rfl rfl)
theorem dX1_brush_94 : decode cX1_brush 94 = .ok (.ireturn, 1) := dk_172 (dk_at dksX1_brush_3 14 rfl rfl)
theorem dX1_brush_95 : decode cX1_brush 95 = .ok (.aload_n 3, 1) := dk_45 (dk_at dksX1_brush_3 15 rfl rfl)
theorem dX1_brush_96 : decode cX1_brush 96 = .ok (.getfield 229, 3) := dk_180 0 229 (dk_at dksX1_brush_3 16 rfl rfl)
theorem dX1_brush_99 : decode cX1_brush 99 = .ok (.ireturn, 1) := dk_172 (dk_at dksX1_brush_3 19 rfl rfl)
theorem dX1_brush_100 : decode cX1_brush 100 = .ok (.aload_n 3, 1) := dk_45 (dk_at dksX1_brush_3 20 rfl rfl)
theorem dX1_brush_101 : decode cX1_brush 101 = .ok (.getfield 232, 3) := dk_180 0 232 (dk_at dksX1_brush_3 21 rfl rfl)
theorem dX1_brush_104 : decode cX1_brush 104 = .ok (.ireturn, 1) := dk_172 (dk_at dksX1_brush_4 0 rfl rfl)
theorem dX1_brush_105 : decode cX1_brush 105 = .ok (.aload_n 0, 1) := dk_42 (dk_at dksX1_brush_4 1 rfl rfl)
theorem dX1_brush_106 : decode cX1_brush 106 = .ok (.iconst 1, 1) := dk_4 (dk_at dksX1_brush_4 2 rfl rfl)
theorem dX1_brush_107 : decode cX1_brush 107 = .ok (.invokevirtual 101, 3) := dk_182 0 101 (dk_at dksX1_brush_4 3 rfl rfl)
theorem dX1_brush_110 : decode cX1_brush 110 = .ok (.ireturn, 1) := dk_172 (dk_at dksX1_brush_4 6 rfl rfl)
abbrev cX1_at : ByteArray := prog_1_method_25_code
def yX1_at : MethodName := ⟨RX1, "at", "(II)I"⟩
def dkwX1_at_1 : List UInt8 := [167, 0, 12, 42, 180, 0, 42, 27, 28, 182, 0, 238, 172]
abbrev dktX1_at_1 : List UInt8 := dkwX1_at_1 ++ []
def dkwX1_at_0 : List UInt8 := [42, 182, 0, 87, 42, 42, 28, 182, 0, 235, 27, 182, 0, 195, 62, 29, 153, 0, 11, 42, 29, 182, 0, 101]
abbrev dktX1_at_0 : List UInt8 := dkwX1_at_0 ++ dktX1_at_1
theorem dksX1_at_0 : cX1_at.data.toList.drop 0 = dktX1_at_0 := by decide +kernel
theorem dksX1_at_1 : cX1_at.data.toList.drop 24 = dktX1_at_1 := dk_seg dksX1_at_0 24 rfl rfl
theorem dX1_at_0 : decode cX1_at 0 = .ok (.aload_n 0, 1) := dk_42 (dk_at dksX1_at_0 0 rfl rfl)
theorem dX1_at_1 : decode cX1_at 1 = .ok (.invokevirtual 87, 3) := dk_182 0 87 (dk_at dksX1_at_0 1 rfl rfl)
theorem dX1_at_4 : decode cX1_at 4 = .ok (.aload_n 0, 1) := dk_42 (dk_at dksX1_at_0 4 rfl rfl)
theorem dX1_at_5 : decode cX1_at 5 = .ok (.aload_n 0, 1) := dk_42 (dk_at dksX1_at_0 5 rfl rfl)
theorem dX1_at_6 : decode cX1_at 6 = .ok (.iload_n 2, 1) := dk_28 (dk_at dksX1_at_0 6 rfl rfl)
theorem dX1_at_7 : decode cX1_at 7 = .ok (.invokevirtual 235, 3) := dk_182 0 235 (dk_at dksX1_at_0 7 rfl rfl)
theorem dX1_at_10 : decode cX1_at 10 = .ok (.iload_n 1, 1) := dk_27 (dk_at dksX1_at_0 10 rfl rfl)
theorem dX1_at_11 : decode cX1_at 11 = .ok (.invokevirtual 195, 3) := dk_182 0 195 (dk_at dksX1_at_0 11 rfl rfl)
theorem dX1_at_14 : decode cX1_at 14 = .ok (.istore_n 3, 1) := dk_62 (dk_at dksX1_at_0 14 rfl rfl)
theorem dX1_at_15 : decode cX1_at 15 = .ok (.iload_n 3, 1) := dk_29 (dk_at dksX1_at_0 15 rfl rfl)
theorem dX1_at_16 : decode cX1_at 16 = .ok (.ifCond .eq 11, 3) := dk_153 0 11 (dk_at dksX1_at_0 16 rfl rfl)
theorem dX1_at_19 : decode cX1_at 19 = .ok (.aload_n 0, 1) := dk_42 (dk_at dksX1_at_0 19 rfl rfl)
theorem dX1_at_20 : decode cX1_at 20 = .ok (.iload_n 3, 1) := dk_29 (dk_at dksX1_at_0 20 rfl rfl)
theorem dX1_at_21 : decode cX1_at 21 = .ok (.invokevirtual 101, 3) := dk_182 0 101 (dk_at dksX1_at_0 21 rfl rfl)
theorem dX1_at_24 : decode cX1_at 24 = .ok (.goto 12, 3) := dk_167 0 12 (dk_at dksX1_at_1 0 rfl rfl)
theorem dX1_at_27 : decode cX1_at 27 = .ok (.aload_n 0, 1) := dk_42 (dk_at dksX1_at_1 3 rfl rfl)
theorem dX1_at_28 : decode cX1_at 28 = .ok (.getfield 42, 3) := dk_180 0 42 (dk_at dksX1_at_1 4 rfl rfl)
theorem dX1_at_31 : decode cX1_at 31 = .ok (.iload_n 1, 1) := dk_27 (dk_at dksX1_at_1 7 rfl rfl)
theorem dX1_at_32 : decode cX1_at 32 = .ok (.iload_n 2, 1) := dk_28 (dk_at dksX1_at_1 8 rfl rfl)
theorem dX1_at_33 : decode cX1_at 33 = .ok (.invokevirtual 238, 3) := dk_182 0 238 (dk_at dksX1_at_1 9 rfl rfl)
theorem dX1_at_36 : decode cX1_at 36 = .ok (.ireturn, 1) := dk_172 (dk_at dksX1_at_1 12 rfl rfl)
abbrev cX1_isPlace : ByteArray := prog_1_method_15_code
def yX1_isPlace : MethodName := ⟨RX1, "isPlace", "(I)Z"⟩
def dkwX1_isPlace_1 : List UInt8 := [4, 167, 0, 4, 3, 172]
abbrev dktX1_isPlace_1 : List UInt8 := dkwX1_isPlace_1 ++ []
def dkwX1_isPlace_0 : List UInt8 := [42, 180, 0, 112, 198, 0, 24, 27, 3, 42, 180, 0, 112, 180, 0, 144, 4, 100, 184, 0, 97, 153, 0, 7]
abbrev dktX1_isPlace_0 : List UInt8 := dkwX1_isPlace_0 ++ dktX1_isPlace_1
theorem dksX1_isPlace_0 : cX1_isPlace.data.toList.drop 0 = dktX1_isPlace_0 := by decide +kernel
theorem dksX1_isPlace_1 : cX1_isPlace.data.toList.drop 24 = dktX1_isPlace_1 := dk_seg dksX1_isPlace_0 24 rfl rfl
theorem dX1_isPlace_0 : decode cX1_isPlace 0 = .ok (.aload_n 0, 1) := dk_42 (dk_at dksX1_isPlace_0 0 rfl rfl)
theorem dX1_isPlace_1 : decode cX1_isPlace 1 = .ok (.getfield 112, 3) := dk_180 0 112 (dk_at dksX1_isPlace_0 1 rfl rfl)
theorem dX1_isPlace_4 : decode cX1_isPlace 4 = .ok (.ifnull 24, 3) := dk_198 0 24 (dk_at dksX1_isPlace_0 4 rfl rfl)
theorem dX1_isPlace_7 : decode cX1_isPlace 7 = .ok (.iload_n 1, 1) := dk_27 (dk_at dksX1_isPlace_0 7 rfl rfl)
theorem dX1_isPlace_8 : decode cX1_isPlace 8 = .ok (.iconst 0, 1) := dk_3 (dk_at dksX1_isPlace_0 8 rfl rfl)
theorem dX1_isPlace_9 : decode cX1_isPlace 9 = .ok (.aload_n 0, 1) := dk_42 (dk_at dksX1_isPlace_0 9 rfl rfl)
theorem dX1_isPlace_10 : decode cX1_isPlace 10 = .ok (.getfield 112, 3) := dk_180 0 112 (dk_at dksX1_isPlace_0 10 rfl rfl)
theorem dX1_isPlace_13 : decode cX1_isPlace 13 = .ok (.getfield 144, 3) := dk_180 0 144 (dk_at dksX1_isPlace_0 13 rfl rfl)
theorem dX1_isPlace_16 : decode cX1_isPlace 16 = .ok (.iconst 1, 1) := dk_4 (dk_at dksX1_isPlace_0 16 rfl rfl)
theorem dX1_isPlace_17 : decode cX1_isPlace 17 = .ok (.isub, 1) := dk_100 (dk_at dksX1_isPlace_0 17 rfl rfl)
theorem dX1_isPlace_18 : decode cX1_isPlace 18 = .ok (.invokestatic 97, 3) := dk_184 0 97 (dk_at dksX1_isPlace_0 18 rfl rfl)
theorem dX1_isPlace_21 : decode cX1_isPlace 21 = .ok (.ifCond .eq 7, 3) := dk_153 0 7 (dk_at dksX1_isPlace_0 21 rfl rfl)
theorem dX1_isPlace_24 : decode cX1_isPlace 24 = .ok (.iconst 1, 1) := dk_4 (dk_at dksX1_isPlace_1 0 rfl rfl)
theorem dX1_isPlace_25 : decode cX1_isPlace 25 = .ok (.goto 4, 3) := dk_167 0 4 (dk_at dksX1_isPlace_1 1 rfl rfl)
theorem dX1_isPlace_28 : decode cX1_isPlace 28 = .ok (.iconst 0, 1) := dk_3 (dk_at dksX1_isPlace_1 4 rfl rfl)
theorem dX1_isPlace_29 : decode cX1_isPlace 29 = .ok (.ireturn, 1) := dk_172 (dk_at dksX1_isPlace_1 5 rfl rfl)
abbrev cX1_colour : ByteArray := prog_1_method_26_code
def yX1_colour : MethodName := ⟨RX1, "colour", "(II)I"⟩
def dkwX1_colour_1 : List UInt8 := [167, 0, 12, 42, 180, 0, 42, 27, 28, 182, 0, 241, 172]
abbrev dktX1_colour_1 : List UInt8 := dkwX1_colour_1 ++ []
def dkwX1_colour_0 : List UInt8 := [42, 182, 0, 87, 42, 42, 28, 182, 0, 235, 27, 182, 0, 195, 62, 29, 153, 0, 11, 42, 29, 182, 0, 101]
abbrev dktX1_colour_0 : List UInt8 := dkwX1_colour_0 ++ dktX1_colour_1
theorem dksX1_colour_0 : cX1_colour.data.toList.drop 0 = dktX1_colour_0 := by decide +kernel
theorem dksX1_colour_1 : cX1_colour.data.toList.drop 24 = dktX1_colour_1 := dk_seg dksX1_colour_0 24 rfl rfl
theorem dX1_colour_0 : decode cX1_colour 0 = .ok (.aload_n 0, 1) := dk_42 (dk_at dksX1_colour_0 0 rfl rfl)
theorem dX1_colour_1 : decode cX1_colour 1 = .ok (.invokevirtual 87, 3) := dk_182 0 87 (dk_at dksX1_colour_0 1 rfl rfl)
theorem dX1_colour_4 : decode cX1_colour 4 = .ok (.aload_n 0, 1) := dk_42 (dk_at dksX1_colour_0 4 rfl rfl)
theorem dX1_colour_5 : decode cX1_colour 5 = .ok (.aload_n 0, 1) := dk_42 (dk_at dksX1_colour_0 5 rfl rfl)
theorem dX1_colour_6 : decode cX1_colour 6 = .ok (.iload_n 2, 1) := dk_28 (dk_at dksX1_colour_0 6 rfl rfl)
theorem dX1_colour_7 : decode cX1_colour 7 = .ok (.invokevirtual 235, 3) := dk_182 0 235 (dk_at dksX1_colour_0 7 rfl rfl)
theorem dX1_colour_10 : decode cX1_colour 10 = .ok (.iload_n 1, 1) := dk_27 (dk_at dksX1_colour_0 10 rfl rfl)
theorem dX1_colour_11 : decode cX1_colour 11 = .ok (.invokevirtual 195, 3) := dk_182 0 195 (dk_at dksX1_colour_0 11 rfl rfl)
theorem dX1_colour_14 : decode cX1_colour 14 = .ok (.istore_n 3, 1) := dk_62 (dk_at dksX1_colour_0 14 rfl rfl)
theorem dX1_colour_15 : decode cX1_colour 15 = .ok (.iload_n 3, 1) := dk_29 (dk_at dksX1_colour_0 15 rfl rfl)
theorem dX1_colour_16 : decode cX1_colour 16 = .ok (.ifCond .eq 11, 3) := dk_153 0 11 (dk_at dksX1_colour_0 16 rfl rfl)
theorem dX1_colour_19 : decode cX1_colour 19 = .ok (.aload_n 0, 1) := dk_42 (dk_at dksX1_colour_0 19 rfl rfl)
theorem dX1_colour_20 : decode cX1_colour 20 = .ok (.iload_n 3, 1) := dk_29 (dk_at dksX1_colour_0 20 rfl rfl)
theorem dX1_colour_21 : decode cX1_colour 21 = .ok (.invokevirtual 101, 3) := dk_182 0 101 (dk_at dksX1_colour_0 21 rfl rfl)
theorem dX1_colour_24 : decode cX1_colour 24 = .ok (.goto 12, 3) := dk_167 0 12 (dk_at dksX1_colour_1 0 rfl rfl)
theorem dX1_colour_27 : decode cX1_colour 27 = .ok (.aload_n 0, 1) := dk_42 (dk_at dksX1_colour_1 3 rfl rfl)
theorem dX1_colour_28 : decode cX1_colour 28 = .ok (.getfield 42, 3) := dk_180 0 42 (dk_at dksX1_colour_1 4 rfl rfl)
theorem dX1_colour_31 : decode cX1_colour 31 = .ok (.iload_n 1, 1) := dk_27 (dk_at dksX1_colour_1 7 rfl rfl)
theorem dX1_colour_32 : decode cX1_colour 32 = .ok (.iload_n 2, 1) := dk_28 (dk_at dksX1_colour_1 8 rfl rfl)
theorem dX1_colour_33 : decode cX1_colour 33 = .ok (.invokevirtual 241, 3) := dk_182 0 241 (dk_at dksX1_colour_1 9 rfl rfl)
theorem dX1_colour_36 : decode cX1_colour 36 = .ok (.ireturn, 1) := dk_172 (dk_at dksX1_colour_1 12 rfl rfl)
abbrev cX1_whose : ByteArray := prog_1_method_27_code
def yX1_whose : MethodName := ⟨RX1, "whose", "(II)I"⟩
def dkwX1_whose_1 : List UInt8 := [167, 0, 12, 42, 180, 0, 42, 27, 28, 182, 0, 243, 172]
abbrev dktX1_whose_1 : List UInt8 := dkwX1_whose_1 ++ []
def dkwX1_whose_0 : List UInt8 := [42, 182, 0, 87, 42, 42, 28, 182, 0, 235, 27, 182, 0, 195, 62, 29, 153, 0, 11, 42, 29, 182, 0, 101]
abbrev dktX1_whose_0 : List UInt8 := dkwX1_whose_0 ++ dktX1_whose_1
theorem dksX1_whose_0 : cX1_whose.data.toList.drop 0 = dktX1_whose_0 := by decide +kernel
theorem dksX1_whose_1 : cX1_whose.data.toList.drop 24 = dktX1_whose_1 := dk_seg dksX1_whose_0 24 rfl rfl
theorem dX1_whose_0 : decode cX1_whose 0 = .ok (.aload_n 0, 1) := dk_42 (dk_at dksX1_whose_0 0 rfl rfl)
theorem dX1_whose_1 : decode cX1_whose 1 = .ok (.invokevirtual 87, 3) := dk_182 0 87 (dk_at dksX1_whose_0 1 rfl rfl)
theorem dX1_whose_4 : decode cX1_whose 4 = .ok (.aload_n 0, 1) := dk_42 (dk_at dksX1_whose_0 4 rfl rfl)
theorem dX1_whose_5 : decode cX1_whose 5 = .ok (.aload_n 0, 1) := dk_42 (dk_at dksX1_whose_0 5 rfl rfl)
theorem dX1_whose_6 : decode cX1_whose 6 = .ok (.iload_n 2, 1) := dk_28 (dk_at dksX1_whose_0 6 rfl rfl)
theorem dX1_whose_7 : decode cX1_whose 7 = .ok (.invokevirtual 235, 3) := dk_182 0 235 (dk_at dksX1_whose_0 7 rfl rfl)
theorem dX1_whose_10 : decode cX1_whose 10 = .ok (.iload_n 1, 1) := dk_27 (dk_at dksX1_whose_0 10 rfl rfl)
theorem dX1_whose_11 : decode cX1_whose 11 = .ok (.invokevirtual 195, 3) := dk_182 0 195 (dk_at dksX1_whose_0 11 rfl rfl)
theorem dX1_whose_14 : decode cX1_whose 14 = .ok (.istore_n 3, 1) := dk_62 (dk_at dksX1_whose_0 14 rfl rfl)
theorem dX1_whose_15 : decode cX1_whose 15 = .ok (.iload_n 3, 1) := dk_29 (dk_at dksX1_whose_0 15 rfl rfl)
theorem dX1_whose_16 : decode cX1_whose 16 = .ok (.ifCond .eq 11, 3) := dk_153 0 11 (dk_at dksX1_whose_0 16 rfl rfl)
theorem dX1_whose_19 : decode cX1_whose 19 = .ok (.aload_n 0, 1) := dk_42 (dk_at dksX1_whose_0 19 rfl rfl)
theorem dX1_whose_20 : decode cX1_whose 20 = .ok (.iload_n 3, 1) := dk_29 (dk_at dksX1_whose_0 20 rfl rfl)
theorem dX1_whose_21 : decode cX1_whose 21 = .ok (.invokevirtual 101, 3) := dk_182 0 101 (dk_at dksX1_whose_0 21 rfl rfl)
theorem dX1_whose_24 : decode cX1_whose 24 = .ok (.goto 12, 3) := dk_167 0 12 (dk_at dksX1_whose_1 0 rfl rfl)
theorem dX1_whose_27 : decode cX1_whose 27 = .ok (.aload_n 0, 1) := dk_42 (dk_at dksX1_whose_1 3 rfl rfl)
theorem dX1_whose_28 : decode cX1_whose 28 = .ok (.getfield 42, 3) := dk_180 0 42 (dk_at dksX1_whose_1 4 rfl rfl)
theorem dX1_whose_31 : decode cX1_whose 31 = .ok (.iload_n 1, 1) := dk_27 (dk_at dksX1_whose_1 7 rfl rfl)
theorem dX1_whose_32 : decode cX1_whose 32 = .ok (.iload_n 2, 1) := dk_28 (dk_at dksX1_whose_1 8 rfl rfl)
theorem dX1_whose_33 : decode cX1_whose 33 = .ok (.invokevirtual 243, 3) := dk_182 0 243 (dk_at dksX1_whose_1 9 rfl rfl)
theorem dX1_whose_36 : decode cX1_whose 36 = .ok (.ireturn, 1) := dk_172 (dk_at dksX1_whose_1 12 rfl rfl)
abbrev cX1_place : ByteArray := prog_1_method_28_code
def yX1_place : MethodName := ⟨RX1, "place", "(II)I"⟩
def dkwX1_place_1 : List UInt8 := [167, 0, 12, 42, 180, 0, 42, 27, 28, 182, 0, 246, 172]
abbrev dktX1_place_1 : List UInt8 := dkwX1_place_1 ++ []
def dkwX1_place_0 : List UInt8 := [42, 182, 0, 87, 42, 42, 28, 182, 0, 154, 27, 182, 0, 195, 62, 29, 153, 0, 11, 42, 29, 182, 0, 101]
abbrev dktX1_place_0 : List UInt8 := dkwX1_place_0 ++ dktX1_place_1
theorem dksX1_place_0 : cX1_place.data.toList.drop 0 = dktX1_place_0 := by decide +kernel
theorem dksX1_place_1 : cX1_place.data.toList.drop 24 = dktX1_place_1 := dk_seg dksX1_place_0 24 rfl rfl
theorem dX1_place_0 : decode cX1_place 0 = .ok (.aload_n 0, 1) := dk_42 (dk_at dksX1_place_0 0 rfl rfl)
theorem dX1_place_1 : decode cX1_place 1 = .ok (.invokevirtual 87, 3) := dk_182 0 87 (dk_at dksX1_place_0 1 rfl rfl)
theorem dX1_place_4 : decode cX1_place 4 = .ok (.aload_n 0, 1) := dk_42 (dk_at dksX1_place_0 4 rfl rfl)
theorem dX1_place_5 : decode cX1_place 5 = .ok (.aload_n 0, 1) := dk_42 (dk_at dksX1_place_0 5 rfl rfl)
theorem dX1_place_6 : decode cX1_place 6 = .ok (.iload_n 2, 1) := dk_28 (dk_at dksX1_place_0 6 rfl rfl)
theorem dX1_place_7 : decode cX1_place 7 = .ok (.invokevirtual 154, 3) := dk_182 0 154 (dk_at dksX1_place_0 7 rfl rfl)
theorem dX1_place_10 : decode cX1_place 10 = .ok (.iload_n 1, 1) := dk_27 (dk_at dksX1_place_0 10 rfl rfl)
theorem dX1_place_11 : decode cX1_place 11 = .ok (.invokevirtual 195, 3) := dk_182 0 195 (dk_at dksX1_place_0 11 rfl rfl)
theorem dX1_place_14 : decode cX1_place 14 = .ok (.istore_n 3, 1) := dk_62 (dk_at dksX1_place_0 14 rfl rfl)
theorem dX1_place_15 : decode cX1_place 15 = .ok (.iload_n 3, 1) := dk_29 (dk_at dksX1_place_0 15 rfl rfl)
theorem dX1_place_16 : decode cX1_place 16 = .ok (.ifCond .eq 11, 3) := dk_153 0 11 (dk_at dksX1_place_0 16 rfl rfl)
theorem dX1_place_19 : decode cX1_place 19 = .ok (.aload_n 0, 1) := dk_42 (dk_at dksX1_place_0 19 rfl rfl)
theorem dX1_place_20 : decode cX1_place 20 = .ok (.iload_n 3, 1) := dk_29 (dk_at dksX1_place_0 20 rfl rfl)
theorem dX1_place_21 : decode cX1_place 21 = .ok (.invokevirtual 101, 3) := dk_182 0 101 (dk_at dksX1_place_0 21 rfl rfl)
theorem dX1_place_24 : decode cX1_place 24 = .ok (.goto 12, 3) := dk_167 0 12 (dk_at dksX1_place_1 0 rfl rfl)
theorem dX1_place_27 : decode cX1_place 27 = .ok (.aload_n 0, 1) := dk_42 (dk_at dksX1_place_1 3 rfl rfl)
theorem dX1_place_28 : decode cX1_place 28 = .ok (.getfield 42, 3) := dk_180 0 42 (dk_at dksX1_place_1 4 rfl rfl)
theorem dX1_place_31 : decode cX1_place 31 = .ok (.iload_n 1, 1) := dk_27 (dk_at dksX1_place_1 7 rfl rfl)
theorem dX1_place_32 : decode cX1_place 32 = .ok (.iload_n 2, 1) := dk_28 (dk_at dksX1_place_1 8 rfl rfl)
theorem dX1_place_33 : decode cX1_place 33 = .ok (.invokevirtual 246, 3) := dk_182 0 246 (dk_at dksX1_place_1 9 rfl rfl)
theorem dX1_place_36 : decode cX1_place 36 = .ok (.ireturn, 1) := dk_172 (dk_at dksX1_place_1 12 rfl rfl)
abbrev cX1_many : ByteArray := prog_1_method_29_code
def yX1_many : MethodName := ⟨RX1, "many", "(I)I"⟩
def dkwX1_many_1 : List UInt8 := [153, 0, 11, 42, 28, 182, 0, 101, 167, 0, 11, 42, 180, 0, 42, 27, 182, 0, 248, 172]
abbrev dktX1_many_1 : List UInt8 := dkwX1_many_1 ++ []
def dkwX1_many_0 : List UInt8 := [42, 182, 0, 87, 42, 42, 180, 0, 112, 198, 0, 7, 4, 167, 0, 4, 3, 27, 182, 0, 195, 61, 28]
abbrev dktX1_many_0 : List UInt8 := dkwX1_many_0 ++ dktX1_many_1
theorem dksX1_many_0 : cX1_many.data.toList.drop 0 = dktX1_many_0 := by decide +kernel
theorem dksX1_many_1 : cX1_many.data.toList.drop 23 = dktX1_many_1 := dk_seg dksX1_many_0 23 rfl rfl
theorem dX1_many_0 : decode cX1_many 0 = .ok (.aload_n 0, 1) := dk_42 (dk_at dksX1_many_0 0 rfl rfl)
theorem dX1_many_1 : decode cX1_many 1 = .ok (.invokevirtual 87, 3) := dk_182 0 87 (dk_at dksX1_many_0 1 rfl rfl)
theorem dX1_many_4 : decode cX1_many 4 = .ok (.aload_n 0, 1) := dk_42 (dk_at dksX1_many_0 4 rfl rfl)
theorem dX1_many_5 : decode cX1_many 5 = .ok (.aload_n 0, 1) := dk_42 (dk_at dksX1_many_0 5 rfl rfl)
theorem dX1_many_6 : decode cX1_many 6 = .ok (.getfield 112, 3) := dk_180 0 112 (dk_at dksX1_many_0 6 rfl rfl)
theorem dX1_many_9 : decode cX1_many 9 = .ok (.ifnull 7, 3) := dk_198 0 7 (dk_at dksX1_many_0 9 rfl rfl)
theorem dX1_many_12 : decode cX1_many 12 = .ok (.iconst 1, 1) := dk_4 (dk_at dksX1_many_0 12 rfl rfl)
theorem dX1_many_13 : decode cX1_many 13 = .ok (.goto 4, 3) := dk_167 0 4 (dk_at dksX1_many_0 13 rfl rfl)
theorem dX1_many_16 : decode cX1_many 16 = .ok (.iconst 0, 1) := dk_3 (dk_at dksX1_many_0 16 rfl rfl)
theorem dX1_many_17 : decode cX1_many 17 = .ok (.iload_n 1, 1) := dk_27 (dk_at dksX1_many_0 17 rfl rfl)
theorem dX1_many_18 : decode cX1_many 18 = .ok (.invokevirtual 195, 3) := dk_182 0 195 (dk_at dksX1_many_0 18 rfl rfl)
theorem dX1_many_21 : decode cX1_many 21 = .ok (.istore_n 2, 1) := dk_61 (dk_at dksX1_many_0 21 rfl rfl)
theorem dX1_many_22 : decode cX1_many 22 = .ok (.iload_n 2, 1) := dk_28 (dk_at dksX1_many_0 22 rfl rfl)
theorem dX1_many_23 : decode cX1_many 23 = .ok (.ifCond .eq 11, 3) := dk_153 0 11 (dk_at dksX1_many_1 0 rfl rfl)
theorem dX1_many_26 : decode cX1_many 26 = .ok (.aload_n 0, 1) := dk_42 (dk_at dksX1_many_1 3 rfl rfl)
theorem dX1_many_27 : decode cX1_many 27 = .ok (.iload_n 2, 1) := dk_28 (dk_at dksX1_many_1 4 rfl rfl)
theorem dX1_many_28 : decode cX1_many 28 = .ok (.invokevirtual 101, 3) := dk_182 0 101 (dk_at dksX1_many_1 5 rfl rfl)
theorem dX1_many_31 : decode cX1_many 31 = .ok (.goto 11, 3) := dk_167 0 11 (dk_at dksX1_many_1 8 rfl rfl)
theorem dX1_many_34 : decode cX1_many 34 = .ok (.aload_n 0, 1) := dk_42 (dk_at dksX1_many_1 11 rfl rfl)
theorem dX1_many_35 : decode cX1_many 35 = .ok (.getfield 42, 3) := dk_180 0 42 (dk_at dksX1_many_1 12 rfl rfl)
theorem dX1_many_38 : decode cX1_many 38 = .ok (.iload_n 1, 1) := dk_27 (dk_at dksX1_many_1 15 rfl rfl)
theorem dX1_many_39 : decode cX1_many 39 = .ok (.invokevirtual 248, 3) := dk_182 0 248 (dk_at dksX1_many_1 16 rfl rfl)
theorem dX1_many_42 : decode cX1_many 42 = .ok (.ireturn, 1) := dk_172 (dk_at dksX1_many_1 19 rfl rfl)
abbrev cX1_full : ByteArray := prog_1_method_30_code
def yX1_full : MethodName := ⟨RX1, "full", "()I"⟩
def dkwX1_full_3 : List UInt8 := [16, 254, 172]
abbrev dktX1_full_3 : List UInt8 := dkwX1_full_3 ++ []
def dkwX1_full_2 : List UInt8 := [28, 182, 0, 246, 16, 8, 160, 0, 5, 27, 172, 132, 2, 1, 167, 255, 226, 132, 1, 1, 167, 255, 207]
abbrev dktX1_full_2 : List UInt8 := dkwX1_full_2 ++ dktX1_full_3
def dkwX1_full_1 : List UInt8 := [180, 0, 147, 162, 0, 44, 3, 61, 28, 42, 180, 0, 112, 180, 0, 135, 162, 0, 25, 42, 180, 0, 42, 27]
abbrev dktX1_full_1 : List UInt8 := dkwX1_full_1 ++ dktX1_full_2
def dkwX1_full_0 : List UInt8 := [42, 182, 0, 87, 42, 180, 0, 112, 199, 0, 9, 42, 4, 182, 0, 101, 172, 3, 60, 27, 42, 180, 0, 112]
abbrev dktX1_full_0 : List UInt8 := dkwX1_full_0 ++ dktX1_full_1
theorem dksX1_full_0 : cX1_full.data.toList.drop 0 = dktX1_full_0 := by decide +kernel
theorem dksX1_full_1 : cX1_full.data.toList.drop 24 = dktX1_full_1 := dk_seg dksX1_full_0 24 rfl rfl
theorem dksX1_full_2 : cX1_full.data.toList.drop 48 = dktX1_full_2 := dk_seg dksX1_full_1 24 rfl rfl
theorem dksX1_full_3 : cX1_full.data.toList.drop 71 = dktX1_full_3 := dk_seg dksX1_full_2 23 rfl rfl
theorem dX1_full_0 : decode cX1_full 0 = .ok (.aload_n 0, 1) := dk_42 (dk_at dksX1_full_0 0 rfl rfl)
theorem dX1_full_1 : decode cX1_full 1 = .ok (.invokevirtual 87, 3) := dk_182 0 87 (dk_at dksX1_full_0 1 rfl rfl)
theorem dX1_full_4 : decode cX1_full 4 = .ok (.aload_n 0, 1) := dk_42 (dk_at dksX1_full_0 4 rfl rfl)
theorem dX1_full_5 : decode cX1_full 5 = .ok (.getfield 112, 3) := dk_180 0 112 (dk_at dksX1_full_0 5 rfl rfl)
theorem dX1_full_8 : decode cX1_full 8 = .ok (.ifnonnull 9, 3) := dk_199 0 9 (dk_at dksX1_full_0 8 rfl rfl)
theorem dX1_full_11 : decode cX1_full 11 = .ok (.aload_n 0, 1) := dk_42 (dk_at dksX1_full_0 11 rfl rfl)
theorem dX1_full_12 : decode cX1_full 12 = .ok (.iconst 1, 1) := dk_4 (dk_at dksX1_full_0 12 rfl rfl)
theorem dX1_full_13 : decode cX1_full 13 = .ok (.invokevirtual 101, 3) := dk_182 0 101 (dk_at dksX1_full_0 13 rfl rfl)
theorem dX1_full_16 : decode cX1_full 16 = .ok (.ireturn, 1) := dk_172 (dk_at dksX1_full_0 16 rfl rfl)
theorem dX1_full_17 : decode cX1_full 17 = .ok (.iconst 0, 1) := dk_3 (dk_at dksX1_full_0 17 rfl rfl)
theorem dX1_full_18 : decode cX1_full 18 = .ok (.istore_n 1, 1) := dk_60 (dk_at dksX1_full_0 18 rfl rfl)
theorem dX1_full_19 : decode cX1_full 19 = .ok (.iload_n 1, 1) := dk_27 (dk_at dksX1_full_0 19 rfl rfl)
theorem dX1_full_20 : decode cX1_full 20 = .ok (.aload_n 0, 1) := dk_42 (dk_at dksX1_full_0 20 rfl rfl)
theorem dX1_full_21 : decode cX1_full 21 = .ok (.getfield 112, 3) := dk_180 0 112 (dk_at dksX1_full_0 21 rfl rfl)
theorem dX1_full_24 : decode cX1_full 24 = .ok (.getfield 147, 3) := dk_180 0 147 (dk_at dksX1_full_1 0 rfl rfl)
theorem dX1_full_27 : decode cX1_full 27 = .ok (.if_icmp .ge 44, 3) := dk_162 0 44 (dk_at dksX1_full_1 3 rfl rfl)
theorem dX1_full_30 : decode cX1_full 30 = .ok (.iconst 0, 1) := dk_3 (dk_at dksX1_full_1 6 rfl rfl)
theorem dX1_full_31 : decode cX1_full 31 = .ok (.istore_n 2, 1) := dk_61 (dk_at dksX1_full_1 7 rfl rfl)
theorem dX1_full_32 : decode cX1_full 32 = .ok (.iload_n 2, 1) := dk_28 (dk_at dksX1_full_1 8 rfl rfl)
theorem dX1_full_33 : decode cX1_full 33 = .ok (.aload_n 0, 1) := dk_42 (dk_at dksX1_full_1 9 rfl rfl)
theorem dX1_full_34 : decode cX1_full 34 = .ok (.getfield 112, 3) := dk_180 0 112 (dk_at dksX1_full_1 10 rfl rfl)
theorem dX1_full_37 : decode cX1_full 37 = .ok (.getfield 135, 3) := dk_180 0 135 (dk_at dksX1_full_1 13 rfl rfl)
theorem dX1_full_40 : decode cX1_full 40 = .ok (.if_icmp .ge 25, 3) := dk_162 0 25 (dk_at dksX1_full_1 16 rfl rfl)
theorem dX1_full_43 : decode cX1_full 43 = .ok (.aload_n 0, 1) := dk_42 (dk_at dksX1_full_1 19 rfl rfl)
theorem dX1_full_44 : decode cX1_full 44 = .ok (.getfield 42, 3) := dk_180 0 42 (dk_at dksX1_full_1 20 rfl rfl)
theorem dX1_full_47 : decode cX1_full 47 = .ok (.iload_n 1, 1) := dk_27 (dk_at dksX1_full_1 23 rfl rfl)
theorem dX1_full_48 : decode cX1_full 48 = .ok (.iload_n 2, 1) := dk_28 (dk_at dksX1_full_2 0 rfl rfl)
theorem dX1_full_49 : decode cX1_full 49 = .ok (.invokevirtual 246, 3) := dk_182 0 246 (dk_at dksX1_full_2 1 rfl rfl)
theorem dX1_full_52 : decode cX1_full 52 = .ok (.bipush 8, 2) := dk_16 8 (dk_at dksX1_full_2 4 rfl rfl)
theorem dX1_full_54 : decode cX1_full 54 = .ok (.if_icmp .ne 5, 3) := dk_160 0 5 (dk_at dksX1_full_2 6 rfl rfl)
theorem dX1_full_57 : decode cX1_full 57 = .ok (.iload_n 1, 1) := dk_27 (dk_at dksX1_full_2 9 rfl rfl)
theorem dX1_full_58 : decode cX1_full 58 = .ok (.ireturn, 1) := dk_172 (dk_at dksX1_full_2 10 rfl rfl)
theorem dX1_full_59 : decode cX1_full 59 = .ok (.iinc 2 1, 3) := dk_132 2 1 (dk_at dksX1_full_2 11 rfl rfl)
theorem dX1_full_62 : decode cX1_full 62 = .ok (.goto (-30), 3) := dk_167 255 226 (dk_at dksX1_full_2 14 rfl rfl)
theorem dX1_full_65 : decode cX1_full 65 = .ok (.iinc 1 1, 3) := dk_132 1 1 (dk_at dksX1_full_2 17 rfl rfl)
theorem dX1_full_68 : decode cX1_full 68 = .ok (.goto (-49), 3) := dk_167 255 207 (dk_at dksX1_full_2 20 rfl rfl)
theorem dX1_full_71 : decode cX1_full 71 = .ok (.bipush (-2), 2) := dk_16 254 (dk_at dksX1_full_3 0 rfl rfl)
theorem dX1_full_73 : decode cX1_full 73 = .ok (.ireturn, 1) := dk_172 (dk_at dksX1_full_3 2 rfl rfl)
abbrev cX1_uses : ByteArray := prog_1_method_31_code
def yX1_uses : MethodName := ⟨RX1, "uses", "(II)I"⟩
def dkwX1_uses_1 : List UInt8 := [167, 0, 12, 42, 180, 0, 42, 27, 28, 182, 0, 251, 172]
abbrev dktX1_uses_1 : List UInt8 := dkwX1_uses_1 ++ []
def dkwX1_uses_0 : List UInt8 := [42, 182, 0, 87, 42, 42, 28, 182, 0, 154, 27, 182, 0, 195, 62, 29, 153, 0, 11, 42, 29, 182, 0, 101]
abbrev dktX1_uses_0 : List UInt8 := dkwX1_uses_0 ++ dktX1_uses_1
theorem dksX1_uses_0 : cX1_uses.data.toList.drop 0 = dktX1_uses_0 := by decide +kernel
theorem dksX1_uses_1 : cX1_uses.data.toList.drop 24 = dktX1_uses_1 := dk_seg dksX1_uses_0 24 rfl rfl
theorem dX1_uses_0 : decode cX1_uses 0 = .ok (.aload_n 0, 1) := dk_42 (dk_at dksX1_uses_0 0 rfl rfl)
theorem dX1_uses_1 : decode cX1_uses 1 = .ok (.invokevirtual 87, 3) := dk_182 0 87 (dk_at dksX1_uses_0 1 rfl rfl)
theorem dX1_uses_4 : decode cX1_uses 4 = .ok (.aload_n 0, 1) := dk_42 (dk_at dksX1_uses_0 4 rfl rfl)
theorem dX1_uses_5 : decode cX1_uses 5 = .ok (.aload_n 0, 1) := dk_42 (dk_at dksX1_uses_0 5 rfl rfl)
theorem dX1_uses_6 : decode cX1_uses 6 = .ok (.iload_n 2, 1) := dk_28 (dk_at dksX1_uses_0 6 rfl rfl)
theorem dX1_uses_7 : decode cX1_uses 7 = .ok (.invokevirtual 154, 3) := dk_182 0 154 (dk_at dksX1_uses_0 7 rfl rfl)
theorem dX1_uses_10 : decode cX1_uses 10 = .ok (.iload_n 1, 1) := dk_27 (dk_at dksX1_uses_0 10 rfl rfl)
theorem dX1_uses_11 : decode cX1_uses 11 = .ok (.invokevirtual 195, 3) := dk_182 0 195 (dk_at dksX1_uses_0 11 rfl rfl)
theorem dX1_uses_14 : decode cX1_uses 14 = .ok (.istore_n 3, 1) := dk_62 (dk_at dksX1_uses_0 14 rfl rfl)
theorem dX1_uses_15 : decode cX1_uses 15 = .ok (.iload_n 3, 1) := dk_29 (dk_at dksX1_uses_0 15 rfl rfl)
theorem dX1_uses_16 : decode cX1_uses 16 = .ok (.ifCond .eq 11, 3) := dk_153 0 11 (dk_at dksX1_uses_0 16 rfl rfl)
theorem dX1_uses_19 : decode cX1_uses 19 = .ok (.aload_n 0, 1) := dk_42 (dk_at dksX1_uses_0 19 rfl rfl)
theorem dX1_uses_20 : decode cX1_uses 20 = .ok (.iload_n 3, 1) := dk_29 (dk_at dksX1_uses_0 20 rfl rfl)
theorem dX1_uses_21 : decode cX1_uses 21 = .ok (.invokevirtual 101, 3) := dk_182 0 101 (dk_at dksX1_uses_0 21 rfl rfl)
theorem dX1_uses_24 : decode cX1_uses 24 = .ok (.goto 12, 3) := dk_167 0 12 (dk_at dksX1_uses_1 0 rfl rfl)
theorem dX1_uses_27 : decode cX1_uses 27 = .ok (.aload_n 0, 1) := dk_42 (dk_at dksX1_uses_1 3 rfl rfl)
theorem dX1_uses_28 : decode cX1_uses 28 = .ok (.getfield 42, 3) := dk_180 0 42 (dk_at dksX1_uses_1 4 rfl rfl)
theorem dX1_uses_31 : decode cX1_uses 31 = .ok (.iload_n 1, 1) := dk_27 (dk_at dksX1_uses_1 7 rfl rfl)
theorem dX1_uses_32 : decode cX1_uses 32 = .ok (.iload_n 2, 1) := dk_28 (dk_at dksX1_uses_1 8 rfl rfl)
theorem dX1_uses_33 : decode cX1_uses 33 = .ok (.invokevirtual 251, 3) := dk_182 0 251 (dk_at dksX1_uses_1 9 rfl rfl)
theorem dX1_uses_36 : decode cX1_uses 36 = .ok (.ireturn, 1) := dk_172 (dk_at dksX1_uses_1 12 rfl rfl)
abbrev cX1_wet : ByteArray := prog_1_method_32_code
def yX1_wet : MethodName := ⟨RX1, "wet", "(II)I"⟩
def dkwX1_wet_4 : List UInt8 := [21, 5, 153, 0, 7, 4, 167, 0, 4, 3, 172]
abbrev dktX1_wet_4 : List UInt8 := dkwX1_wet_4 ++ []
def dkwX1_wet_3 : List UInt8 := [21, 6, 182, 0, 251, 21, 4, 160, 0, 7, 4, 167, 0, 4, 3, 54, 5, 132, 6, 1, 167, 255, 207]
abbrev dktX1_wet_3 : List UInt8 := dkwX1_wet_3 ++ dktX1_wet_4
def dkwX1_wet_2 : List UInt8 := [180, 0, 135, 162, 0, 43, 21, 5, 154, 0, 25, 21, 4, 16, 254, 159, 0, 22, 42, 180, 0, 42, 27]
abbrev dktX1_wet_2 : List UInt8 := dkwX1_wet_2 ++ dktX1_wet_3
def dkwX1_wet_1 : List UInt8 := [172, 42, 180, 0, 42, 27, 28, 182, 0, 238, 54, 4, 3, 54, 5, 3, 54, 6, 21, 6, 42, 180, 0, 112]
abbrev dktX1_wet_1 : List UInt8 := dkwX1_wet_1 ++ dktX1_wet_2
def dkwX1_wet_0 : List UInt8 := [42, 182, 0, 87, 42, 42, 28, 182, 0, 235, 27, 182, 0, 195, 62, 29, 153, 0, 9, 42, 29, 182, 0, 101]
abbrev dktX1_wet_0 : List UInt8 := dkwX1_wet_0 ++ dktX1_wet_1
theorem dksX1_wet_0 : cX1_wet.data.toList.drop 0 = dktX1_wet_0 := by decide +kernel
theorem dksX1_wet_1 : cX1_wet.data.toList.drop 24 = dktX1_wet_1 := dk_seg dksX1_wet_0 24 rfl rfl
theorem dksX1_wet_2 : cX1_wet.data.toList.drop 48 = dktX1_wet_2 := dk_seg dksX1_wet_1 24 rfl rfl
theorem dksX1_wet_3 : cX1_wet.data.toList.drop 71 = dktX1_wet_3 := dk_seg dksX1_wet_2 23 rfl rfl
theorem dksX1_wet_4 : cX1_wet.data.toList.drop 94 = dktX1_wet_4 := dk_seg dksX1_wet_3 23 rfl rfl
theorem dX1_wet_0 : decode cX1_wet 0 = .ok (.aload_n 0, 1) := dk_42 (dk_at dksX1_wet_0 0 rfl rfl)
theorem dX1_wet_1 : decode cX1_wet 1 = .ok (.invokevirtual 87, 3) := dk_182 0 87 (dk_at dksX1_wet_0 1 rfl rfl)
theorem dX1_wet_4 : decode cX1_wet 4 = .ok (.aload_n 0, 1) := dk_42 (dk_at dksX1_wet_0 4 rfl rfl)
theorem dX1_wet_5 : decode cX1_wet 5 = .ok (.aload_n 0, 1) := dk_42 (dk_at dksX1_wet_0 5 rfl rfl)
theorem dX1_wet_6 : decode cX1_wet 6 = .ok (.iload_n 2, 1) := dk_28 (dk_at dksX1_wet_0 6 rfl rfl)
theorem dX1_wet_7 : decode cX1_wet 7 = .ok (.invokevirtual 235, 3) := dk_182 0 235 (dk_at dksX1_wet_0 7 rfl rfl)
theorem dX1_wet_10 : decode cX1_wet 10 = .ok (.iload_n 1, 1) := dk_27 (dk_at dksX1_wet_0 10 rfl rfl)
theorem dX1_wet_11 : decode cX1_wet 11 = .ok (.invokevirtual 195, 3) := dk_182 0 195 (dk_at dksX1_wet_0 11 rfl rfl)
theorem dX1_wet_14 : decode cX1_wet 14 = .ok (.istore_n 3, 1) := dk_62 (dk_at dksX1_wet_0 14 rfl rfl)
theorem dX1_wet_15 : decode cX1_wet 15 = .ok (.iload_n 3, 1) := dk_29 (dk_at dksX1_wet_0 15 rfl rfl)
theorem dX1_wet_16 : decode cX1_wet 16 = .ok (.ifCond .eq 9, 3) := dk_153 0 9 (dk_at dksX1_wet_0 16 rfl rfl)
theorem dX1_wet_19 : decode cX1_wet 19 = .ok (.aload_n 0, 1) := dk_42 (dk_at dksX1_wet_0 19 rfl rfl)
theorem dX1_wet_20 : decode cX1_wet 20 = .ok (.iload_n 3, 1) := dk_29 (dk_at dksX1_wet_0 20 rfl rfl)
theorem dX1_wet_21 : decode cX1_wet 21 = .ok (.invokevirtual 101, 3) := dk_182 0 101 (dk_at dksX1_wet_0 21 rfl rfl)
theorem dX1_wet_24 : decode cX1_wet 24 = .ok (.ireturn, 1) := dk_172 (dk_at dksX1_wet_1 0 rfl rfl)
theorem dX1_wet_25 : decode cX1_wet 25 = .ok (.aload_n 0, 1) := dk_42 (dk_at dksX1_wet_1 1 rfl rfl)
theorem dX1_wet_26 : decode cX1_wet 26 = .ok (.getfield 42, 3) := dk_180 0 42 (dk_at dksX1_wet_1 2 rfl rfl)
theorem dX1_wet_29 : decode cX1_wet 29 = .ok (.iload_n 1, 1) := dk_27 (dk_at dksX1_wet_1 5 rfl rfl)
theorem dX1_wet_30 : decode cX1_wet 30 = .ok (.iload_n 2, 1) := dk_28 (dk_at dksX1_wet_1 6 rfl rfl)
theorem dX1_wet_31 : decode cX1_wet 31 = .ok (.invokevirtual 238, 3) := dk_182 0 238 (dk_at dksX1_wet_1 7 rfl rfl)
theorem dX1_wet_34 : decode cX1_wet 34 = .ok (.istore 4, 2) := dk_54 4 (dk_at dksX1_wet_1 10 rfl rfl)
theorem dX1_wet_36 : decode cX1_wet 36 = .ok (.iconst 0, 1) := dk_3 (dk_at dksX1_wet_1 12 rfl rfl)
theorem dX1_wet_37 : decode cX1_wet 37 = .ok (.istore 5, 2) := dk_54 5 (dk_at dksX1_wet_1 13 rfl rfl)
theorem dX1_wet_39 : decode cX1_wet 39 = .ok (.iconst 0, 1) := dk_3 (dk_at dksX1_wet_1 15 rfl rfl)
theorem dX1_wet_40 : decode cX1_wet 40 = .ok (.istore 6, 2) := dk_54 6 (dk_at dksX1_wet_1 16 rfl rfl)
theorem dX1_wet_42 : decode cX1_wet 42 = .ok (.iload 6, 2) := dk_21 6 (dk_at dksX1_wet_1 18 rfl rfl)
theorem dX1_wet_44 : decode cX1_wet 44 = .ok (.aload_n 0, 1) := dk_42 (dk_at dksX1_wet_1 20 rfl rfl)
theorem dX1_wet_45 : decode cX1_wet 45 = .ok (.getfield 112, 3) := dk_180 0 112 (dk_at dksX1_wet_1 21 rfl rfl)
theorem dX1_wet_48 : decode cX1_wet 48 = .ok (.getfield 135, 3) := dk_180 0 135 (dk_at dksX1_wet_2 0 rfl rfl)
theorem dX1_wet_51 : decode cX1_wet 51 = .ok (.if_icmp .ge 43, 3) := dk_162 0 43 (dk_at dksX1_wet_2 3 rfl rfl)
theorem dX1_wet_54 : decode cX1_wet 54 = .ok (.iload 5, 2) := dk_21 5 (dk_at dksX1_wet_2 6 rfl rfl)
theorem dX1_wet_56 : decode cX1_wet 56 = .ok (.ifCond .ne 25, 3) := dk_154 0 25 (dk_at dksX1_wet_2 8 rfl rfl)
theorem dX1_wet_59 : decode cX1_wet 59 = .ok (.iload 4, 2) := dk_21 4 (dk_at dksX1_wet_2 11 rfl rfl)
theorem dX1_wet_61 : decode cX1_wet 61 = .ok (.bipush (-2), 2) := dk_16 254 (dk_at dksX1_wet_2 13 rfl rfl)
theorem dX1_wet_63 : decode cX1_wet 63 = .ok (.if_icmp .eq 22, 3) := dk_159 0 22 (dk_at dksX1_wet_2 15 rfl rfl)
theorem dX1_wet_66 : decode cX1_wet 66 = .ok (.aload_n 0, 1) := dk_42 (dk_at dksX1_wet_2 18 rfl rfl)
theorem dX1_wet_67 : decode cX1_wet 67 = .ok (.getfield 42, 3) := dk_180 0 42 (dk_at dksX1_wet_2 19 rfl rfl)
theorem dX1_wet_70 : decode cX1_wet 70 = .ok (.iload_n 1, 1) := dk_27 (dk_at dksX1_wet_2 22 rfl rfl)
theorem dX1_wet_71 : decode cX1_wet 71 = .ok (.iload 6, 2) := dk_21 6 (dk_at dksX1_wet_3 0 rfl rfl)
theorem dX1_wet_73 : decode cX1_wet 73 = .ok (.invokevirtual 251, 3) := dk_182 0 251 (dk_at dksX1_wet_3 2 rfl rfl)
theorem dX1_wet_76 : decode cX1_wet 76 = .ok (.iload 4, 2) := dk_21 4 (dk_at dksX1_wet_3 5 rfl rfl)
theorem dX1_wet_78 : decode cX1_wet 78 = .ok (.if_icmp .ne 7, 3) := dk_160 0 7 (dk_at dksX1_wet_3 7 rfl rfl)
theorem dX1_wet_81 : decode cX1_wet 81 = .ok (.iconst 1, 1) := dk_4 (dk_at dksX1_wet_3 10 rfl rfl)
theorem dX1_wet_82 : decode cX1_wet 82 = .ok (.goto 4, 3) := dk_167 0 4 (dk_at dksX1_wet_3 11 rfl rfl)
theorem dX1_wet_85 : decode cX1_wet 85 = .ok (.iconst 0, 1) := dk_3 (dk_at dksX1_wet_3 14 rfl rfl)
theorem dX1_wet_86 : decode cX1_wet 86 = .ok (.istore 5, 2) := dk_54 5 (dk_at dksX1_wet_3 15 rfl rfl)
theorem dX1_wet_88 : decode cX1_wet 88 = .ok (.iinc 6 1, 3) := dk_132 6 1 (dk_at dksX1_wet_3 17 rfl rfl)
theorem dX1_wet_91 : decode cX1_wet 91 = .ok (.goto (-49), 3) := dk_167 255 207 (dk_at dksX1_wet_3 20 rfl rfl)
theorem dX1_wet_94 : decode cX1_wet 94 = .ok (.iload 5, 2) := dk_21 5 (dk_at dksX1_wet_4 0 rfl rfl)
theorem dX1_wet_96 : decode cX1_wet 96 = .ok (.ifCond .eq 7, 3) := dk_153 0 7 (dk_at dksX1_wet_4 2 rfl rfl)
theorem dX1_wet_99 : decode cX1_wet 99 = .ok (.iconst 1, 1) := dk_4 (dk_at dksX1_wet_4 5 rfl rfl)
theorem dX1_wet_100 : decode cX1_wet 100 = .ok (.goto 4, 3) := dk_167 0 4 (dk_at dksX1_wet_4 6 rfl rfl)
theorem dX1_wet_103 : decode cX1_wet 103 = .ok (.iconst 0, 1) := dk_3 (dk_at dksX1_wet_4 9 rfl rfl)
theorem dX1_wet_104 : decode cX1_wet 104 = .ok (.ireturn, 1) := dk_172 (dk_at dksX1_wet_4 10 rfl rfl)
abbrev cX1_shared : ByteArray := prog_1_method_33_code
def yX1_shared : MethodName := ⟨RX1, "shared", "(I)I"⟩
def dkwX1_shared_1 : List UInt8 := [153, 0, 11, 42, 28, 182, 0, 101, 167, 0, 11, 42, 180, 0, 42, 27, 182, 0, 254, 172]
abbrev dktX1_shared_1 : List UInt8 := dkwX1_shared_1 ++ []
def dkwX1_shared_0 : List UInt8 := [42, 182, 0, 87, 42, 42, 180, 0, 112, 198, 0, 7, 4, 167, 0, 4, 3, 27, 182, 0, 195, 61, 28]
abbrev dktX1_shared_0 : List UInt8 := dkwX1_shared_0 ++ dktX1_shared_1
theorem dksX1_shared_0 : cX1_shared.data.toList.drop 0 = dktX1_shared_0 := by decide +kernel
theorem dksX1_shared_1 : cX1_shared.data.toList.drop 23 = dktX1_shared_1 := dk_seg dksX1_shared_0 23 rfl rfl
theorem dX1_shared_0 : decode cX1_shared 0 = .ok (.aload_n 0, 1) := dk_42 (dk_at dksX1_shared_0 0 rfl rfl)
theorem dX1_shared_1 : decode cX1_shared 1 = .ok (.invokevirtual 87, 3) := dk_182 0 87 (dk_at dksX1_shared_0 1 rfl rfl)
theorem dX1_shared_4 : decode cX1_shared 4 = .ok (.aload_n 0, 1) := dk_42 (dk_at dksX1_shared_0 4 rfl rfl)
theorem dX1_shared_5 : decode cX1_shared 5 = .ok (.aload_n 0, 1) := dk_42 (dk_at dksX1_shared_0 5 rfl rfl)
theorem dX1_shared_6 : decode cX1_shared 6 = .ok (.getfield 112, 3) := dk_180 0 112 (dk_at dksX1_shared_0 6 rfl rfl)
theorem dX1_shared_9 : decode cX1_shared 9 = .ok (.ifnull 7, 3) := dk_198 0 7 (dk_at dksX1_shared_0 9 rfl rfl)
theorem dX1_shared_12 : decode cX1_shared 12 = .ok (.iconst 1, 1) := dk_4 (dk_at dksX1_shared_0 12 rfl rfl)
theorem dX1_shared_13 : decode cX1_shared 13 = .ok (.goto 4, 3) := dk_167 0 4 (dk_at dksX1_shared_0 13 rfl rfl)
theorem dX1_shared_16 : decode cX1_shared 16 = .ok (.iconst 0, 1) := dk_3 (dk_at dksX1_shared_0 16 rfl rfl)
theorem dX1_shared_17 : decode cX1_shared 17 = .ok (.iload_n 1, 1) := dk_27 (dk_at dksX1_shared_0 17 rfl rfl)
theorem dX1_shared_18 : decode cX1_shared 18 = .ok (.invokevirtual 195, 3) := dk_182 0 195 (dk_at dksX1_shared_0 18 rfl rfl)
theorem dX1_shared_21 : decode cX1_shared 21 = .ok (.istore_n 2, 1) := dk_61 (dk_at dksX1_shared_0 21 rfl rfl)
theorem dX1_shared_22 : decode cX1_shared 22 = .ok (.iload_n 2, 1) := dk_28 (dk_at dksX1_shared_0 22 rfl rfl)
theorem dX1_shared_23 : decode cX1_shared 23 = .ok (.ifCond .eq 11, 3) := dk_153 0 11 (dk_at dksX1_shared_1 0 rfl rfl)
theorem dX1_shared_26 : decode cX1_shared 26 = .ok (.aload_n 0, 1) := dk_42 (dk_at dksX1_shared_1 3 rfl rfl)
theorem dX1_shared_27 : decode cX1_shared 27 = .ok (.iload_n 2, 1) := dk_28 (dk_at dksX1_shared_1 4 rfl rfl)
theorem dX1_shared_28 : decode cX1_shared 28 = .ok (.invokevirtual 101, 3) := dk_182 0 101 (dk_at dksX1_shared_1 5 rfl rfl)
theorem dX1_shared_31 : decode cX1_shared 31 = .ok (.goto 11, 3) := dk_167 0 11 (dk_at dksX1_shared_1 8 rfl rfl)
theorem dX1_shared_34 : decode cX1_shared 34 = .ok (.aload_n 0, 1) := dk_42 (dk_at dksX1_shared_1 11 rfl rfl)
theorem dX1_shared_35 : decode cX1_shared 35 = .ok (.getfield 42, 3) := dk_180 0 42 (dk_at dksX1_shared_1 12 rfl rfl)
theorem dX1_shared_38 : decode cX1_shared 38 = .ok (.iload_n 1, 1) := dk_27 (dk_at dksX1_shared_1 15 rfl rfl)
theorem dX1_shared_39 : decode cX1_shared 39 = .ok (.invokevirtual 254, 3) := dk_182 0 254 (dk_at dksX1_shared_1 16 rfl rfl)
theorem dX1_shared_42 : decode cX1_shared 42 = .ok (.ireturn, 1) := dk_172 (dk_at dksX1_shared_1 19 rfl rfl)
abbrev cX1_sharedAll : ByteArray := prog_1_method_34_code
def yX1_sharedAll : MethodName := ⟨RX1, "sharedAll", "()I"⟩
def dkwX1_sharedAll_1 : List UInt8 := [182, 1, 1, 172]
abbrev dktX1_sharedAll_1 : List UInt8 := dkwX1_sharedAll_1 ++ []
def dkwX1_sharedAll_0 : List UInt8 := [42, 182, 0, 87, 42, 180, 0, 112, 199, 0, 11, 42, 4, 182, 0, 101, 167, 0, 10, 42, 180, 0, 42]
abbrev dktX1_sharedAll_0 : List UInt8 := dkwX1_sharedAll_0 ++ dktX1_sharedAll_1
theorem dksX1_sharedAll_0 : cX1_sharedAll.data.toList.drop 0 = dktX1_sharedAll_0 := by decide +kernel
theorem dksX1_sharedAll_1 : cX1_sharedAll.data.toList.drop 23 = dktX1_sharedAll_1 := dk_seg dksX1_sharedAll_0 23 rfl rfl
theorem dX1_sharedAll_0 : decode cX1_sharedAll 0 = .ok (.aload_n 0, 1) := dk_42 (dk_at dksX1_sharedAll_0 0 rfl rfl)
theorem dX1_sharedAll_1 : decode cX1_sharedAll 1 = .ok (.invokevirtual 87, 3) := dk_182 0 87 (dk_at dksX1_sharedAll_0 1 rfl rfl)
theorem dX1_sharedAll_4 : decode cX1_sharedAll 4 = .ok (.aload_n 0, 1) := dk_42 (dk_at dksX1_sharedAll_0 4 rfl rfl)
theorem dX1_sharedAll_5 : decode cX1_sharedAll 5 = .ok (.getfield 112, 3) := dk_180 0 112 (dk_at dksX1_sharedAll_0 5 rfl rfl)
theorem dX1_sharedAll_8 : decode cX1_sharedAll 8 = .ok (.ifnonnull 11, 3) := dk_199 0 11 (dk_at dksX1_sharedAll_0 8 rfl rfl)
theorem dX1_sharedAll_11 : decode cX1_sharedAll 11 = .ok (.aload_n 0, 1) := dk_42 (dk_at dksX1_sharedAll_0 11 rfl rfl)
theorem dX1_sharedAll_12 : decode cX1_sharedAll 12 = .ok (.iconst 1, 1) := dk_4 (dk_at dksX1_sharedAll_0 12 rfl rfl)
theorem dX1_sharedAll_13 : decode cX1_sharedAll 13 = .ok (.invokevirtual 101, 3) := dk_182 0 101 (dk_at dksX1_sharedAll_0 13 rfl rfl)
theorem dX1_sharedAll_16 : decode cX1_sharedAll 16 = .ok (.goto 10, 3) := dk_167 0 10 (dk_at dksX1_sharedAll_0 16 rfl rfl)
theorem dX1_sharedAll_19 : decode cX1_sharedAll 19 = .ok (.aload_n 0, 1) := dk_42 (dk_at dksX1_sharedAll_0 19 rfl rfl)
theorem dX1_sharedAll_20 : decode cX1_sharedAll 20 = .ok (.getfield 42, 3) := dk_180 0 42 (dk_at dksX1_sharedAll_0 20 rfl rfl)
theorem dX1_sharedAll_23 : decode cX1_sharedAll 23 = .ok (.invokevirtual 257, 3) := dk_182 1 1 (dk_at dksX1_sharedAll_1 0 rfl rfl)
theorem dX1_sharedAll_26 : decode cX1_sharedAll 26 = .ok (.ireturn, 1) := dk_172 (dk_at dksX1_sharedAll_1 3 rfl rfl)
abbrev cX1_suffers : ByteArray := prog_1_method_35_code
def yX1_suffers : MethodName := ⟨RX1, "suffers", "(I)I"⟩
def dkwX1_suffers_4 : List UInt8 := [132, 4, 1, 167, 255, 196, 132, 3, 1, 167, 255, 176, 28, 172]
abbrev dktX1_suffers_4 : List UInt8 := dkwX1_suffers_4 ++ []
def dkwX1_suffers_3 : List UInt8 := [21, 4, 182, 0, 251, 182, 0, 214, 180, 0, 218, 27, 160, 0, 7, 4, 167, 0, 4, 3, 96, 61]
abbrev dktX1_suffers_3 : List UInt8 := dkwX1_suffers_3 ++ dktX1_suffers_4
def dkwX1_suffers_2 : List UInt8 := [28, 42, 180, 0, 42, 29, 21, 4, 182, 1, 5, 153, 0, 31, 42, 180, 0, 42, 42, 180, 0, 42, 29]
abbrev dktX1_suffers_2 : List UInt8 := dkwX1_suffers_2 ++ dktX1_suffers_3
def dkwX1_suffers_1 : List UInt8 := [180, 0, 112, 180, 0, 147, 162, 0, 75, 3, 54, 4, 21, 4, 42, 180, 0, 112, 180, 0, 135, 162, 0, 54]
abbrev dktX1_suffers_1 : List UInt8 := dkwX1_suffers_1 ++ dktX1_suffers_2
def dkwX1_suffers_0 : List UInt8 := [42, 182, 0, 87, 42, 27, 182, 0, 154, 154, 0, 9, 42, 4, 182, 0, 101, 172, 3, 61, 3, 62, 29, 42]
abbrev dktX1_suffers_0 : List UInt8 := dkwX1_suffers_0 ++ dktX1_suffers_1
theorem dksX1_suffers_0 : cX1_suffers.data.toList.drop 0 = dktX1_suffers_0 := by decide +kernel
theorem dksX1_suffers_1 : cX1_suffers.data.toList.drop 24 = dktX1_suffers_1 := dk_seg dksX1_suffers_0 24 rfl rfl
theorem dksX1_suffers_2 : cX1_suffers.data.toList.drop 48 = dktX1_suffers_2 := dk_seg dksX1_suffers_1 24 rfl rfl
theorem dksX1_suffers_3 : cX1_suffers.data.toList.drop 71 = dktX1_suffers_3 := dk_seg dksX1_suffers_2 23 rfl rfl
theorem dksX1_suffers_4 : cX1_suffers.data.toList.drop 93 = dktX1_suffers_4 := dk_seg dksX1_suffers_3 22 rfl rfl
theorem dX1_suffers_0 : decode cX1_suffers 0 = .ok (.aload_n 0, 1) := dk_42 (dk_at dksX1_suffers_0 0 rfl rfl)
theorem dX1_suffers_1 : decode cX1_suffers 1 = .ok (.invokevirtual 87, 3) := dk_182 0 87 (dk_at dksX1_suffers_0 1 rfl rfl)
theorem dX1_suffers_4 : decode cX1_suffers 4 = .ok (.aload_n 0, 1) := dk_42 (dk_at dksX1_suffers_0 4 rfl rfl)
theorem dX1_suffers_5 : decode cX1_suffers 5 = .ok (.iload_n 1, 1) := dk_27 (dk_at dksX1_suffers_0 5 rfl rfl)
theorem dX1_suffers_6 : decode cX1_suffers 6 = .ok (.invokevirtual 154, 3) := dk_182 0 154 (dk_at dksX1_suffers_0 6 rfl rfl)
theorem dX1_suffers_9 : decode cX1_suffers 9 = .ok (.ifCond .ne 9, 3) := dk_154 0 9 (dk_at dksX1_suffers_0 9 rfl rfl)
theorem dX1_suffers_12 : decode cX1_suffers 12 = .ok (.aload_n 0, 1) := dk_42 (dk_at dksX1_suffers_0 12 rfl rfl)
theorem dX1_suffers_13 : decode cX1_suffers 13 = .ok (.iconst 1, 1) := dk_4 (dk_at dksX1_suffers_0 13 rfl rfl)
theorem dX1_suffers_14 : decode cX1_suffers 14 = .ok (.invokevirtual 101, 3) := dk_182 0 101 (dk_at dksX1_suffers_0 14 rfl rfl)
theorem dX1_suffers_17 : decode cX1_suffers 17 = .ok (.ireturn, 1) := dk_172 (dk_at dksX1_suffers_0 17 rfl rfl)
theorem dX1_suffers_18 : decode cX1_suffers 18 = .ok (.iconst 0, 1) := dk_3 (dk_at dksX1_suffers_0 18 rfl rfl)
theorem dX1_suffers_19 : decode cX1_suffers 19 = .ok (.istore_n 2, 1) := dk_61 (dk_at dksX1_suffers_0 19 rfl rfl)
theorem dX1_suffers_20 : decode cX1_suffers 20 = .ok (.iconst 0, 1) := dk_3 (dk_at dksX1_suffers_0 20 rfl rfl)
theorem dX1_suffers_21 : decode cX1_suffers 21 = .ok (.istore_n 3, 1) := dk_62 (dk_at dksX1_suffers_0 21 rfl rfl)
theorem dX1_suffers_22 : decode cX1_suffers 22 = .ok (.iload_n 3, 1) := dk_29 (dk_at dksX1_suffers_0 22 rfl rfl)
theorem dX1_suffers_23 : decode cX1_suffers 23 = .ok (.aload_n 0, 1) := dk_42 (dk_at dksX1_suffers_0 23 rfl rfl)
theorem dX1_suffers_24 : decode cX1_suffers 24 = .ok (.getfield 112, 3) := dk_180 0 112 (dk_at dksX1_suffers_1 0 rfl rfl)
theorem dX1_suffers_27 : decode cX1_suffers 27 = .ok (.getfield 147, 3) := dk_180 0 147 (dk_at dksX1_suffers_1 3 rfl rfl)
theorem dX1_suffers_30 : decode cX1_suffers 30 = .ok (.if_icmp .ge 75, 3) := dk_162 0 75 (dk_at dksX1_suffers_1 6 rfl rfl)
theorem dX1_suffers_33 : decode cX1_suffers 33 = .ok (.iconst 0, 1) := dk_3 (dk_at dksX1_suffers_1 9 rfl rfl)
theorem dX1_suffers_34 : decode cX1_suffers 34 = .ok (.istore 4, 2) := dk_54 4 (dk_at dksX1_suffers_1 10 rfl rfl)
theorem dX1_suffers_36 : decode cX1_suffers 36 = .ok (.iload 4, 2) := dk_21 4 (dk_at dksX1_suffers_1 12 rfl rfl)
theorem dX1_suffers_38 : decode cX1_suffers 38 = .ok (.aload_n 0, 1) := dk_42 (dk_at dksX1_suffers_1 14 rfl rfl)
theorem dX1_suffers_39 : decode cX1_suffers 39 = .ok (.getfield 112, 3) := dk_180 0 112 (dk_at dksX1_suffers_1 15 rfl rfl)
theorem dX1_suffers_42 : decode cX1_suffers 42 = .ok (.getfield 135, 3) := dk_180 0 135 (dk_at dksX1_suffers_1 18 rfl rfl)
theorem dX1_suffers_45 : decode cX1_suffers 45 = .ok (.if_icmp .ge 54, 3) := dk_162 0 54 (dk_at dksX1_suffers_1 21 rfl rfl)
theorem dX1_suffers_48 : decode cX1_suffers 48 = .ok (.iload_n 2, 1) := dk_28 (dk_at dksX1_suffers_2 0 rfl rfl)
theorem dX1_suffers_49 : decode cX1_suffers 49 = .ok (.aload_n 0, 1) := dk_42 (dk_at dksX1_suffers_2 1 rfl rfl)
theorem dX1_suffers_50 : decode cX1_suffers 50 = .ok (.getfield 42, 3) := dk_180 0 42 (dk_at dksX1_suffers_2 2 rfl rfl)
theorem dX1_suffers_53 : decode cX1_suffers 53 = .ok (.iload_n 3, 1) := dk_29 (dk_at dksX1_suffers_2 5 rfl rfl)
theorem dX1_suffers_54 : decode cX1_suffers 54 = .ok (.iload 4, 2) := dk_21 4 (dk_at dksX1_suffers_2 6 rfl rfl)
theorem dX1_suffers_56 : decode cX1_suffers 56 = .ok (.invokevirtual 261, 3) := dk_182 1 5 (dk_at dksX1_suffers_2 8 rfl rfl)
theorem dX1_suffers_59 : decode cX1_suffers 59 = .ok (.ifCond .eq 31, 3) := dk_153 0 31 (dk_at dksX1_suffers_2 11 rfl rfl)
theorem dX1_suffers_62 : decode cX1_suffers 62 = .ok (.aload_n 0, 1) := dk_42 (dk_at dksX1_suffers_2 14 rfl rfl)
theorem dX1_suffers_63 : decode cX1_suffers 63 = .ok (.getfield 42, 3) := dk_180 0 42 (dk_at dksX1_suffers_2 15 rfl rfl)
theorem dX1_suffers_66 : decode cX1_suffers 66 = .ok (.aload_n 0, 1) := dk_42 (dk_at dksX1_suffers_2 18 rfl rfl)
theorem dX1_suffers_67 : decode cX1_suffers 67 = .ok (.getfield 42, 3) := dk_180 0 42 (dk_at dksX1_suffers_2 19 rfl rfl)
theorem dX1_suffers_70 : decode cX1_suffers 70 = .ok (.iload_n 3, 1) := dk_29 (dk_at dksX1_suffers_2 22 rfl rfl)
theorem dX1_suffers_71 : decode cX1_suffers 71 = .ok (.iload 4, 2) := dk_21 4 (dk_at dksX1_suffers_3 0 rfl rfl)
theorem dX1_suffers_73 : decode cX1_suffers 73 = .ok (.invokevirtual 251, 3) := dk_182 0 251 (dk_at dksX1_suffers_3 2 rfl rfl)
theorem dX1_suffers_76 : decode cX1_suffers 76 = .ok (.invokevirtual 214, 3) := dk_182 0 214 (dk_at dksX1_suffers_3 5 rfl rfl)
theorem dX1_suffers_79 : decode cX1_suffers 79 = .ok (.getfield 218, 3) := dk_180 0 218 (dk_at dksX1_suffers_3 8 rfl rfl)
theorem dX1_suffers_82 : decode cX1_suffers 82 = .ok (.iload_n 1, 1) := dk_27 (dk_at dksX1_suffers_3 11 rfl rfl)
theorem dX1_suffers_83 : decode cX1_suffers 83 = .ok (.if_icmp .ne 7, 3) := dk_160 0 7 (dk_at dksX1_suffers_3 12 rfl rfl)
theorem dX1_suffers_86 : decode cX1_suffers 86 = .ok (.iconst 1, 1) := dk_4 (dk_at dksX1_suffers_3 15 rfl rfl)
theorem dX1_suffers_87 : decode cX1_suffers 87 = .ok (.goto 4, 3) := dk_167 0 4 (dk_at dksX1_suffers_3 16 rfl rfl)
theorem dX1_suffers_90 : decode cX1_suffers 90 = .ok (.iconst 0, 1) := dk_3 (dk_at dksX1_suffers_3 19 rfl rfl)
theorem dX1_suffers_91 : decode cX1_suffers 91 = .ok (.iadd, 1) := dk_96 (dk_at dksX1_suffers_3 20 rfl rfl)
theorem dX1_suffers_92 : decode cX1_suffers 92 = .ok (.istore_n 2, 1) := dk_61 (dk_at dksX1_suffers_3 21 rfl rfl)
theorem dX1_suffers_93 : decode cX1_suffers 93 = .ok (.iinc 4 1, 3) := dk_132 4 1 (dk_at dksX1_suffers_4 0 rfl rfl)
theorem dX1_suffers_96 : decode cX1_suffers 96 = .ok (.goto (-60), 3) := dk_167 255 196 (dk_at dksX1_suffers_4 3 rfl rfl)
theorem dX1_suffers_99 : decode cX1_suffers 99 = .ok (.iinc 3 1, 3) := dk_132 3 1 (dk_at dksX1_suffers_4 6 rfl rfl)
theorem dX1_suffers_102 : decode cX1_suffers 102 = .ok (.goto (-80), 3) := dk_167 255 176 (dk_at dksX1_suffers_4 9 rfl rfl)
theorem dX1_suffers_105 : decode cX1_suffers 105 = .ok (.iload_n 2, 1) := dk_28 (dk_at dksX1_suffers_4 12 rfl rfl)
theorem dX1_suffers_106 : decode cX1_suffers 106 = .ok (.ireturn, 1) := dk_172 (dk_at dksX1_suffers_4 13 rfl rfl)
abbrev cX1_sins : ByteArray := prog_1_method_37_code
def yX1_sins : MethodName := ⟨RX1, "sins", "(I)I"⟩
def dkwX1_sins_1 : List UInt8 := [182, 0, 101, 172]
abbrev dktX1_sins_1 : List UInt8 := dkwX1_sins_1 ++ []
def dkwX1_sins_0 : List UInt8 := [42, 182, 0, 87, 42, 27, 182, 0, 154, 153, 0, 11, 42, 27, 182, 1, 9, 167, 0, 8, 42, 4]
abbrev dktX1_sins_0 : List UInt8 := dkwX1_sins_0 ++ dktX1_sins_1
theorem dksX1_sins_0 : cX1_sins.data.toList.drop 0 = dktX1_sins_0 := by decide +kernel
theorem dksX1_sins_1 : cX1_sins.data.toList.drop 22 = dktX1_sins_1 := dk_seg dksX1_sins_0 22 rfl rfl
theorem dX1_sins_0 : decode cX1_sins 0 = .ok (.aload_n 0, 1) := dk_42 (dk_at dksX1_sins_0 0 rfl rfl)
theorem dX1_sins_1 : decode cX1_sins 1 = .ok (.invokevirtual 87, 3) := dk_182 0 87 (dk_at dksX1_sins_0 1 rfl rfl)
theorem dX1_sins_4 : decode cX1_sins 4 = .ok (.aload_n 0, 1) := dk_42 (dk_at dksX1_sins_0 4 rfl rfl)
theorem dX1_sins_5 : decode cX1_sins 5 = .ok (.iload_n 1, 1) := dk_27 (dk_at dksX1_sins_0 5 rfl rfl)
theorem dX1_sins_6 : decode cX1_sins 6 = .ok (.invokevirtual 154, 3) := dk_182 0 154 (dk_at dksX1_sins_0 6 rfl rfl)
theorem dX1_sins_9 : decode cX1_sins 9 = .ok (.ifCond .eq 11, 3) := dk_153 0 11 (dk_at dksX1_sins_0 9 rfl rfl)
theorem dX1_sins_12 : decode cX1_sins 12 = .ok (.aload_n 0, 1) := dk_42 (dk_at dksX1_sins_0 12 rfl rfl)
theorem dX1_sins_13 : decode cX1_sins 13 = .ok (.iload_n 1, 1) := dk_27 (dk_at dksX1_sins_0 13 rfl rfl)
theorem dX1_sins_14 : decode cX1_sins 14 = .ok (.invokevirtual 265, 3) := dk_182 1 9 (dk_at dksX1_sins_0 14 rfl rfl)
theorem dX1_sins_17 : decode cX1_sins 17 = .ok (.goto 8, 3) := dk_167 0 8 (dk_at dksX1_sins_0 17 rfl rfl)
theorem dX1_sins_20 : decode cX1_sins 20 = .ok (.aload_n 0, 1) := dk_42 (dk_at dksX1_sins_0 20 rfl rfl)
theorem dX1_sins_21 : decode cX1_sins 21 = .ok (.iconst 1, 1) := dk_4 (dk_at dksX1_sins_0 21 rfl rfl)
theorem dX1_sins_22 : decode cX1_sins 22 = .ok (.invokevirtual 101, 3) := dk_182 0 101 (dk_at dksX1_sins_1 0 rfl rfl)
theorem dX1_sins_25 : decode cX1_sins 25 = .ok (.ireturn, 1) := dk_172 (dk_at dksX1_sins_1 3 rfl rfl)
abbrev cX1_sinsOf : ByteArray := prog_1_method_36_code
def yX1_sinsOf : MethodName := ⟨RX1, "sinsOf", "(I)I"⟩
def dkwX1_sinsOf_1 : List UInt8 := [182, 1, 5, 153, 0, 7, 4, 167, 0, 4, 3, 96, 61, 132, 3, 1, 167, 255, 222, 28, 172]
abbrev dktX1_sinsOf_1 : List UInt8 := dkwX1_sinsOf_1 ++ []
def dkwX1_sinsOf_0 : List UInt8 := [3, 61, 3, 62, 29, 42, 180, 0, 112, 180, 0, 147, 162, 0, 29, 28, 42, 180, 0, 42, 29, 27]
abbrev dktX1_sinsOf_0 : List UInt8 := dkwX1_sinsOf_0 ++ dktX1_sinsOf_1
theorem dksX1_sinsOf_0 : cX1_sinsOf.data.toList.drop 0 = dktX1_sinsOf_0 := by decide +kernel
theorem dksX1_sinsOf_1 : cX1_sinsOf.data.toList.drop 22 = dktX1_sinsOf_1 := dk_seg dksX1_sinsOf_0 22 rfl rfl
theorem dX1_sinsOf_0 : decode cX1_sinsOf 0 = .ok (.iconst 0, 1) := dk_3 (dk_at dksX1_sinsOf_0 0 rfl rfl)
theorem dX1_sinsOf_1 : decode cX1_sinsOf 1 = .ok (.istore_n 2, 1) := dk_61 (dk_at dksX1_sinsOf_0 1 rfl rfl)
theorem dX1_sinsOf_2 : decode cX1_sinsOf 2 = .ok (.iconst 0, 1) := dk_3 (dk_at dksX1_sinsOf_0 2 rfl rfl)
theorem dX1_sinsOf_3 : decode cX1_sinsOf 3 = .ok (.istore_n 3, 1) := dk_62 (dk_at dksX1_sinsOf_0 3 rfl rfl)
theorem dX1_sinsOf_4 : decode cX1_sinsOf 4 = .ok (.iload_n 3, 1) := dk_29 (dk_at dksX1_sinsOf_0 4 rfl rfl)
theorem dX1_sinsOf_5 : decode cX1_sinsOf 5 = .ok (.aload_n 0, 1) := dk_42 (dk_at dksX1_sinsOf_0 5 rfl rfl)
theorem dX1_sinsOf_6 : decode cX1_sinsOf 6 = .ok (.getfield 112, 3) := dk_180 0 112 (dk_at dksX1_sinsOf_0 6 rfl rfl)
theorem dX1_sinsOf_9 : decode cX1_sinsOf 9 = .ok (.getfield 147, 3) := dk_180 0 147 (dk_at dksX1_sinsOf_0 9 rfl rfl)
theorem dX1_sinsOf_12 : decode cX1_sinsOf 12 = .ok (.if_icmp .ge 29, 3) := dk_162 0 29 (dk_at dksX1_sinsOf_0 12 rfl rfl)
theorem dX1_sinsOf_15 : decode cX1_sinsOf 15 = .ok (.iload_n 2, 1) := dk_28 (dk_at dksX1_sinsOf_0 15 rfl rfl)
theorem dX1_sinsOf_16 : decode cX1_sinsOf 16 = .ok (.aload_n 0, 1) := dk_42 (dk_at dksX1_sinsOf_0 16 rfl rfl)
theorem dX1_sinsOf_17 : decode cX1_sinsOf 17 = .ok (.getfield 42, 3) := dk_180 0 42 (dk_at dksX1_sinsOf_0 17 rfl rfl)
theorem dX1_sinsOf_20 : decode cX1_sinsOf 20 = .ok (.iload_n 3, 1) := dk_29 (dk_at dksX1_sinsOf_0 20 rfl rfl)
theorem dX1_sinsOf_21 : decode cX1_sinsOf 21 = .ok (.iload_n 1, 1) := dk_27 (dk_at dksX1_sinsOf_0 21 rfl rfl)
theorem dX1_sinsOf_22 : decode cX1_sinsOf 22 = .ok (.invokevirtual 261, 3) := dk_182 1 5 (dk_at dksX1_sinsOf_1 0 rfl rfl)
theorem dX1_sinsOf_25 : decode cX1_sinsOf 25 = .ok (.ifCond .eq 7, 3) := dk_153 0 7 (dk_at dksX1_sinsOf_1 3 rfl rfl)
theorem dX1_sinsOf_28 : decode cX1_sinsOf 28 = .ok (.iconst 1, 1) := dk_4 (dk_at dksX1_sinsOf_1 6 rfl rfl)
theorem dX1_sinsOf_29 : decode cX1_sinsOf 29 = .ok (.goto 4, 3) := dk_167 0 4 (dk_at dksX1_sinsOf_1 7 rfl rfl)
theorem dX1_sinsOf_32 : decode cX1_sinsOf 32 = .ok (.iconst 0, 1) := dk_3 (dk_at dksX1_sinsOf_1 10 rfl rfl)
theorem dX1_sinsOf_33 : decode cX1_sinsOf 33 = .ok (.iadd, 1) := dk_96 (dk_at dksX1_sinsOf_1 11 rfl rfl)
theorem dX1_sinsOf_34 : decode cX1_sinsOf 34 = .ok (.istore_n 2, 1) := dk_61 (dk_at dksX1_sinsOf_1 12 rfl rfl)
theorem dX1_sinsOf_35 : decode cX1_sinsOf 35 = .ok (.iinc 3 1, 3) := dk_132 3 1 (dk_at dksX1_sinsOf_1 13 rfl rfl)
theorem dX1_sinsOf_38 : decode cX1_sinsOf 38 = .ok (.goto (-34), 3) := dk_167 255 222 (dk_at dksX1_sinsOf_1 16 rfl rfl)
theorem dX1_sinsOf_41 : decode cX1_sinsOf 41 = .ok (.iload_n 2, 1) := dk_28 (dk_at dksX1_sinsOf_1 19 rfl rfl)
theorem dX1_sinsOf_42 : decode cX1_sinsOf 42 = .ok (.ireturn, 1) := dk_172 (dk_at dksX1_sinsOf_1 20 rfl rfl)
abbrev cX1_alike : ByteArray := prog_1_method_38_code
def yX1_alike : MethodName := ⟨RX1, "alike", "(I)I"⟩
def dkwX1_alike_1 : List UInt8 := [153, 0, 11, 42, 28, 182, 0, 101, 167, 0, 11, 42, 180, 0, 42, 27, 182, 1, 12, 172]
abbrev dktX1_alike_1 : List UInt8 := dkwX1_alike_1 ++ []
def dkwX1_alike_0 : List UInt8 := [42, 182, 0, 87, 42, 42, 180, 0, 112, 198, 0, 7, 4, 167, 0, 4, 3, 27, 182, 0, 195, 61, 28]
abbrev dktX1_alike_0 : List UInt8 := dkwX1_alike_0 ++ dktX1_alike_1
theorem dksX1_alike_0 : cX1_alike.data.toList.drop 0 = dktX1_alike_0 := by decide +kernel
theorem dksX1_alike_1 : cX1_alike.data.toList.drop 23 = dktX1_alike_1 := dk_seg dksX1_alike_0 23 rfl rfl
theorem dX1_alike_0 : decode cX1_alike 0 = .ok (.aload_n 0, 1) := dk_42 (dk_at dksX1_alike_0 0 rfl rfl)
theorem dX1_alike_1 : decode cX1_alike 1 = .ok (.invokevirtual 87, 3) := dk_182 0 87 (dk_at dksX1_alike_0 1 rfl rfl)
theorem dX1_alike_4 : decode cX1_alike 4 = .ok (.aload_n 0, 1) := dk_42 (dk_at dksX1_alike_0 4 rfl rfl)
theorem dX1_alike_5 : decode cX1_alike 5 = .ok (.aload_n 0, 1) := dk_42 (dk_at dksX1_alike_0 5 rfl rfl)
theorem dX1_alike_6 : decode cX1_alike 6 = .ok (.getfield 112, 3) := dk_180 0 112 (dk_at dksX1_alike_0 6 rfl rfl)
theorem dX1_alike_9 : decode cX1_alike 9 = .ok (.ifnull 7, 3) := dk_198 0 7 (dk_at dksX1_alike_0 9 rfl rfl)
theorem dX1_alike_12 : decode cX1_alike 12 = .ok (.iconst 1, 1) := dk_4 (dk_at dksX1_alike_0 12 rfl rfl)
theorem dX1_alike_13 : decode cX1_alike 13 = .ok (.goto 4, 3) := dk_167 0 4 (dk_at dksX1_alike_0 13 rfl rfl)
theorem dX1_alike_16 : decode cX1_alike 16 = .ok (.iconst 0, 1) := dk_3 (dk_at dksX1_alike_0 16 rfl rfl)
theorem dX1_alike_17 : decode cX1_alike 17 = .ok (.iload_n 1, 1) := dk_27 (dk_at dksX1_alike_0 17 rfl rfl)
theorem dX1_alike_18 : decode cX1_alike 18 = .ok (.invokevirtual 195, 3) := dk_182 0 195 (dk_at dksX1_alike_0 18 rfl rfl)
theorem dX1_alike_21 : decode cX1_alike 21 = .ok (.istore_n 2, 1) := dk_61 (dk_at dksX1_alike_0 21 rfl rfl)
theorem dX1_alike_22 : decode cX1_alike 22 = .ok (.iload_n 2, 1) := dk_28 (dk_at dksX1_alike_0 22 rfl rfl)
theorem dX1_alike_23 : decode cX1_alike 23 = .ok (.ifCond .eq 11, 3) := dk_153 0 11 (dk_at dksX1_alike_1 0 rfl rfl)
theorem dX1_alike_26 : decode cX1_alike 26 = .ok (.aload_n 0, 1) := dk_42 (dk_at dksX1_alike_1 3 rfl rfl)
theorem dX1_alike_27 : decode cX1_alike 27 = .ok (.iload_n 2, 1) := dk_28 (dk_at dksX1_alike_1 4 rfl rfl)
theorem dX1_alike_28 : decode cX1_alike 28 = .ok (.invokevirtual 101, 3) := dk_182 0 101 (dk_at dksX1_alike_1 5 rfl rfl)
theorem dX1_alike_31 : decode cX1_alike 31 = .ok (.goto 11, 3) := dk_167 0 11 (dk_at dksX1_alike_1 8 rfl rfl)
theorem dX1_alike_34 : decode cX1_alike 34 = .ok (.aload_n 0, 1) := dk_42 (dk_at dksX1_alike_1 11 rfl rfl)
theorem dX1_alike_35 : decode cX1_alike 35 = .ok (.getfield 42, 3) := dk_180 0 42 (dk_at dksX1_alike_1 12 rfl rfl)
theorem dX1_alike_38 : decode cX1_alike 38 = .ok (.iload_n 1, 1) := dk_27 (dk_at dksX1_alike_1 15 rfl rfl)
theorem dX1_alike_39 : decode cX1_alike 39 = .ok (.invokevirtual 268, 3) := dk_182 1 12 (dk_at dksX1_alike_1 16 rfl rfl)
theorem dX1_alike_42 : decode cX1_alike 42 = .ok (.ireturn, 1) := dk_172 (dk_at dksX1_alike_1 19 rfl rfl)
abbrev cX1_alikeDays : ByteArray := prog_1_method_39_code
def yX1_alikeDays : MethodName := ⟨RX1, "alikeDays", "()I"⟩
def dkwX1_alikeDays_1 : List UInt8 := [182, 1, 15, 172]
abbrev dktX1_alikeDays_1 : List UInt8 := dkwX1_alikeDays_1 ++ []
def dkwX1_alikeDays_0 : List UInt8 := [42, 182, 0, 87, 42, 180, 0, 112, 199, 0, 11, 42, 4, 182, 0, 101, 167, 0, 10, 42, 180, 0, 42]
abbrev dktX1_alikeDays_0 : List UInt8 := dkwX1_alikeDays_0 ++ dktX1_alikeDays_1
theorem dksX1_alikeDays_0 : cX1_alikeDays.data.toList.drop 0 = dktX1_alikeDays_0 := by decide +kernel
theorem dksX1_alikeDays_1 : cX1_alikeDays.data.toList.drop 23 = dktX1_alikeDays_1 := dk_seg dksX1_alikeDays_0 23 rfl rfl
theorem dX1_alikeDays_0 : decode cX1_alikeDays 0 = .ok (.aload_n 0, 1) := dk_42 (dk_at dksX1_alikeDays_0 0 rfl rfl)
theorem dX1_alikeDays_1 : decode cX1_alikeDays 1 = .ok (.invokevirtual 87, 3) := dk_182 0 87 (dk_at dksX1_alikeDays_0 1 rfl rfl)
theorem dX1_alikeDays_4 : decode cX1_alikeDays 4 = .ok (.aload_n 0, 1) := dk_42 (dk_at dksX1_alikeDays_0 4 rfl rfl)
theorem dX1_alikeDays_5 : decode cX1_alikeDays 5 = .ok (.getfield 112, 3) := dk_180 0 112 (dk_at dksX1_alikeDays_0 5 rfl rfl)
theorem dX1_alikeDays_8 : decode cX1_alikeDays 8 = .ok (.ifnonnull 11, 3) := dk_199 0 11 (dk_at dksX1_alikeDays_0 8 rfl rfl)
theorem dX1_alikeDays_11 : decode cX1_alikeDays 11 = .ok (.aload_n 0, 1) := dk_42 (dk_at dksX1_alikeDays_0 11 rfl rfl)
theorem dX1_alikeDays_12 : decode cX1_alikeDays 12 = .ok (.iconst 1, 1) := dk_4 (dk_at dksX1_alikeDays_0 12 rfl rfl)
theorem dX1_alikeDays_13 : decode cX1_alikeDays 13 = .ok (.invokevirtual 101, 3) := dk_182 0 101 (dk_at dksX1_alikeDays_0 13 rfl rfl)
theorem dX1_alikeDays_16 : decode cX1_alikeDays 16 = .ok (.goto 10, 3) := dk_167 0 10 (dk_at dksX1_alikeDays_0 16 rfl rfl)
theorem dX1_alikeDays_19 : decode cX1_alikeDays 19 = .ok (.aload_n 0, 1) := dk_42 (dk_at dksX1_alikeDays_0 19 rfl rfl)
theorem dX1_alikeDays_20 : decode cX1_alikeDays 20 = .ok (.getfield 42, 3) := dk_180 0 42 (dk_at dksX1_alikeDays_0 20 rfl rfl)
theorem dX1_alikeDays_23 : decode cX1_alikeDays 23 = .ok (.invokevirtual 271, 3) := dk_182 1 15 (dk_at dksX1_alikeDays_1 0 rfl rfl)
theorem dX1_alikeDays_26 : decode cX1_alikeDays 26 = .ok (.ireturn, 1) := dk_172 (dk_at dksX1_alikeDays_1 3 rfl rfl)
abbrev cX1_notches : ByteArray := prog_1_method_40_code
def yX1_notches : MethodName := ⟨RX1, "notches", "()I"⟩
def dkwX1_notches_3 : List UInt8 := [3, 61, 4, 28, 120, 27, 162, 0, 9, 132, 2, 1, 167, 255, 246, 28, 172]
abbrev dktX1_notches_3 : List UInt8 := dkwX1_notches_3 ++ []
def dkwX1_notches_2 : List UInt8 := [180, 0, 42, 28, 29, 182, 1, 21, 184, 0, 205, 60, 132, 3, 1, 167, 255, 228, 132, 2, 1, 167, 255, 209]
abbrev dktX1_notches_2 : List UInt8 := dkwX1_notches_2 ++ dktX1_notches_3
def dkwX1_notches_1 : List UInt8 := [180, 0, 112, 180, 0, 147, 162, 0, 42, 3, 62, 29, 42, 180, 0, 112, 180, 1, 18, 162, 0, 23, 27, 42]
abbrev dktX1_notches_1 : List UInt8 := dkwX1_notches_1 ++ dktX1_notches_2
def dkwX1_notches_0 : List UInt8 := [42, 182, 0, 87, 42, 180, 0, 112, 199, 0, 9, 42, 4, 182, 0, 101, 172, 4, 60, 3, 61, 28, 42]
abbrev dktX1_notches_0 : List UInt8 := dkwX1_notches_0 ++ dktX1_notches_1
theorem dksX1_notches_0 : cX1_notches.data.toList.drop 0 = dktX1_notches_0 := by decide +kernel
theorem dksX1_notches_1 : cX1_notches.data.toList.drop 23 = dktX1_notches_1 := dk_seg dksX1_notches_0 23 rfl rfl
theorem dksX1_notches_2 : cX1_notches.data.toList.drop 47 = dktX1_notches_2 := dk_seg dksX1_notches_1 24 rfl rfl
theorem dksX1_notches_3 : cX1_notches.data.toList.drop 71 = dktX1_notches_3 := dk_seg dksX1_notches_2 24 rfl rfl
theorem dX1_notches_0 : decode cX1_notches 0 = .ok (.aload_n 0, 1) := dk_42 (dk_at dksX1_notches_0 0 rfl rfl)
theorem dX1_notches_1 : decode cX1_notches 1 = .ok (.invokevirtual 87, 3) := dk_182 0 87 (dk_at dksX1_notches_0 1 rfl rfl)
theorem dX1_notches_4 : decode cX1_notches 4 = .ok (.aload_n 0, 1) := dk_42 (dk_at dksX1_notches_0 4 rfl rfl)
theorem dX1_notches_5 : decode cX1_notches 5 = .ok (.getfield 112, 3) := dk_180 0 112 (dk_at dksX1_notches_0 5 rfl rfl)
theorem dX1_notches_8 : decode cX1_notches 8 = .ok (.ifnonnull 9, 3) := dk_199 0 9 (dk_at dksX1_notches_0 8 rfl rfl)
theorem dX1_notches_11 : decode cX1_notches 11 = .ok (.aload_n 0, 1) := dk_42 (dk_at dksX1_notches_0 11 rfl rfl)
theorem dX1_notches_12 : decode cX1_notches 12 = .ok (.iconst 1, 1) := dk_4 (dk_at dksX1_notches_0 12 rfl rfl)
theorem dX1_notches_13 : decode cX1_notches 13 = .ok (.invokevirtual 101, 3) := dk_182 0 101 (dk_at dksX1_notches_0 13 rfl rfl)
theorem dX1_notches_16 : decode cX1_notches 16 = .ok (.ireturn, 1) := dk_172 (dk_at dksX1_notches_0 16 rfl rfl)
theorem dX1_notches_17 : decode cX1_notches 17 = .ok (.iconst 1, 1) := dk_4 (dk_at dksX1_notches_0 17 rfl rfl)
theorem dX1_notches_18 : decode cX1_notches 18 = .ok (.istore_n 1, 1) := dk_60 (dk_at dksX1_notches_0 18 rfl rfl)
theorem dX1_notches_19 : decode cX1_notches 19 = .ok (.iconst 0, 1) := dk_3 (dk_at dksX1_notches_0 19 rfl rfl)
theorem dX1_notches_20 : decode cX1_notches 20 = .ok (.istore_n 2, 1) := dk_61 (dk_at dksX1_notches_0 20 rfl rfl)
theorem dX1_notches_21 : decode cX1_notches 21 = .ok (.iload_n 2, 1) := dk_28 (dk_at dksX1_notches_0 21 rfl rfl)
theorem dX1_notches_22 : decode cX1_notches 22 = .ok (.aload_n 0, 1) := dk_42 (dk_at dksX1_notches_0 22 rfl rfl)
theorem dX1_notches_23 : decode cX1_notches 23 = .ok (.getfield 112, 3) := dk_180 0 112 (dk_at dksX1_notches_1 0 rfl rfl)
theorem dX1_notches_26 : decode cX1_notches 26 = .ok (.getfield 147, 3) := dk_180 0 147 (dk_at dksX1_notches_1 3 rfl rfl)
theorem dX1_notches_29 : decode cX1_notches 29 = .ok (.if_icmp .ge 42, 3) := dk_162 0 42 (dk_at dksX1_notches_1 6 rfl rfl)
theorem dX1_notches_32 : decode cX1_notches 32 = .ok (.iconst 0, 1) := dk_3 (dk_at dksX1_notches_1 9 rfl rfl)
theorem dX1_notches_33 : decode cX1_notches 33 = .ok (.istore_n 3, 1) := dk_62 (dk_at dksX1_notches_1 10 rfl rfl)
theorem dX1_notches_34 : decode cX1_notches 34 = .ok (.iload_n 3, 1) := dk_29 (dk_at dksX1_notches_1 11 rfl rfl)
theorem dX1_notches_35 : decode cX1_notches 35 = .ok (.aload_n 0, 1) := dk_42 (dk_at dksX1_notches_1 12 rfl rfl)
theorem dX1_notches_36 : decode cX1_notches 36 = .ok (.getfield 112, 3) := dk_180 0 112 (dk_at dksX1_notches_1 13 rfl rfl)
theorem dX1_notches_39 : decode cX1_notches 39 = .ok (.getfield 274, 3) := dk_180 1 18 (dk_at dksX1_notches_1 16 rfl rfl)
theorem dX1_notches_42 : decode cX1_notches 42 = .ok (.if_icmp .ge 23, 3) := dk_162 0 23 (dk_at dksX1_notches_1 19 rfl rfl)
theorem dX1_notches_45 : decode cX1_notches 45 = .ok (.iload_n 1, 1) := dk_27 (dk_at dksX1_notches_1 22 rfl rfl)
theorem dX1_notches_46 : decode cX1_notches 46 = .ok (.aload_n 0, 1) := dk_42 (dk_at dksX1_notches_1 23 rfl rfl)
theorem dX1_notches_47 : decode cX1_notches 47 = .ok (.getfield 42, 3) := dk_180 0 42 (dk_at dksX1_notches_2 0 rfl rfl)
theorem dX1_notches_50 : decode cX1_notches 50 = .ok (.iload_n 2, 1) := dk_28 (dk_at dksX1_notches_2 3 rfl rfl)
theorem dX1_notches_51 : decode cX1_notches 51 = .ok (.iload_n 3, 1) := dk_29 (dk_at dksX1_notches_2 4 rfl rfl)
theorem dX1_notches_52 : decode cX1_notches 52 = .ok (.invokevirtual 277, 3) := dk_182 1 21 (dk_at dksX1_notches_2 5 rfl rfl)
theorem dX1_notches_55 : decode cX1_notches 55 = .ok (.invokestatic 205, 3) := dk_184 0 205 (dk_at dksX1_notches_2 8 rfl rfl)
theorem dX1_notches_58 : decode cX1_notches 58 = .ok (.istore_n 1, 1) := dk_60 (dk_at dksX1_notches_2 11 rfl rfl)
theorem dX1_notches_59 : decode cX1_notches 59 = .ok (.iinc 3 1, 3) := dk_132 3 1 (dk_at dksX1_notches_2 12 rfl rfl)
theorem dX1_notches_62 : decode cX1_notches 62 = .ok (.goto (-28), 3) := dk_167 255 228 (dk_at dksX1_notches_2 15 rfl rfl)
theorem dX1_notches_65 : decode cX1_notches 65 = .ok (.iinc 2 1, 3) := dk_132 2 1 (dk_at dksX1_notches_2 18 rfl rfl)
theorem dX1_notches_68 : decode cX1_notches 68 = .ok (.goto (-47), 3) := dk_167 255 209 (dk_at dksX1_notches_2 21 rfl rfl)
theorem dX1_notches_71 : decode cX1_notches 71 = .ok (.iconst 0, 1) := dk_3 (dk_at dksX1_notches_3 0 rfl rfl)
theorem dX1_notches_72 : decode cX1_notches 72 = .ok (.istore_n 2, 1) := dk_61 (dk_at dksX1_notches_3 1 rfl rfl)
theorem dX1_notches_73 : decode cX1_notches 73 = .ok (.iconst 1, 1) := dk_4 (dk_at dksX1_notches_3 2 rfl rfl)
theorem dX1_notches_74 : decode cX1_notches 74 = .ok (.iload_n 2, 1) := dk_28 (dk_at dksX1_notches_3 3 rfl rfl)
theorem dX1_notches_75 : decode cX1_notches 75 = .ok (.ishl, 1) := dk_120 (dk_at dksX1_notches_3 4 rfl rfl)
theorem dX1_notches_76 : decode cX1_notches 76 = .ok (.iload_n 1, 1) := dk_27 (dk_at dksX1_notches_3 5 rfl rfl)
theorem dX1_notches_77 : decode cX1_notches 77 = .ok (.if_icmp .ge 9, 3) := dk_162 0 9 (dk_at dksX1_notches_3 6 rfl rfl)
theorem dX1_notches_80 : decode cX1_notches 80 = .ok (.iinc 2 1, 3) := dk_132 2 1 (dk_at dksX1_notches_3 9 rfl rfl)
theorem dX1_notches_83 : decode cX1_notches 83 = .ok (.goto (-10), 3) := dk_167 255 246 (dk_at dksX1_notches_3 12 rfl rfl)
theorem dX1_notches_86 : decode cX1_notches 86 = .ok (.iload_n 2, 1) := dk_28 (dk_at dksX1_notches_3 15 rfl rfl)
theorem dX1_notches_87 : decode cX1_notches 87 = .ok (.ireturn, 1) := dk_172 (dk_at dksX1_notches_3 16 rfl rfl)
abbrev cX1_byHabit : ByteArray := prog_1_method_42_code
def yX1_byHabit : MethodName := ⟨RX1, "byHabit", "(I)I"⟩
def dkwX1_byHabit_1 : List UInt8 := [182, 1, 31, 167, 0, 8, 42, 4, 182, 0, 101, 172]
abbrev dktX1_byHabit_1 : List UInt8 := dkwX1_byHabit_1 ++ []
def dkwX1_byHabit_0 : List UInt8 := [42, 182, 0, 87, 42, 180, 0, 112, 198, 0, 20, 27, 3, 5, 184, 0, 97, 153, 0, 11, 42, 27]
abbrev dktX1_byHabit_0 : List UInt8 := dkwX1_byHabit_0 ++ dktX1_byHabit_1
theorem dksX1_byHabit_0 : cX1_byHabit.data.toList.drop 0 = dktX1_byHabit_0 := by decide +kernel
theorem dksX1_byHabit_1 : cX1_byHabit.data.toList.drop 22 = dktX1_byHabit_1 := dk_seg dksX1_byHabit_0 22 rfl rfl
theorem dX1_byHabit_0 : decode cX1_byHabit 0 = .ok (.aload_n 0, 1) := dk_42 (dk_at dksX1_byHabit_0 0 rfl rfl)
theorem dX1_byHabit_1 : decode cX1_byHabit 1 = .ok (.invokevirtual 87, 3) := dk_182 0 87 (dk_at dksX1_byHabit_0 1 rfl rfl)
theorem dX1_byHabit_4 : decode cX1_byHabit 4 = .ok (.aload_n 0, 1) := dk_42 (dk_at dksX1_byHabit_0 4 rfl rfl)
theorem dX1_byHabit_5 : decode cX1_byHabit 5 = .ok (.getfield 112, 3) := dk_180 0 112 (dk_at dksX1_byHabit_0 5 rfl rfl)
theorem dX1_byHabit_8 : decode cX1_byHabit 8 = .ok (.ifnull 20, 3) := dk_198 0 20 (dk_at dksX1_byHabit_0 8 rfl rfl)
theorem dX1_byHabit_11 : decode cX1_byHabit 11 = .ok (.iload_n 1, 1) := dk_27 (dk_at dksX1_byHabit_0 11 rfl rfl)
theorem dX1_byHabit_12 : decode cX1_byHabit 12 = .ok (.iconst 0, 1) := dk_3 (dk_at dksX1_byHabit_0 12 rfl rfl)
theorem dX1_byHabit_13 : decode cX1_byHabit 13 = .ok (.iconst 2, 1) := dk_5 (dk_at dksX1_byHabit_0 13 rfl rfl)
theorem dX1_byHabit_14 : decode cX1_byHabit 14 = .ok (.invokestatic 97, 3) := dk_184 0 97 (dk_at dksX1_byHabit_0 14 rfl rfl)
theorem dX1_byHabit_17 : decode cX1_byHabit 17 = .ok (.ifCond .eq 11, 3) := dk_153 0 11 (dk_at dksX1_byHabit_0 17 rfl rfl)
theorem dX1_byHabit_20 : decode cX1_byHabit 20 = .ok (.aload_n 0, 1) := dk_42 (dk_at dksX1_byHabit_0 20 rfl rfl)
theorem dX1_byHabit_21 : decode cX1_byHabit 21 = .ok (.iload_n 1, 1) := dk_27 (dk_at dksX1_byHabit_0 21 rfl rfl)
theorem dX1_byHabit_22 : decode cX1_byHabit 22 = .ok (.invokevirtual 287, 3) := dk_182 1 31 (dk_at dksX1_byHabit_1 0 rfl rfl)
theorem dX1_byHabit_25 : decode cX1_byHabit 25 = .ok (.goto 8, 3) := dk_167 0 8 (dk_at dksX1_byHabit_1 3 rfl rfl)
theorem dX1_byHabit_28 : decode cX1_byHabit 28 = .ok (.aload_n 0, 1) := dk_42 (dk_at dksX1_byHabit_1 6 rfl rfl)
theorem dX1_byHabit_29 : decode cX1_byHabit 29 = .ok (.iconst 1, 1) := dk_4 (dk_at dksX1_byHabit_1 7 rfl rfl)
theorem dX1_byHabit_30 : decode cX1_byHabit 30 = .ok (.invokevirtual 101, 3) := dk_182 0 101 (dk_at dksX1_byHabit_1 8 rfl rfl)
theorem dX1_byHabit_33 : decode cX1_byHabit 33 = .ok (.ireturn, 1) := dk_172 (dk_at dksX1_byHabit_1 11 rfl rfl)
abbrev cX1_daysBy : ByteArray := prog_1_method_41_code
def yX1_daysBy : MethodName := ⟨RX1, "daysBy", "(I)I"⟩
def dkwX1_daysBy_1 : List UInt8 := [180, 0, 112, 42, 180, 0, 36, 1, 182, 0, 140, 42, 180, 0, 46, 182, 1, 15, 172]
abbrev dktX1_daysBy_1 : List UInt8 := dkwX1_daysBy_1 ++ []
def dkwX1_daysBy_0 : List UInt8 := [42, 180, 0, 36, 42, 180, 0, 29, 182, 1, 24, 42, 180, 0, 36, 27, 182, 1, 28, 42, 180, 0, 46, 42]
abbrev dktX1_daysBy_0 : List UInt8 := dkwX1_daysBy_0 ++ dktX1_daysBy_1
theorem dksX1_daysBy_0 : cX1_daysBy.data.toList.drop 0 = dktX1_daysBy_0 := by decide +kernel
theorem dksX1_daysBy_1 : cX1_daysBy.data.toList.drop 24 = dktX1_daysBy_1 := dk_seg dksX1_daysBy_0 24 rfl rfl
theorem dX1_daysBy_0 : decode cX1_daysBy 0 = .ok (.aload_n 0, 1) := dk_42 (dk_at dksX1_daysBy_0 0 rfl rfl)
theorem dX1_daysBy_1 : decode cX1_daysBy 1 = .ok (.getfield 36, 3) := dk_180 0 36 (dk_at dksX1_daysBy_0 1 rfl rfl)
theorem dX1_daysBy_4 : decode cX1_daysBy 4 = .ok (.aload_n 0, 1) := dk_42 (dk_at dksX1_daysBy_0 4 rfl rfl)
theorem dX1_daysBy_5 : decode cX1_daysBy 5 = .ok (.getfield 29, 3) := dk_180 0 29 (dk_at dksX1_daysBy_0 5 rfl rfl)
theorem dX1_daysBy_8 : decode cX1_daysBy 8 = .ok (.invokevirtual 280, 3) := dk_182 1 24 (dk_at dksX1_daysBy_0 8 rfl rfl)
theorem dX1_daysBy_11 : decode cX1_daysBy 11 = .ok (.aload_n 0, 1) := dk_42 (dk_at dksX1_daysBy_0 11 rfl rfl)
theorem dX1_daysBy_12 : decode cX1_daysBy 12 = .ok (.getfield 36, 3) := dk_180 0 36 (dk_at dksX1_daysBy_0 12 rfl rfl)
theorem dX1_daysBy_15 : decode cX1_daysBy 15 = .ok (.iload_n 1, 1) := dk_27 (dk_at dksX1_daysBy_0 15 rfl rfl)
theorem dX1_daysBy_16 : decode cX1_daysBy 16 = .ok (.invokevirtual 284, 3) := dk_182 1 28 (dk_at dksX1_daysBy_0 16 rfl rfl)
theorem dX1_daysBy_19 : decode cX1_daysBy 19 = .ok (.aload_n 0, 1) := dk_42 (dk_at dksX1_daysBy_0 19 rfl rfl)
theorem dX1_daysBy_20 : decode cX1_daysBy 20 = .ok (.getfield 46, 3) := dk_180 0 46 (dk_at dksX1_daysBy_0 20 rfl rfl)
theorem dX1_daysBy_23 : decode cX1_daysBy 23 = .ok (.aload_n 0, 1) := dk_42 (dk_at dksX1_daysBy_0 23 rfl rfl)
theorem dX1_daysBy_24 : decode cX1_daysBy 24 = .ok (.getfield 112, 3) := dk_180 0 112 (dk_at dksX1_daysBy_1 0 rfl rfl)
theorem dX1_daysBy_27 : decode cX1_daysBy 27 = .ok (.aload_n 0, 1) := dk_42 (dk_at dksX1_daysBy_1 3 rfl rfl)
theorem dX1_daysBy_28 : decode cX1_daysBy 28 = .ok (.getfield 36, 3) := dk_180 0 36 (dk_at dksX1_daysBy_1 4 rfl rfl)
theorem dX1_daysBy_31 : decode cX1_daysBy 31 = .ok (.aconst_null, 1) := dk_1 (dk_at dksX1_daysBy_1 7 rfl rfl)
theorem dX1_daysBy_32 : decode cX1_daysBy 32 = .ok (.invokevirtual 140, 3) := dk_182 0 140 (dk_at dksX1_daysBy_1 8 rfl rfl)
theorem dX1_daysBy_35 : decode cX1_daysBy 35 = .ok (.aload_n 0, 1) := dk_42 (dk_at dksX1_daysBy_1 11 rfl rfl)
theorem dX1_daysBy_36 : decode cX1_daysBy 36 = .ok (.getfield 46, 3) := dk_180 0 46 (dk_at dksX1_daysBy_1 12 rfl rfl)
theorem dX1_daysBy_39 : decode cX1_daysBy 39 = .ok (.invokevirtual 271, 3) := dk_182 1 15 (dk_at dksX1_daysBy_1 15 rfl rfl)
theorem dX1_daysBy_42 : decode cX1_daysBy 42 = .ok (.ireturn, 1) := dk_172 (dk_at dksX1_daysBy_1 18 rfl rfl)
abbrev cX1_bestHabit : ByteArray := prog_1_method_43_code
def yX1_bestHabit : MethodName := ⟨RX1, "bestHabit", "()I"⟩
def dkwX1_bestHabit_2 : List UInt8 := [27, 172]
abbrev dktX1_bestHabit_2 : List UInt8 := dkwX1_bestHabit_2 ++ []
def dkwX1_bestHabit_1 : List UInt8 := [162, 0, 24, 42, 28, 182, 1, 31, 42, 27, 182, 1, 31, 162, 0, 5, 28, 60, 132, 2, 1, 167, 255, 233]
abbrev dktX1_bestHabit_1 : List UInt8 := dkwX1_bestHabit_1 ++ dktX1_bestHabit_2
def dkwX1_bestHabit_0 : List UInt8 := [42, 182, 0, 87, 42, 180, 0, 112, 199, 0, 9, 42, 4, 182, 0, 101, 172, 3, 60, 4, 61, 28, 6]
abbrev dktX1_bestHabit_0 : List UInt8 := dkwX1_bestHabit_0 ++ dktX1_bestHabit_1
theorem dksX1_bestHabit_0 : cX1_bestHabit.data.toList.drop 0 = dktX1_bestHabit_0 := by decide +kernel
theorem dksX1_bestHabit_1 : cX1_bestHabit.data.toList.drop 23 = dktX1_bestHabit_1 := dk_seg dksX1_bestHabit_0 23 rfl rfl
theorem dksX1_bestHabit_2 : cX1_bestHabit.data.toList.drop 47 = dktX1_bestHabit_2 := dk_seg dksX1_bestHabit_1 24 rfl rfl
theorem dX1_bestHabit_0 : decode cX1_bestHabit 0 = .ok (.aload_n 0, 1) := dk_42 (dk_at dksX1_bestHabit_0 0 rfl rfl)
theorem dX1_bestHabit_1 : decode cX1_bestHabit 1 = .ok (.invokevirtual 87, 3) := dk_182 0 87 (dk_at dksX1_bestHabit_0 1 rfl rfl)
theorem dX1_bestHabit_4 : decode cX1_bestHabit 4 = .ok (.aload_n 0, 1) := dk_42 (dk_at dksX1_bestHabit_0 4 rfl rfl)
theorem dX1_bestHabit_5 : decode cX1_bestHabit 5 = .ok (.getfield 112, 3) := dk_180 0 112 (dk_at dksX1_bestHabit_0 5 rfl rfl)
theorem dX1_bestHabit_8 : decode cX1_bestHabit 8 = .ok (.ifnonnull 9, 3) := dk_199 0 9 (dk_at dksX1_bestHabit_0 8 rfl rfl)
theorem dX1_bestHabit_11 : decode cX1_bestHabit 11 = .ok (.aload_n 0, 1) := dk_42 (dk_at dksX1_bestHabit_0 11 rfl rfl)
theorem dX1_bestHabit_12 : decode cX1_bestHabit 12 = .ok (.iconst 1, 1) := dk_4 (dk_at dksX1_bestHabit_0 12 rfl rfl)
theorem dX1_bestHabit_13 : decode cX1_bestHabit 13 = .ok (.invokevirtual 101, 3) := dk_182 0 101 (dk_at dksX1_bestHabit_0 13 rfl rfl)
theorem dX1_bestHabit_16 : decode cX1_bestHabit 16 = .ok (.ireturn, 1) := dk_172 (dk_at dksX1_bestHabit_0 16 rfl rfl)
theorem dX1_bestHabit_17 : decode cX1_bestHabit 17 = .ok (.iconst 0, 1) := dk_3 (dk_at dksX1_bestHabit_0 17 rfl rfl)
theorem dX1_bestHabit_18 : decode cX1_bestHabit 18 = .ok (.istore_n 1, 1) := dk_60 (dk_at dksX1_bestHabit_0 18 rfl rfl)
theorem dX1_bestHabit_19 : decode cX1_bestHabit 19 = .ok (.iconst 1, 1) := dk_4 (dk_at dksX1_bestHabit_0 19 rfl rfl)
theorem dX1_bestHabit_20 : decode cX1_bestHabit 20 = .ok (.istore_n 2, 1) := dk_61 (dk_at dksX1_bestHabit_0 20 rfl rfl)
theorem dX1_bestHabit_21 : decode cX1_bestHabit 21 = .ok (.iload_n 2, 1) := dk_28 (dk_at dksX1_bestHabit_0 21 rfl rfl)
theorem dX1_bestHabit_22 : decode cX1_bestHabit 22 = .ok (.iconst 3, 1) := dk_6 (dk_at dksX1_bestHabit_0 22 rfl rfl)
theorem dX1_bestHabit_23 : decode cX1_bestHabit 23 = .ok (.if_icmp .ge 24, 3) := dk_162 0 24 (dk_at dksX1_bestHabit_1 0 rfl rfl)
theorem dX1_bestHabit_26 : decode cX1_bestHabit 26 = .ok (.aload_n 0, 1) := dk_42 (dk_at dksX1_bestHabit_1 3 rfl rfl)
theorem dX1_bestHabit_27 : decode cX1_bestHabit 27 = .ok (.iload_n 2, 1) := dk_28 (dk_at dksX1_bestHabit_1 4 rfl rfl)
theorem dX1_bestHabit_28 : decode cX1_bestHabit 28 = .ok (.invokevirtual 287, 3) := dk_182 1 31 (dk_at dksX1_bestHabit_1 5 rfl rfl)
theorem dX1_bestHabit_31 : decode cX1_bestHabit 31 = .ok (.aload_n 0, 1) := dk_42 (dk_at dksX1_bestHabit_1 8 rfl rfl)
theorem dX1_bestHabit_32 : decode cX1_bestHabit 32 = .ok (.iload_n 1, 1) := dk_27 (dk_at dksX1_bestHabit_1 9 rfl rfl)
theorem dX1_bestHabit_33 : decode cX1_bestHabit 33 = .ok (.invokevirtual 287, 3) := dk_182 1 31 (dk_at dksX1_bestHabit_1 10 rfl rfl)
theorem dX1_bestHabit_36 : decode cX1_bestHabit 36 = .ok (.if_icmp .ge 5, 3) := dk_162 0 5 (dk_at dksX1_bestHabit_1 13 rfl rfl)
theorem dX1_bestHabit_39 : decode cX1_bestHabit 39 = .ok (.iload_n 2, 1) := dk_28 (dk_at dksX1_bestHabit_1 16 rfl rfl)
theorem dX1_bestHabit_40 : decode cX1_bestHabit 40 = .ok (.istore_n 1, 1) := dk_60 (dk_at dksX1_bestHabit_1 17 rfl rfl)
theorem dX1_bestHabit_41 : decode cX1_bestHabit 41 = .ok (.iinc 2 1, 3) := dk_132 2 1 (dk_at dksX1_bestHabit_1 18 rfl rfl)
theorem dX1_bestHabit_44 : decode cX1_bestHabit 44 = .ok (.goto (-23), 3) := dk_167 255 233 (dk_at dksX1_bestHabit_1 21 rfl rfl)
theorem dX1_bestHabit_47 : decode cX1_bestHabit 47 = .ok (.iload_n 1, 1) := dk_27 (dk_at dksX1_bestHabit_2 0 rfl rfl)
theorem dX1_bestHabit_48 : decode cX1_bestHabit 48 = .ok (.ireturn, 1) := dk_172 (dk_at dksX1_bestHabit_2 1 rfl rfl)
abbrev cX1_byKind : ByteArray := prog_1_method_45_code
def yX1_byKind : MethodName := ⟨RX1, "byKind", "(I)I"⟩
def dkwX1_byKind_1 : List UInt8 := [182, 1, 37, 167, 0, 8, 42, 4, 182, 0, 101, 172]
abbrev dktX1_byKind_1 : List UInt8 := dkwX1_byKind_1 ++ []
def dkwX1_byKind_0 : List UInt8 := [42, 182, 0, 87, 42, 180, 0, 112, 198, 0, 20, 27, 3, 6, 184, 0, 97, 153, 0, 11, 42, 27]
abbrev dktX1_byKind_0 : List UInt8 := dkwX1_byKind_0 ++ dktX1_byKind_1
theorem dksX1_byKind_0 : cX1_byKind.data.toList.drop 0 = dktX1_byKind_0 := by decide +kernel
theorem dksX1_byKind_1 : cX1_byKind.data.toList.drop 22 = dktX1_byKind_1 := dk_seg dksX1_byKind_0 22 rfl rfl
theorem dX1_byKind_0 : decode cX1_byKind 0 = .ok (.aload_n 0, 1) := dk_42 (dk_at dksX1_byKind_0 0 rfl rfl)
theorem dX1_byKind_1 : decode cX1_byKind 1 = .ok (.invokevirtual 87, 3) := dk_182 0 87 (dk_at dksX1_byKind_0 1 rfl rfl)
theorem dX1_byKind_4 : decode cX1_byKind 4 = .ok (.aload_n 0, 1) := dk_42 (dk_at dksX1_byKind_0 4 rfl rfl)
theorem dX1_byKind_5 : decode cX1_byKind 5 = .ok (.getfield 112, 3) := dk_180 0 112 (dk_at dksX1_byKind_0 5 rfl rfl)
theorem dX1_byKind_8 : decode cX1_byKind 8 = .ok (.ifnull 20, 3) := dk_198 0 20 (dk_at dksX1_byKind_0 8 rfl rfl)
theorem dX1_byKind_11 : decode cX1_byKind 11 = .ok (.iload_n 1, 1) := dk_27 (dk_at dksX1_byKind_0 11 rfl rfl)
theorem dX1_byKind_12 : decode cX1_byKind 12 = .ok (.iconst 0, 1) := dk_3 (dk_at dksX1_byKind_0 12 rfl rfl)
theorem dX1_byKind_13 : decode cX1_byKind 13 = .ok (.iconst 3, 1) := dk_6 (dk_at dksX1_byKind_0 13 rfl rfl)
theorem dX1_byKind_14 : decode cX1_byKind 14 = .ok (.invokestatic 97, 3) := dk_184 0 97 (dk_at dksX1_byKind_0 14 rfl rfl)
theorem dX1_byKind_17 : decode cX1_byKind 17 = .ok (.ifCond .eq 11, 3) := dk_153 0 11 (dk_at dksX1_byKind_0 17 rfl rfl)
theorem dX1_byKind_20 : decode cX1_byKind 20 = .ok (.aload_n 0, 1) := dk_42 (dk_at dksX1_byKind_0 20 rfl rfl)
theorem dX1_byKind_21 : decode cX1_byKind 21 = .ok (.iload_n 1, 1) := dk_27 (dk_at dksX1_byKind_0 21 rfl rfl)
theorem dX1_byKind_22 : decode cX1_byKind 22 = .ok (.invokevirtual 293, 3) := dk_182 1 37 (dk_at dksX1_byKind_1 0 rfl rfl)
theorem dX1_byKind_25 : decode cX1_byKind 25 = .ok (.goto 8, 3) := dk_167 0 8 (dk_at dksX1_byKind_1 3 rfl rfl)
theorem dX1_byKind_28 : decode cX1_byKind 28 = .ok (.aload_n 0, 1) := dk_42 (dk_at dksX1_byKind_1 6 rfl rfl)
theorem dX1_byKind_29 : decode cX1_byKind 29 = .ok (.iconst 1, 1) := dk_4 (dk_at dksX1_byKind_1 7 rfl rfl)
theorem dX1_byKind_30 : decode cX1_byKind 30 = .ok (.invokevirtual 101, 3) := dk_182 0 101 (dk_at dksX1_byKind_1 8 rfl rfl)
theorem dX1_byKind_33 : decode cX1_byKind 33 = .ok (.ireturn, 1) := dk_172 (dk_at dksX1_byKind_1 11 rfl rfl)
abbrev cX1_sharedBy : ByteArray := prog_1_method_44_code
def yX1_sharedBy : MethodName := ⟨RX1, "sharedBy", "(I)I"⟩
def dkwX1_sharedBy_1 : List UInt8 := [180, 0, 112, 42, 180, 0, 36, 1, 182, 0, 140, 42, 180, 0, 46, 182, 1, 1, 172]
abbrev dktX1_sharedBy_1 : List UInt8 := dkwX1_sharedBy_1 ++ []
def dkwX1_sharedBy_0 : List UInt8 := [42, 180, 0, 36, 42, 180, 0, 29, 182, 1, 24, 42, 180, 0, 36, 27, 182, 1, 34, 42, 180, 0, 46, 42]
abbrev dktX1_sharedBy_0 : List UInt8 := dkwX1_sharedBy_0 ++ dktX1_sharedBy_1
theorem dksX1_sharedBy_0 : cX1_sharedBy.data.toList.drop 0 = dktX1_sharedBy_0 := by decide +kernel
theorem dksX1_sharedBy_1 : cX1_sharedBy.data.toList.drop 24 = dktX1_sharedBy_1 := dk_seg dksX1_sharedBy_0 24 rfl rfl
theorem dX1_sharedBy_0 : decode cX1_sharedBy 0 = .ok (.aload_n 0, 1) := dk_42 (dk_at dksX1_sharedBy_0 0 rfl rfl)
theorem dX1_sharedBy_1 : decode cX1_sharedBy 1 = .ok (.getfield 36, 3) := dk_180 0 36 (dk_at dksX1_sharedBy_0 1 rfl rfl)
theorem dX1_sharedBy_4 : decode cX1_sharedBy 4 = .ok (.aload_n 0, 1) := dk_42 (dk_at dksX1_sharedBy_0 4 rfl rfl)
theorem dX1_sharedBy_5 : decode cX1_sharedBy 5 = .ok (.getfield 29, 3) := dk_180 0 29 (dk_at dksX1_sharedBy_0 5 rfl rfl)
theorem dX1_sharedBy_8 : decode cX1_sharedBy 8 = .ok (.invokevirtual 280, 3) := dk_182 1 24 (dk_at dksX1_sharedBy_0 8 rfl rfl)
theorem dX1_sharedBy_11 : decode cX1_sharedBy 11 = .ok (.aload_n 0, 1) := dk_42 (dk_at dksX1_sharedBy_0 11 rfl rfl)
theorem dX1_sharedBy_12 : decode cX1_sharedBy 12 = .ok (.getfield 36, 3) := dk_180 0 36 (dk_at dksX1_sharedBy_0 12 rfl rfl)
theorem dX1_sharedBy_15 : decode cX1_sharedBy 15 = .ok (.iload_n 1, 1) := dk_27 (dk_at dksX1_sharedBy_0 15 rfl rfl)
theorem dX1_sharedBy_16 : decode cX1_sharedBy 16 = .ok (.invokevirtual 290, 3) := dk_182 1 34 (dk_at dksX1_sharedBy_0 16 rfl rfl)
theorem dX1_sharedBy_19 : decode cX1_sharedBy 19 = .ok (.aload_n 0, 1) := dk_42 (dk_at dksX1_sharedBy_0 19 rfl rfl)
theorem dX1_sharedBy_20 : decode cX1_sharedBy 20 = .ok (.getfield 46, 3) := dk_180 0 46 (dk_at dksX1_sharedBy_0 20 rfl rfl)
theorem dX1_sharedBy_23 : decode cX1_sharedBy 23 = .ok (.aload_n 0, 1) := dk_42 (dk_at dksX1_sharedBy_0 23 rfl rfl)
theorem dX1_sharedBy_24 : decode cX1_sharedBy 24 = .ok (.getfield 112, 3) := dk_180 0 112 (dk_at dksX1_sharedBy_1 0 rfl rfl)
theorem dX1_sharedBy_27 : decode cX1_sharedBy 27 = .ok (.aload_n 0, 1) := dk_42 (dk_at dksX1_sharedBy_1 3 rfl rfl)
theorem dX1_sharedBy_28 : decode cX1_sharedBy 28 = .ok (.getfield 36, 3) := dk_180 0 36 (dk_at dksX1_sharedBy_1 4 rfl rfl)
theorem dX1_sharedBy_31 : decode cX1_sharedBy 31 = .ok (.aconst_null, 1) := dk_1 (dk_at dksX1_sharedBy_1 7 rfl rfl)
theorem dX1_sharedBy_32 : decode cX1_sharedBy 32 = .ok (.invokevirtual 140, 3) := dk_182 0 140 (dk_at dksX1_sharedBy_1 8 rfl rfl)
theorem dX1_sharedBy_35 : decode cX1_sharedBy 35 = .ok (.aload_n 0, 1) := dk_42 (dk_at dksX1_sharedBy_1 11 rfl rfl)
theorem dX1_sharedBy_36 : decode cX1_sharedBy 36 = .ok (.getfield 46, 3) := dk_180 0 46 (dk_at dksX1_sharedBy_1 12 rfl rfl)
theorem dX1_sharedBy_39 : decode cX1_sharedBy 39 = .ok (.invokevirtual 257, 3) := dk_182 1 1 (dk_at dksX1_sharedBy_1 15 rfl rfl)
theorem dX1_sharedBy_42 : decode cX1_sharedBy 42 = .ok (.ireturn, 1) := dk_172 (dk_at dksX1_sharedBy_1 18 rfl rfl)
abbrev cX1_bestKind : ByteArray := prog_1_method_46_code
def yX1_bestKind : MethodName := ⟨RX1, "bestKind", "()I"⟩
def dkwX1_bestKind_2 : List UInt8 := [27, 172]
abbrev dktX1_bestKind_2 : List UInt8 := dkwX1_bestKind_2 ++ []
def dkwX1_bestKind_1 : List UInt8 := [162, 0, 24, 42, 28, 182, 1, 37, 42, 27, 182, 1, 37, 162, 0, 5, 28, 60, 132, 2, 1, 167, 255, 233]
abbrev dktX1_bestKind_1 : List UInt8 := dkwX1_bestKind_1 ++ dktX1_bestKind_2
def dkwX1_bestKind_0 : List UInt8 := [42, 182, 0, 87, 42, 180, 0, 112, 199, 0, 9, 42, 4, 182, 0, 101, 172, 3, 60, 4, 61, 28, 7]
abbrev dktX1_bestKind_0 : List UInt8 := dkwX1_bestKind_0 ++ dktX1_bestKind_1
theorem dksX1_bestKind_0 : cX1_bestKind.data.toList.drop 0 = dktX1_bestKind_0 := by decide +kernel
theorem dksX1_bestKind_1 : cX1_bestKind.data.toList.drop 23 = dktX1_bestKind_1 := dk_seg dksX1_bestKind_0 23 rfl rfl
theorem dksX1_bestKind_2 : cX1_bestKind.data.toList.drop 47 = dktX1_bestKind_2 := dk_seg dksX1_bestKind_1 24 rfl rfl
theorem dX1_bestKind_0 : decode cX1_bestKind 0 = .ok (.aload_n 0, 1) := dk_42 (dk_at dksX1_bestKind_0 0 rfl rfl)
theorem dX1_bestKind_1 : decode cX1_bestKind 1 = .ok (.invokevirtual 87, 3) := dk_182 0 87 (dk_at dksX1_bestKind_0 1 rfl rfl)
theorem dX1_bestKind_4 : decode cX1_bestKind 4 = .ok (.aload_n 0, 1) := dk_42 (dk_at dksX1_bestKind_0 4 rfl rfl)
theorem dX1_bestKind_5 : decode cX1_bestKind 5 = .ok (.getfield 112, 3) := dk_180 0 112 (dk_at dksX1_bestKind_0 5 rfl rfl)
theorem dX1_bestKind_8 : decode cX1_bestKind 8 = .ok (.ifnonnull 9, 3) := dk_199 0 9 (dk_at dksX1_bestKind_0 8 rfl rfl)
theorem dX1_bestKind_11 : decode cX1_bestKind 11 = .ok (.aload_n 0, 1) := dk_42 (dk_at dksX1_bestKind_0 11 rfl rfl)
theorem dX1_bestKind_12 : decode cX1_bestKind 12 = .ok (.iconst 1, 1) := dk_4 (dk_at dksX1_bestKind_0 12 rfl rfl)
theorem dX1_bestKind_13 : decode cX1_bestKind 13 = .ok (.invokevirtual 101, 3) := dk_182 0 101 (dk_at dksX1_bestKind_0 13 rfl rfl)
theorem dX1_bestKind_16 : decode cX1_bestKind 16 = .ok (.ireturn, 1) := dk_172 (dk_at dksX1_bestKind_0 16 rfl rfl)
theorem dX1_bestKind_17 : decode cX1_bestKind 17 = .ok (.iconst 0, 1) := dk_3 (dk_at dksX1_bestKind_0 17 rfl rfl)
theorem dX1_bestKind_18 : decode cX1_bestKind 18 = .ok (.istore_n 1, 1) := dk_60 (dk_at dksX1_bestKind_0 18 rfl rfl)
theorem dX1_bestKind_19 : decode cX1_bestKind 19 = .ok (.iconst 1, 1) := dk_4 (dk_at dksX1_bestKind_0 19 rfl rfl)
theorem dX1_bestKind_20 : decode cX1_bestKind 20 = .ok (.istore_n 2, 1) := dk_61 (dk_at dksX1_bestKind_0 20 rfl rfl)
theorem dX1_bestKind_21 : decode cX1_bestKind 21 = .ok (.iload_n 2, 1) := dk_28 (dk_at dksX1_bestKind_0 21 rfl rfl)
theorem dX1_bestKind_22 : decode cX1_bestKind 22 = .ok (.iconst 4, 1) := dk_7 (dk_at dksX1_bestKind_0 22 rfl rfl)
theorem dX1_bestKind_23 : decode cX1_bestKind 23 = .ok (.if_icmp .ge 24, 3) := dk_162 0 24 (dk_at dksX1_bestKind_1 0 rfl rfl)
theorem dX1_bestKind_26 : decode cX1_bestKind 26 = .ok (.aload_n 0, 1) := dk_42 (dk_at dksX1_bestKind_1 3 rfl rfl)
theorem dX1_bestKind_27 : decode cX1_bestKind 27 = .ok (.iload_n 2, 1) := dk_28 (dk_at dksX1_bestKind_1 4 rfl rfl)
theorem dX1_bestKind_28 : decode cX1_bestKind 28 = .ok (.invokevirtual 293, 3) := dk_182 1 37 (dk_at dksX1_bestKind_1 5 rfl rfl)
theorem dX1_bestKind_31 : decode cX1_bestKind 31 = .ok (.aload_n 0, 1) := dk_42 (dk_at dksX1_bestKind_1 8 rfl rfl)
theorem dX1_bestKind_32 : decode cX1_bestKind 32 = .ok (.iload_n 1, 1) := dk_27 (dk_at dksX1_bestKind_1 9 rfl rfl)
theorem dX1_bestKind_33 : decode cX1_bestKind 33 = .ok (.invokevirtual 293, 3) := dk_182 1 37 (dk_at dksX1_bestKind_1 10 rfl rfl)
theorem dX1_bestKind_36 : decode cX1_bestKind 36 = .ok (.if_icmp .ge 5, 3) := dk_162 0 5 (dk_at dksX1_bestKind_1 13 rfl rfl)
theorem dX1_bestKind_39 : decode cX1_bestKind 39 = .ok (.iload_n 2, 1) := dk_28 (dk_at dksX1_bestKind_1 16 rfl rfl)
theorem dX1_bestKind_40 : decode cX1_bestKind 40 = .ok (.istore_n 1, 1) := dk_60 (dk_at dksX1_bestKind_1 17 rfl rfl)
theorem dX1_bestKind_41 : decode cX1_bestKind 41 = .ok (.iinc 2 1, 3) := dk_132 2 1 (dk_at dksX1_bestKind_1 18 rfl rfl)
theorem dX1_bestKind_44 : decode cX1_bestKind 44 = .ok (.goto (-23), 3) := dk_167 255 233 (dk_at dksX1_bestKind_1 21 rfl rfl)
theorem dX1_bestKind_47 : decode cX1_bestKind 47 = .ok (.iload_n 1, 1) := dk_27 (dk_at dksX1_bestKind_2 0 rfl rfl)
theorem dX1_bestKind_48 : decode cX1_bestKind 48 = .ok (.ireturn, 1) := dk_172 (dk_at dksX1_bestKind_2 1 rfl rfl)
abbrev cX1_colours : ByteArray := prog_1_method_47_code
def yX1_colours : MethodName := ⟨RX1, "colours", "()I"⟩
def dkwX1_colours_1 : List UInt8 := [180, 0, 112, 182, 1, 40, 42, 180, 0, 59, 180, 1, 43, 172]
abbrev dktX1_colours_1 : List UInt8 := dkwX1_colours_1 ++ []
def dkwX1_colours_0 : List UInt8 := [42, 182, 0, 87, 42, 180, 0, 112, 199, 0, 9, 42, 4, 182, 0, 101, 172, 42, 180, 0, 59, 42]
abbrev dktX1_colours_0 : List UInt8 := dkwX1_colours_0 ++ dktX1_colours_1
theorem dksX1_colours_0 : cX1_colours.data.toList.drop 0 = dktX1_colours_0 := by decide +kernel
theorem dksX1_colours_1 : cX1_colours.data.toList.drop 22 = dktX1_colours_1 := dk_seg dksX1_colours_0 22 rfl rfl
theorem dX1_colours_0 : decode cX1_colours 0 = .ok (.aload_n 0, 1) := dk_42 (dk_at dksX1_colours_0 0 rfl rfl)
theorem dX1_colours_1 : decode cX1_colours 1 = .ok (.invokevirtual 87, 3) := dk_182 0 87 (dk_at dksX1_colours_0 1 rfl rfl)
theorem dX1_colours_4 : decode cX1_colours 4 = .ok (.aload_n 0, 1) := dk_42 (dk_at dksX1_colours_0 4 rfl rfl)
theorem dX1_colours_5 : decode cX1_colours 5 = .ok (.getfield 112, 3) := dk_180 0 112 (dk_at dksX1_colours_0 5 rfl rfl)
theorem dX1_colours_8 : decode cX1_colours 8 = .ok (.ifnonnull 9, 3) := dk_199 0 9 (dk_at dksX1_colours_0 8 rfl rfl)
theorem dX1_colours_11 : decode cX1_colours 11 = .ok (.aload_n 0, 1) := dk_42 (dk_at dksX1_colours_0 11 rfl rfl)
theorem dX1_colours_12 : decode cX1_colours 12 = .ok (.iconst 1, 1) := dk_4 (dk_at dksX1_colours_0 12 rfl rfl)
theorem dX1_colours_13 : decode cX1_colours 13 = .ok (.invokevirtual 101, 3) := dk_182 0 101 (dk_at dksX1_colours_0 13 rfl rfl)
theorem dX1_colours_16 : decode cX1_colours 16 = .ok (.ireturn, 1) := dk_172 (dk_at dksX1_colours_0 16 rfl rfl)
theorem dX1_colours_17 : decode cX1_colours 17 = .ok (.aload_n 0, 1) := dk_42 (dk_at dksX1_colours_0 17 rfl rfl)
theorem dX1_colours_18 : decode cX1_colours 18 = .ok (.getfield 59, 3) := dk_180 0 59 (dk_at dksX1_colours_0 18 rfl rfl)
theorem dX1_colours_21 : decode cX1_colours 21 = .ok (.aload_n 0, 1) := dk_42 (dk_at dksX1_colours_0 21 rfl rfl)
theorem dX1_colours_22 : decode cX1_colours 22 = .ok (.getfield 112, 3) := dk_180 0 112 (dk_at dksX1_colours_1 0 rfl rfl)
theorem dX1_colours_25 : decode cX1_colours 25 = .ok (.invokevirtual 296, 3) := dk_182 1 40 (dk_at dksX1_colours_1 3 rfl rfl)
theorem dX1_colours_28 : decode cX1_colours 28 = .ok (.aload_n 0, 1) := dk_42 (dk_at dksX1_colours_1 6 rfl rfl)
theorem dX1_colours_29 : decode cX1_colours 29 = .ok (.getfield 59, 3) := dk_180 0 59 (dk_at dksX1_colours_1 7 rfl rfl)
theorem dX1_colours_32 : decode cX1_colours 32 = .ok (.getfield 299, 3) := dk_180 1 43 (dk_at dksX1_colours_1 10 rfl rfl)
theorem dX1_colours_35 : decode cX1_colours 35 = .ok (.ireturn, 1) := dk_172 (dk_at dksX1_colours_1 13 rfl rfl)
abbrev cX1_colourOf : ByteArray := prog_1_method_48_code
def yX1_colourOf : MethodName := ⟨RX1, "colourOf", "(I)I"⟩
def dkwX1_colourOf_1 : List UInt8 := [180, 0, 112, 182, 1, 40, 42, 180, 0, 59, 27, 182, 1, 46, 172]
abbrev dktX1_colourOf_1 : List UInt8 := dkwX1_colourOf_1 ++ []
def dkwX1_colourOf_0 : List UInt8 := [42, 182, 0, 87, 42, 27, 182, 0, 154, 154, 0, 9, 42, 4, 182, 0, 101, 172, 42, 180, 0, 59, 42]
abbrev dktX1_colourOf_0 : List UInt8 := dkwX1_colourOf_0 ++ dktX1_colourOf_1
theorem dksX1_colourOf_0 : cX1_colourOf.data.toList.drop 0 = dktX1_colourOf_0 := by decide +kernel
theorem dksX1_colourOf_1 : cX1_colourOf.data.toList.drop 23 = dktX1_colourOf_1 := dk_seg dksX1_colourOf_0 23 rfl rfl
theorem dX1_colourOf_0 : decode cX1_colourOf 0 = .ok (.aload_n 0, 1) := dk_42 (dk_at dksX1_colourOf_0 0 rfl rfl)
theorem dX1_colourOf_1 : decode cX1_colourOf 1 = .ok (.invokevirtual 87, 3) := dk_182 0 87 (dk_at dksX1_colourOf_0 1 rfl rfl)
theorem dX1_colourOf_4 : decode cX1_colourOf 4 = .ok (.aload_n 0, 1) := dk_42 (dk_at dksX1_colourOf_0 4 rfl rfl)
theorem dX1_colourOf_5 : decode cX1_colourOf 5 = .ok (.iload_n 1, 1) := dk_27 (dk_at dksX1_colourOf_0 5 rfl rfl)
theorem dX1_colourOf_6 : decode cX1_colourOf 6 = .ok (.invokevirtual 154, 3) := dk_182 0 154 (dk_at dksX1_colourOf_0 6 rfl rfl)
theorem dX1_colourOf_9 : decode cX1_colourOf 9 = .ok (.ifCond .ne 9, 3) := dk_154 0 9 (dk_at dksX1_colourOf_0 9 rfl rfl)
theorem dX1_colourOf_12 : decode cX1_colourOf 12 = .ok (.aload_n 0, 1) := dk_42 (dk_at dksX1_colourOf_0 12 rfl rfl)
theorem dX1_colourOf_13 : decode cX1_colourOf 13 = .ok (.iconst 1, 1) := dk_4 (dk_at dksX1_colourOf_0 13 rfl rfl)
theorem dX1_colourOf_14 : decode cX1_colourOf 14 = .ok (.invokevirtual 101, 3) := dk_182 0 101 (dk_at dksX1_colourOf_0 14 rfl rfl)
theorem dX1_colourOf_17 : decode cX1_colourOf 17 = .ok (.ireturn, 1) := dk_172 (dk_at dksX1_colourOf_0 17 rfl rfl)
theorem dX1_colourOf_18 : decode cX1_colourOf 18 = .ok (.aload_n 0, 1) := dk_42 (dk_at dksX1_colourOf_0 18 rfl rfl)
theorem dX1_colourOf_19 : decode cX1_colourOf 19 = .ok (.getfield 59, 3) := dk_180 0 59 (dk_at dksX1_colourOf_0 19 rfl rfl)
theorem dX1_colourOf_22 : decode cX1_colourOf 22 = .ok (.aload_n 0, 1) := dk_42 (dk_at dksX1_colourOf_0 22 rfl rfl)
theorem dX1_colourOf_23 : decode cX1_colourOf 23 = .ok (.getfield 112, 3) := dk_180 0 112 (dk_at dksX1_colourOf_1 0 rfl rfl)
theorem dX1_colourOf_26 : decode cX1_colourOf 26 = .ok (.invokevirtual 296, 3) := dk_182 1 40 (dk_at dksX1_colourOf_1 3 rfl rfl)
theorem dX1_colourOf_29 : decode cX1_colourOf 29 = .ok (.aload_n 0, 1) := dk_42 (dk_at dksX1_colourOf_1 6 rfl rfl)
theorem dX1_colourOf_30 : decode cX1_colourOf 30 = .ok (.getfield 59, 3) := dk_180 0 59 (dk_at dksX1_colourOf_1 7 rfl rfl)
theorem dX1_colourOf_33 : decode cX1_colourOf 33 = .ok (.iload_n 1, 1) := dk_27 (dk_at dksX1_colourOf_1 10 rfl rfl)
theorem dX1_colourOf_34 : decode cX1_colourOf 34 = .ok (.invokevirtual 302, 3) := dk_182 1 46 (dk_at dksX1_colourOf_1 11 rfl rfl)
theorem dX1_colourOf_37 : decode cX1_colourOf 37 = .ok (.ireturn, 1) := dk_172 (dk_at dksX1_colourOf_1 14 rfl rfl)
abbrev cX1_judge : ByteArray := prog_1_method_49_code
def yX1_judge : MethodName := ⟨RX1, "judge", "()I"⟩
def dkwX1_judge_2 : List UInt8 := [159, 0, 5, 27, 172, 132, 1, 1, 167, 255, 219, 16, 254, 172]
abbrev dktX1_judge_2 : List UInt8 := dkwX1_judge_2 ++ []
def dkwX1_judge_1 : List UInt8 := [180, 1, 49, 162, 0, 32, 42, 180, 0, 42, 42, 180, 0, 112, 180, 1, 52, 27, 50, 182, 1, 56, 16, 254]
abbrev dktX1_judge_1 : List UInt8 := dkwX1_judge_1 ++ dktX1_judge_2
def dkwX1_judge_0 : List UInt8 := [42, 182, 0, 87, 42, 180, 0, 112, 199, 0, 9, 42, 4, 182, 0, 101, 172, 3, 60, 27, 42, 180, 0, 112]
abbrev dktX1_judge_0 : List UInt8 := dkwX1_judge_0 ++ dktX1_judge_1
theorem dksX1_judge_0 : cX1_judge.data.toList.drop 0 = dktX1_judge_0 := by decide +kernel
theorem dksX1_judge_1 : cX1_judge.data.toList.drop 24 = dktX1_judge_1 := dk_seg dksX1_judge_0 24 rfl rfl
theorem dksX1_judge_2 : cX1_judge.data.toList.drop 48 = dktX1_judge_2 := dk_seg dksX1_judge_1 24 rfl rfl
theorem dX1_judge_0 : decode cX1_judge 0 = .ok (.aload_n 0, 1) := dk_42 (dk_at dksX1_judge_0 0 rfl rfl)
theorem dX1_judge_1 : decode cX1_judge 1 = .ok (.invokevirtual 87, 3) := dk_182 0 87 (dk_at dksX1_judge_0 1 rfl rfl)
theorem dX1_judge_4 : decode cX1_judge 4 = .ok (.aload_n 0, 1) := dk_42 (dk_at dksX1_judge_0 4 rfl rfl)
theorem dX1_judge_5 : decode cX1_judge 5 = .ok (.getfield 112, 3) := dk_180 0 112 (dk_at dksX1_judge_0 5 rfl rfl)
theorem dX1_judge_8 : decode cX1_judge 8 = .ok (.ifnonnull 9, 3) := dk_199 0 9 (dk_at dksX1_judge_0 8 rfl rfl)
theorem dX1_judge_11 : decode cX1_judge 11 = .ok (.aload_n 0, 1) := dk_42 (dk_at dksX1_judge_0 11 rfl rfl)
theorem dX1_judge_12 : decode cX1_judge 12 = .ok (.iconst 1, 1) := dk_4 (dk_at dksX1_judge_0 12 rfl rfl)
theorem dX1_judge_13 : decode cX1_judge 13 = .ok (.invokevirtual 101, 3) := dk_182 0 101 (dk_at dksX1_judge_0 13 rfl rfl)
theorem dX1_judge_16 : decode cX1_judge 16 = .ok (.ireturn, 1) := dk_172 (dk_at dksX1_judge_0 16 rfl rfl)
theorem dX1_judge_17 : decode cX1_judge 17 = .ok (.iconst 0, 1) := dk_3 (dk_at dksX1_judge_0 17 rfl rfl)
theorem dX1_judge_18 : decode cX1_judge 18 = .ok (.istore_n 1, 1) := dk_60 (dk_at dksX1_judge_0 18 rfl rfl)
theorem dX1_judge_19 : decode cX1_judge 19 = .ok (.iload_n 1, 1) := dk_27 (dk_at dksX1_judge_0 19 rfl rfl)
theorem dX1_judge_20 : decode cX1_judge 20 = .ok (.aload_n 0, 1) := dk_42 (dk_at dksX1_judge_0 20 rfl rfl)
theorem dX1_judge_21 : decode cX1_judge 21 = .ok (.getfield 112, 3) := dk_180 0 112 (dk_at dksX1_judge_0 21 rfl rfl)
theorem dX1_judge_24 : decode cX1_judge 24 = .ok (.getfield 305, 3) := dk_180 1 49 (dk_at dksX1_judge_1 0 rfl rfl)
theorem dX1_judge_27 : decode cX1_judge 27 = .ok (.if_icmp .ge 32, 3) := dk_162 0 32 (dk_at dksX1_judge_1 3 rfl rfl)
theorem dX1_judge_30 : decode cX1_judge 30 = .ok (.aload_n 0, 1) := dk_42 (dk_at dksX1_judge_1 6 rfl rfl)
theorem dX1_judge_31 : decode cX1_judge 31 = .ok (.getfield 42, 3) := dk_180 0 42 (dk_at dksX1_judge_1 7 rfl rfl)
theorem dX1_judge_34 : decode cX1_judge 34 = .ok (.aload_n 0, 1) := dk_42 (dk_at dksX1_judge_1 10 rfl rfl)
theorem dX1_judge_35 : decode cX1_judge 35 = .ok (.getfield 112, 3) := dk_180 0 112 (dk_at dksX1_judge_1 11 rfl rfl)
theorem dX1_judge_38 : decode cX1_judge 38 = .ok (.getfield 308, 3) := dk_180 1 52 (dk_at dksX1_judge_1 14 rfl rfl)
theorem dX1_judge_41 : decode cX1_judge 41 = .ok (.iload_n 1, 1) := dk_27 (dk_at dksX1_judge_1 17 rfl rfl)
theorem dX1_judge_42 : decode cX1_judge 42 = .ok (.aaload, 1) := dk_50 (dk_at dksX1_judge_1 18 rfl rfl)
theorem dX1_judge_43 : decode cX1_judge 43 = .ok (.invokevirtual 312, 3) := dk_182 1 56 (dk_at dksX1_judge_1 19 rfl rfl)
theorem dX1_judge_46 : decode cX1_judge 46 = .ok (.bipush (-2), 2) := dk_16 254 (dk_at dksX1_judge_1 22 rfl rfl)
theorem dX1_judge_48 : decode cX1_judge 48 = .ok (.if_icmp .eq 5, 3) := dk_159 0 5 (dk_at dksX1_judge_2 0 rfl rfl)
theorem dX1_judge_51 : decode cX1_judge 51 = .ok (.iload_n 1, 1) := dk_27 (dk_at dksX1_judge_2 3 rfl rfl)
theorem dX1_judge_52 : decode cX1_judge 52 = .ok (.ireturn, 1) := dk_172 (dk_at dksX1_judge_2 4 rfl rfl)
theorem dX1_judge_53 : decode cX1_judge 53 = .ok (.iinc 1 1, 3) := dk_132 1 1 (dk_at dksX1_judge_2 5 rfl rfl)
theorem dX1_judge_56 : decode cX1_judge 56 = .ok (.goto (-37), 3) := dk_167 255 219 (dk_at dksX1_judge_2 8 rfl rfl)
theorem dX1_judge_59 : decode cX1_judge 59 = .ok (.bipush (-2), 2) := dk_16 254 (dk_at dksX1_judge_2 11 rfl rfl)
theorem dX1_judge_61 : decode cX1_judge 61 = .ok (.ireturn, 1) := dk_172 (dk_at dksX1_judge_2 13 rfl rfl)
abbrev cX1_judgeAt : ByteArray := prog_1_method_50_code
def yX1_judgeAt : MethodName := ⟨RX1, "judgeAt", "(I)I"⟩
def dkwX1_judgeAt_2 : List UInt8 := [167, 0, 8, 42, 4, 182, 0, 101, 172]
abbrev dktX1_judgeAt_2 : List UInt8 := dkwX1_judgeAt_2 ++ []
def dkwX1_judgeAt_1 : List UInt8 := [184, 0, 97, 153, 0, 22, 42, 180, 0, 42, 42, 180, 0, 112, 180, 1, 52, 27, 50, 182, 1, 56]
abbrev dktX1_judgeAt_1 : List UInt8 := dkwX1_judgeAt_1 ++ dktX1_judgeAt_2
def dkwX1_judgeAt_0 : List UInt8 := [42, 182, 0, 87, 42, 180, 0, 112, 198, 0, 39, 27, 3, 42, 180, 0, 112, 180, 1, 49, 4, 100]
abbrev dktX1_judgeAt_0 : List UInt8 := dkwX1_judgeAt_0 ++ dktX1_judgeAt_1
theorem dksX1_judgeAt_0 : cX1_judgeAt.data.toList.drop 0 = dktX1_judgeAt_0 := by decide +kernel
theorem dksX1_judgeAt_1 : cX1_judgeAt.data.toList.drop 22 = dktX1_judgeAt_1 := dk_seg dksX1_judgeAt_0 22 rfl rfl
theorem dksX1_judgeAt_2 : cX1_judgeAt.data.toList.drop 44 = dktX1_judgeAt_2 := dk_seg dksX1_judgeAt_1 22 rfl rfl
theorem dX1_judgeAt_0 : decode cX1_judgeAt 0 = .ok (.aload_n 0, 1) := dk_42 (dk_at dksX1_judgeAt_0 0 rfl rfl)
theorem dX1_judgeAt_1 : decode cX1_judgeAt 1 = .ok (.invokevirtual 87, 3) := dk_182 0 87 (dk_at dksX1_judgeAt_0 1 rfl rfl)
theorem dX1_judgeAt_4 : decode cX1_judgeAt 4 = .ok (.aload_n 0, 1) := dk_42 (dk_at dksX1_judgeAt_0 4 rfl rfl)
theorem dX1_judgeAt_5 : decode cX1_judgeAt 5 = .ok (.getfield 112, 3) := dk_180 0 112 (dk_at dksX1_judgeAt_0 5 rfl rfl)
theorem dX1_judgeAt_8 : decode cX1_judgeAt 8 = .ok (.ifnull 39, 3) := dk_198 0 39 (dk_at dksX1_judgeAt_0 8 rfl rfl)
theorem dX1_judgeAt_11 : decode cX1_judgeAt 11 = .ok (.iload_n 1, 1) := dk_27 (dk_at dksX1_judgeAt_0 11 rfl rfl)
theorem dX1_judgeAt_12 : decode cX1_judgeAt 12 = .ok (.iconst 0, 1) := dk_3 (dk_at dksX1_judgeAt_0 12 rfl rfl)
theorem dX1_judgeAt_13 : decode cX1_judgeAt 13 = .ok (.aload_n 0, 1) := dk_42 (dk_at dksX1_judgeAt_0 13 rfl rfl)
theorem dX1_judgeAt_14 : decode cX1_judgeAt 14 = .ok (.getfield 112, 3) := dk_180 0 112 (dk_at dksX1_judgeAt_0 14 rfl rfl)
theorem dX1_judgeAt_17 : decode cX1_judgeAt 17 = .ok (.getfield 305, 3) := dk_180 1 49 (dk_at dksX1_judgeAt_0 17 rfl rfl)
theorem dX1_judgeAt_20 : decode cX1_judgeAt 20 = .ok (.iconst 1, 1) := dk_4 (dk_at dksX1_judgeAt_0 20 rfl rfl)
theorem dX1_judgeAt_21 : decode cX1_judgeAt 21 = .ok (.isub, 1) := dk_100 (dk_at dksX1_judgeAt_0 21 rfl rfl)
theorem dX1_judgeAt_22 : decode cX1_judgeAt 22 = .ok (.invokestatic 97, 3) := dk_184 0 97 (dk_at dksX1_judgeAt_1 0 rfl rfl)
theorem dX1_judgeAt_25 : decode cX1_judgeAt 25 = .ok (.ifCond .eq 22, 3) := dk_153 0 22 (dk_at dksX1_judgeAt_1 3 rfl rfl)
theorem dX1_judgeAt_28 : decode cX1_judgeAt 28 = .ok (.aload_n 0, 1) := dk_42 (dk_at dksX1_judgeAt_1 6 rfl rfl)
theorem dX1_judgeAt_29 : decode cX1_judgeAt 29 = .ok (.getfield 42, 3) := dk_180 0 42 (dk_at dksX1_judgeAt_1 7 rfl rfl)
theorem dX1_judgeAt_32 : decode cX1_judgeAt 32 = .ok (.aload_n 0, 1) := dk_42 (dk_at dksX1_judgeAt_1 10 rfl rfl)
theorem dX1_judgeAt_33 : decode cX1_judgeAt 33 = .ok (.getfield 112, 3) := dk_180 0 112 (dk_at dksX1_judgeAt_1 11 rfl rfl)
theorem dX1_judgeAt_36 : decode cX1_judgeAt 36 = .ok (.getfield 308, 3) := dk_180 1 52 (dk_at dksX1_judgeAt_1 14 rfl rfl)
theorem dX1_judgeAt_39 : decode cX1_judgeAt 39 = .ok (.iload_n 1, 1) := dk_27 (dk_at dksX1_judgeAt_1 17 rfl rfl)
theorem dX1_judgeAt_40 : decode cX1_judgeAt 40 = .ok (.aaload, 1) := dk_50 (dk_at dksX1_judgeAt_1 18 rfl rfl)
theorem dX1_judgeAt_41 : decode cX1_judgeAt 41 = .ok (.invokevirtual 312, 3) := dk_182 1 56 (dk_at dksX1_judgeAt_1 19 rfl rfl)
theorem dX1_judgeAt_44 : decode cX1_judgeAt 44 = .ok (.goto 8, 3) := dk_167 0 8 (dk_at dksX1_judgeAt_2 0 rfl rfl)
theorem dX1_judgeAt_47 : decode cX1_judgeAt 47 = .ok (.aload_n 0, 1) := dk_42 (dk_at dksX1_judgeAt_2 3 rfl rfl)
theorem dX1_judgeAt_48 : decode cX1_judgeAt 48 = .ok (.iconst 1, 1) := dk_4 (dk_at dksX1_judgeAt_2 4 rfl rfl)
theorem dX1_judgeAt_49 : decode cX1_judgeAt 49 = .ok (.invokevirtual 101, 3) := dk_182 0 101 (dk_at dksX1_judgeAt_2 5 rfl rfl)
theorem dX1_judgeAt_52 : decode cX1_judgeAt 52 = .ok (.ireturn, 1) := dk_172 (dk_at dksX1_judgeAt_2 8 rfl rfl)
abbrev cX1_explains : ByteArray := prog_1_method_53_code
def yX1_explains : MethodName := ⟨RX1, "explains", "()I"⟩
def dkwX1_explains_1 : List UInt8 := [182, 1, 71, 172]
abbrev dktX1_explains_1 : List UInt8 := dkwX1_explains_1 ++ []
def dkwX1_explains_0 : List UInt8 := [42, 182, 0, 87, 42, 182, 1, 68, 60, 27, 153, 0, 11, 42, 27, 182, 0, 101, 167, 0, 8, 42, 2]
abbrev dktX1_explains_0 : List UInt8 := dkwX1_explains_0 ++ dktX1_explains_1
theorem dksX1_explains_0 : cX1_explains.data.toList.drop 0 = dktX1_explains_0 := by decide +kernel
theorem dksX1_explains_1 : cX1_explains.data.toList.drop 23 = dktX1_explains_1 := dk_seg dksX1_explains_0 23 rfl rfl
theorem dX1_explains_0 : decode cX1_explains 0 = .ok (.aload_n 0, 1) := dk_42 (dk_at dksX1_explains_0 0 rfl rfl)
theorem dX1_explains_1 : decode cX1_explains 1 = .ok (.invokevirtual 87, 3) := dk_182 0 87 (dk_at dksX1_explains_0 1 rfl rfl)
theorem dX1_explains_4 : decode cX1_explains 4 = .ok (.aload_n 0, 1) := dk_42 (dk_at dksX1_explains_0 4 rfl rfl)
theorem dX1_explains_5 : decode cX1_explains 5 = .ok (.invokevirtual 324, 3) := dk_182 1 68 (dk_at dksX1_explains_0 5 rfl rfl)
theorem dX1_explains_8 : decode cX1_explains 8 = .ok (.istore_n 1, 1) := dk_60 (dk_at dksX1_explains_0 8 rfl rfl)
theorem dX1_explains_9 : decode cX1_explains 9 = .ok (.iload_n 1, 1) := dk_27 (dk_at dksX1_explains_0 9 rfl rfl)
theorem dX1_explains_10 : decode cX1_explains 10 = .ok (.ifCond .eq 11, 3) := dk_153 0 11 (dk_at dksX1_explains_0 10 rfl rfl)
theorem dX1_explains_13 : decode cX1_explains 13 = .ok (.aload_n 0, 1) := dk_42 (dk_at dksX1_explains_0 13 rfl rfl)
theorem dX1_explains_14 : decode cX1_explains 14 = .ok (.iload_n 1, 1) := dk_27 (dk_at dksX1_explains_0 14 rfl rfl)
theorem dX1_explains_15 : decode cX1_explains 15 = .ok (.invokevirtual 101, 3) := dk_182 0 101 (dk_at dksX1_explains_0 15 rfl rfl)
theorem dX1_explains_18 : decode cX1_explains 18 = .ok (.goto 8, 3) := dk_167 0 8 (dk_at dksX1_explains_0 18 rfl rfl)
theorem dX1_explains_21 : decode cX1_explains 21 = .ok (.aload_n 0, 1) := dk_42 (dk_at dksX1_explains_0 21 rfl rfl)
theorem dX1_explains_22 : decode cX1_explains 22 = .ok (.iconst (-1), 1) := dk_2 (dk_at dksX1_explains_0 22 rfl rfl)
theorem dX1_explains_23 : decode cX1_explains 23 = .ok (.invokevirtual 327, 3) := dk_182 1 71 (dk_at dksX1_explains_1 0 rfl rfl)
theorem dX1_explains_26 : decode cX1_explains 26 = .ok (.ireturn, 1) := dk_172 (dk_at dksX1_explains_1 3 rfl rfl)
abbrev cX1_explainWhy : ByteArray := prog_1_method_52_code
def yX1_explainWhy : MethodName := ⟨RX1, "explainWhy", "()I"⟩
def dkwX1_explainWhy_1 : List UInt8 := [167, 0, 4, 3, 172]
abbrev dktX1_explainWhy_1 : List UInt8 := dkwX1_explainWhy_1 ++ []
def dkwX1_explainWhy_0 : List UInt8 := [42, 180, 0, 112, 199, 0, 7, 4, 167, 0, 18, 42, 180, 0, 42, 182, 1, 64, 153, 0, 7, 8]
abbrev dktX1_explainWhy_0 : List UInt8 := dkwX1_explainWhy_0 ++ dktX1_explainWhy_1
theorem dksX1_explainWhy_0 : cX1_explainWhy.data.toList.drop 0 = dktX1_explainWhy_0 := by decide +kernel
theorem dksX1_explainWhy_1 : cX1_explainWhy.data.toList.drop 22 = dktX1_explainWhy_1 := dk_seg dksX1_explainWhy_0 22 rfl rfl
theorem dX1_explainWhy_0 : decode cX1_explainWhy 0 = .ok (.aload_n 0, 1) := dk_42 (dk_at dksX1_explainWhy_0 0 rfl rfl)
theorem dX1_explainWhy_1 : decode cX1_explainWhy 1 = .ok (.getfield 112, 3) := dk_180 0 112 (dk_at dksX1_explainWhy_0 1 rfl rfl)
theorem dX1_explainWhy_4 : decode cX1_explainWhy 4 = .ok (.ifnonnull 7, 3) := dk_199 0 7 (dk_at dksX1_explainWhy_0 4 rfl rfl)
theorem dX1_explainWhy_7 : decode cX1_explainWhy 7 = .ok (.iconst 1, 1) := dk_4 (dk_at dksX1_explainWhy_0 7 rfl rfl)
theorem dX1_explainWhy_8 : decode cX1_explainWhy 8 = .ok (.goto 18, 3) := dk_167 0 18 (dk_at dksX1_explainWhy_0 8 rfl rfl)
theorem dX1_explainWhy_11 : decode cX1_explainWhy 11 = .ok (.aload_n 0, 1) := dk_42 (dk_at dksX1_explainWhy_0 11 rfl rfl)
theorem dX1_explainWhy_12 : decode cX1_explainWhy 12 = .ok (.getfield 42, 3) := dk_180 0 42 (dk_at dksX1_explainWhy_0 12 rfl rfl)
theorem dX1_explainWhy_15 : decode cX1_explainWhy 15 = .ok (.invokevirtual 320, 3) := dk_182 1 64 (dk_at dksX1_explainWhy_0 15 rfl rfl)
theorem dX1_explainWhy_18 : decode cX1_explainWhy 18 = .ok (.ifCond .eq 7, 3) := dk_153 0 7 (dk_at dksX1_explainWhy_0 18 rfl rfl)
theorem dX1_explainWhy_21 : decode cX1_explainWhy 21 = .ok (.iconst 5, 1) := dk_8 (dk_at dksX1_explainWhy_0 21 rfl rfl)
theorem dX1_explainWhy_22 : decode cX1_explainWhy 22 = .ok (.goto 4, 3) := dk_167 0 4 (dk_at dksX1_explainWhy_1 0 rfl rfl)
theorem dX1_explainWhy_25 : decode cX1_explainWhy 25 = .ok (.iconst 0, 1) := dk_3 (dk_at dksX1_explainWhy_1 3 rfl rfl)
theorem dX1_explainWhy_26 : decode cX1_explainWhy 26 = .ok (.ireturn, 1) := dk_172 (dk_at dksX1_explainWhy_1 4 rfl rfl)
abbrev cX1_explained : ByteArray := prog_1_method_51_code
def yX1_explained : MethodName := ⟨RX1, "explained", "(I)I"⟩
def dkwX1_explained_5 : List UInt8 := [132, 3, 1, 167, 255, 141, 28, 172]
abbrev dktX1_explained_5 : List UInt8 := dkwX1_explained_5 ++ []
def dkwX1_explained_4 : List UInt8 := [160, 0, 7, 28, 4, 96, 172, 132, 2, 1, 132, 5, 1, 167, 255, 185, 132, 4, 1, 167, 255, 161]
abbrev dktX1_explained_4 : List UInt8 := dkwX1_explained_4 ++ dktX1_explained_5
def dkwX1_explained_3 : List UInt8 := [42, 180, 0, 73, 182, 0, 140, 42, 180, 0, 46, 182, 1, 64, 154, 0, 6, 167, 0, 15, 28, 27]
abbrev dktX1_explained_3 : List UInt8 := dkwX1_explained_3 ++ dktX1_explained_4
def dkwX1_explained_2 : List UInt8 := [42, 180, 0, 73, 29, 21, 4, 21, 5, 182, 1, 60, 42, 180, 0, 46, 42, 180, 0, 112, 42, 180, 0, 29]
abbrev dktX1_explained_2 : List UInt8 := dkwX1_explained_2 ++ dktX1_explained_3
def dkwX1_explained_1 : List UInt8 := [180, 0, 144, 162, 0, 89, 21, 4, 4, 96, 54, 5, 21, 5, 42, 180, 0, 112, 180, 0, 144, 162, 0, 65]
abbrev dktX1_explained_1 : List UInt8 := dkwX1_explained_1 ++ dktX1_explained_2
def dkwX1_explained_0 : List UInt8 := [3, 61, 3, 62, 29, 42, 180, 0, 112, 180, 0, 147, 162, 0, 110, 3, 54, 4, 21, 4, 42, 180, 0, 112]
abbrev dktX1_explained_0 : List UInt8 := dkwX1_explained_0 ++ dktX1_explained_1
theorem dksX1_explained_0 : cX1_explained.data.toList.drop 0 = dktX1_explained_0 := by decide +kernel
theorem dksX1_explained_1 : cX1_explained.data.toList.drop 24 = dktX1_explained_1 := dk_seg dksX1_explained_0 24 rfl rfl
theorem dksX1_explained_2 : cX1_explained.data.toList.drop 48 = dktX1_explained_2 := dk_seg dksX1_explained_1 24 rfl rfl
theorem dksX1_explained_3 : cX1_explained.data.toList.drop 72 = dktX1_explained_3 := dk_seg dksX1_explained_2 24 rfl rfl
theorem dksX1_explained_4 : cX1_explained.data.toList.drop 94 = dktX1_explained_4 := dk_seg dksX1_explained_3 22 rfl rfl
theorem dksX1_explained_5 : cX1_explained.data.toList.drop 116 = dktX1_explained_5 := dk_seg dksX1_explained_4 22 rfl rfl
theorem dX1_explained_0 : decode cX1_explained 0 = .ok (.iconst 0, 1) := dk_3 (dk_at dksX1_explained_0 0 rfl rfl)
theorem dX1_explained_1 : decode cX1_explained 1 = .ok (.istore_n 2, 1) := dk_61 (dk_at dksX1_explained_0 1 rfl rfl)
theorem dX1_explained_2 : decode cX1_explained 2 = .ok (.iconst 0, 1) := dk_3 (dk_at dksX1_explained_0 2 rfl rfl)
theorem dX1_explained_3 : decode cX1_explained 3 = .ok (.istore_n 3, 1) := dk_62 (dk_at dksX1_explained_0 3 rfl rfl)
theorem dX1_explained_4 : decode cX1_explained 4 = .ok (.iload_n 3, 1) := dk_29 (dk_at dksX1_explained_0 4 rfl rfl)
theorem dX1_explained_5 : decode cX1_explained 5 = .ok (.aload_n 0, 1) := dk_42 (dk_at dksX1_explained_0 5 rfl rfl)
theorem dX1_explained_6 : decode cX1_explained 6 = .ok (.getfield 112, 3) := dk_180 0 112 (dk_at dksX1_explained_0 6 rfl rfl)
theorem dX1_explained_9 : decode cX1_explained 9 = .ok (.getfield 147, 3) := dk_180 0 147 (dk_at dksX1_explained_0 9 rfl rfl)
theorem dX1_explained_12 : decode cX1_explained 12 = .ok (.if_icmp .ge 110, 3) := dk_162 0 110 (dk_at dksX1_explained_0 12 rfl rfl)
theorem dX1_explained_15 : decode cX1_explained 15 = .ok (.iconst 0, 1) := dk_3 (dk_at dksX1_explained_0 15 rfl rfl)
theorem dX1_explained_16 : decode cX1_explained 16 = .ok (.istore 4, 2) := dk_54 4 (dk_at dksX1_explained_0 16 rfl rfl)
theorem dX1_explained_18 : decode cX1_explained 18 = .ok (.iload 4, 2) := dk_21 4 (dk_at dksX1_explained_0 18 rfl rfl)
theorem dX1_explained_20 : decode cX1_explained 20 = .ok (.aload_n 0, 1) := dk_42 (dk_at dksX1_explained_0 20 rfl rfl)
theorem dX1_explained_21 : decode cX1_explained 21 = .ok (.getfield 112, 3) := dk_180 0 112 (dk_at dksX1_explained_0 21 rfl rfl)
theorem dX1_explained_24 : decode cX1_explained 24 = .ok (.getfield 144, 3) := dk_180 0 144 (dk_at dksX1_explained_1 0 rfl rfl)
theorem dX1_explained_27 : decode cX1_explained 27 = .ok (.if_icmp .ge 89, 3) := dk_162 0 89 (dk_at dksX1_explained_1 3 rfl rfl)
theorem dX1_explained_30 : decode cX1_explained 30 = .ok (.iload 4, 2) := dk_21 4 (dk_at dksX1_explained_1 6 rfl rfl)
theorem dX1_explained_32 : decode cX1_explained 32 = .ok (.iconst 1, 1) := dk_4 (dk_at dksX1_explained_1 8 rfl rfl)
theorem dX1_explained_33 : decode cX1_explained 33 = .ok (.iadd, 1) := dk_96 (dk_at dksX1_explained_1 9 rfl rfl)
theorem dX1_explained_34 : decode cX1_explained 34 = .ok (.istore 5, 2) := dk_54 5 (dk_at dksX1_explained_1 10 rfl rfl)
theorem dX1_explained_36 : decode cX1_explained 36 = .ok (.iload 5, 2) := dk_21 5 (dk_at dksX1_explained_1 12 rfl rfl)
theorem dX1_explained_38 : decode cX1_explained 38 = .ok (.aload_n 0, 1) := dk_42 (dk_at dksX1_explained_1 14 rfl rfl)
theorem dX1_explained_39 : decode cX1_explained 39 = .ok (.getfield 112, 3) := dk_180 0 112 (dk_at dksX1_explained_1 15 rfl rfl)
theorem dX1_explained_42 : decode cX1_explained 42 = .ok (.getfield 144, 3) := dk_180 0 144 (dk_at dksX1_explained_1 18 rfl rfl)
theorem dX1_explained_45 : decode cX1_explained 45 = .ok (.if_icmp .ge 65, 3) := dk_162 0 65 (dk_at dksX1_explained_1 21 rfl rfl)
theorem dX1_explained_48 : decode cX1_explained 48 = .ok (.aload_n 0, 1) := dk_42 (dk_at dksX1_explained_2 0 rfl rfl)
theorem dX1_explained_49 : decode cX1_explained 49 = .ok (.getfield 73, 3) := dk_180 0 73 (dk_at dksX1_explained_2 1 rfl rfl)
theorem dX1_explained_52 : decode cX1_explained 52 = .ok (.iload_n 3, 1) := dk_29 (dk_at dksX1_explained_2 4 rfl rfl)
theorem dX1_explained_53 : decode cX1_explained 53 = .ok (.iload 4, 2) := dk_21 4 (dk_at dksX1_explained_2 5 rfl rfl)
theorem dX1_explained_55 : decode cX1_explained 55 = .ok (.iload 5, 2) := dk_21 5 (dk_at dksX1_explained_2 7 rfl rfl)
theorem dX1_explained_57 : decode cX1_explained 57 = .ok (.invokevirtual 316, 3) := dk_182 1 60 (dk_at dksX1_explained_2 9 rfl rfl)
theorem dX1_explained_60 : decode cX1_explained 60 = .ok (.aload_n 0, 1) := dk_42 (dk_at dksX1_explained_2 12 rfl rfl)
theorem dX1_explained_61 : decode cX1_explained 61 = .ok (.getfield 46, 3) := dk_180 0 46 (dk_at dksX1_explained_2 13 rfl rfl)
theorem dX1_explained_64 : decode cX1_explained 64 = .ok (.aload_n 0, 1) := dk_42 (dk_at dksX1_explained_2 16 rfl rfl)
theorem dX1_explained_65 : decode cX1_explained 65 = .ok (.getfield 112, 3) := dk_180 0 112 (dk_at dksX1_explained_2 17 rfl rfl)
theorem dX1_explained_68 : decode cX1_explained 68 = .ok (.aload_n 0, 1) := dk_42 (dk_at dksX1_explained_2 20 rfl rfl)
theorem dX1_explained_69 : decode cX1_explained 69 = .ok (.getfield 29, 3) := dk_180 0 29 (dk_at dksX1_explained_2 21 rfl rfl)
theorem dX1_explained_72 : decode cX1_explained 72 = .ok (.aload_n 0, 1) := dk_42 (dk_at dksX1_explained_3 0 rfl rfl)
theorem dX1_explained_73 : decode cX1_explained 73 = .ok (.getfield 73, 3) := dk_180 0 73 (dk_at dksX1_explained_3 1 rfl rfl)
theorem dX1_explained_76 : decode cX1_explained 76 = .ok (.invokevirtual 140, 3) := dk_182 0 140 (dk_at dksX1_explained_3 4 rfl rfl)
theorem dX1_explained_79 : decode cX1_explained 79 = .ok (.aload_n 0, 1) := dk_42 (dk_at dksX1_explained_3 7 rfl rfl)
theorem dX1_explained_80 : decode cX1_explained 80 = .ok (.getfield 46, 3) := dk_180 0 46 (dk_at dksX1_explained_3 8 rfl rfl)
theorem dX1_explained_83 : decode cX1_explained 83 = .ok (.invokevirtual 320, 3) := dk_182 1 64 (dk_at dksX1_explained_3 11 rfl rfl)
theorem dX1_explained_86 : decode cX1_explained 86 = .ok (.ifCond .ne 6, 3) := dk_154 0 6 (dk_at dksX1_explained_3 14 rfl rfl)
theorem dX1_explained_89 : decode cX1_explained 89 = .ok (.goto 15, 3) := dk_167 0 15 (dk_at dksX1_explained_3 17 rfl rfl)
theorem dX1_explained_92 : decode cX1_explained 92 = .ok (.iload_n 2, 1) := dk_28 (dk_at dksX1_explained_3 20 rfl rfl)
theorem dX1_explained_93 : decode cX1_explained 93 = .ok (.iload_n 1, 1) := dk_27 (dk_at dksX1_explained_3 21 rfl rfl)
theorem dX1_explained_94 : decode cX1_explained 94 = .ok (.if_icmp .ne 7, 3) := dk_160 0 7 (dk_at dksX1_explained_4 0 rfl rfl)
theorem dX1_explained_97 : decode cX1_explained 97 = .ok (.iload_n 2, 1) := dk_28 (dk_at dksX1_explained_4 3 rfl rfl)
theorem dX1_explained_98 : decode cX1_explained 98 = .ok (.iconst 1, 1) := dk_4 (dk_at dksX1_explained_4 4 rfl rfl)
theorem dX1_explained_99 : decode cX1_explained 99 = .ok (.iadd, 1) := dk_96 (dk_at dksX1_explained_4 5 rfl rfl)
theorem dX1_explained_100 : decode cX1_explained 100 = .ok (.ireturn, 1) := dk_172 (dk_at dksX1_explained_4 6 rfl rfl)
theorem dX1_explained_101 : decode cX1_explained 101 = .ok (.iinc 2 1, 3) := dk_132 2 1 (dk_at dksX1_explained_4 7 rfl rfl)
theorem dX1_explained_104 : decode cX1_explained 104 = .ok (.iinc 5 1, 3) := dk_132 5 1 (dk_at dksX1_explained_4 10 rfl rfl)
theorem dX1_explained_107 : decode cX1_explained 107 = .ok (.goto (-71), 3) := dk_167 255 185 (dk_at dksX1_explained_4 13 rfl rfl)
theorem dX1_explained_110 : decode cX1_explained 110 = .ok (.iinc 4 1, 3) := dk_132 4 1 (dk_at dksX1_explained_4 16 rfl rfl)
theorem dX1_explained_113 : decode cX1_explained 113 = .ok (.goto (-95), 3) := dk_167 255 161 (dk_at dksX1_explained_4 19 rfl rfl)
theorem dX1_explained_116 : decode cX1_explained 116 = .ok (.iinc 3 1, 3) := dk_132 3 1 (dk_at dksX1_explained_5 0 rfl rfl)
theorem dX1_explained_119 : decode cX1_explained 119 = .ok (.goto (-115), 3) := dk_167 255 141 (dk_at dksX1_explained_5 3 rfl rfl)
theorem dX1_explained_122 : decode cX1_explained 122 = .ok (.iload_n 2, 1) := dk_28 (dk_at dksX1_explained_5 6 rfl rfl)
theorem dX1_explained_123 : decode cX1_explained 123 = .ok (.ireturn, 1) := dk_172 (dk_at dksX1_explained_5 7 rfl rfl)
abbrev cX1_explain : ByteArray := prog_1_method_54_code
def yX1_explain : MethodName := ⟨RX1, "explain", "(II)I"⟩
def dkwX1_explain_4 : List UInt8 := [180, 0, 73, 180, 1, 78, 172]
abbrev dktX1_explain_4 : List UInt8 := dkwX1_explain_4 ++ []
def dkwX1_explain_3 : List UInt8 := [180, 1, 74, 167, 0, 25, 28, 4, 160, 0, 13, 42, 180, 0, 73, 180, 1, 77, 167, 0, 10, 42]
abbrev dktX1_explain_3 : List UInt8 := dkwX1_explain_3 ++ dktX1_explain_4
def dkwX1_explain_2 : List UInt8 := [27, 182, 1, 71, 27, 163, 0, 9, 42, 4, 182, 0, 101, 172, 28, 154, 0, 13, 42, 180, 0, 73]
abbrev dktX1_explain_2 : List UInt8 := dkwX1_explain_2 ++ dktX1_explain_3
def dkwX1_explain_1 : List UInt8 := [182, 0, 101, 172, 42, 182, 1, 68, 62, 29, 153, 0, 9, 42, 29, 182, 0, 101, 172, 27, 155, 0, 12, 42]
abbrev dktX1_explain_1 : List UInt8 := dkwX1_explain_1 ++ dktX1_explain_2
def dkwX1_explain_0 : List UInt8 := [42, 182, 0, 87, 42, 180, 0, 112, 198, 0, 12, 28, 3, 5, 184, 0, 97, 154, 0, 9, 42, 4]
abbrev dktX1_explain_0 : List UInt8 := dkwX1_explain_0 ++ dktX1_explain_1
theorem dksX1_explain_0 : cX1_explain.data.toList.drop 0 = dktX1_explain_0 := by decide +kernel
theorem dksX1_explain_1 : cX1_explain.data.toList.drop 22 = dktX1_explain_1 := dk_seg dksX1_explain_0 22 rfl rfl
theorem dksX1_explain_2 : cX1_explain.data.toList.drop 46 = dktX1_explain_2 := dk_seg dksX1_explain_1 24 rfl rfl
theorem dksX1_explain_3 : cX1_explain.data.toList.drop 68 = dktX1_explain_3 := dk_seg dksX1_explain_2 22 rfl rfl
theorem dksX1_explain_4 : cX1_explain.data.toList.drop 90 = dktX1_explain_4 := dk_seg dksX1_explain_3 22 rfl rfl
theorem dX1_explain_0 : decode cX1_explain 0 = .ok (.aload_n 0, 1) := dk_42 (dk_at dksX1_explain_0 0 rfl rfl)
theorem dX1_explain_1 : decode cX1_explain 1 = .ok (.invokevirtual 87, 3) := dk_182 0 87 (dk_at dksX1_explain_0 1 rfl rfl)
theorem dX1_explain_4 : decode cX1_explain 4 = .ok (.aload_n 0, 1) := dk_42 (dk_at dksX1_explain_0 4 rfl rfl)
theorem dX1_explain_5 : decode cX1_explain 5 = .ok (.getfield 112, 3) := dk_180 0 112 (dk_at dksX1_explain_0 5 rfl rfl)
theorem dX1_explain_8 : decode cX1_explain 8 = .ok (.ifnull 12, 3) := dk_198 0 12 (dk_at dksX1_explain_0 8 rfl rfl)
theorem dX1_explain_11 : decode cX1_explain 11 = .ok (.iload_n 2, 1) := dk_28 (dk_at dksX1_explain_0 11 rfl rfl)
theorem dX1_explain_12 : decode cX1_explain 12 = .ok (.iconst 0, 1) := dk_3 (dk_at dksX1_explain_0 12 rfl rfl)
theorem dX1_explain_13 : decode cX1_explain 13 = .ok (.iconst 2, 1) := dk_5 (dk_at dksX1_explain_0 13 rfl rfl)
theorem dX1_explain_14 : decode cX1_explain 14 = .ok (.invokestatic 97, 3) := dk_184 0 97 (dk_at dksX1_explain_0 14 rfl rfl)
theorem dX1_explain_17 : decode cX1_explain 17 = .ok (.ifCond .ne 9, 3) := dk_154 0 9 (dk_at dksX1_explain_0 17 rfl rfl)
theorem dX1_explain_20 : decode cX1_explain 20 = .ok (.aload_n 0, 1) := dk_42 (dk_at dksX1_explain_0 20 rfl rfl)
theorem dX1_explain_21 : decode cX1_explain 21 = .ok (.iconst 1, 1) := dk_4 (dk_at dksX1_explain_0 21 rfl rfl)
theorem dX1_explain_22 : decode cX1_explain 22 = .ok (.invokevirtual 101, 3) := dk_182 0 101 (dk_at dksX1_explain_1 0 rfl rfl)
theorem dX1_explain_25 : decode cX1_explain 25 = .ok (.ireturn, 1) := dk_172 (dk_at dksX1_explain_1 3 rfl rfl)
theorem dX1_explain_26 : decode cX1_explain 26 = .ok (.aload_n 0, 1) := dk_42 (dk_at dksX1_explain_1 4 rfl rfl)
theorem dX1_explain_27 : decode cX1_explain 27 = .ok (.invokevirtual 324, 3) := dk_182 1 68 (dk_at dksX1_explain_1 5 rfl rfl)
theorem dX1_explain_30 : decode cX1_explain 30 = .ok (.istore_n 3, 1) := dk_62 (dk_at dksX1_explain_1 8 rfl rfl)
theorem dX1_explain_31 : decode cX1_explain 31 = .ok (.iload_n 3, 1) := dk_29 (dk_at dksX1_explain_1 9 rfl rfl)
theorem dX1_explain_32 : decode cX1_explain 32 = .ok (.ifCond .eq 9, 3) := dk_153 0 9 (dk_at dksX1_explain_1 10 rfl rfl)
theorem dX1_explain_35 : decode cX1_explain 35 = .ok (.aload_n 0, 1) := dk_42 (dk_at dksX1_explain_1 13 rfl rfl)
theorem dX1_explain_36 : decode cX1_explain 36 = .ok (.iload_n 3, 1) := dk_29 (dk_at dksX1_explain_1 14 rfl rfl)
theorem dX1_explain_37 : decode cX1_explain 37 = .ok (.invokevirtual 101, 3) := dk_182 0 101 (dk_at dksX1_explain_1 15 rfl rfl)
theorem dX1_explain_40 : decode cX1_explain 40 = .ok (.ireturn, 1) := dk_172 (dk_at dksX1_explain_1 18 rfl rfl)
theorem dX1_explain_41 : decode cX1_explain 41 = .ok (.iload_n 1, 1) := dk_27 (dk_at dksX1_explain_1 19 rfl rfl)
theorem dX1_explain_42 : decode cX1_explain 42 = .ok (.ifCond .lt 12, 3) := dk_155 0 12 (dk_at dksX1_explain_1 20 rfl rfl)
theorem dX1_explain_45 : decode cX1_explain 45 = .ok (.aload_n 0, 1) := dk_42 (dk_at dksX1_explain_1 23 rfl rfl)
theorem dX1_explain_46 : decode cX1_explain 46 = .ok (.iload_n 1, 1) := dk_27 (dk_at dksX1_explain_2 0 rfl rfl)
theorem dX1_explain_47 : decode cX1_explain 47 = .ok (.invokevirtual 327, 3) := dk_182 1 71 (dk_at dksX1_explain_2 1 rfl rfl)
theorem dX1_explain_50 : decode cX1_explain 50 = .ok (.iload_n 1, 1) := dk_27 (dk_at dksX1_explain_2 4 rfl rfl)
theorem dX1_explain_51 : decode cX1_explain 51 = .ok (.if_icmp .gt 9, 3) := dk_163 0 9 (dk_at dksX1_explain_2 5 rfl rfl)
theorem dX1_explain_54 : decode cX1_explain 54 = .ok (.aload_n 0, 1) := dk_42 (dk_at dksX1_explain_2 8 rfl rfl)
theorem dX1_explain_55 : decode cX1_explain 55 = .ok (.iconst 1, 1) := dk_4 (dk_at dksX1_explain_2 9 rfl rfl)
theorem dX1_explain_56 : decode cX1_explain 56 = .ok (.invokevirtual 101, 3) := dk_182 0 101 (dk_at dksX1_explain_2 10 rfl rfl)
theorem dX1_explain_59 : decode cX1_explain 59 = .ok (.ireturn, 1) := dk_172 (dk_at dksX1_explain_2 13 rfl rfl)
theorem dX1_explain_60 : decode cX1_explain 60 = .ok (.iload_n 2, 1) := dk_28 (dk_at dksX1_explain_2 14 rfl rfl)
theorem dX1_explain_61 : decode cX1_explain 61 = .ok (.ifCond .ne 13, 3) := dk_154 0 13 (dk_at dksX1_explain_2 15 rfl rfl)
theorem dX1_explain_64 : decode cX1_explain 64 = .ok (.aload_n 0, 1) := dk_42 (dk_at dksX1_explain_2 18 rfl rfl)
theorem dX1_explain_65 : decode cX1_explain 65 = .ok (.getfield 73, 3) := dk_180 0 73 (dk_at dksX1_explain_2 19 rfl rfl)
theorem dX1_explain_68 : decode cX1_explain 68 = .ok (.getfield 330, 3) := dk_180 1 74 (dk_at dksX1_explain_3 0 rfl rfl)
theorem dX1_explain_71 : decode cX1_explain 71 = .ok (.goto 25, 3) := dk_167 0 25 (dk_at dksX1_explain_3 3 rfl rfl)
theorem dX1_explain_74 : decode cX1_explain 74 = .ok (.iload_n 2, 1) := dk_28 (dk_at dksX1_explain_3 6 rfl rfl)
theorem dX1_explain_75 : decode cX1_explain 75 = .ok (.iconst 1, 1) := dk_4 (dk_at dksX1_explain_3 7 rfl rfl)
theorem dX1_explain_76 : decode cX1_explain 76 = .ok (.if_icmp .ne 13, 3) := dk_160 0 13 (dk_at dksX1_explain_3 8 rfl rfl)
theorem dX1_explain_79 : decode cX1_explain 79 = .ok (.aload_n 0, 1) := dk_42 (dk_at dksX1_explain_3 11 rfl rfl)
theorem dX1_explain_80 : decode cX1_explain 80 = .ok (.getfield 73, 3) := dk_180 0 73 (dk_at dksX1_explain_3 12 rfl rfl)
theorem dX1_explain_83 : decode cX1_explain 83 = .ok (.getfield 333, 3) := dk_180 1 77 (dk_at dksX1_explain_3 15 rfl rfl)
theorem dX1_explain_86 : decode cX1_explain 86 = .ok (.goto 10, 3) := dk_167 0 10 (dk_at dksX1_explain_3 18 rfl rfl)
theorem dX1_explain_89 : decode cX1_explain 89 = .ok (.aload_n 0, 1) := dk_42 (dk_at dksX1_explain_3 21 rfl rfl)
theorem dX1_explain_90 : decode cX1_explain 90 = .ok (.getfield 73, 3) := dk_180 0 73 (dk_at dksX1_explain_4 0 rfl rfl)
theorem dX1_explain_93 : decode cX1_explain 93 = .ok (.getfield 334, 3) := dk_180 1 78 (dk_at dksX1_explain_4 3 rfl rfl)
theorem dX1_explain_96 : decode cX1_explain 96 = .ok (.ireturn, 1) := dk_172 (dk_at dksX1_explain_4 6 rfl rfl)
abbrev cX1_isTrue : ByteArray := prog_1_method_56_code
def yX1_isTrue : MethodName := ⟨RX1, "isTrue", "(I)I"⟩
def dkwX1_isTrue_2 : List UInt8 := [167, 0, 12, 3, 167, 0, 8, 42, 4, 182, 0, 101, 172]
abbrev dktX1_isTrue_2 : List UInt8 := dkwX1_isTrue_2 ++ []
def dkwX1_isTrue_1 : List UInt8 := [184, 0, 97, 153, 0, 27, 42, 42, 180, 0, 112, 180, 1, 91, 27, 50, 182, 1, 95, 153, 0, 7, 4]
abbrev dktX1_isTrue_1 : List UInt8 := dkwX1_isTrue_1 ++ dktX1_isTrue_2
def dkwX1_isTrue_0 : List UInt8 := [42, 182, 0, 87, 42, 180, 0, 112, 198, 0, 44, 27, 3, 42, 180, 0, 112, 180, 1, 88, 4, 100]
abbrev dktX1_isTrue_0 : List UInt8 := dkwX1_isTrue_0 ++ dktX1_isTrue_1
theorem dksX1_isTrue_0 : cX1_isTrue.data.toList.drop 0 = dktX1_isTrue_0 := by decide +kernel
theorem dksX1_isTrue_1 : cX1_isTrue.data.toList.drop 22 = dktX1_isTrue_1 := dk_seg dksX1_isTrue_0 22 rfl rfl
theorem dksX1_isTrue_2 : cX1_isTrue.data.toList.drop 45 = dktX1_isTrue_2 := dk_seg dksX1_isTrue_1 23 rfl rfl
theorem dX1_isTrue_0 : decode cX1_isTrue 0 = .ok (.aload_n 0, 1) := dk_42 (dk_at dksX1_isTrue_0 0 rfl rfl)
theorem dX1_isTrue_1 : decode cX1_isTrue 1 = .ok (.invokevirtual 87, 3) := dk_182 0 87 (dk_at dksX1_isTrue_0 1 rfl rfl)
theorem dX1_isTrue_4 : decode cX1_isTrue 4 = .ok (.aload_n 0, 1) := dk_42 (dk_at dksX1_isTrue_0 4 rfl rfl)
theorem dX1_isTrue_5 : decode cX1_isTrue 5 = .ok (.getfield 112, 3) := dk_180 0 112 (dk_at dksX1_isTrue_0 5 rfl rfl)
theorem dX1_isTrue_8 : decode cX1_isTrue 8 = .ok (.ifnull 44, 3) := dk_198 0 44 (dk_at dksX1_isTrue_0 8 rfl rfl)
theorem dX1_isTrue_11 : decode cX1_isTrue 11 = .ok (.iload_n 1, 1) := dk_27 (dk_at dksX1_isTrue_0 11 rfl rfl)
theorem dX1_isTrue_12 : decode cX1_isTrue 12 = .ok (.iconst 0, 1) := dk_3 (dk_at dksX1_isTrue_0 12 rfl rfl)
theorem dX1_isTrue_13 : decode cX1_isTrue 13 = .ok (.aload_n 0, 1) := dk_42 (dk_at dksX1_isTrue_0 13 rfl rfl)
theorem dX1_isTrue_14 : decode cX1_isTrue 14 = .ok (.getfield 112, 3) := dk_180 0 112 (dk_at dksX1_isTrue_0 14 rfl rfl)
theorem dX1_isTrue_17 : decode cX1_isTrue 17 = .ok (.getfield 344, 3) := dk_180 1 88 (dk_at dksX1_isTrue_0 17 rfl rfl)
theorem dX1_isTrue_20 : decode cX1_isTrue 20 = .ok (.iconst 1, 1) := dk_4 (dk_at dksX1_isTrue_0 20 rfl rfl)
theorem dX1_isTrue_21 : decode cX1_isTrue 21 = .ok (.isub, 1) := dk_100 (dk_at dksX1_isTrue_0 21 rfl rfl)
theorem dX1_isTrue_22 : decode cX1_isTrue 22 = .ok (.invokestatic 97, 3) := dk_184 0 97 (dk_at dksX1_isTrue_1 0 rfl rfl)
theorem dX1_isTrue_25 : decode cX1_isTrue 25 = .ok (.ifCond .eq 27, 3) := dk_153 0 27 (dk_at dksX1_isTrue_1 3 rfl rfl)
theorem dX1_isTrue_28 : decode cX1_isTrue 28 = .ok (.aload_n 0, 1) := dk_42 (dk_at dksX1_isTrue_1 6 rfl rfl)
theorem dX1_isTrue_29 : decode cX1_isTrue 29 = .ok (.aload_n 0, 1) := dk_42 (dk_at dksX1_isTrue_1 7 rfl rfl)
theorem dX1_isTrue_30 : decode cX1_isTrue 30 = .ok (.getfield 112, 3) := dk_180 0 112 (dk_at dksX1_isTrue_1 8 rfl rfl)
theorem dX1_isTrue_33 : decode cX1_isTrue 33 = .ok (.getfield 347, 3) := dk_180 1 91 (dk_at dksX1_isTrue_1 11 rfl rfl)
theorem dX1_isTrue_36 : decode cX1_isTrue 36 = .ok (.iload_n 1, 1) := dk_27 (dk_at dksX1_isTrue_1 14 rfl rfl)
theorem dX1_isTrue_37 : decode cX1_isTrue 37 = .ok (.aaload, 1) := dk_50 (dk_at dksX1_isTrue_1 15 rfl rfl)
theorem dX1_isTrue_38 : decode cX1_isTrue 38 = .ok (.invokevirtual 351, 3) := dk_182 1 95 (dk_at dksX1_isTrue_1 16 rfl rfl)
theorem dX1_isTrue_41 : decode cX1_isTrue 41 = .ok (.ifCond .eq 7, 3) := dk_153 0 7 (dk_at dksX1_isTrue_1 19 rfl rfl)
theorem dX1_isTrue_44 : decode cX1_isTrue 44 = .ok (.iconst 1, 1) := dk_4 (dk_at dksX1_isTrue_1 22 rfl rfl)
theorem dX1_isTrue_45 : decode cX1_isTrue 45 = .ok (.goto 12, 3) := dk_167 0 12 (dk_at dksX1_isTrue_2 0 rfl rfl)
theorem dX1_isTrue_48 : decode cX1_isTrue 48 = .ok (.iconst 0, 1) := dk_3 (dk_at dksX1_isTrue_2 3 rfl rfl)
theorem dX1_isTrue_49 : decode cX1_isTrue 49 = .ok (.goto 8, 3) := dk_167 0 8 (dk_at dksX1_isTrue_2 4 rfl rfl)
theorem dX1_isTrue_52 : decode cX1_isTrue 52 = .ok (.aload_n 0, 1) := dk_42 (dk_at dksX1_isTrue_2 7 rfl rfl)
theorem dX1_isTrue_53 : decode cX1_isTrue 53 = .ok (.iconst 1, 1) := dk_4 (dk_at dksX1_isTrue_2 8 rfl rfl)
theorem dX1_isTrue_54 : decode cX1_isTrue 54 = .ok (.invokevirtual 101, 3) := dk_182 0 101 (dk_at dksX1_isTrue_2 9 rfl rfl)
theorem dX1_isTrue_57 : decode cX1_isTrue 57 = .ok (.ireturn, 1) := dk_172 (dk_at dksX1_isTrue_2 12 rfl rfl)
abbrev cX1_isSo : ByteArray := prog_1_method_55_code
def yX1_isSo : MethodName := ⟨RX1, "isSo", "(LBrushGlass$Saying;)Z"⟩
def dkwX1_isSo_1 : List UInt8 := [167, 0, 4, 3, 172]
abbrev dktX1_isSo_1 : List UInt8 := dkwX1_isSo_1 ++ []
def dkwX1_isSo_0 : List UInt8 := [42, 180, 0, 42, 43, 180, 1, 81, 43, 180, 1, 84, 182, 0, 246, 43, 180, 1, 87, 160, 0, 7, 4]
abbrev dktX1_isSo_0 : List UInt8 := dkwX1_isSo_0 ++ dktX1_isSo_1
theorem dksX1_isSo_0 : cX1_isSo.data.toList.drop 0 = dktX1_isSo_0 := by decide +kernel
theorem dksX1_isSo_1 : cX1_isSo.data.toList.drop 23 = dktX1_isSo_1 := dk_seg dksX1_isSo_0 23 rfl rfl
theorem dX1_isSo_0 : decode cX1_isSo 0 = .ok (.aload_n 0, 1) := dk_42 (dk_at dksX1_isSo_0 0 rfl rfl)
theorem dX1_isSo_1 : decode cX1_isSo 1 = .ok (.getfield 42, 3) := dk_180 0 42 (dk_at dksX1_isSo_0 1 rfl rfl)
theorem dX1_isSo_4 : decode cX1_isSo 4 = .ok (.aload_n 1, 1) := dk_43 (dk_at dksX1_isSo_0 4 rfl rfl)
theorem dX1_isSo_5 : decode cX1_isSo 5 = .ok (.getfield 337, 3) := dk_180 1 81 (dk_at dksX1_isSo_0 5 rfl rfl)
theorem dX1_isSo_8 : decode cX1_isSo 8 = .ok (.aload_n 1, 1) := dk_43 (dk_at dksX1_isSo_0 8 rfl rfl)
theorem dX1_isSo_9 : decode cX1_isSo 9 = .ok (.getfield 340, 3) := dk_180 1 84 (dk_at dksX1_isSo_0 9 rfl rfl)
theorem dX1_isSo_12 : decode cX1_isSo 12 = .ok (.invokevirtual 246, 3) := dk_182 0 246 (dk_at dksX1_isSo_0 12 rfl rfl)
theorem dX1_isSo_15 : decode cX1_isSo 15 = .ok (.aload_n 1, 1) := dk_43 (dk_at dksX1_isSo_0 15 rfl rfl)
theorem dX1_isSo_16 : decode cX1_isSo 16 = .ok (.getfield 343, 3) := dk_180 1 87 (dk_at dksX1_isSo_0 16 rfl rfl)
theorem dX1_isSo_19 : decode cX1_isSo 19 = .ok (.if_icmp .ne 7, 3) := dk_160 0 7 (dk_at dksX1_isSo_0 19 rfl rfl)
theorem dX1_isSo_22 : decode cX1_isSo 22 = .ok (.iconst 1, 1) := dk_4 (dk_at dksX1_isSo_0 22 rfl rfl)
theorem dX1_isSo_23 : decode cX1_isSo 23 = .ok (.goto 4, 3) := dk_167 0 4 (dk_at dksX1_isSo_1 0 rfl rfl)
theorem dX1_isSo_26 : decode cX1_isSo 26 = .ok (.iconst 0, 1) := dk_3 (dk_at dksX1_isSo_1 3 rfl rfl)
theorem dX1_isSo_27 : decode cX1_isSo 27 = .ok (.ireturn, 1) := dk_172 (dk_at dksX1_isSo_1 4 rfl rfl)
abbrev cX1_wrongOnes : ByteArray := prog_1_method_57_code
def yX1_wrongOnes : MethodName := ⟨RX1, "wrongOnes", "()I"⟩
def dkwX1_wrongOnes_3 : List UInt8 := [132, 2, 1, 167, 255, 205, 27, 172]
abbrev dktX1_wrongOnes_3 : List UInt8 := dkwX1_wrongOnes_3 ++ []
def dkwX1_wrongOnes_2 : List UInt8 := [153, 0, 7, 3, 167, 0, 17, 4, 42, 180, 0, 112, 180, 1, 91, 28, 50, 180, 1, 84, 120, 128, 60]
abbrev dktX1_wrongOnes_2 : List UInt8 := dkwX1_wrongOnes_2 ++ dktX1_wrongOnes_3
def dkwX1_wrongOnes_1 : List UInt8 := [180, 0, 112, 180, 1, 88, 162, 0, 46, 27, 42, 42, 180, 0, 112, 180, 1, 91, 28, 50, 182, 1, 95]
abbrev dktX1_wrongOnes_1 : List UInt8 := dkwX1_wrongOnes_1 ++ dktX1_wrongOnes_2
def dkwX1_wrongOnes_0 : List UInt8 := [42, 182, 0, 87, 42, 180, 0, 112, 199, 0, 9, 42, 4, 182, 0, 101, 172, 3, 60, 3, 61, 28, 42]
abbrev dktX1_wrongOnes_0 : List UInt8 := dkwX1_wrongOnes_0 ++ dktX1_wrongOnes_1
theorem dksX1_wrongOnes_0 : cX1_wrongOnes.data.toList.drop 0 = dktX1_wrongOnes_0 := by decide +kernel
theorem dksX1_wrongOnes_1 : cX1_wrongOnes.data.toList.drop 23 = dktX1_wrongOnes_1 := dk_seg dksX1_wrongOnes_0 23 rfl rfl
theorem dksX1_wrongOnes_2 : cX1_wrongOnes.data.toList.drop 46 = dktX1_wrongOnes_2 := dk_seg dksX1_wrongOnes_1 23 rfl rfl
theorem dksX1_wrongOnes_3 : cX1_wrongOnes.data.toList.drop 69 = dktX1_wrongOnes_3 := dk_seg dksX1_wrongOnes_2 23 rfl rfl
theorem dX1_wrongOnes_0 : decode cX1_wrongOnes 0 = .ok (.aload_n 0, 1) := dk_42 (dk_at dksX1_wrongOnes_0 0 rfl rfl)
theorem dX1_wrongOnes_1 : decode cX1_wrongOnes 1 = .ok (.invokevirtual 87, 3) := dk_182 0 87 (dk_at dksX1_wrongOnes_0 1 rfl rfl)
theorem dX1_wrongOnes_4 : decode cX1_wrongOnes 4 = .ok (.aload_n 0, 1) := dk_42 (dk_at dksX1_wrongOnes_0 4 rfl rfl)
theorem dX1_wrongOnes_5 : decode cX1_wrongOnes 5 = .ok (.getfield 112, 3) := dk_180 0 112 (dk_at dksX1_wrongOnes_0 5 rfl rfl)
theorem dX1_wrongOnes_8 : decode cX1_wrongOnes 8 = .ok (.ifnonnull 9, 3) := dk_199 0 9 (dk_at dksX1_wrongOnes_0 8 rfl rfl)
theorem dX1_wrongOnes_11 : decode cX1_wrongOnes 11 = .ok (.aload_n 0, 1) := dk_42 (dk_at dksX1_wrongOnes_0 11 rfl rfl)
theorem dX1_wrongOnes_12 : decode cX1_wrongOnes 12 = .ok (.iconst 1, 1) := dk_4 (dk_at dksX1_wrongOnes_0 12 rfl rfl)
theorem dX1_wrongOnes_13 : decode cX1_wrongOnes 13 = .ok (.invokevirtual 101, 3) := dk_182 0 101 (dk_at dksX1_wrongOnes_0 13 rfl rfl)
theorem dX1_wrongOnes_16 : decode cX1_wrongOnes 16 = .ok (.ireturn, 1) := dk_172 (dk_at dksX1_wrongOnes_0 16 rfl rfl)
theorem dX1_wrongOnes_17 : decode cX1_wrongOnes 17 = .ok (.iconst 0, 1) := dk_3 (dk_at dksX1_wrongOnes_0 17 rfl rfl)
theorem dX1_wrongOnes_18 : decode cX1_wrongOnes 18 = .ok (.istore_n 1, 1) := dk_60 (dk_at dksX1_wrongOnes_0 18 rfl rfl)
theorem dX1_wrongOnes_19 : decode cX1_wrongOnes 19 = .ok (.iconst 0, 1) := dk_3 (dk_at dksX1_wrongOnes_0 19 rfl rfl)
theorem dX1_wrongOnes_20 : decode cX1_wrongOnes 20 = .ok (.istore_n 2, 1) := dk_61 (dk_at dksX1_wrongOnes_0 20 rfl rfl)
theorem dX1_wrongOnes_21 : decode cX1_wrongOnes 21 = .ok (.iload_n 2, 1) := dk_28 (dk_at dksX1_wrongOnes_0 21 rfl rfl)
theorem dX1_wrongOnes_22 : decode cX1_wrongOnes 22 = .ok (.aload_n 0, 1) := dk_42 (dk_at dksX1_wrongOnes_0 22 rfl rfl)
theorem dX1_wrongOnes_23 : decode cX1_wrongOnes 23 = .ok (.getfield 112, 3) := dk_180 0 112 (dk_at dksX1_wrongOnes_1 0 rfl rfl)
theorem dX1_wrongOnes_26 : decode cX1_wrongOnes 26 = .ok (.getfield 344, 3) := dk_180 1 88 (dk_at dksX1_wrongOnes_1 3 rfl rfl)
theorem dX1_wrongOnes_29 : decode cX1_wrongOnes 29 = .ok (.if_icmp .ge 46, 3) := dk_162 0 46 (dk_at dksX1_wrongOnes_1 6 rfl rfl)
theorem dX1_wrongOnes_32 : decode cX1_wrongOnes 32 = .ok (.iload_n 1, 1) := dk_27 (dk_at dksX1_wrongOnes_1 9 rfl rfl)
theorem dX1_wrongOnes_33 : decode cX1_wrongOnes 33 = .ok (.aload_n 0, 1) := dk_42 (dk_at dksX1_wrongOnes_1 10 rfl rfl)
theorem dX1_wrongOnes_34 : decode cX1_wrongOnes 34 = .ok (.aload_n 0, 1) := dk_42 (dk_at dksX1_wrongOnes_1 11 rfl rfl)
theorem dX1_wrongOnes_35 : decode cX1_wrongOnes 35 = .ok (.getfield 112, 3) := dk_180 0 112 (dk_at dksX1_wrongOnes_1 12 rfl rfl)
theorem dX1_wrongOnes_38 : decode cX1_wrongOnes 38 = .ok (.getfield 347, 3) := dk_180 1 91 (dk_at dksX1_wrongOnes_1 15 rfl rfl)
theorem dX1_wrongOnes_41 : decode cX1_wrongOnes 41 = .ok (.iload_n 2, 1) := dk_28 (dk_at dksX1_wrongOnes_1 18 rfl rfl)
theorem dX1_wrongOnes_42 : decode cX1_wrongOnes 42 = .ok (.aaload, 1) := dk_50 (dk_at dksX1_wrongOnes_1 19 rfl rfl)
theorem dX1_wrongOnes_43 : decode cX1_wrongOnes 43 = .ok (.invokevirtual 351, 3) := dk_182 1 95 (dk_at dksX1_wrongOnes_1 20 rfl rfl)
theorem dX1_wrongOnes_46 : decode cX1_wrongOnes 46 = .ok (.ifCond .eq 7, 3) := dk_153 0 7 (dk_at dksX1_wrongOnes_2 0 rfl rfl)
theorem dX1_wrongOnes_49 : decode cX1_wrongOnes 49 = .ok (.iconst 0, 1) := dk_3 (dk_at dksX1_wrongOnes_2 3 rfl rfl)
theorem dX1_wrongOnes_50 : decode cX1_wrongOnes 50 = .ok (.goto 17, 3) := dk_167 0 17 (dk_at dksX1_wrongOnes_2 4 rfl rfl)
theorem dX1_wrongOnes_53 : decode cX1_wrongOnes 53 = .ok (.iconst 1, 1) := dk_4 (dk_at dksX1_wrongOnes_2 7 rfl rfl)
theorem dX1_wrongOnes_54 : decode cX1_wrongOnes 54 = .ok (.aload_n 0, 1) := dk_42 (dk_at dksX1_wrongOnes_2 8 rfl rfl)
theorem dX1_wrongOnes_55 : decode cX1_wrongOnes 55 = .ok (.getfield 112, 3) := dk_180 0 112 (dk_at dksX1_wrongOnes_2 9 rfl rfl)
theorem dX1_wrongOnes_58 : decode cX1_wrongOnes 58 = .ok (.getfield 347, 3) := dk_180 1 91 (dk_at dksX1_wrongOnes_2 12 rfl rfl)
theorem dX1_wrongOnes_61 : decode cX1_wrongOnes 61 = .ok (.iload_n 2, 1) := dk_28 (dk_at dksX1_wrongOnes_2 15 rfl rfl)
theorem dX1_wrongOnes_62 : decode cX1_wrongOnes 62 = .ok (.aaload, 1) := dk_50 (dk_at dksX1_wrongOnes_2 16 rfl rfl)
theorem dX1_wrongOnes_63 : decode cX1_wrongOnes 63 = .ok (.getfield 340, 3) := dk_180 1 84 (dk_at dksX1_wrongOnes_2 17 rfl rfl)
theorem dX1_wrongOnes_66 : decode cX1_wrongOnes 66 = .ok (.ishl, 1) := dk_120 (dk_at dksX1_wrongOnes_2 20 rfl rfl)
theorem dX1_wrongOnes_67 : decode cX1_wrongOnes 67 = .ok (.ior, 1) := dk_128 (dk_at dksX1_wrongOnes_2 21 rfl rfl)
theorem dX1_wrongOnes_68 : decode cX1_wrongOnes 68 = .ok (.istore_n 1, 1) := dk_60 (dk_at dksX1_wrongOnes_2 22 rfl rfl)
theorem dX1_wrongOnes_69 : decode cX1_wrongOnes 69 = .ok (.iinc 2 1, 3) := dk_132 2 1 (dk_at dksX1_wrongOnes_3 0 rfl rfl)
theorem dX1_wrongOnes_72 : decode cX1_wrongOnes 72 = .ok (.goto (-51), 3) := dk_167 255 205 (dk_at dksX1_wrongOnes_3 3 rfl rfl)
theorem dX1_wrongOnes_75 : decode cX1_wrongOnes 75 = .ok (.iload_n 1, 1) := dk_27 (dk_at dksX1_wrongOnes_3 6 rfl rfl)
theorem dX1_wrongOnes_76 : decode cX1_wrongOnes 76 = .ok (.ireturn, 1) := dk_172 (dk_at dksX1_wrongOnes_3 7 rfl rfl)
abbrev cX1_pairings : ByteArray := prog_1_method_58_code
def yX1_pairings : MethodName := ⟨RX1, "pairings", "(I)I"⟩
def dkwX1_pairings_2 : List UInt8 := [182, 1, 99, 42, 180, 0, 52, 180, 1, 103, 172]
abbrev dktX1_pairings_2 : List UInt8 := dkwX1_pairings_2 ++ []
def dkwX1_pairings_1 : List UInt8 := [153, 0, 9, 42, 28, 182, 0, 101, 172, 42, 180, 0, 52, 42, 180, 0, 112, 42, 180, 0, 42, 27, 3]
abbrev dktX1_pairings_1 : List UInt8 := dkwX1_pairings_1 ++ dktX1_pairings_2
def dkwX1_pairings_0 : List UInt8 := [42, 182, 0, 87, 42, 42, 180, 0, 112, 198, 0, 7, 4, 167, 0, 4, 3, 27, 182, 0, 195, 61, 28]
abbrev dktX1_pairings_0 : List UInt8 := dkwX1_pairings_0 ++ dktX1_pairings_1
theorem dksX1_pairings_0 : cX1_pairings.data.toList.drop 0 = dktX1_pairings_0 := by decide +kernel
theorem dksX1_pairings_1 : cX1_pairings.data.toList.drop 23 = dktX1_pairings_1 := dk_seg dksX1_pairings_0 23 rfl rfl
theorem dksX1_pairings_2 : cX1_pairings.data.toList.drop 46 = dktX1_pairings_2 := dk_seg dksX1_pairings_1 23 rfl rfl
theorem dX1_pairings_0 : decode cX1_pairings 0 = .ok (.aload_n 0, 1) := dk_42 (dk_at dksX1_pairings_0 0 rfl rfl)
theorem dX1_pairings_1 : decode cX1_pairings 1 = .ok (.invokevirtual 87, 3) := dk_182 0 87 (dk_at dksX1_pairings_0 1 rfl rfl)
theorem dX1_pairings_4 : decode cX1_pairings 4 = .ok (.aload_n 0, 1) := dk_42 (dk_at dksX1_pairings_0 4 rfl rfl)
theorem dX1_pairings_5 : decode cX1_pairings 5 = .ok (.aload_n 0, 1) := dk_42 (dk_at dksX1_pairings_0 5 rfl rfl)
theorem dX1_pairings_6 : decode cX1_pairings 6 = .ok (.getfield 112, 3) := dk_180 0 112 (dk_at dksX1_pairings_0 6 rfl rfl)
theorem dX1_pairings_9 : decode cX1_pairings 9 = .ok (.ifnull 7, 3) := dk_198 0 7 (dk_at dksX1_pairings_0 9 rfl rfl)
theorem dX1_pairings_12 : decode cX1_pairings 12 = .ok (.iconst 1, 1) := dk_4 (dk_at dksX1_pairings_0 12 rfl rfl)
theorem dX1_pairings_13 : decode cX1_pairings 13 = .ok (.goto 4, 3) := dk_167 0 4 (dk_at dksX1_pairings_0 13 rfl rfl)
theorem dX1_pairings_16 : decode cX1_pairings 16 = .ok (.iconst 0, 1) := dk_3 (dk_at dksX1_pairings_0 16 rfl rfl)
theorem dX1_pairings_17 : decode cX1_pairings 17 = .ok (.iload_n 1, 1) := dk_27 (dk_at dksX1_pairings_0 17 rfl rfl)
theorem dX1_pairings_18 : decode cX1_pairings 18 = .ok (.invokevirtual 195, 3) := dk_182 0 195 (dk_at dksX1_pairings_0 18 rfl rfl)
theorem dX1_pairings_21 : decode cX1_pairings 21 = .ok (.istore_n 2, 1) := dk_61 (dk_at dksX1_pairings_0 21 rfl rfl)
theorem dX1_pairings_22 : decode cX1_pairings 22 = .ok (.iload_n 2, 1) := dk_28 (dk_at dksX1_pairings_0 22 rfl rfl)
theorem dX1_pairings_23 : decode cX1_pairings 23 = .ok (.ifCond .eq 9, 3) := dk_153 0 9 (dk_at dksX1_pairings_1 0 rfl rfl)
theorem dX1_pairings_26 : decode cX1_pairings 26 = .ok (.aload_n 0, 1) := dk_42 (dk_at dksX1_pairings_1 3 rfl rfl)
theorem dX1_pairings_27 : decode cX1_pairings 27 = .ok (.iload_n 2, 1) := dk_28 (dk_at dksX1_pairings_1 4 rfl rfl)
theorem dX1_pairings_28 : decode cX1_pairings 28 = .ok (.invokevirtual 101, 3) := dk_182 0 101 (dk_at dksX1_pairings_1 5 rfl rfl)
theorem dX1_pairings_31 : decode cX1_pairings 31 = .ok (.ireturn, 1) := dk_172 (dk_at dksX1_pairings_1 8 rfl rfl)
theorem dX1_pairings_32 : decode cX1_pairings 32 = .ok (.aload_n 0, 1) := dk_42 (dk_at dksX1_pairings_1 9 rfl rfl)
theorem dX1_pairings_33 : decode cX1_pairings 33 = .ok (.getfield 52, 3) := dk_180 0 52 (dk_at dksX1_pairings_1 10 rfl rfl)
theorem dX1_pairings_36 : decode cX1_pairings 36 = .ok (.aload_n 0, 1) := dk_42 (dk_at dksX1_pairings_1 13 rfl rfl)
theorem dX1_pairings_37 : decode cX1_pairings 37 = .ok (.getfield 112, 3) := dk_180 0 112 (dk_at dksX1_pairings_1 14 rfl rfl)
theorem dX1_pairings_40 : decode cX1_pairings 40 = .ok (.aload_n 0, 1) := dk_42 (dk_at dksX1_pairings_1 17 rfl rfl)
theorem dX1_pairings_41 : decode cX1_pairings 41 = .ok (.getfield 42, 3) := dk_180 0 42 (dk_at dksX1_pairings_1 18 rfl rfl)
theorem dX1_pairings_44 : decode cX1_pairings 44 = .ok (.iload_n 1, 1) := dk_27 (dk_at dksX1_pairings_1 21 rfl rfl)
theorem dX1_pairings_45 : decode cX1_pairings 45 = .ok (.iconst 0, 1) := dk_3 (dk_at dksX1_pairings_1 22 rfl rfl)
theorem dX1_pairings_46 : decode cX1_pairings 46 = .ok (.invokevirtual 355, 3) := dk_182 1 99 (dk_at dksX1_pairings_2 0 rfl rfl)
theorem dX1_pairings_49 : decode cX1_pairings 49 = .ok (.aload_n 0, 1) := dk_42 (dk_at dksX1_pairings_2 3 rfl rfl)
theorem dX1_pairings_50 : decode cX1_pairings 50 = .ok (.getfield 52, 3) := dk_180 0 52 (dk_at dksX1_pairings_2 4 rfl rfl)
theorem dX1_pairings_53 : decode cX1_pairings 53 = .ok (.getfield 359, 3) := dk_180 1 103 (dk_at dksX1_pairings_2 7 rfl rfl)
theorem dX1_pairings_56 : decode cX1_pairings 56 = .ok (.ireturn, 1) := dk_172 (dk_at dksX1_pairings_2 10 rfl rfl)
abbrev cX1_has : ByteArray := prog_1_method_2_code
def yX1_has : MethodName := ⟨RX1, "has", "(II)Z"⟩
def dkwX1_has_0 : List UInt8 := [26, 27, 122, 4, 126, 4, 160, 0, 7, 4, 167, 0, 4, 3, 172]
abbrev dktX1_has_0 : List UInt8 := dkwX1_has_0 ++ []
theorem dksX1_has_0 : cX1_has.data.toList.drop 0 = dktX1_has_0 := by decide +kernel
theorem dX1_has_0 : decode cX1_has 0 = .ok (.iload_n 0, 1) := dk_26 (dk_at dksX1_has_0 0 rfl rfl)
theorem dX1_has_1 : decode cX1_has 1 = .ok (.iload_n 1, 1) := dk_27 (dk_at dksX1_has_0 1 rfl rfl)
theorem dX1_has_2 : decode cX1_has 2 = .ok (.ishr, 1) := dk_122 (dk_at dksX1_has_0 2 rfl rfl)
theorem dX1_has_3 : decode cX1_has 3 = .ok (.iconst 1, 1) := dk_4 (dk_at dksX1_has_0 3 rfl rfl)
theorem dX1_has_4 : decode cX1_has 4 = .ok (.iand, 1) := dk_126 (dk_at dksX1_has_0 4 rfl rfl)
theorem dX1_has_5 : decode cX1_has 5 = .ok (.iconst 1, 1) := dk_4 (dk_at dksX1_has_0 5 rfl rfl)
theorem dX1_has_6 : decode cX1_has 6 = .ok (.if_icmp .ne 7, 3) := dk_160 0 7 (dk_at dksX1_has_0 6 rfl rfl)
theorem dX1_has_9 : decode cX1_has 9 = .ok (.iconst 1, 1) := dk_4 (dk_at dksX1_has_0 9 rfl rfl)
theorem dX1_has_10 : decode cX1_has 10 = .ok (.goto 4, 3) := dk_167 0 4 (dk_at dksX1_has_0 10 rfl rfl)
theorem dX1_has_13 : decode cX1_has 13 = .ok (.iconst 0, 1) := dk_3 (dk_at dksX1_has_0 13 rfl rfl)
theorem dX1_has_14 : decode cX1_has 14 = .ok (.ireturn, 1) := dk_172 (dk_at dksX1_has_0 14 rfl rfl)
abbrev cX1_could : ByteArray := prog_1_method_59_code
def yX1_could : MethodName := ⟨RX1, "could", "(II)I"⟩
def dkwX1_could_2 : List UInt8 := [182, 1, 104, 172]
abbrev dktX1_could_2 : List UInt8 := dkwX1_could_2 ++ []
def dkwX1_could_1 : List UInt8 := [172, 42, 180, 0, 52, 42, 180, 0, 112, 42, 180, 0, 42, 27, 3, 182, 1, 99, 42, 180, 0, 52, 28]
abbrev dktX1_could_1 : List UInt8 := dkwX1_could_1 ++ dktX1_could_2
def dkwX1_could_0 : List UInt8 := [42, 182, 0, 87, 42, 42, 28, 182, 0, 154, 27, 182, 0, 195, 62, 29, 153, 0, 9, 42, 29, 182, 0, 101]
abbrev dktX1_could_0 : List UInt8 := dkwX1_could_0 ++ dktX1_could_1
theorem dksX1_could_0 : cX1_could.data.toList.drop 0 = dktX1_could_0 := by decide +kernel
theorem dksX1_could_1 : cX1_could.data.toList.drop 24 = dktX1_could_1 := dk_seg dksX1_could_0 24 rfl rfl
theorem dksX1_could_2 : cX1_could.data.toList.drop 47 = dktX1_could_2 := dk_seg dksX1_could_1 23 rfl rfl
theorem dX1_could_0 : decode cX1_could 0 = .ok (.aload_n 0, 1) := dk_42 (dk_at dksX1_could_0 0 rfl rfl)
theorem dX1_could_1 : decode cX1_could 1 = .ok (.invokevirtual 87, 3) := dk_182 0 87 (dk_at dksX1_could_0 1 rfl rfl)
theorem dX1_could_4 : decode cX1_could 4 = .ok (.aload_n 0, 1) := dk_42 (dk_at dksX1_could_0 4 rfl rfl)
theorem dX1_could_5 : decode cX1_could 5 = .ok (.aload_n 0, 1) := dk_42 (dk_at dksX1_could_0 5 rfl rfl)
theorem dX1_could_6 : decode cX1_could 6 = .ok (.iload_n 2, 1) := dk_28 (dk_at dksX1_could_0 6 rfl rfl)
theorem dX1_could_7 : decode cX1_could 7 = .ok (.invokevirtual 154, 3) := dk_182 0 154 (dk_at dksX1_could_0 7 rfl rfl)
theorem dX1_could_10 : decode cX1_could 10 = .ok (.iload_n 1, 1) := dk_27 (dk_at dksX1_could_0 10 rfl rfl)
theorem dX1_could_11 : decode cX1_could 11 = .ok (.invokevirtual 195, 3) := dk_182 0 195 (dk_at dksX1_could_0 11 rfl rfl)
theorem dX1_could_14 : decode cX1_could 14 = .ok (.istore_n 3, 1) := dk_62 (dk_at dksX1_could_0 14 rfl rfl)
theorem dX1_could_15 : decode cX1_could 15 = .ok (.iload_n 3, 1) := dk_29 (dk_at dksX1_could_0 15 rfl rfl)
theorem dX1_could_16 : decode cX1_could 16 = .ok (.ifCond .eq 9, 3) := dk_153 0 9 (dk_at dksX1_could_0 16 rfl rfl)
theorem dX1_could_19 : decode cX1_could 19 = .ok (.aload_n 0, 1) := dk_42 (dk_at dksX1_could_0 19 rfl rfl)
theorem dX1_could_20 : decode cX1_could 20 = .ok (.iload_n 3, 1) := dk_29 (dk_at dksX1_could_0 20 rfl rfl)
theorem dX1_could_21 : decode cX1_could 21 = .ok (.invokevirtual 101, 3) := dk_182 0 101 (dk_at dksX1_could_0 21 rfl rfl)
theorem dX1_could_24 : decode cX1_could 24 = .ok (.ireturn, 1) := dk_172 (dk_at dksX1_could_1 0 rfl rfl)
theorem dX1_could_25 : decode cX1_could 25 = .ok (.aload_n 0, 1) := dk_42 (dk_at dksX1_could_1 1 rfl rfl)
theorem dX1_could_26 : decode cX1_could 26 = .ok (.getfield 52, 3) := dk_180 0 52 (dk_at dksX1_could_1 2 rfl rfl)
theorem dX1_could_29 : decode cX1_could 29 = .ok (.aload_n 0, 1) := dk_42 (dk_at dksX1_could_1 5 rfl rfl)
theorem dX1_could_30 : decode cX1_could 30 = .ok (.getfield 112, 3) := dk_180 0 112 (dk_at dksX1_could_1 6 rfl rfl)
theorem dX1_could_33 : decode cX1_could 33 = .ok (.aload_n 0, 1) := dk_42 (dk_at dksX1_could_1 9 rfl rfl)
theorem dX1_could_34 : decode cX1_could 34 = .ok (.getfield 42, 3) := dk_180 0 42 (dk_at dksX1_could_1 10 rfl rfl)
theorem dX1_could_37 : decode cX1_could 37 = .ok (.iload_n 1, 1) := dk_27 (dk_at dksX1_could_1 13 rfl rfl)
theorem dX1_could_38 : decode cX1_could 38 = .ok (.iconst 0, 1) := dk_3 (dk_at dksX1_could_1 14 rfl rfl)
theorem dX1_could_39 : decode cX1_could 39 = .ok (.invokevirtual 355, 3) := dk_182 1 99 (dk_at dksX1_could_1 15 rfl rfl)
theorem dX1_could_42 : decode cX1_could 42 = .ok (.aload_n 0, 1) := dk_42 (dk_at dksX1_could_1 18 rfl rfl)
theorem dX1_could_43 : decode cX1_could 43 = .ok (.getfield 52, 3) := dk_180 0 52 (dk_at dksX1_could_1 19 rfl rfl)
theorem dX1_could_46 : decode cX1_could 46 = .ok (.iload_n 2, 1) := dk_28 (dk_at dksX1_could_1 22 rfl rfl)
theorem dX1_could_47 : decode cX1_could 47 = .ok (.invokevirtual 360, 3) := dk_182 1 104 (dk_at dksX1_could_2 0 rfl rfl)
theorem dX1_could_50 : decode cX1_could 50 = .ok (.ireturn, 1) := dk_172 (dk_at dksX1_could_2 3 rfl rfl)
abbrev cX1_surely : ByteArray := prog_1_method_60_code
def yX1_surely : MethodName := ⟨RX1, "surely", "(II)I"⟩
def dkwX1_surely_2 : List UInt8 := [182, 1, 107, 172]
abbrev dktX1_surely_2 : List UInt8 := dkwX1_surely_2 ++ []
def dkwX1_surely_1 : List UInt8 := [172, 42, 180, 0, 52, 42, 180, 0, 112, 42, 180, 0, 42, 27, 3, 182, 1, 99, 42, 180, 0, 52, 28]
abbrev dktX1_surely_1 : List UInt8 := dkwX1_surely_1 ++ dktX1_surely_2
def dkwX1_surely_0 : List UInt8 := [42, 182, 0, 87, 42, 42, 28, 182, 0, 235, 27, 182, 0, 195, 62, 29, 153, 0, 9, 42, 29, 182, 0, 101]
abbrev dktX1_surely_0 : List UInt8 := dkwX1_surely_0 ++ dktX1_surely_1
theorem dksX1_surely_0 : cX1_surely.data.toList.drop 0 = dktX1_surely_0 := by decide +kernel
theorem dksX1_surely_1 : cX1_surely.data.toList.drop 24 = dktX1_surely_1 := dk_seg dksX1_surely_0 24 rfl rfl
theorem dksX1_surely_2 : cX1_surely.data.toList.drop 47 = dktX1_surely_2 := dk_seg dksX1_surely_1 23 rfl rfl
theorem dX1_surely_0 : decode cX1_surely 0 = .ok (.aload_n 0, 1) := dk_42 (dk_at dksX1_surely_0 0 rfl rfl)
theorem dX1_surely_1 : decode cX1_surely 1 = .ok (.invokevirtual 87, 3) := dk_182 0 87 (dk_at dksX1_surely_0 1 rfl rfl)
theorem dX1_surely_4 : decode cX1_surely 4 = .ok (.aload_n 0, 1) := dk_42 (dk_at dksX1_surely_0 4 rfl rfl)
theorem dX1_surely_5 : decode cX1_surely 5 = .ok (.aload_n 0, 1) := dk_42 (dk_at dksX1_surely_0 5 rfl rfl)
theorem dX1_surely_6 : decode cX1_surely 6 = .ok (.iload_n 2, 1) := dk_28 (dk_at dksX1_surely_0 6 rfl rfl)
theorem dX1_surely_7 : decode cX1_surely 7 = .ok (.invokevirtual 235, 3) := dk_182 0 235 (dk_at dksX1_surely_0 7 rfl rfl)
theorem dX1_surely_10 : decode cX1_surely 10 = .ok (.iload_n 1, 1) := dk_27 (dk_at dksX1_surely_0 10 rfl rfl)
theorem dX1_surely_11 : decode cX1_surely 11 = .ok (.invokevirtual 195, 3) := dk_182 0 195 (dk_at dksX1_surely_0 11 rfl rfl)
theorem dX1_surely_14 : decode cX1_surely 14 = .ok (.istore_n 3, 1) := dk_62 (dk_at dksX1_surely_0 14 rfl rfl)
theorem dX1_surely_15 : decode cX1_surely 15 = .ok (.iload_n 3, 1) := dk_29 (dk_at dksX1_surely_0 15 rfl rfl)
theorem dX1_surely_16 : decode cX1_surely 16 = .ok (.ifCond .eq 9, 3) := dk_153 0 9 (dk_at dksX1_surely_0 16 rfl rfl)
theorem dX1_surely_19 : decode cX1_surely 19 = .ok (.aload_n 0, 1) := dk_42 (dk_at dksX1_surely_0 19 rfl rfl)
theorem dX1_surely_20 : decode cX1_surely 20 = .ok (.iload_n 3, 1) := dk_29 (dk_at dksX1_surely_0 20 rfl rfl)
theorem dX1_surely_21 : decode cX1_surely 21 = .ok (.invokevirtual 101, 3) := dk_182 0 101 (dk_at dksX1_surely_0 21 rfl rfl)
theorem dX1_surely_24 : decode cX1_surely 24 = .ok (.ireturn, 1) := dk_172 (dk_at dksX1_surely_1 0 rfl rfl)
theorem dX1_surely_25 : decode cX1_surely 25 = .ok (.aload_n 0, 1) := dk_42 (dk_at dksX1_surely_1 1 rfl rfl)
theorem dX1_surely_26 : decode cX1_surely 26 = .ok (.getfield 52, 3) := dk_180 0 52 (dk_at dksX1_surely_1 2 rfl rfl)
theorem dX1_surely_29 : decode cX1_surely 29 = .ok (.aload_n 0, 1) := dk_42 (dk_at dksX1_surely_1 5 rfl rfl)
theorem dX1_surely_30 : decode cX1_surely 30 = .ok (.getfield 112, 3) := dk_180 0 112 (dk_at dksX1_surely_1 6 rfl rfl)
theorem dX1_surely_33 : decode cX1_surely 33 = .ok (.aload_n 0, 1) := dk_42 (dk_at dksX1_surely_1 9 rfl rfl)
theorem dX1_surely_34 : decode cX1_surely 34 = .ok (.getfield 42, 3) := dk_180 0 42 (dk_at dksX1_surely_1 10 rfl rfl)
theorem dX1_surely_37 : decode cX1_surely 37 = .ok (.iload_n 1, 1) := dk_27 (dk_at dksX1_surely_1 13 rfl rfl)
theorem dX1_surely_38 : decode cX1_surely 38 = .ok (.iconst 0, 1) := dk_3 (dk_at dksX1_surely_1 14 rfl rfl)
theorem dX1_surely_39 : decode cX1_surely 39 = .ok (.invokevirtual 355, 3) := dk_182 1 99 (dk_at dksX1_surely_1 15 rfl rfl)
theorem dX1_surely_42 : decode cX1_surely 42 = .ok (.aload_n 0, 1) := dk_42 (dk_at dksX1_surely_1 18 rfl rfl)
theorem dX1_surely_43 : decode cX1_surely 43 = .ok (.getfield 52, 3) := dk_180 0 52 (dk_at dksX1_surely_1 19 rfl rfl)
theorem dX1_surely_46 : decode cX1_surely 46 = .ok (.iload_n 2, 1) := dk_28 (dk_at dksX1_surely_1 22 rfl rfl)
theorem dX1_surely_47 : decode cX1_surely 47 = .ok (.invokevirtual 363, 3) := dk_182 1 107 (dk_at dksX1_surely_2 0 rfl rfl)
theorem dX1_surely_50 : decode cX1_surely 50 = .ok (.ireturn, 1) := dk_172 (dk_at dksX1_surely_2 3 rfl rfl)
abbrev cX1_ask : ByteArray := prog_1_method_61_code
def yX1_ask : MethodName := ⟨RX1, "ask", "(I)I"⟩
def dkwX1_ask_5 : List UInt8 := [180, 0, 52, 180, 1, 103, 4, 160, 0, 7, 21, 5, 54, 4, 132, 5, 1, 167, 255, 189, 21, 4, 172]
abbrev dktX1_ask_5 : List UInt8 := dkwX1_ask_5 ++ []
def dkwX1_ask_4 : List UInt8 := [167, 0, 36, 42, 180, 0, 52, 42, 180, 0, 112, 42, 180, 0, 42, 27, 21, 5, 182, 1, 99, 42]
abbrev dktX1_ask_4 : List UInt8 := dkwX1_ask_4 ++ dktX1_ask_5
def dkwX1_ask_3 : List UInt8 := [21, 5, 29, 2, 130, 126, 154, 0, 52, 21, 5, 184, 0, 202, 21, 4, 184, 0, 202, 161, 0, 6]
abbrev dktX1_ask_3 : List UInt8 := dkwX1_ask_3 ++ dktX1_ask_4
def dkwX1_ask_2 : List UInt8 := [182, 1, 99, 42, 180, 0, 52, 182, 1, 110, 62, 29, 54, 4, 3, 54, 5, 21, 5, 29, 163, 0, 67]
abbrev dktX1_ask_2 : List UInt8 := dkwX1_ask_2 ++ dktX1_ask_3
def dkwX1_ask_1 : List UInt8 := [153, 0, 9, 42, 28, 182, 0, 101, 172, 42, 180, 0, 52, 42, 180, 0, 112, 42, 180, 0, 42, 27, 3]
abbrev dktX1_ask_1 : List UInt8 := dkwX1_ask_1 ++ dktX1_ask_2
def dkwX1_ask_0 : List UInt8 := [42, 182, 0, 87, 42, 42, 180, 0, 112, 198, 0, 7, 4, 167, 0, 4, 3, 27, 182, 0, 195, 61, 28]
abbrev dktX1_ask_0 : List UInt8 := dkwX1_ask_0 ++ dktX1_ask_1
theorem dksX1_ask_0 : cX1_ask.data.toList.drop 0 = dktX1_ask_0 := by decide +kernel
theorem dksX1_ask_1 : cX1_ask.data.toList.drop 23 = dktX1_ask_1 := dk_seg dksX1_ask_0 23 rfl rfl
theorem dksX1_ask_2 : cX1_ask.data.toList.drop 46 = dktX1_ask_2 := dk_seg dksX1_ask_1 23 rfl rfl
theorem dksX1_ask_3 : cX1_ask.data.toList.drop 69 = dktX1_ask_3 := dk_seg dksX1_ask_2 23 rfl rfl
theorem dksX1_ask_4 : cX1_ask.data.toList.drop 91 = dktX1_ask_4 := dk_seg dksX1_ask_3 22 rfl rfl
theorem dksX1_ask_5 : cX1_ask.data.toList.drop 113 = dktX1_ask_5 := dk_seg dksX1_ask_4 22 rfl rfl
theorem dX1_ask_0 : decode cX1_ask 0 = .ok (.aload_n 0, 1) := dk_42 (dk_at dksX1_ask_0 0 rfl rfl)
theorem dX1_ask_1 : decode cX1_ask 1 = .ok (.invokevirtual 87, 3) := dk_182 0 87 (dk_at dksX1_ask_0 1 rfl rfl)
theorem dX1_ask_4 : decode cX1_ask 4 = .ok (.aload_n 0, 1) := dk_42 (dk_at dksX1_ask_0 4 rfl rfl)
theorem dX1_ask_5 : decode cX1_ask 5 = .ok (.aload_n 0, 1) := dk_42 (dk_at dksX1_ask_0 5 rfl rfl)
theorem dX1_ask_6 : decode cX1_ask 6 = .ok (.getfield 112, 3) := dk_180 0 112 (dk_at dksX1_ask_0 6 rfl rfl)
theorem dX1_ask_9 : decode cX1_ask 9 = .ok (.ifnull 7, 3) := dk_198 0 7 (dk_at dksX1_ask_0 9 rfl rfl)
theorem dX1_ask_12 : decode cX1_ask 12 = .ok (.iconst 1, 1) := dk_4 (dk_at dksX1_ask_0 12 rfl rfl)
theorem dX1_ask_13 : decode cX1_ask 13 = .ok (.goto 4, 3) := dk_167 0 4 (dk_at dksX1_ask_0 13 rfl rfl)
theorem dX1_ask_16 : decode cX1_ask 16 = .ok (.iconst 0, 1) := dk_3 (dk_at dksX1_ask_0 16 rfl rfl)
theorem dX1_ask_17 : decode cX1_ask 17 = .ok (.iload_n 1, 1) := dk_27 (dk_at dksX1_ask_0 17 rfl rfl)
theorem dX1_ask_18 : decode cX1_ask 18 = .ok (.invokevirtual 195, 3) := dk_182 0 195 (dk_at dksX1_ask_0 18 rfl rfl)
theorem dX1_ask_21 : decode cX1_ask 21 = .ok (.istore_n 2, 1) := dk_61 (dk_at dksX1_ask_0 21 rfl rfl)
theorem dX1_ask_22 : decode cX1_ask 22 = .ok (.iload_n 2, 1) := dk_28 (dk_at dksX1_ask_0 22 rfl rfl)
theorem dX1_ask_23 : decode cX1_ask 23 = .ok (.ifCond .eq 9, 3) := dk_153 0 9 (dk_at dksX1_ask_1 0 rfl rfl)
theorem dX1_ask_26 : decode cX1_ask 26 = .ok (.aload_n 0, 1) := dk_42 (dk_at dksX1_ask_1 3 rfl rfl)
theorem dX1_ask_27 : decode cX1_ask 27 = .ok (.iload_n 2, 1) := dk_28 (dk_at dksX1_ask_1 4 rfl rfl)
theorem dX1_ask_28 : decode cX1_ask 28 = .ok (.invokevirtual 101, 3) := dk_182 0 101 (dk_at dksX1_ask_1 5 rfl rfl)
theorem dX1_ask_31 : decode cX1_ask 31 = .ok (.ireturn, 1) := dk_172 (dk_at dksX1_ask_1 8 rfl rfl)
theorem dX1_ask_32 : decode cX1_ask 32 = .ok (.aload_n 0, 1) := dk_42 (dk_at dksX1_ask_1 9 rfl rfl)
theorem dX1_ask_33 : decode cX1_ask 33 = .ok (.getfield 52, 3) := dk_180 0 52 (dk_at dksX1_ask_1 10 rfl rfl)
theorem dX1_ask_36 : decode cX1_ask 36 = .ok (.aload_n 0, 1) := dk_42 (dk_at dksX1_ask_1 13 rfl rfl)
theorem dX1_ask_37 : decode cX1_ask 37 = .ok (.getfield 112, 3) := dk_180 0 112 (dk_at dksX1_ask_1 14 rfl rfl)
theorem dX1_ask_40 : decode cX1_ask 40 = .ok (.aload_n 0, 1) := dk_42 (dk_at dksX1_ask_1 17 rfl rfl)
theorem dX1_ask_41 : decode cX1_ask 41 = .ok (.getfield 42, 3) := dk_180 0 42 (dk_at dksX1_ask_1 18 rfl rfl)
theorem dX1_ask_44 : decode cX1_ask 44 = .ok (.iload_n 1, 1) := dk_27 (dk_at dksX1_ask_1 21 rfl rfl)
theorem dX1_ask_45 : decode cX1_ask 45 = .ok (.iconst 0, 1) := dk_3 (dk_at dksX1_ask_1 22 rfl rfl)
theorem dX1_ask_46 : decode cX1_ask 46 = .ok (.invokevirtual 355, 3) := dk_182 1 99 (dk_at dksX1_ask_2 0 rfl rfl)
theorem dX1_ask_49 : decode cX1_ask 49 = .ok (.aload_n 0, 1) := dk_42 (dk_at dksX1_ask_2 3 rfl rfl)
theorem dX1_ask_50 : decode cX1_ask 50 = .ok (.getfield 52, 3) := dk_180 0 52 (dk_at dksX1_ask_2 4 rfl rfl)
theorem dX1_ask_53 : decode cX1_ask 53 = .ok (.invokevirtual 366, 3) := dk_182 1 110 (dk_at dksX1_ask_2 7 rfl rfl)
theorem dX1_ask_56 : decode cX1_ask 56 = .ok (.istore_n 3, 1) := dk_62 (dk_at dksX1_ask_2 10 rfl rfl)
theorem dX1_ask_57 : decode cX1_ask 57 = .ok (.iload_n 3, 1) := dk_29 (dk_at dksX1_ask_2 11 rfl rfl)
theorem dX1_ask_58 : decode cX1_ask 58 = .ok (.istore 4, 2) := dk_54 4 (dk_at dksX1_ask_2 12 rfl rfl)
theorem dX1_ask_60 : decode cX1_ask 60 = .ok (.iconst 0, 1) := dk_3 (dk_at dksX1_ask_2 14 rfl rfl)
theorem dX1_ask_61 : decode cX1_ask 61 = .ok (.istore 5, 2) := dk_54 5 (dk_at dksX1_ask_2 15 rfl rfl)
theorem dX1_ask_63 : decode cX1_ask 63 = .ok (.iload 5, 2) := dk_21 5 (dk_at dksX1_ask_2 17 rfl rfl)
theorem dX1_ask_65 : decode cX1_ask 65 = .ok (.iload_n 3, 1) := dk_29 (dk_at dksX1_ask_2 19 rfl rfl)
theorem dX1_ask_66 : decode cX1_ask 66 = .ok (.if_icmp .gt 67, 3) := dk_163 0 67 (dk_at dksX1_ask_2 20 rfl rfl)
theorem dX1_ask_69 : decode cX1_ask 69 = .ok (.iload 5, 2) := dk_21 5 (dk_at dksX1_ask_3 0 rfl rfl)
theorem dX1_ask_71 : decode cX1_ask 71 = .ok (.iload_n 3, 1) := dk_29 (dk_at dksX1_ask_3 2 rfl rfl)
theorem dX1_ask_72 : decode cX1_ask 72 = .ok (.iconst (-1), 1) := dk_2 (dk_at dksX1_ask_3 3 rfl rfl)
theorem dX1_ask_73 : decode cX1_ask 73 = .ok (.ixor, 1) := dk_130 (dk_at dksX1_ask_3 4 rfl rfl)
theorem dX1_ask_74 : decode cX1_ask 74 = .ok (.iand, 1) := dk_126 (dk_at dksX1_ask_3 5 rfl rfl)
theorem dX1_ask_75 : decode cX1_ask 75 = .ok (.ifCond .ne 52, 3) := dk_154 0 52 (dk_at dksX1_ask_3 6 rfl rfl)
theorem dX1_ask_78 : decode cX1_ask 78 = .ok (.iload 5, 2) := dk_21 5 (dk_at dksX1_ask_3 9 rfl rfl)
theorem dX1_ask_80 : decode cX1_ask 80 = .ok (.invokestatic 202, 3) := dk_184 0 202 (dk_at dksX1_ask_3 11 rfl rfl)
theorem dX1_ask_83 : decode cX1_ask 83 = .ok (.iload 4, 2) := dk_21 4 (dk_at dksX1_ask_3 14 rfl rfl)
theorem dX1_ask_85 : decode cX1_ask 85 = .ok (.invokestatic 202, 3) := dk_184 0 202 (dk_at dksX1_ask_3 16 rfl rfl)
theorem dX1_ask_88 : decode cX1_ask 88 = .ok (.if_icmp .lt 6, 3) := dk_161 0 6 (dk_at dksX1_ask_3 19 rfl rfl)
theorem dX1_ask_91 : decode cX1_ask 91 = .ok (.goto 36, 3) := dk_167 0 36 (dk_at dksX1_ask_4 0 rfl rfl)
theorem dX1_ask_94 : decode cX1_ask 94 = .ok (.aload_n 0, 1) := dk_42 (dk_at dksX1_ask_4 3 rfl rfl)
theorem dX1_ask_95 : decode cX1_ask 95 = .ok (.getfield 52, 3) := dk_180 0 52 (dk_at dksX1_ask_4 4 rfl rfl)
theorem dX1_ask_98 : decode cX1_ask 98 = .ok (.aload_n 0, 1) := dk_42 (dk_at dksX1_ask_4 7 rfl rfl)
theorem dX1_ask_99 : decode cX1_ask 99 = .ok (.getfield 112, 3) := dk_180 0 112 (dk_at dksX1_ask_4 8 rfl rfl)
theorem dX1_ask_102 : decode cX1_ask 102 = .ok (.aload_n 0, 1) := dk_42 (dk_at dksX1_ask_4 11 rfl rfl)
theorem dX1_ask_103 : decode cX1_ask 103 = .ok (.getfield 42, 3) := dk_180 0 42 (dk_at dksX1_ask_4 12 rfl rfl)
theorem dX1_ask_106 : decode cX1_ask 106 = .ok (.iload_n 1, 1) := dk_27 (dk_at dksX1_ask_4 15 rfl rfl)
theorem dX1_ask_107 : decode cX1_ask 107 = .ok (.iload 5, 2) := dk_21 5 (dk_at dksX1_ask_4 16 rfl rfl)
theorem dX1_ask_109 : decode cX1_ask 109 = .ok (.invokevirtual 355, 3) := dk_182 1 99 (dk_at dksX1_ask_4 18 rfl rfl)
theorem dX1_ask_112 : decode cX1_ask 112 = .ok (.aload_n 0, 1) := dk_42 (dk_at dksX1_ask_4 21 rfl rfl)
theorem dX1_ask_113 : decode cX1_ask 113 = .ok (.getfield 52, 3) := dk_180 0 52 (dk_at dksX1_ask_5 0 rfl rfl)
theorem dX1_ask_116 : decode cX1_ask 116 = .ok (.getfield 359, 3) := dk_180 1 103 (dk_at dksX1_ask_5 3 rfl rfl)
theorem dX1_ask_119 : decode cX1_ask 119 = .ok (.iconst 1, 1) := dk_4 (dk_at dksX1_ask_5 6 rfl rfl)
theorem dX1_ask_120 : decode cX1_ask 120 = .ok (.if_icmp .ne 7, 3) := dk_160 0 7 (dk_at dksX1_ask_5 7 rfl rfl)
theorem dX1_ask_123 : decode cX1_ask 123 = .ok (.iload 5, 2) := dk_21 5 (dk_at dksX1_ask_5 10 rfl rfl)
theorem dX1_ask_125 : decode cX1_ask 125 = .ok (.istore 4, 2) := dk_54 4 (dk_at dksX1_ask_5 12 rfl rfl)
theorem dX1_ask_127 : decode cX1_ask 127 = .ok (.iinc 5 1, 3) := dk_132 5 1 (dk_at dksX1_ask_5 14 rfl rfl)
theorem dX1_ask_130 : decode cX1_ask 130 = .ok (.goto (-67), 3) := dk_167 255 189 (dk_at dksX1_ask_5 17 rfl rfl)
theorem dX1_ask_133 : decode cX1_ask 133 = .ok (.iload 4, 2) := dk_21 4 (dk_at dksX1_ask_5 20 rfl rfl)
theorem dX1_ask_135 : decode cX1_ask 135 = .ok (.ireturn, 1) := dk_172 (dk_at dksX1_ask_5 22 rfl rfl)
abbrev cX1_drift : ByteArray := prog_1_method_64_code
def yX1_drift : MethodName := ⟨RX1, "drift", "(IIZ)J"⟩
def dkwX1_drift_4 : List UInt8 := [167, 0, 5, 22, 8, 22, 6, 22, 8, 184, 1, 113, 109, 173]
abbrev dktX1_drift_4 : List UInt8 := dkwX1_drift_4 ++ []
def dkwX1_drift_3 : List UInt8 := [132, 8, 1, 167, 255, 240, 42, 27, 28, 22, 4, 182, 1, 128, 55, 8, 29, 153, 0, 8, 22, 6]
abbrev dktX1_drift_3 : List UInt8 := dkwX1_drift_3 ++ dktX1_drift_4
def dkwX1_drift_2 : List UInt8 := [100, 133, 105, 55, 4, 10, 55, 6, 3, 54, 8, 21, 8, 28, 162, 0, 16, 22, 6, 22, 4, 105, 55, 6]
abbrev dktX1_drift_2 : List UInt8 := dkwX1_drift_2 ++ dktX1_drift_3
def dkwX1_drift_1 : List UInt8 := [184, 0, 97, 154, 0, 10, 42, 5, 182, 0, 101, 133, 173, 20, 1, 126, 42, 180, 0, 112, 180, 0, 144, 4]
abbrev dktX1_drift_1 : List UInt8 := dkwX1_drift_1 ++ dktX1_drift_2
def dkwX1_drift_0 : List UInt8 := [42, 182, 0, 87, 42, 27, 182, 0, 235, 154, 0, 10, 42, 4, 182, 0, 101, 133, 173, 28, 3, 8]
abbrev dktX1_drift_0 : List UInt8 := dkwX1_drift_0 ++ dktX1_drift_1
theorem dksX1_drift_0 : cX1_drift.data.toList.drop 0 = dktX1_drift_0 := by decide +kernel
theorem dksX1_drift_1 : cX1_drift.data.toList.drop 22 = dktX1_drift_1 := dk_seg dksX1_drift_0 22 rfl rfl
theorem dksX1_drift_2 : cX1_drift.data.toList.drop 46 = dktX1_drift_2 := dk_seg dksX1_drift_1 24 rfl rfl
theorem dksX1_drift_3 : cX1_drift.data.toList.drop 70 = dktX1_drift_3 := dk_seg dksX1_drift_2 24 rfl rfl
theorem dksX1_drift_4 : cX1_drift.data.toList.drop 92 = dktX1_drift_4 := dk_seg dksX1_drift_3 22 rfl rfl
theorem dX1_drift_0 : decode cX1_drift 0 = .ok (.aload_n 0, 1) := dk_42 (dk_at dksX1_drift_0 0 rfl rfl)
theorem dX1_drift_1 : decode cX1_drift 1 = .ok (.invokevirtual 87, 3) := dk_182 0 87 (dk_at dksX1_drift_0 1 rfl rfl)
theorem dX1_drift_4 : decode cX1_drift 4 = .ok (.aload_n 0, 1) := dk_42 (dk_at dksX1_drift_0 4 rfl rfl)
theorem dX1_drift_5 : decode cX1_drift 5 = .ok (.iload_n 1, 1) := dk_27 (dk_at dksX1_drift_0 5 rfl rfl)
theorem dX1_drift_6 : decode cX1_drift 6 = .ok (.invokevirtual 235, 3) := dk_182 0 235 (dk_at dksX1_drift_0 6 rfl rfl)
theorem dX1_drift_9 : decode cX1_drift 9 = .ok (.ifCond .ne 10, 3) := dk_154 0 10 (dk_at dksX1_drift_0 9 rfl rfl)
theorem dX1_drift_12 : decode cX1_drift 12 = .ok (.aload_n 0, 1) := dk_42 (dk_at dksX1_drift_0 12 rfl rfl)
theorem dX1_drift_13 : decode cX1_drift 13 = .ok (.iconst 1, 1) := dk_4 (dk_at dksX1_drift_0 13 rfl rfl)
theorem dX1_drift_14 : decode cX1_drift 14 = .ok (.invokevirtual 101, 3) := dk_182 0 101 (dk_at dksX1_drift_0 14 rfl rfl)
theorem dX1_drift_17 : decode cX1_drift 17 = .ok (.i2l, 1) := dk_133 (dk_at dksX1_drift_0 17 rfl rfl)
theorem dX1_drift_18 : decode cX1_drift 18 = .ok (.lreturn, 1) := dk_173 (dk_at dksX1_drift_0 18 rfl rfl)
theorem dX1_drift_19 : decode cX1_drift 19 = .ok (.iload_n 2, 1) := dk_28 (dk_at dksX1_drift_0 19 rfl rfl)
theorem dX1_drift_20 : decode cX1_drift 20 = .ok (.iconst 0, 1) := dk_3 (dk_at dksX1_drift_0 20 rfl rfl)
theorem dX1_drift_21 : decode cX1_drift 21 = .ok (.iconst 5, 1) := dk_8 (dk_at dksX1_drift_0 21 rfl rfl)
theorem dX1_drift_22 : decode cX1_drift 22 = .ok (.invokestatic 97, 3) := dk_184 0 97 (dk_at dksX1_drift_1 0 rfl rfl)
theorem dX1_drift_25 : decode cX1_drift 25 = .ok (.ifCond .ne 10, 3) := dk_154 0 10 (dk_at dksX1_drift_1 3 rfl rfl)
theorem dX1_drift_28 : decode cX1_drift 28 = .ok (.aload_n 0, 1) := dk_42 (dk_at dksX1_drift_1 6 rfl rfl)
theorem dX1_drift_29 : decode cX1_drift 29 = .ok (.iconst 2, 1) := dk_5 (dk_at dksX1_drift_1 7 rfl rfl)
theorem dX1_drift_30 : decode cX1_drift 30 = .ok (.invokevirtual 101, 3) := dk_182 0 101 (dk_at dksX1_drift_1 8 rfl rfl)
theorem dX1_drift_33 : decode cX1_drift 33 = .ok (.i2l, 1) := dk_133 (dk_at dksX1_drift_1 11 rfl rfl)
theorem dX1_drift_34 : decode cX1_drift 34 = .ok (.lreturn, 1) := dk_173 (dk_at dksX1_drift_1 12 rfl rfl)
theorem dX1_drift_35 : decode cX1_drift 35 = .ok (.ldc2_w 382, 3) := dk_20 1 126 (dk_at dksX1_drift_1 13 rfl rfl)
theorem dX1_drift_38 : decode cX1_drift 38 = .ok (.aload_n 0, 1) := dk_42 (dk_at dksX1_drift_1 16 rfl rfl)
theorem dX1_drift_39 : decode cX1_drift 39 = .ok (.getfield 112, 3) := dk_180 0 112 (dk_at dksX1_drift_1 17 rfl rfl)
theorem dX1_drift_42 : decode cX1_drift 42 = .ok (.getfield 144, 3) := dk_180 0 144 (dk_at dksX1_drift_1 20 rfl rfl)
theorem dX1_drift_45 : decode cX1_drift 45 = .ok (.iconst 1, 1) := dk_4 (dk_at dksX1_drift_1 23 rfl rfl)
theorem dX1_drift_46 : decode cX1_drift 46 = .ok (.isub, 1) := dk_100 (dk_at dksX1_drift_2 0 rfl rfl)
theorem dX1_drift_47 : decode cX1_drift 47 = .ok (.i2l, 1) := dk_133 (dk_at dksX1_drift_2 1 rfl rfl)
theorem dX1_drift_48 : decode cX1_drift 48 = .ok (.lmul, 1) := dk_105 (dk_at dksX1_drift_2 2 rfl rfl)
theorem dX1_drift_49 : decode cX1_drift 49 = .ok (.lstore 4, 2) := dk_55 4 (dk_at dksX1_drift_2 3 rfl rfl)
theorem dX1_drift_51 : decode cX1_drift 51 = .ok (.lconst 1, 1) := dk_10 (dk_at dksX1_drift_2 5 rfl rfl)
theorem dX1_drift_52 : decode cX1_drift 52 = .ok (.lstore 6, 2) := dk_55 6 (dk_at dksX1_drift_2 6 rfl rfl)
theorem dX1_drift_54 : decode cX1_drift 54 = .ok (.iconst 0, 1) := dk_3 (dk_at dksX1_drift_2 8 rfl rfl)
theorem dX1_drift_55 : decode cX1_drift 55 = .ok (.istore 8, 2) := dk_54 8 (dk_at dksX1_drift_2 9 rfl rfl)
theorem dX1_drift_57 : decode cX1_drift 57 = .ok (.iload 8, 2) := dk_21 8 (dk_at dksX1_drift_2 11 rfl rfl)
theorem dX1_drift_59 : decode cX1_drift 59 = .ok (.iload_n 2, 1) := dk_28 (dk_at dksX1_drift_2 13 rfl rfl)
theorem dX1_drift_60 : decode cX1_drift 60 = .ok (.if_icmp .ge 16, 3) := dk_162 0 16 (dk_at dksX1_drift_2 14 rfl rfl)
theorem dX1_drift_63 : decode cX1_drift 63 = .ok (.lload 6, 2) := dk_22 6 (dk_at dksX1_drift_2 17 rfl rfl)
theorem dX1_drift_65 : decode cX1_drift 65 = .ok (.lload 4, 2) := dk_22 4 (dk_at dksX1_drift_2 19 rfl rfl)
theorem dX1_drift_67 : decode cX1_drift 67 = .ok (.lmul, 1) := dk_105 (dk_at dksX1_drift_2 21 rfl rfl)
theorem dX1_drift_68 : decode cX1_drift 68 = .ok (.lstore 6, 2) := dk_55 6 (dk_at dksX1_drift_2 22 rfl rfl)
theorem dX1_drift_70 : decode cX1_drift 70 = .ok (.iinc 8 1, 3) := dk_132 8 1 (dk_at dksX1_drift_3 0 rfl rfl)
theorem dX1_drift_73 : decode cX1_drift 73 = .ok (.goto (-16), 3) := dk_167 255 240 (dk_at dksX1_drift_3 3 rfl rfl)
theorem dX1_drift_76 : decode cX1_drift 76 = .ok (.aload_n 0, 1) := dk_42 (dk_at dksX1_drift_3 6 rfl rfl)
theorem dX1_drift_77 : decode cX1_drift 77 = .ok (.iload_n 1, 1) := dk_27 (dk_at dksX1_drift_3 7 rfl rfl)
theorem dX1_drift_78 : decode cX1_drift 78 = .ok (.iload_n 2, 1) := dk_28 (dk_at dksX1_drift_3 8 rfl rfl)
theorem dX1_drift_79 : decode cX1_drift 79 = .ok (.lload 4, 2) := dk_22 4 (dk_at dksX1_drift_3 9 rfl rfl)
theorem dX1_drift_81 : decode cX1_drift 81 = .ok (.invokevirtual 384, 3) := dk_182 1 128 (dk_at dksX1_drift_3 11 rfl rfl)
theorem dX1_drift_84 : decode cX1_drift 84 = .ok (.lstore 8, 2) := dk_55 8 (dk_at dksX1_drift_3 14 rfl rfl)
theorem dX1_drift_86 : decode cX1_drift 86 = .ok (.iload_n 3, 1) := dk_29 (dk_at dksX1_drift_3 16 rfl rfl)
theorem dX1_drift_87 : decode cX1_drift 87 = .ok (.ifCond .eq 8, 3) := dk_153 0 8 (dk_at dksX1_drift_3 17 rfl rfl)
theorem dX1_drift_90 : decode cX1_drift 90 = .ok (.lload 6, 2) := dk_22 6 (dk_at dksX1_drift_3 20 rfl rfl)
theorem dX1_drift_92 : decode cX1_drift 92 = .ok (.goto 5, 3) := dk_167 0 5 (dk_at dksX1_drift_4 0 rfl rfl)
theorem dX1_drift_95 : decode cX1_drift 95 = .ok (.lload 8, 2) := dk_22 8 (dk_at dksX1_drift_4 3 rfl rfl)
theorem dX1_drift_97 : decode cX1_drift 97 = .ok (.lload 6, 2) := dk_22 6 (dk_at dksX1_drift_4 5 rfl rfl)
theorem dX1_drift_99 : decode cX1_drift 99 = .ok (.lload 8, 2) := dk_22 8 (dk_at dksX1_drift_4 7 rfl rfl)
theorem dX1_drift_101 : decode cX1_drift 101 = .ok (.invokestatic 369, 3) := dk_184 1 113 (dk_at dksX1_drift_4 9 rfl rfl)
theorem dX1_drift_104 : decode cX1_drift 104 = .ok (.ldiv, 1) := dk_109 (dk_at dksX1_drift_4 12 rfl rfl)
theorem dX1_drift_105 : decode cX1_drift 105 = .ok (.lreturn, 1) := dk_173 (dk_at dksX1_drift_4 13 rfl rfl)
abbrev cX1_drifted : ByteArray := prog_1_method_63_code
def yX1_drifted : MethodName := ⟨RX1, "drifted", "(IIJ)J"⟩
def dkwX1_drifted_9 : List UInt8 := [180, 0, 144, 184, 1, 120, 132, 5, 1, 167, 255, 70, 42, 180, 0, 77, 27, 47, 173]
abbrev dktX1_drifted_9 : List UInt8 := dkwX1_drifted_9 ++ []
def dkwX1_drifted_8 : List UInt8 := [133, 105, 97, 80, 132, 6, 1, 167, 255, 105, 42, 180, 0, 81, 3, 42, 180, 0, 77, 3, 42, 180, 0, 112]
abbrev dktX1_drifted_8 : List UInt8 := dkwX1_drifted_8 ++ dktX1_drifted_9
def dkwX1_drifted_7 : List UInt8 := [42, 180, 0, 81, 21, 6, 92, 47, 42, 180, 0, 77, 21, 6, 4, 96, 47, 42, 180, 0, 112, 180, 1, 117]
abbrev dktX1_drifted_7 : List UInt8 := dkwX1_drifted_7 ++ dktX1_drifted_8
def dkwX1_drifted_6 : List UInt8 := [180, 0, 112, 180, 1, 117, 133, 105, 97, 80, 21, 6, 42, 180, 0, 112, 180, 0, 144, 4, 100, 162, 0, 31]
abbrev dktX1_drifted_6 : List UInt8 := dkwX1_drifted_6 ++ dktX1_drifted_7
def dkwX1_drifted_5 : List UInt8 := [80, 21, 6, 158, 0, 31, 42, 180, 0, 81, 21, 6, 92, 47, 42, 180, 0, 77, 21, 6, 4, 100, 47, 42]
abbrev dktX1_drifted_5 : List UInt8 := dkwX1_drifted_5 ++ dktX1_drifted_6
def dkwX1_drifted_4 : List UInt8 := [21, 6, 42, 180, 0, 77, 21, 6, 47, 33, 42, 180, 0, 112, 180, 1, 117, 133, 21, 7, 133, 105, 101, 105]
abbrev dktX1_drifted_4 : List UInt8 := dkwX1_drifted_4 ++ dktX1_drifted_5
def dkwX1_drifted_3 : List UInt8 := [42, 180, 0, 112, 180, 0, 144, 4, 100, 162, 0, 7, 4, 167, 0, 4, 3, 96, 54, 7, 42, 180, 0, 81]
abbrev dktX1_drifted_3 : List UInt8 := dkwX1_drifted_3 ++ dktX1_drifted_4
def dkwX1_drifted_2 : List UInt8 := [21, 6, 42, 180, 0, 112, 180, 0, 144, 162, 0, 145, 21, 6, 158, 0, 7, 4, 167, 0, 4, 3, 21, 6]
abbrev dktX1_drifted_2 : List UInt8 := dkwX1_drifted_2 ++ dktX1_drifted_3
def dkwX1_drifted_1 : List UInt8 := [167, 0, 4, 9, 80, 132, 5, 1, 167, 255, 228, 3, 54, 5, 21, 5, 28, 162, 0, 186, 3, 54, 6]
abbrev dktX1_drifted_1 : List UInt8 := dkwX1_drifted_1 ++ dktX1_drifted_2
def dkwX1_drifted_0 : List UInt8 := [3, 54, 5, 21, 5, 16, 8, 162, 0, 27, 42, 180, 0, 77, 21, 5, 21, 5, 27, 160, 0, 7, 10]
abbrev dktX1_drifted_0 : List UInt8 := dkwX1_drifted_0 ++ dktX1_drifted_1
theorem dksX1_drifted_0 : cX1_drifted.data.toList.drop 0 = dktX1_drifted_0 := by decide +kernel
theorem dksX1_drifted_1 : cX1_drifted.data.toList.drop 23 = dktX1_drifted_1 := dk_seg dksX1_drifted_0 23 rfl rfl
theorem dksX1_drifted_2 : cX1_drifted.data.toList.drop 46 = dktX1_drifted_2 := dk_seg dksX1_drifted_1 23 rfl rfl
theorem dksX1_drifted_3 : cX1_drifted.data.toList.drop 70 = dktX1_drifted_3 := dk_seg dksX1_drifted_2 24 rfl rfl
theorem dksX1_drifted_4 : cX1_drifted.data.toList.drop 94 = dktX1_drifted_4 := dk_seg dksX1_drifted_3 24 rfl rfl
theorem dksX1_drifted_5 : cX1_drifted.data.toList.drop 118 = dktX1_drifted_5 := dk_seg dksX1_drifted_4 24 rfl rfl
theorem dksX1_drifted_6 : cX1_drifted.data.toList.drop 142 = dktX1_drifted_6 := dk_seg dksX1_drifted_5 24 rfl rfl
theorem dksX1_drifted_7 : cX1_drifted.data.toList.drop 166 = dktX1_drifted_7 := dk_seg dksX1_drifted_6 24 rfl rfl
theorem dksX1_drifted_8 : cX1_drifted.data.toList.drop 190 = dktX1_drifted_8 := dk_seg dksX1_drifted_7 24 rfl rfl
theorem dksX1_drifted_9 : cX1_drifted.data.toList.drop 214 = dktX1_drifted_9 := dk_seg dksX1_drifted_8 24 rfl rfl
theorem dX1_drifted_0 : decode cX1_drifted 0 = .ok (.iconst 0, 1) := dk_3 (dk_at dksX1_drifted_0 0 rfl rfl)
theorem dX1_drifted_1 : decode cX1_drifted 1 = .ok (.istore 5, 2) := dk_54 5 (dk_at dksX1_drifted_0 1 rfl rfl)
theorem dX1_drifted_3 : decode cX1_drifted 3 = .ok (.iload 5, 2) := dk_21 5 (dk_at dksX1_drifted_0 3 rfl rfl)
theorem dX1_drifted_5 : decode cX1_drifted 5 = .ok (.bipush 8, 2) := dk_16 8 (dk_at dksX1_drifted_0 5 rfl rfl)
theorem dX1_drifted_7 : decode cX1_drifted 7 = .ok (.if_icmp .ge 27, 3) := dk_162 0 27 (dk_at dksX1_drifted_0 7 rfl rfl)
theorem dX1_drifted_10 : decode cX1_drifted 10 = .ok (.aload_n 0, 1) := dk_42 (dk_at dksX1_drifted_0 10 rfl rfl)
theorem dX1_drifted_11 : decode cX1_drifted 11 = .ok (.getfield 77, 3) := dk_180 0 77 (dk_at dksX1_drifted_0 11 rfl rfl)
theorem dX1_drifted_14 : decode cX1_drifted 14 = .ok (.iload 5, 2) := dk_21 5 (dk_at dksX1_drifted_0 14 rfl rfl)
theorem dX1_drifted_16 : decode cX1_drifted 16 = .ok (.iload 5, 2) := dk_21 5 (dk_at dksX1_drifted_0 16 rfl rfl)
theorem dX1_drifted_18 : decode cX1_drifted 18 = .ok (.iload_n 1, 1) := dk_27 (dk_at dksX1_drifted_0 18 rfl rfl)
theorem dX1_drifted_19 : decode cX1_drifted 19 = .ok (.if_icmp .ne 7, 3) := dk_160 0 7 (dk_at dksX1_drifted_0 19 rfl rfl)
theorem dX1_drifted_22 : decode cX1_drifted 22 = .ok (.lconst 1, 1) := dk_10 (dk_at dksX1_drifted_0 22 rfl rfl)
theorem dX1_drifted_23 : decode cX1_drifted 23 = .ok (.goto 4, 3) := dk_167 0 4 (dk_at dksX1_drifted_1 0 rfl rfl)
theorem dX1_drifted_26 : decode cX1_drifted 26 = .ok (.lconst 0, 1) := dk_9 (dk_at dksX1_drifted_1 3 rfl rfl)
theorem dX1_drifted_27 : decode cX1_drifted 27 = .ok (.lastore, 1) := dk_80 (dk_at dksX1_drifted_1 4 rfl rfl)
theorem dX1_drifted_28 : decode cX1_drifted 28 = .ok (.iinc 5 1, 3) := dk_132 5 1 (dk_at dksX1_drifted_1 5 rfl rfl)
theorem dX1_drifted_31 : decode cX1_drifted 31 = .ok (.goto (-28), 3) := dk_167 255 228 (dk_at dksX1_drifted_1 8 rfl rfl)
theorem dX1_drifted_34 : decode cX1_drifted 34 = .ok (.iconst 0, 1) := dk_3 (dk_at dksX1_drifted_1 11 rfl rfl)
theorem dX1_drifted_35 : decode cX1_drifted 35 = .ok (.istore 5, 2) := dk_54 5 (dk_at dksX1_drifted_1 12 rfl rfl)
theorem dX1_drifted_37 : decode cX1_drifted 37 = .ok (.iload 5, 2) := dk_21 5 (dk_at dksX1_drifted_1 14 rfl rfl)
theorem dX1_drifted_39 : decode cX1_drifted 39 = .ok (.iload_n 2, 1) := dk_28 (dk_at dksX1_drifted_1 16 rfl rfl)
theorem dX1_drifted_40 : decode cX1_drifted 40 = .ok (.if_icmp .ge 186, 3) := dk_162 0 186 (dk_at dksX1_drifted_1 17 rfl rfl)
theorem dX1_drifted_43 : decode cX1_drifted 43 = .ok (.iconst 0, 1) := dk_3 (dk_at dksX1_drifted_1 20 rfl rfl)
theorem dX1_drifted_44 : decode cX1_drifted 44 = .ok (.istore 6, 2) := dk_54 6 (dk_at dksX1_drifted_1 21 rfl rfl)
theorem dX1_drifted_46 : decode cX1_drifted 46 = .ok (.iload 6, 2) := dk_21 6 (dk_at dksX1_drifted_2 0 rfl rfl)
theorem dX1_drifted_48 : decode cX1_drifted 48 = .ok (.aload_n 0, 1) := dk_42 (dk_at dksX1_drifted_2 2 rfl rfl)
theorem dX1_drifted_49 : decode cX1_drifted 49 = .ok (.getfield 112, 3) := dk_180 0 112 (dk_at dksX1_drifted_2 3 rfl rfl)
theorem dX1_drifted_52 : decode cX1_drifted 52 = .ok (.getfield 144, 3) := dk_180 0 144 (dk_at dksX1_drifted_2 6 rfl rfl)
theorem dX1_drifted_55 : decode cX1_drifted 55 = .ok (.if_icmp .ge 145, 3) := dk_162 0 145 (dk_at dksX1_drifted_2 9 rfl rfl)
theorem dX1_drifted_58 : decode cX1_drifted 58 = .ok (.iload 6, 2) := dk_21 6 (dk_at dksX1_drifted_2 12 rfl rfl)
theorem dX1_drifted_60 : decode cX1_drifted 60 = .ok (.ifCond .le 7, 3) := dk_158 0 7 (dk_at dksX1_drifted_2 14 rfl rfl)
theorem dX1_drifted_63 : decode cX1_drifted 63 = .ok (.iconst 1, 1) := dk_4 (dk_at dksX1_drifted_2 17 rfl rfl)
theorem dX1_drifted_64 : decode cX1_drifted 64 = .ok (.goto 4, 3) := dk_167 0 4 (dk_at dksX1_drifted_2 18 rfl rfl)
theorem dX1_drifted_67 : decode cX1_drifted 67 = .ok (.iconst 0, 1) := dk_3 (dk_at dksX1_drifted_2 21 rfl rfl)
theorem dX1_drifted_68 : decode cX1_drifted 68 = .ok (.iload 6, 2) := dk_21 6 (dk_at dksX1_drifted_2 22 rfl rfl)
theorem dX1_drifted_70 : decode cX1_drifted 70 = .ok (.aload_n 0, 1) := dk_42 (dk_at dksX1_drifted_3 0 rfl rfl)
theorem dX1_drifted_71 : decode cX1_drifted 71 = .ok (.getfield 112, 3) := dk_180 0 112 (dk_at dksX1_drifted_3 1 rfl rfl)
theorem dX1_drifted_74 : decode cX1_drifted 74 = .ok (.getfield 144, 3) := dk_180 0 144 (dk_at dksX1_drifted_3 4 rfl rfl)
theorem dX1_drifted_77 : decode cX1_drifted 77 = .ok (.iconst 1, 1) := dk_4 (dk_at dksX1_drifted_3 7 rfl rfl)
theorem dX1_drifted_78 : decode cX1_drifted 78 = .ok (.isub, 1) := dk_100 (dk_at dksX1_drifted_3 8 rfl rfl)
theorem dX1_drifted_79 : decode cX1_drifted 79 = .ok (.if_icmp .ge 7, 3) := dk_162 0 7 (dk_at dksX1_drifted_3 9 rfl rfl)
theorem dX1_drifted_82 : decode cX1_drifted 82 = .ok (.iconst 1, 1) := dk_4 (dk_at dksX1_drifted_3 12 rfl rfl)
theorem dX1_drifted_83 : decode cX1_drifted 83 = .ok (.goto 4, 3) := dk_167 0 4 (dk_at dksX1_drifted_3 13 rfl rfl)
theorem dX1_drifted_86 : decode cX1_drifted 86 = .ok (.iconst 0, 1) := dk_3 (dk_at dksX1_drifted_3 16 rfl rfl)
theorem dX1_drifted_87 : decode cX1_drifted 87 = .ok (.iadd, 1) := dk_96 (dk_at dksX1_drifted_3 17 rfl rfl)
theorem dX1_drifted_88 : decode cX1_drifted 88 = .ok (.istore 7, 2) := dk_54 7 (dk_at dksX1_drifted_3 18 rfl rfl)
theorem dX1_drifted_90 : decode cX1_drifted 90 = .ok (.aload_n 0, 1) := dk_42 (dk_at dksX1_drifted_3 20 rfl rfl)
theorem dX1_drifted_91 : decode cX1_drifted 91 = .ok (.getfield 81, 3) := dk_180 0 81 (dk_at dksX1_drifted_3 21 rfl rfl)
theorem dX1_drifted_94 : decode cX1_drifted 94 = .ok (.iload 6, 2) := dk_21 6 (dk_at dksX1_drifted_4 0 rfl rfl)
theorem dX1_drifted_96 : decode cX1_drifted 96 = .ok (.aload_n 0, 1) := dk_42 (dk_at dksX1_drifted_4 2 rfl rfl)
theorem dX1_drifted_97 : decode cX1_drifted 97 = .ok (.getfield 77, 3) := dk_180 0 77 (dk_at dksX1_drifted_4 3 rfl rfl)
theorem dX1_drifted_100 : decode cX1_drifted 100 = .ok (.iload 6, 2) := dk_21 6 (dk_at dksX1_drifted_4 6 rfl rfl)
theorem dX1_drifted_102 : decode cX1_drifted 102 = .ok (.laload, 1) := dk_47 (dk_at dksX1_drifted_4 8 rfl rfl)
theorem dX1_drifted_103 : decode cX1_drifted 103 = .ok (.lload_n 3, 1) := dk_33 (dk_at dksX1_drifted_4 9 rfl rfl)
theorem dX1_drifted_104 : decode cX1_drifted 104 = .ok (.aload_n 0, 1) := dk_42 (dk_at dksX1_drifted_4 10 rfl rfl)
theorem dX1_drifted_105 : decode cX1_drifted 105 = .ok (.getfield 112, 3) := dk_180 0 112 (dk_at dksX1_drifted_4 11 rfl rfl)
theorem dX1_drifted_108 : decode cX1_drifted 108 = .ok (.getfield 373, 3) := dk_180 1 117 (dk_at dksX1_drifted_4 14 rfl rfl)
theorem dX1_drifted_111 : decode cX1_drifted 111 = .ok (.i2l, 1) := dk_133 (dk_at dksX1_drifted_4 17 rfl rfl)
theorem dX1_drifted_112 : decode cX1_drifted 112 = .ok (.iload 7, 2) := dk_21 7 (dk_at dksX1_drifted_4 18 rfl rfl)
theorem dX1_drifted_114 : decode cX1_drifted 114 = .ok (.i2l, 1) := dk_133 (dk_at dksX1_drifted_4 20 rfl rfl)
theorem dX1_drifted_115 : decode cX1_drifted 115 = .ok (.lmul, 1) := dk_105 (dk_at dksX1_drifted_4 21 rfl rfl)
theorem dX1_drifted_116 : decode cX1_drifted 116 = .ok (.lsub, 1) := dk_101 (dk_at dksX1_drifted_4 22 rfl rfl)
theorem dX1_drifted_117 : decode cX1_drifted 117 = .ok (.lmul, 1) := dk_105 (dk_at dksX1_drifted_4 23 rfl rfl)
theorem dX1_drifted_118 : decode cX1_drifted 118 = .ok (.lastore, 1) := dk_80 (dk_at dksX1_drifted_5 0 rfl rfl)
theorem dX1_drifted_119 : decode cX1_drifted 119 = .ok (.iload 6, 2) := dk_21 6 (dk_at dksX1_drifted_5 1 rfl rfl)
theorem dX1_drifted_121 : decode cX1_drifted 121 = .ok (.ifCond .le 31, 3) := dk_158 0 31 (dk_at dksX1_drifted_5 3 rfl rfl)
theorem dX1_drifted_124 : decode cX1_drifted 124 = .ok (.aload_n 0, 1) := dk_42 (dk_at dksX1_drifted_5 6 rfl rfl)
theorem dX1_drifted_125 : decode cX1_drifted 125 = .ok (.getfield 81, 3) := dk_180 0 81 (dk_at dksX1_drifted_5 7 rfl rfl)
theorem dX1_drifted_128 : decode cX1_drifted 128 = .ok (.iload 6, 2) := dk_21 6 (dk_at dksX1_drifted_5 10 rfl rfl)
theorem dX1_drifted_130 : decode cX1_drifted 130 = .ok (.dup2, 1) := dk_92 (dk_at dksX1_drifted_5 12 rfl rfl)
theorem dX1_drifted_131 : decode cX1_drifted 131 = .ok (.laload, 1) := dk_47 (dk_at dksX1_drifted_5 13 rfl rfl)
theorem dX1_drifted_132 : decode cX1_drifted 132 = .ok (.aload_n 0, 1) := dk_42 (dk_at dksX1_drifted_5 14 rfl rfl)
theorem dX1_drifted_133 : decode cX1_drifted 133 = .ok (.getfield 77, 3) := dk_180 0 77 (dk_at dksX1_drifted_5 15 rfl rfl)
theorem dX1_drifted_136 : decode cX1_drifted 136 = .ok (.iload 6, 2) := dk_21 6 (dk_at dksX1_drifted_5 18 rfl rfl)
theorem dX1_drifted_138 : decode cX1_drifted 138 = .ok (.iconst 1, 1) := dk_4 (dk_at dksX1_drifted_5 20 rfl rfl)
theorem dX1_drifted_139 : decode cX1_drifted 139 = .ok (.isub, 1) := dk_100 (dk_at dksX1_drifted_5 21 rfl rfl)
theorem dX1_drifted_140 : decode cX1_drifted 140 = .ok (.laload, 1) := dk_47 (dk_at dksX1_drifted_5 22 rfl rfl)
theorem dX1_drifted_141 : decode cX1_drifted 141 = .ok (.aload_n 0, 1) := dk_42 (dk_at dksX1_drifted_5 23 rfl rfl)
theorem dX1_drifted_142 : decode cX1_drifted 142 = .ok (.getfield 112, 3) := dk_180 0 112 (dk_at dksX1_drifted_6 0 rfl rfl)
theorem dX1_drifted_145 : decode cX1_drifted 145 = .ok (.getfield 373, 3) := dk_180 1 117 (dk_at dksX1_drifted_6 3 rfl rfl)
theorem dX1_drifted_148 : decode cX1_drifted 148 = .ok (.i2l, 1) := dk_133 (dk_at dksX1_drifted_6 6 rfl rfl)
theorem dX1_drifted_149 : decode cX1_drifted 149 = .ok (.lmul, 1) := dk_105 (dk_at dksX1_drifted_6 7 rfl rfl)
theorem dX1_drifted_150 : decode cX1_drifted 150 = .ok (.ladd, 1) := dk_97 (dk_at dksX1_drifted_6 8 rfl rfl)
theorem dX1_drifted_151 : decode cX1_drifted 151 = .ok (.lastore, 1) := dk_80 (dk_at dksX1_drifted_6 9 rfl rfl)
theorem dX1_drifted_152 : decode cX1_drifted 152 = .ok (.iload 6, 2) := dk_21 6 (dk_at dksX1_drifted_6 10 rfl rfl)
theorem dX1_drifted_154 : decode cX1_drifted 154 = .ok (.aload_n 0, 1) := dk_42 (dk_at dksX1_drifted_6 12 rfl rfl)
theorem dX1_drifted_155 : decode cX1_drifted 155 = .ok (.getfield 112, 3) := dk_180 0 112 (dk_at dksX1_drifted_6 13 rfl rfl)
theorem dX1_drifted_158 : decode cX1_drifted 158 = .ok (.getfield 144, 3) := dk_180 0 144 (dk_at dksX1_drifted_6 16 rfl rfl)
theorem dX1_drifted_161 : decode cX1_drifted 161 = .ok (.iconst 1, 1) := dk_4 (dk_at dksX1_drifted_6 19 rfl rfl)
theorem dX1_drifted_162 : decode cX1_drifted 162 = .ok (.isub, 1) := dk_100 (dk_at dksX1_drifted_6 20 rfl rfl)
theorem dX1_drifted_163 : decode cX1_drifted 163 = .ok (.if_icmp .ge 31, 3) := dk_162 0 31 (dk_at dksX1_drifted_6 21 rfl rfl)
theorem dX1_drifted_166 : decode cX1_drifted 166 = .ok (.aload_n 0, 1) := dk_42 (dk_at dksX1_drifted_7 0 rfl rfl)
theorem dX1_drifted_167 : decode cX1_drifted 167 = .ok (.getfield 81, 3) := dk_180 0 81 (dk_at dksX1_drifted_7 1 rfl rfl)
theorem dX1_drifted_170 : decode cX1_drifted 170 = .ok (.iload 6, 2) := dk_21 6 (dk_at dksX1_drifted_7 4 rfl rfl)
theorem dX1_drifted_172 : decode cX1_drifted 172 = .ok (.dup2, 1) := dk_92 (dk_at dksX1_drifted_7 6 rfl rfl)
theorem dX1_drifted_173 : decode cX1_drifted 173 = .ok (.laload, 1) := dk_47 (dk_at dksX1_drifted_7 7 rfl rfl)
theorem dX1_drifted_174 : decode cX1_drifted 174 = .ok (.aload_n 0, 1) := dk_42 (dk_at dksX1_drifted_7 8 rfl rfl)
theorem dX1_drifted_175 : decode cX1_drifted 175 = .ok (.getfield 77, 3) := dk_180 0 77 (dk_at dksX1_drifted_7 9 rfl rfl)
theorem dX1_drifted_178 : decode cX1_drifted 178 = .ok (.iload 6, 2) := dk_21 6 (dk_at dksX1_drifted_7 12 rfl rfl)
theorem dX1_drifted_180 : decode cX1_drifted 180 = .ok (.iconst 1, 1) := dk_4 (dk_at dksX1_drifted_7 14 rfl rfl)
theorem dX1_drifted_181 : decode cX1_drifted 181 = .ok (.iadd, 1) := dk_96 (dk_at dksX1_drifted_7 15 rfl rfl)
theorem dX1_drifted_182 : decode cX1_drifted 182 = .ok (.laload, 1) := dk_47 (dk_at dksX1_drifted_7 16 rfl rfl)
theorem dX1_drifted_183 : decode cX1_drifted 183 = .ok (.aload_n 0, 1) := dk_42 (dk_at dksX1_drifted_7 17 rfl rfl)
theorem dX1_drifted_184 : decode cX1_drifted 184 = .ok (.getfield 112, 3) := dk_180 0 112 (dk_at dksX1_drifted_7 18 rfl rfl)
theorem dX1_drifted_187 : decode cX1_drifted 187 = .ok (.getfield 373, 3) := dk_180 1 117 (dk_at dksX1_drifted_7 21 rfl rfl)
theorem dX1_drifted_190 : decode cX1_drifted 190 = .ok (.i2l, 1) := dk_133 (dk_at dksX1_drifted_8 0 rfl rfl)
theorem dX1_drifted_191 : decode cX1_drifted 191 = .ok (.lmul, 1) := dk_105 (dk_at dksX1_drifted_8 1 rfl rfl)
theorem dX1_drifted_192 : decode cX1_drifted 192 = .ok (.ladd, 1) := dk_97 (dk_at dksX1_drifted_8 2 rfl rfl)
theorem dX1_drifted_193 : decode cX1_drifted 193 = .ok (.lastore, 1) := dk_80 (dk_at dksX1_drifted_8 3 rfl rfl)
theorem dX1_drifted_194 : decode cX1_drifted 194 = .ok (.iinc 6 1, 3) := dk_132 6 1 (dk_at dksX1_drifted_8 4 rfl rfl)
theorem dX1_drifted_197 : decode cX1_drifted 197 = .ok (.goto (-151), 3) := dk_167 255 105 (dk_at dksX1_drifted_8 7 rfl rfl)
theorem dX1_drifted_200 : decode cX1_drifted 200 = .ok (.aload_n 0, 1) := dk_42 (dk_at dksX1_drifted_8 10 rfl rfl)
theorem dX1_drifted_201 : decode cX1_drifted 201 = .ok (.getfield 81, 3) := dk_180 0 81 (dk_at dksX1_drifted_8 11 rfl rfl)
theorem dX1_drifted_204 : decode cX1_drifted 204 = .ok (.iconst 0, 1) := dk_3 (dk_at dksX1_drifted_8 14 rfl rfl)
theorem dX1_drifted_205 : decode cX1_drifted 205 = .ok (.aload_n 0, 1) := dk_42 (dk_at dksX1_drifted_8 15 rfl rfl)
theorem dX1_drifted_206 : decode cX1_drifted 206 = .ok (.getfield 77, 3) := dk_180 0 77 (dk_at dksX1_drifted_8 16 rfl rfl)
theorem dX1_drifted_209 : decode cX1_drifted 209 = .ok (.iconst 0, 1) := dk_3 (dk_at dksX1_drifted_8 19 rfl rfl)
theorem dX1_drifted_210 : decode cX1_drifted 210 = .ok (.aload_n 0, 1) := dk_42 (dk_at dksX1_drifted_8 20 rfl rfl)
theorem dX1_drifted_211 : decode cX1_drifted 211 = .ok (.getfield 112, 3) := dk_180 0 112 (dk_at dksX1_drifted_8 21 rfl rfl)
theorem dX1_drifted_214 : decode cX1_drifted 214 = .ok (.getfield 144, 3) := dk_180 0 144 (dk_at dksX1_drifted_9 0 rfl rfl)
theorem dX1_drifted_217 : decode cX1_drifted 217 = .ok (.invokestatic 376, 3) := dk_184 1 120 (dk_at dksX1_drifted_9 3 rfl rfl)
theorem dX1_drifted_220 : decode cX1_drifted 220 = .ok (.iinc 5 1, 3) := dk_132 5 1 (dk_at dksX1_drifted_9 6 rfl rfl)
theorem dX1_drifted_223 : decode cX1_drifted 223 = .ok (.goto (-186), 3) := dk_167 255 70 (dk_at dksX1_drifted_9 9 rfl rfl)
theorem dX1_drifted_226 : decode cX1_drifted 226 = .ok (.aload_n 0, 1) := dk_42 (dk_at dksX1_drifted_9 12 rfl rfl)
theorem dX1_drifted_227 : decode cX1_drifted 227 = .ok (.getfield 77, 3) := dk_180 0 77 (dk_at dksX1_drifted_9 13 rfl rfl)
theorem dX1_drifted_230 : decode cX1_drifted 230 = .ok (.iload_n 1, 1) := dk_27 (dk_at dksX1_drifted_9 16 rfl rfl)
theorem dX1_drifted_231 : decode cX1_drifted 231 = .ok (.laload, 1) := dk_47 (dk_at dksX1_drifted_9 17 rfl rfl)
theorem dX1_drifted_232 : decode cX1_drifted 232 = .ok (.lreturn, 1) := dk_173 (dk_at dksX1_drifted_9 18 rfl rfl)
abbrev cX1_dividing : ByteArray := prog_1_method_62_code
def yX1_dividing : MethodName := ⟨RX1, "dividing", "(JJ)J"⟩
def dkwX1_dividing_0 : List UInt8 := [32, 9, 148, 154, 0, 7, 30, 167, 0, 10, 32, 30, 32, 113, 184, 1, 113, 173]
abbrev dktX1_dividing_0 : List UInt8 := dkwX1_dividing_0 ++ []
theorem dksX1_dividing_0 : cX1_dividing.data.toList.drop 0 = dktX1_dividing_0 := by decide +kernel
theorem dX1_dividing_0 : decode cX1_dividing 0 = .ok (.lload_n 2, 1) := dk_32 (dk_at dksX1_dividing_0 0 rfl rfl)
theorem dX1_dividing_1 : decode cX1_dividing 1 = .ok (.lconst 0, 1) := dk_9 (dk_at dksX1_dividing_0 1 rfl rfl)
theorem dX1_dividing_2 : decode cX1_dividing 2 = .ok (.lcmp, 1) := dk_148 (dk_at dksX1_dividing_0 2 rfl rfl)
theorem dX1_dividing_3 : decode cX1_dividing 3 = .ok (.ifCond .ne 7, 3) := dk_154 0 7 (dk_at dksX1_dividing_0 3 rfl rfl)
theorem dX1_dividing_6 : decode cX1_dividing 6 = .ok (.lload_n 0, 1) := dk_30 (dk_at dksX1_dividing_0 6 rfl rfl)
theorem dX1_dividing_7 : decode cX1_dividing 7 = .ok (.goto 10, 3) := dk_167 0 10 (dk_at dksX1_dividing_0 7 rfl rfl)
theorem dX1_dividing_10 : decode cX1_dividing 10 = .ok (.lload_n 2, 1) := dk_32 (dk_at dksX1_dividing_0 10 rfl rfl)
theorem dX1_dividing_11 : decode cX1_dividing 11 = .ok (.lload_n 0, 1) := dk_30 (dk_at dksX1_dividing_0 11 rfl rfl)
theorem dX1_dividing_12 : decode cX1_dividing 12 = .ok (.lload_n 2, 1) := dk_32 (dk_at dksX1_dividing_0 12 rfl rfl)
theorem dX1_dividing_13 : decode cX1_dividing 13 = .ok (.lrem, 1) := dk_113 (dk_at dksX1_dividing_0 13 rfl rfl)
theorem dX1_dividing_14 : decode cX1_dividing 14 = .ok (.invokestatic 369, 3) := dk_184 1 113 (dk_at dksX1_dividing_0 14 rfl rfl)
theorem dX1_dividing_17 : decode cX1_dividing 17 = .ok (.lreturn, 1) := dk_173 (dk_at dksX1_dividing_0 17 rfl rfl)
abbrev cX1_move : ByteArray := prog_1_method_67_code
def yX1_move : MethodName := ⟨RX1, "move", "(III)Z"⟩
def dkwX1_move_3 : List UInt8 := [27, 28, 29, 182, 1, 139, 42, 182, 1, 142, 172]
abbrev dktX1_move_3 : List UInt8 := dkwX1_move_3 ++ []
def dkwX1_move_2 : List UInt8 := [160, 0, 7, 6, 167, 0, 4, 3, 182, 1, 133, 154, 0, 5, 3, 172, 42, 182, 1, 136, 42, 180, 0, 29]
abbrev dktX1_move_2 : List UInt8 := dkwX1_move_2 ++ dktX1_move_3
def dkwX1_move_1 : List UInt8 := [167, 0, 32, 42, 27, 182, 0, 150, 154, 0, 7, 5, 167, 0, 20, 42, 180, 0, 29, 180, 1, 132, 16, 12]
abbrev dktX1_move_1 : List UInt8 := dkwX1_move_1 ++ dktX1_move_2
def dkwX1_move_0 : List UInt8 := [42, 42, 28, 182, 0, 235, 153, 0, 16, 42, 29, 182, 0, 235, 153, 0, 8, 28, 29, 160, 0, 7, 4]
abbrev dktX1_move_0 : List UInt8 := dkwX1_move_0 ++ dktX1_move_1
theorem dksX1_move_0 : cX1_move.data.toList.drop 0 = dktX1_move_0 := by decide +kernel
theorem dksX1_move_1 : cX1_move.data.toList.drop 23 = dktX1_move_1 := dk_seg dksX1_move_0 23 rfl rfl
theorem dksX1_move_2 : cX1_move.data.toList.drop 47 = dktX1_move_2 := dk_seg dksX1_move_1 24 rfl rfl
theorem dksX1_move_3 : cX1_move.data.toList.drop 71 = dktX1_move_3 := dk_seg dksX1_move_2 24 rfl rfl
theorem dX1_move_0 : decode cX1_move 0 = .ok (.aload_n 0, 1) := dk_42 (dk_at dksX1_move_0 0 rfl rfl)
theorem dX1_move_1 : decode cX1_move 1 = .ok (.aload_n 0, 1) := dk_42 (dk_at dksX1_move_0 1 rfl rfl)
theorem dX1_move_2 : decode cX1_move 2 = .ok (.iload_n 2, 1) := dk_28 (dk_at dksX1_move_0 2 rfl rfl)
theorem dX1_move_3 : decode cX1_move 3 = .ok (.invokevirtual 235, 3) := dk_182 0 235 (dk_at dksX1_move_0 3 rfl rfl)
theorem dX1_move_6 : decode cX1_move 6 = .ok (.ifCond .eq 16, 3) := dk_153 0 16 (dk_at dksX1_move_0 6 rfl rfl)
theorem dX1_move_9 : decode cX1_move 9 = .ok (.aload_n 0, 1) := dk_42 (dk_at dksX1_move_0 9 rfl rfl)
theorem dX1_move_10 : decode cX1_move 10 = .ok (.iload_n 3, 1) := dk_29 (dk_at dksX1_move_0 10 rfl rfl)
theorem dX1_move_11 : decode cX1_move 11 = .ok (.invokevirtual 235, 3) := dk_182 0 235 (dk_at dksX1_move_0 11 rfl rfl)
theorem dX1_move_14 : decode cX1_move 14 = .ok (.ifCond .eq 8, 3) := dk_153 0 8 (dk_at dksX1_move_0 14 rfl rfl)
theorem dX1_move_17 : decode cX1_move 17 = .ok (.iload_n 2, 1) := dk_28 (dk_at dksX1_move_0 17 rfl rfl)
theorem dX1_move_18 : decode cX1_move 18 = .ok (.iload_n 3, 1) := dk_29 (dk_at dksX1_move_0 18 rfl rfl)
theorem dX1_move_19 : decode cX1_move 19 = .ok (.if_icmp .ne 7, 3) := dk_160 0 7 (dk_at dksX1_move_0 19 rfl rfl)
theorem dX1_move_22 : decode cX1_move 22 = .ok (.iconst 1, 1) := dk_4 (dk_at dksX1_move_0 22 rfl rfl)
theorem dX1_move_23 : decode cX1_move 23 = .ok (.goto 32, 3) := dk_167 0 32 (dk_at dksX1_move_1 0 rfl rfl)
theorem dX1_move_26 : decode cX1_move 26 = .ok (.aload_n 0, 1) := dk_42 (dk_at dksX1_move_1 3 rfl rfl)
theorem dX1_move_27 : decode cX1_move 27 = .ok (.iload_n 1, 1) := dk_27 (dk_at dksX1_move_1 4 rfl rfl)
theorem dX1_move_28 : decode cX1_move 28 = .ok (.invokevirtual 150, 3) := dk_182 0 150 (dk_at dksX1_move_1 5 rfl rfl)
theorem dX1_move_31 : decode cX1_move 31 = .ok (.ifCond .ne 7, 3) := dk_154 0 7 (dk_at dksX1_move_1 8 rfl rfl)
theorem dX1_move_34 : decode cX1_move 34 = .ok (.iconst 2, 1) := dk_5 (dk_at dksX1_move_1 11 rfl rfl)
theorem dX1_move_35 : decode cX1_move 35 = .ok (.goto 20, 3) := dk_167 0 20 (dk_at dksX1_move_1 12 rfl rfl)
theorem dX1_move_38 : decode cX1_move 38 = .ok (.aload_n 0, 1) := dk_42 (dk_at dksX1_move_1 15 rfl rfl)
theorem dX1_move_39 : decode cX1_move 39 = .ok (.getfield 29, 3) := dk_180 0 29 (dk_at dksX1_move_1 16 rfl rfl)
theorem dX1_move_42 : decode cX1_move 42 = .ok (.getfield 388, 3) := dk_180 1 132 (dk_at dksX1_move_1 19 rfl rfl)
theorem dX1_move_45 : decode cX1_move 45 = .ok (.bipush 12, 2) := dk_16 12 (dk_at dksX1_move_1 22 rfl rfl)
theorem dX1_move_47 : decode cX1_move 47 = .ok (.if_icmp .ne 7, 3) := dk_160 0 7 (dk_at dksX1_move_2 0 rfl rfl)
theorem dX1_move_50 : decode cX1_move 50 = .ok (.iconst 3, 1) := dk_6 (dk_at dksX1_move_2 3 rfl rfl)
theorem dX1_move_51 : decode cX1_move 51 = .ok (.goto 4, 3) := dk_167 0 4 (dk_at dksX1_move_2 4 rfl rfl)
theorem dX1_move_54 : decode cX1_move 54 = .ok (.iconst 0, 1) := dk_3 (dk_at dksX1_move_2 7 rfl rfl)
theorem dX1_move_55 : decode cX1_move 55 = .ok (.invokevirtual 389, 3) := dk_182 1 133 (dk_at dksX1_move_2 8 rfl rfl)
theorem dX1_move_58 : decode cX1_move 58 = .ok (.ifCond .ne 5, 3) := dk_154 0 5 (dk_at dksX1_move_2 11 rfl rfl)
theorem dX1_move_61 : decode cX1_move 61 = .ok (.iconst 0, 1) := dk_3 (dk_at dksX1_move_2 14 rfl rfl)
theorem dX1_move_62 : decode cX1_move 62 = .ok (.ireturn, 1) := dk_172 (dk_at dksX1_move_2 15 rfl rfl)
theorem dX1_move_63 : decode cX1_move 63 = .ok (.aload_n 0, 1) := dk_42 (dk_at dksX1_move_2 16 rfl rfl)
theorem dX1_move_64 : decode cX1_move 64 = .ok (.invokevirtual 392, 3) := dk_182 1 136 (dk_at dksX1_move_2 17 rfl rfl)
theorem dX1_move_67 : decode cX1_move 67 = .ok (.aload_n 0, 1) := dk_42 (dk_at dksX1_move_2 20 rfl rfl)
theorem dX1_move_68 : decode cX1_move 68 = .ok (.getfield 29, 3) := dk_180 0 29 (dk_at dksX1_move_2 21 rfl rfl)
theorem dX1_move_71 : decode cX1_move 71 = .ok (.iload_n 1, 1) := dk_27 (dk_at dksX1_move_3 0 rfl rfl)
theorem dX1_move_72 : decode cX1_move 72 = .ok (.iload_n 2, 1) := dk_28 (dk_at dksX1_move_3 1 rfl rfl)
theorem dX1_move_73 : decode cX1_move 73 = .ok (.iload_n 3, 1) := dk_29 (dk_at dksX1_move_3 2 rfl rfl)
theorem dX1_move_74 : decode cX1_move 74 = .ok (.invokevirtual 395, 3) := dk_182 1 139 (dk_at dksX1_move_3 3 rfl rfl)
theorem dX1_move_77 : decode cX1_move 77 = .ok (.aload_n 0, 1) := dk_42 (dk_at dksX1_move_3 6 rfl rfl)
theorem dX1_move_78 : decode cX1_move 78 = .ok (.invokevirtual 398, 3) := dk_182 1 142 (dk_at dksX1_move_3 7 rfl rfl)
theorem dX1_move_81 : decode cX1_move 81 = .ok (.ireturn, 1) := dk_172 (dk_at dksX1_move_3 10 rfl rfl)
abbrev cX1_yes : ByteArray := prog_1_method_7_code
def yX1_yes : MethodName := ⟨RX1, "yes", "(I)Z"⟩
def dkwX1_yes_0 : List UInt8 := [42, 182, 0, 87, 42, 27, 181, 0, 84, 27, 154, 0, 7, 4, 167, 0, 4, 3, 172]
abbrev dktX1_yes_0 : List UInt8 := dkwX1_yes_0 ++ []
theorem dksX1_yes_0 : cX1_yes.data.toList.drop 0 = dktX1_yes_0 := by decide +kernel
theorem dX1_yes_0 : decode cX1_yes 0 = .ok (.aload_n 0, 1) := dk_42 (dk_at dksX1_yes_0 0 rfl rfl)
theorem dX1_yes_1 : decode cX1_yes 1 = .ok (.invokevirtual 87, 3) := dk_182 0 87 (dk_at dksX1_yes_0 1 rfl rfl)
theorem dX1_yes_4 : decode cX1_yes 4 = .ok (.aload_n 0, 1) := dk_42 (dk_at dksX1_yes_0 4 rfl rfl)
theorem dX1_yes_5 : decode cX1_yes 5 = .ok (.iload_n 1, 1) := dk_27 (dk_at dksX1_yes_0 5 rfl rfl)
theorem dX1_yes_6 : decode cX1_yes 6 = .ok (.putfield 84, 3) := dk_181 0 84 (dk_at dksX1_yes_0 6 rfl rfl)
theorem dX1_yes_9 : decode cX1_yes 9 = .ok (.iload_n 1, 1) := dk_27 (dk_at dksX1_yes_0 9 rfl rfl)
theorem dX1_yes_10 : decode cX1_yes 10 = .ok (.ifCond .ne 7, 3) := dk_154 0 7 (dk_at dksX1_yes_0 10 rfl rfl)
theorem dX1_yes_13 : decode cX1_yes 13 = .ok (.iconst 1, 1) := dk_4 (dk_at dksX1_yes_0 13 rfl rfl)
theorem dX1_yes_14 : decode cX1_yes 14 = .ok (.goto 4, 3) := dk_167 0 4 (dk_at dksX1_yes_0 14 rfl rfl)
theorem dX1_yes_17 : decode cX1_yes 17 = .ok (.iconst 0, 1) := dk_3 (dk_at dksX1_yes_0 17 rfl rfl)
theorem dX1_yes_18 : decode cX1_yes 18 = .ok (.ireturn, 1) := dk_172 (dk_at dksX1_yes_0 18 rfl rfl)
abbrev cX1_note : ByteArray := prog_1_method_65_code
def yX1_note : MethodName := ⟨RX1, "note", "()V"⟩
def dkwX1_note_0 : List UInt8 := [42, 180, 0, 33, 42, 180, 0, 29, 182, 1, 24, 177]
abbrev dktX1_note_0 : List UInt8 := dkwX1_note_0 ++ []
theorem dksX1_note_0 : cX1_note.data.toList.drop 0 = dktX1_note_0 := by decide +kernel
theorem dX1_note_0 : decode cX1_note 0 = .ok (.aload_n 0, 1) := dk_42 (dk_at dksX1_note_0 0 rfl rfl)
theorem dX1_note_1 : decode cX1_note 1 = .ok (.getfield 33, 3) := dk_180 0 33 (dk_at dksX1_note_0 1 rfl rfl)
theorem dX1_note_4 : decode cX1_note 4 = .ok (.aload_n 0, 1) := dk_42 (dk_at dksX1_note_0 4 rfl rfl)
theorem dX1_note_5 : decode cX1_note 5 = .ok (.getfield 29, 3) := dk_180 0 29 (dk_at dksX1_note_0 5 rfl rfl)
theorem dX1_note_8 : decode cX1_note 8 = .ok (.invokevirtual 280, 3) := dk_182 1 24 (dk_at dksX1_note_0 8 rfl rfl)
theorem dX1_note_11 : decode cX1_note 11 = .ok (.return_, 1) := dk_177 (dk_at dksX1_note_0 11 rfl rfl)
abbrev cX1_done : ByteArray := prog_1_method_66_code
def yX1_done : MethodName := ⟨RX1, "done", "()Z"⟩
def dkwX1_done_3 : List UInt8 := [180, 0, 33, 182, 1, 24, 42, 89, 180, 0, 126, 4, 96, 181, 0, 126, 42, 182, 0, 132, 4, 172]
abbrev dktX1_done_3 : List UInt8 := dkwX1_done_3 ++ []
def dkwX1_done_2 : List UInt8 := [16, 15, 43, 83, 42, 89, 180, 0, 126, 4, 100, 181, 0, 126, 42, 180, 0, 63, 42, 180, 0, 126, 50, 42]
abbrev dktX1_done_2 : List UInt8 := dkwX1_done_2 ++ dktX1_done_3
def dkwX1_done_1 : List UInt8 := [42, 180, 0, 63, 28, 4, 100, 42, 180, 0, 63, 28, 50, 83, 132, 2, 1, 167, 255, 233, 42, 180, 0, 63]
abbrev dktX1_done_1 : List UInt8 := dkwX1_done_1 ++ dktX1_done_2
def dkwX1_done_0 : List UInt8 := [42, 180, 0, 126, 16, 16, 160, 0, 56, 42, 180, 0, 63, 3, 50, 76, 4, 61, 28, 16, 16, 162, 0, 23]
abbrev dktX1_done_0 : List UInt8 := dkwX1_done_0 ++ dktX1_done_1
theorem dksX1_done_0 : cX1_done.data.toList.drop 0 = dktX1_done_0 := by decide +kernel
theorem dksX1_done_1 : cX1_done.data.toList.drop 24 = dktX1_done_1 := dk_seg dksX1_done_0 24 rfl rfl
theorem dksX1_done_2 : cX1_done.data.toList.drop 48 = dktX1_done_2 := dk_seg dksX1_done_1 24 rfl rfl
theorem dksX1_done_3 : cX1_done.data.toList.drop 72 = dktX1_done_3 := dk_seg dksX1_done_2 24 rfl rfl
theorem dX1_done_0 : decode cX1_done 0 = .ok (.aload_n 0, 1) := dk_42 (dk_at dksX1_done_0 0 rfl rfl)
theorem dX1_done_1 : decode cX1_done 1 = .ok (.getfield 126, 3) := dk_180 0 126 (dk_at dksX1_done_0 1 rfl rfl)
theorem dX1_done_4 : decode cX1_done 4 = .ok (.bipush 16, 2) := dk_16 16 (dk_at dksX1_done_0 4 rfl rfl)
theorem dX1_done_6 : decode cX1_done 6 = .ok (.if_icmp .ne 56, 3) := dk_160 0 56 (dk_at dksX1_done_0 6 rfl rfl)
theorem dX1_done_9 : decode cX1_done 9 = .ok (.aload_n 0, 1) := dk_42 (dk_at dksX1_done_0 9 rfl rfl)
theorem dX1_done_10 : decode cX1_done 10 = .ok (.getfield 63, 3) := dk_180 0 63 (dk_at dksX1_done_0 10 rfl rfl)
theorem dX1_done_13 : decode cX1_done 13 = .ok (.iconst 0, 1) := dk_3 (dk_at dksX1_done_0 13 rfl rfl)
theorem dX1_done_14 : decode cX1_done 14 = .ok (.aaload, 1) := dk_50 (dk_at dksX1_done_0 14 rfl rfl)
theorem dX1_done_15 : decode cX1_done 15 = .ok (.astore_n 1, 1) := dk_76 (dk_at dksX1_done_0 15 rfl rfl)
theorem dX1_done_16 : decode cX1_done 16 = .ok (.iconst 1, 1) := dk_4 (dk_at dksX1_done_0 16 rfl rfl)
theorem dX1_done_17 : decode cX1_done 17 = .ok (.istore_n 2, 1) := dk_61 (dk_at dksX1_done_0 17 rfl rfl)
theorem dX1_done_18 : decode cX1_done 18 = .ok (.iload_n 2, 1) := dk_28 (dk_at dksX1_done_0 18 rfl rfl)
theorem dX1_done_19 : decode cX1_done 19 = .ok (.bipush 16, 2) := dk_16 16 (dk_at dksX1_done_0 19 rfl rfl)
theorem dX1_done_21 : decode cX1_done 21 = .ok (.if_icmp .ge 23, 3) := dk_162 0 23 (dk_at dksX1_done_0 21 rfl rfl)
theorem dX1_done_24 : decode cX1_done 24 = .ok (.aload_n 0, 1) := dk_42 (dk_at dksX1_done_1 0 rfl rfl)
theorem dX1_done_25 : decode cX1_done 25 = .ok (.getfield 63, 3) := dk_180 0 63 (dk_at dksX1_done_1 1 rfl rfl)
theorem dX1_done_28 : decode cX1_done 28 = .ok (.iload_n 2, 1) := dk_28 (dk_at dksX1_done_1 4 rfl rfl)
theorem dX1_done_29 : decode cX1_done 29 = .ok (.iconst 1, 1) := dk_4 (dk_at dksX1_done_1 5 rfl rfl)
theorem dX1_done_30 : decode cX1_done 30 = .ok (.isub, 1) := dk_100 (dk_at dksX1_done_1 6 rfl rfl)
theorem dX1_done_31 : decode cX1_done 31 = .ok (.aload_n 0, 1) := dk_42 (dk_at dksX1_done_1 7 rfl rfl)
theorem dX1_done_32 : decode cX1_done 32 = .ok (.getfield 63, 3) := dk_180 0 63 (dk_at dksX1_done_1 8 rfl rfl)
theorem dX1_done_35 : decode cX1_done 35 = .ok (.iload_n 2, 1) := dk_28 (dk_at dksX1_done_1 11 rfl rfl)
theorem dX1_done_36 : decode cX1_done 36 = .ok (.aaload, 1) := dk_50 (dk_at dksX1_done_1 12 rfl rfl)
theorem dX1_done_37 : decode cX1_done 37 = .ok (.aastore, 1) := dk_83 (dk_at dksX1_done_1 13 rfl rfl)
theorem dX1_done_38 : decode cX1_done 38 = .ok (.iinc 2 1, 3) := dk_132 2 1 (dk_at dksX1_done_1 14 rfl rfl)
theorem dX1_done_41 : decode cX1_done 41 = .ok (.goto (-23), 3) := dk_167 255 233 (dk_at dksX1_done_1 17 rfl rfl)
theorem dX1_done_44 : decode cX1_done 44 = .ok (.aload_n 0, 1) := dk_42 (dk_at dksX1_done_1 20 rfl rfl)
theorem dX1_done_45 : decode cX1_done 45 = .ok (.getfield 63, 3) := dk_180 0 63 (dk_at dksX1_done_1 21 rfl rfl)
theorem dX1_done_48 : decode cX1_done 48 = .ok (.bipush 15, 2) := dk_16 15 (dk_at dksX1_done_2 0 rfl rfl)
theorem dX1_done_50 : decode cX1_done 50 = .ok (.aload_n 1, 1) := dk_43 (dk_at dksX1_done_2 2 rfl rfl)
theorem dX1_done_51 : decode cX1_done 51 = .ok (.aastore, 1) := dk_83 (dk_at dksX1_done_2 3 rfl rfl)
theorem dX1_done_52 : decode cX1_done 52 = .ok (.aload_n 0, 1) := dk_42 (dk_at dksX1_done_2 4 rfl rfl)
theorem dX1_done_53 : decode cX1_done 53 = .ok (.dup, 1) := dk_89 (dk_at dksX1_done_2 5 rfl rfl)
theorem dX1_done_54 : decode cX1_done 54 = .ok (.getfield 126, 3) := dk_180 0 126 (dk_at dksX1_done_2 6 rfl rfl)
theorem dX1_done_57 : decode cX1_done 57 = .ok (.iconst 1, 1) := dk_4 (dk_at dksX1_done_2 9 rfl rfl)
theorem dX1_done_58 : decode cX1_done 58 = .ok (.isub, 1) := dk_100 (dk_at dksX1_done_2 10 rfl rfl)
theorem dX1_done_59 : decode cX1_done 59 = .ok (.putfield 126, 3) := dk_181 0 126 (dk_at dksX1_done_2 11 rfl rfl)
theorem dX1_done_62 : decode cX1_done 62 = .ok (.aload_n 0, 1) := dk_42 (dk_at dksX1_done_2 14 rfl rfl)
theorem dX1_done_63 : decode cX1_done 63 = .ok (.getfield 63, 3) := dk_180 0 63 (dk_at dksX1_done_2 15 rfl rfl)
theorem dX1_done_66 : decode cX1_done 66 = .ok (.aload_n 0, 1) := dk_42 (dk_at dksX1_done_2 18 rfl rfl)
theorem dX1_done_67 : decode cX1_done 67 = .ok (.getfield 126, 3) := dk_180 0 126 (dk_at dksX1_done_2 19 rfl rfl)
theorem dX1_done_70 : decode cX1_done 70 = .ok (.aaload, 1) := dk_50 (dk_at dksX1_done_2 22 rfl rfl)
theorem dX1_done_71 : decode cX1_done 71 = .ok (.aload_n 0, 1) := dk_42 (dk_at dksX1_done_2 23 rfl rfl)
theorem dX1_done_72 : decode cX1_done 72 = .ok (.getfield 33, 3) := dk_180 0 33 (dk_at dksX1_done_3 0 rfl rfl)
theorem dX1_done_75 : decode cX1_done 75 = .ok (.invokevirtual 280, 3) := dk_182 1 24 (dk_at dksX1_done_3 3 rfl rfl)
theorem dX1_done_78 : decode cX1_done 78 = .ok (.aload_n 0, 1) := dk_42 (dk_at dksX1_done_3 6 rfl rfl)
theorem dX1_done_79 : decode cX1_done 79 = .ok (.dup, 1) := dk_89 (dk_at dksX1_done_3 7 rfl rfl)
theorem dX1_done_80 : decode cX1_done 80 = .ok (.getfield 126, 3) := dk_180 0 126 (dk_at dksX1_done_3 8 rfl rfl)
theorem dX1_done_83 : decode cX1_done 83 = .ok (.iconst 1, 1) := dk_4 (dk_at dksX1_done_3 11 rfl rfl)
theorem dX1_done_84 : decode cX1_done 84 = .ok (.iadd, 1) := dk_96 (dk_at dksX1_done_3 12 rfl rfl)
theorem dX1_done_85 : decode cX1_done 85 = .ok (.putfield 126, 3) := dk_181 0 126 (dk_at dksX1_done_3 13 rfl rfl)
theorem dX1_done_88 : decode cX1_done 88 = .ok (.aload_n 0, 1) := dk_42 (dk_at dksX1_done_3 16 rfl rfl)
theorem dX1_done_89 : decode cX1_done 89 = .ok (.invokevirtual 132, 3) := dk_182 0 132 (dk_at dksX1_done_3 17 rfl rfl)
theorem dX1_done_92 : decode cX1_done 92 = .ok (.iconst 1, 1) := dk_4 (dk_at dksX1_done_3 20 rfl rfl)
theorem dX1_done_93 : decode cX1_done 93 = .ok (.ireturn, 1) := dk_172 (dk_at dksX1_done_3 21 rfl rfl)
abbrev cX1_shake : ByteArray := prog_1_method_68_code
def yX1_shake : MethodName := ⟨RX1, "shake", "()I"⟩
def dkwX1_shake_4 : List UInt8 := [96, 172]
abbrev dktX1_shake_4 : List UInt8 := dkwX1_shake_4 ++ []
def dkwX1_shake_3 : List UInt8 := [112, 61, 42, 180, 0, 29, 27, 28, 28, 4, 96, 182, 1, 139, 42, 182, 1, 142, 87, 16, 100, 27, 104, 28]
abbrev dktX1_shake_3 : List UInt8 := dkwX1_shake_3 ++ dktX1_shake_4
def dkwX1_shake_2 : List UInt8 := [180, 0, 112, 180, 0, 147, 112, 60, 42, 180, 0, 29, 182, 1, 145, 42, 180, 0, 112, 180, 0, 144, 4, 100]
abbrev dktX1_shake_2 : List UInt8 := dkwX1_shake_2 ++ dktX1_shake_3
def dkwX1_shake_1 : List UInt8 := [16, 12, 160, 0, 9, 42, 6, 182, 0, 101, 172, 42, 182, 1, 136, 42, 180, 0, 29, 182, 1, 145, 42]
abbrev dktX1_shake_1 : List UInt8 := dkwX1_shake_1 ++ dktX1_shake_2
def dkwX1_shake_0 : List UInt8 := [42, 182, 0, 87, 42, 180, 0, 112, 199, 0, 9, 42, 4, 182, 0, 101, 172, 42, 180, 0, 29, 180, 1, 132]
abbrev dktX1_shake_0 : List UInt8 := dkwX1_shake_0 ++ dktX1_shake_1
theorem dksX1_shake_0 : cX1_shake.data.toList.drop 0 = dktX1_shake_0 := by decide +kernel
theorem dksX1_shake_1 : cX1_shake.data.toList.drop 24 = dktX1_shake_1 := dk_seg dksX1_shake_0 24 rfl rfl
theorem dksX1_shake_2 : cX1_shake.data.toList.drop 47 = dktX1_shake_2 := dk_seg dksX1_shake_1 23 rfl rfl
theorem dksX1_shake_3 : cX1_shake.data.toList.drop 71 = dktX1_shake_3 := dk_seg dksX1_shake_2 24 rfl rfl
theorem dksX1_shake_4 : cX1_shake.data.toList.drop 95 = dktX1_shake_4 := dk_seg dksX1_shake_3 24 rfl rfl
theorem dX1_shake_0 : decode cX1_shake 0 = .ok (.aload_n 0, 1) := dk_42 (dk_at dksX1_shake_0 0 rfl rfl)
theorem dX1_shake_1 : decode cX1_shake 1 = .ok (.invokevirtual 87, 3) := dk_182 0 87 (dk_at dksX1_shake_0 1 rfl rfl)
theorem dX1_shake_4 : decode cX1_shake 4 = .ok (.aload_n 0, 1) := dk_42 (dk_at dksX1_shake_0 4 rfl rfl)
theorem dX1_shake_5 : decode cX1_shake 5 = .ok (.getfield 112, 3) := dk_180 0 112 (dk_at dksX1_shake_0 5 rfl rfl)
theorem dX1_shake_8 : decode cX1_shake 8 = .ok (.ifnonnull 9, 3) := dk_199 0 9 (dk_at dksX1_shake_0 8 rfl rfl)
theorem dX1_shake_11 : decode cX1_shake 11 = .ok (.aload_n 0, 1) := dk_42 (dk_at dksX1_shake_0 11 rfl rfl)
theorem dX1_shake_12 : decode cX1_shake 12 = .ok (.iconst 1, 1) := dk_4 (dk_at dksX1_shake_0 12 rfl rfl)
theorem dX1_shake_13 : decode cX1_shake 13 = .ok (.invokevirtual 101, 3) := dk_182 0 101 (dk_at dksX1_shake_0 13 rfl rfl)
theorem dX1_shake_16 : decode cX1_shake 16 = .ok (.ireturn, 1) := dk_172 (dk_at dksX1_shake_0 16 rfl rfl)
theorem dX1_shake_17 : decode cX1_shake 17 = .ok (.aload_n 0, 1) := dk_42 (dk_at dksX1_shake_0 17 rfl rfl)
theorem dX1_shake_18 : decode cX1_shake 18 = .ok (.getfield 29, 3) := dk_180 0 29 (dk_at dksX1_shake_0 18 rfl rfl)
theorem dX1_shake_21 : decode cX1_shake 21 = .ok (.getfield 388, 3) := dk_180 1 132 (dk_at dksX1_shake_0 21 rfl rfl)
theorem dX1_shake_24 : decode cX1_shake 24 = .ok (.bipush 12, 2) := dk_16 12 (dk_at dksX1_shake_1 0 rfl rfl)
theorem dX1_shake_26 : decode cX1_shake 26 = .ok (.if_icmp .ne 9, 3) := dk_160 0 9 (dk_at dksX1_shake_1 2 rfl rfl)
theorem dX1_shake_29 : decode cX1_shake 29 = .ok (.aload_n 0, 1) := dk_42 (dk_at dksX1_shake_1 5 rfl rfl)
theorem dX1_shake_30 : decode cX1_shake 30 = .ok (.iconst 3, 1) := dk_6 (dk_at dksX1_shake_1 6 rfl rfl)
theorem dX1_shake_31 : decode cX1_shake 31 = .ok (.invokevirtual 101, 3) := dk_182 0 101 (dk_at dksX1_shake_1 7 rfl rfl)
theorem dX1_shake_34 : decode cX1_shake 34 = .ok (.ireturn, 1) := dk_172 (dk_at dksX1_shake_1 10 rfl rfl)
theorem dX1_shake_35 : decode cX1_shake 35 = .ok (.aload_n 0, 1) := dk_42 (dk_at dksX1_shake_1 11 rfl rfl)
theorem dX1_shake_36 : decode cX1_shake 36 = .ok (.invokevirtual 392, 3) := dk_182 1 136 (dk_at dksX1_shake_1 12 rfl rfl)
theorem dX1_shake_39 : decode cX1_shake 39 = .ok (.aload_n 0, 1) := dk_42 (dk_at dksX1_shake_1 15 rfl rfl)
theorem dX1_shake_40 : decode cX1_shake 40 = .ok (.getfield 29, 3) := dk_180 0 29 (dk_at dksX1_shake_1 16 rfl rfl)
theorem dX1_shake_43 : decode cX1_shake 43 = .ok (.invokevirtual 401, 3) := dk_182 1 145 (dk_at dksX1_shake_1 19 rfl rfl)
theorem dX1_shake_46 : decode cX1_shake 46 = .ok (.aload_n 0, 1) := dk_42 (dk_at dksX1_shake_1 22 rfl rfl)
theorem dX1_shake_47 : decode cX1_shake 47 = .ok (.getfield 112, 3) := dk_180 0 112 (dk_at dksX1_shake_2 0 rfl rfl)
theorem dX1_shake_50 : decode cX1_shake 50 = .ok (.getfield 147, 3) := dk_180 0 147 (dk_at dksX1_shake_2 3 rfl rfl)
theorem dX1_shake_53 : decode cX1_shake 53 = .ok (.irem, 1) := dk_112 (dk_at dksX1_shake_2 6 rfl rfl)
theorem dX1_shake_54 : decode cX1_shake 54 = .ok (.istore_n 1, 1) := dk_60 (dk_at dksX1_shake_2 7 rfl rfl)
theorem dX1_shake_55 : decode cX1_shake 55 = .ok (.aload_n 0, 1) := dk_42 (dk_at dksX1_shake_2 8 rfl rfl)
theorem dX1_shake_56 : decode cX1_shake 56 = .ok (.getfield 29, 3) := dk_180 0 29 (dk_at dksX1_shake_2 9 rfl rfl)
theorem dX1_shake_59 : decode cX1_shake 59 = .ok (.invokevirtual 401, 3) := dk_182 1 145 (dk_at dksX1_shake_2 12 rfl rfl)
theorem dX1_shake_62 : decode cX1_shake 62 = .ok (.aload_n 0, 1) := dk_42 (dk_at dksX1_shake_2 15 rfl rfl)
theorem dX1_shake_63 : decode cX1_shake 63 = .ok (.getfield 112, 3) := dk_180 0 112 (dk_at dksX1_shake_2 16 rfl rfl)
theorem dX1_shake_66 : decode cX1_shake 66 = .ok (.getfield 144, 3) := dk_180 0 144 (dk_at dksX1_shake_2 19 rfl rfl)
theorem dX1_shake_69 : decode cX1_shake 69 = .ok (.iconst 1, 1) := dk_4 (dk_at dksX1_shake_2 22 rfl rfl)
theorem dX1_shake_70 : decode cX1_shake 70 = .ok (.isub, 1) := dk_100 (dk_at dksX1_shake_2 23 rfl rfl)
theorem dX1_shake_71 : decode cX1_shake 71 = .ok (.irem, 1) := dk_112 (dk_at dksX1_shake_3 0 rfl rfl)
theorem dX1_shake_72 : decode cX1_shake 72 = .ok (.istore_n 2, 1) := dk_61 (dk_at dksX1_shake_3 1 rfl rfl)
theorem dX1_shake_73 : decode cX1_shake 73 = .ok (.aload_n 0, 1) := dk_42 (dk_at dksX1_shake_3 2 rfl rfl)
theorem dX1_shake_74 : decode cX1_shake 74 = .ok (.getfield 29, 3) := dk_180 0 29 (dk_at dksX1_shake_3 3 rfl rfl)
theorem dX1_shake_77 : decode cX1_shake 77 = .ok (.iload_n 1, 1) := dk_27 (dk_at dksX1_shake_3 6 rfl rfl)
theorem dX1_shake_78 : decode cX1_shake 78 = .ok (.iload_n 2, 1) := dk_28 (dk_at dksX1_shake_3 7 rfl rfl)
theorem dX1_shake_79 : decode cX1_shake 79 = .ok (.iload_n 2, 1) := dk_28 (dk_at dksX1_shake_3 8 rfl rfl)
theorem dX1_shake_80 : decode cX1_shake 80 = .ok (.iconst 1, 1) := dk_4 (dk_at dksX1_shake_3 9 rfl rfl)
theorem dX1_shake_81 : decode cX1_shake 81 = .ok (.iadd, 1) := dk_96 (dk_at dksX1_shake_3 10 rfl rfl)
theorem dX1_shake_82 : decode cX1_shake 82 = .ok (.invokevirtual 395, 3) := dk_182 1 139 (dk_at dksX1_shake_3 11 rfl rfl)
theorem dX1_shake_85 : decode cX1_shake 85 = .ok (.aload_n 0, 1) := dk_42 (dk_at dksX1_shake_3 14 rfl rfl)
theorem dX1_shake_86 : decode cX1_shake 86 = .ok (.invokevirtual 398, 3) := dk_182 1 142 (dk_at dksX1_shake_3 15 rfl rfl)
theorem dX1_shake_89 : decode cX1_shake 89 = .ok (.pop, 1) := dk_87 (dk_at dksX1_shake_3 18 rfl rfl)
theorem dX1_shake_90 : decode cX1_shake 90 = .ok (.bipush 100, 2) := dk_16 100 (dk_at dksX1_shake_3 19 rfl rfl)
theorem dX1_shake_92 : decode cX1_shake 92 = .ok (.iload_n 1, 1) := dk_27 (dk_at dksX1_shake_3 21 rfl rfl)
theorem dX1_shake_93 : decode cX1_shake 93 = .ok (.imul, 1) := dk_104 (dk_at dksX1_shake_3 22 rfl rfl)
theorem dX1_shake_94 : decode cX1_shake 94 = .ok (.iload_n 2, 1) := dk_28 (dk_at dksX1_shake_3 23 rfl rfl)
theorem dX1_shake_95 : decode cX1_shake 95 = .ok (.iadd, 1) := dk_96 (dk_at dksX1_shake_4 0 rfl rfl)
theorem dX1_shake_96 : decode cX1_shake 96 = .ok (.ireturn, 1) := dk_172 (dk_at dksX1_shake_4 1 rfl rfl)
abbrev cX1_kind : ByteArray := prog_1_method_69_code
def yX1_kind : MethodName := ⟨RX1, "kind", "(II)Z"⟩
def dkwX1_kind_2 : List UInt8 := [172, 42, 182, 1, 136, 42, 180, 0, 29, 180, 0, 161, 27, 28, 79, 42, 182, 1, 142, 172]
abbrev dktX1_kind_2 : List UInt8 := dkwX1_kind_2 ++ []
def dkwX1_kind_1 : List UInt8 := [180, 0, 29, 180, 0, 161, 27, 46, 28, 160, 0, 7, 8, 167, 0, 4, 3, 182, 1, 133, 154, 0, 5, 3]
abbrev dktX1_kind_1 : List UInt8 := dkwX1_kind_1 ++ dktX1_kind_2
def dkwX1_kind_0 : List UInt8 := [42, 42, 27, 182, 0, 154, 153, 0, 12, 28, 3, 6, 184, 0, 97, 154, 0, 7, 4, 167, 0, 21, 42]
abbrev dktX1_kind_0 : List UInt8 := dkwX1_kind_0 ++ dktX1_kind_1
theorem dksX1_kind_0 : cX1_kind.data.toList.drop 0 = dktX1_kind_0 := by decide +kernel
theorem dksX1_kind_1 : cX1_kind.data.toList.drop 23 = dktX1_kind_1 := dk_seg dksX1_kind_0 23 rfl rfl
theorem dksX1_kind_2 : cX1_kind.data.toList.drop 47 = dktX1_kind_2 := dk_seg dksX1_kind_1 24 rfl rfl
theorem dX1_kind_0 : decode cX1_kind 0 = .ok (.aload_n 0, 1) := dk_42 (dk_at dksX1_kind_0 0 rfl rfl)
theorem dX1_kind_1 : decode cX1_kind 1 = .ok (.aload_n 0, 1) := dk_42 (dk_at dksX1_kind_0 1 rfl rfl)
theorem dX1_kind_2 : decode cX1_kind 2 = .ok (.iload_n 1, 1) := dk_27 (dk_at dksX1_kind_0 2 rfl rfl)
theorem dX1_kind_3 : decode cX1_kind 3 = .ok (.invokevirtual 154, 3) := dk_182 0 154 (dk_at dksX1_kind_0 3 rfl rfl)
theorem dX1_kind_6 : decode cX1_kind 6 = .ok (.ifCond .eq 12, 3) := dk_153 0 12 (dk_at dksX1_kind_0 6 rfl rfl)
theorem dX1_kind_9 : decode cX1_kind 9 = .ok (.iload_n 2, 1) := dk_28 (dk_at dksX1_kind_0 9 rfl rfl)
theorem dX1_kind_10 : decode cX1_kind 10 = .ok (.iconst 0, 1) := dk_3 (dk_at dksX1_kind_0 10 rfl rfl)
theorem dX1_kind_11 : decode cX1_kind 11 = .ok (.iconst 3, 1) := dk_6 (dk_at dksX1_kind_0 11 rfl rfl)
theorem dX1_kind_12 : decode cX1_kind 12 = .ok (.invokestatic 97, 3) := dk_184 0 97 (dk_at dksX1_kind_0 12 rfl rfl)
theorem dX1_kind_15 : decode cX1_kind 15 = .ok (.ifCond .ne 7, 3) := dk_154 0 7 (dk_at dksX1_kind_0 15 rfl rfl)
theorem dX1_kind_18 : decode cX1_kind 18 = .ok (.iconst 1, 1) := dk_4 (dk_at dksX1_kind_0 18 rfl rfl)
theorem dX1_kind_19 : decode cX1_kind 19 = .ok (.goto 21, 3) := dk_167 0 21 (dk_at dksX1_kind_0 19 rfl rfl)
theorem dX1_kind_22 : decode cX1_kind 22 = .ok (.aload_n 0, 1) := dk_42 (dk_at dksX1_kind_0 22 rfl rfl)
theorem dX1_kind_23 : decode cX1_kind 23 = .ok (.getfield 29, 3) := dk_180 0 29 (dk_at dksX1_kind_1 0 rfl rfl)
theorem dX1_kind_26 : decode cX1_kind 26 = .ok (.getfield 161, 3) := dk_180 0 161 (dk_at dksX1_kind_1 3 rfl rfl)
theorem dX1_kind_29 : decode cX1_kind 29 = .ok (.iload_n 1, 1) := dk_27 (dk_at dksX1_kind_1 6 rfl rfl)
theorem dX1_kind_30 : decode cX1_kind 30 = .ok (.iaload, 1) := dk_46 (dk_at dksX1_kind_1 7 rfl rfl)
theorem dX1_kind_31 : decode cX1_kind 31 = .ok (.iload_n 2, 1) := dk_28 (dk_at dksX1_kind_1 8 rfl rfl)
theorem dX1_kind_32 : decode cX1_kind 32 = .ok (.if_icmp .ne 7, 3) := dk_160 0 7 (dk_at dksX1_kind_1 9 rfl rfl)
theorem dX1_kind_35 : decode cX1_kind 35 = .ok (.iconst 5, 1) := dk_8 (dk_at dksX1_kind_1 12 rfl rfl)
theorem dX1_kind_36 : decode cX1_kind 36 = .ok (.goto 4, 3) := dk_167 0 4 (dk_at dksX1_kind_1 13 rfl rfl)
theorem dX1_kind_39 : decode cX1_kind 39 = .ok (.iconst 0, 1) := dk_3 (dk_at dksX1_kind_1 16 rfl rfl)
theorem dX1_kind_40 : decode cX1_kind 40 = .ok (.invokevirtual 389, 3) := dk_182 1 133 (dk_at dksX1_kind_1 17 rfl rfl)
theorem dX1_kind_43 : decode cX1_kind 43 = .ok (.ifCond .ne 5, 3) := dk_154 0 5 (dk_at dksX1_kind_1 20 rfl rfl)
theorem dX1_kind_46 : decode cX1_kind 46 = .ok (.iconst 0, 1) := dk_3 (dk_at dksX1_kind_1 23 rfl rfl)
theorem dX1_kind_47 : decode cX1_kind 47 = .ok (.ireturn, 1) := dk_172 (dk_at dksX1_kind_2 0 rfl rfl)
theorem dX1_kind_48 : decode cX1_kind 48 = .ok (.aload_n 0, 1) := dk_42 (dk_at dksX1_kind_2 1 rfl rfl)
theorem dX1_kind_49 : decode cX1_kind 49 = .ok (.invokevirtual 392, 3) := dk_182 1 136 (dk_at dksX1_kind_2 2 rfl rfl)
theorem dX1_kind_52 : decode cX1_kind 52 = .ok (.aload_n 0, 1) := dk_42 (dk_at dksX1_kind_2 5 rfl rfl)
theorem dX1_kind_53 : decode cX1_kind 53 = .ok (.getfield 29, 3) := dk_180 0 29 (dk_at dksX1_kind_2 6 rfl rfl)
theorem dX1_kind_56 : decode cX1_kind 56 = .ok (.getfield 161, 3) := dk_180 0 161 (dk_at dksX1_kind_2 9 rfl rfl)
theorem dX1_kind_59 : decode cX1_kind 59 = .ok (.iload_n 1, 1) := dk_27 (dk_at dksX1_kind_2 12 rfl rfl)
theorem dX1_kind_60 : decode cX1_kind 60 = .ok (.iload_n 2, 1) := dk_28 (dk_at dksX1_kind_2 13 rfl rfl)
theorem dX1_kind_61 : decode cX1_kind 61 = .ok (.iastore, 1) := dk_79 (dk_at dksX1_kind_2 14 rfl rfl)
theorem dX1_kind_62 : decode cX1_kind 62 = .ok (.aload_n 0, 1) := dk_42 (dk_at dksX1_kind_2 15 rfl rfl)
theorem dX1_kind_63 : decode cX1_kind 63 = .ok (.invokevirtual 398, 3) := dk_182 1 142 (dk_at dksX1_kind_2 16 rfl rfl)
theorem dX1_kind_66 : decode cX1_kind 66 = .ok (.ireturn, 1) := dk_172 (dk_at dksX1_kind_2 19 rfl rfl)
abbrev cX1_habit : ByteArray := prog_1_method_70_code
def yX1_habit : MethodName := ⟨RX1, "habit", "(II)Z"⟩
def dkwX1_habit_2 : List UInt8 := [172, 42, 182, 1, 136, 42, 180, 0, 29, 180, 0, 165, 27, 28, 79, 42, 182, 1, 142, 172]
abbrev dktX1_habit_2 : List UInt8 := dkwX1_habit_2 ++ []
def dkwX1_habit_1 : List UInt8 := [180, 0, 29, 180, 0, 165, 27, 46, 28, 160, 0, 7, 8, 167, 0, 4, 3, 182, 1, 133, 154, 0, 5, 3]
abbrev dktX1_habit_1 : List UInt8 := dkwX1_habit_1 ++ dktX1_habit_2
def dkwX1_habit_0 : List UInt8 := [42, 42, 27, 182, 0, 154, 153, 0, 12, 28, 3, 5, 184, 0, 97, 154, 0, 7, 4, 167, 0, 21, 42]
abbrev dktX1_habit_0 : List UInt8 := dkwX1_habit_0 ++ dktX1_habit_1
theorem dksX1_habit_0 : cX1_habit.data.toList.drop 0 = dktX1_habit_0 := by decide +kernel
theorem dksX1_habit_1 : cX1_habit.data.toList.drop 23 = dktX1_habit_1 := dk_seg dksX1_habit_0 23 rfl rfl
theorem dksX1_habit_2 : cX1_habit.data.toList.drop 47 = dktX1_habit_2 := dk_seg dksX1_habit_1 24 rfl rfl
theorem dX1_habit_0 : decode cX1_habit 0 = .ok (.aload_n 0, 1) := dk_42 (dk_at dksX1_habit_0 0 rfl rfl)
theorem dX1_habit_1 : decode cX1_habit 1 = .ok (.aload_n 0, 1) := dk_42 (dk_at dksX1_habit_0 1 rfl rfl)
theorem dX1_habit_2 : decode cX1_habit 2 = .ok (.iload_n 1, 1) := dk_27 (dk_at dksX1_habit_0 2 rfl rfl)
theorem dX1_habit_3 : decode cX1_habit 3 = .ok (.invokevirtual 154, 3) := dk_182 0 154 (dk_at dksX1_habit_0 3 rfl rfl)
theorem dX1_habit_6 : decode cX1_habit 6 = .ok (.ifCond .eq 12, 3) := dk_153 0 12 (dk_at dksX1_habit_0 6 rfl rfl)
theorem dX1_habit_9 : decode cX1_habit 9 = .ok (.iload_n 2, 1) := dk_28 (dk_at dksX1_habit_0 9 rfl rfl)
theorem dX1_habit_10 : decode cX1_habit 10 = .ok (.iconst 0, 1) := dk_3 (dk_at dksX1_habit_0 10 rfl rfl)
theorem dX1_habit_11 : decode cX1_habit 11 = .ok (.iconst 2, 1) := dk_5 (dk_at dksX1_habit_0 11 rfl rfl)
theorem dX1_habit_12 : decode cX1_habit 12 = .ok (.invokestatic 97, 3) := dk_184 0 97 (dk_at dksX1_habit_0 12 rfl rfl)
theorem dX1_habit_15 : decode cX1_habit 15 = .ok (.ifCond .ne 7, 3) := dk_154 0 7 (dk_at dksX1_habit_0 15 rfl rfl)
theorem dX1_habit_18 : decode cX1_habit 18 = .ok (.iconst 1, 1) := dk_4 (dk_at dksX1_habit_0 18 rfl rfl)
theorem dX1_habit_19 : decode cX1_habit 19 = .ok (.goto 21, 3) := dk_167 0 21 (dk_at dksX1_habit_0 19 rfl rfl)
theorem dX1_habit_22 : decode cX1_habit 22 = .ok (.aload_n 0, 1) := dk_42 (dk_at dksX1_habit_0 22 rfl rfl)
theorem dX1_habit_23 : decode cX1_habit 23 = .ok (.getfield 29, 3) := dk_180 0 29 (dk_at dksX1_habit_1 0 rfl rfl)
theorem dX1_habit_26 : decode cX1_habit 26 = .ok (.getfield 165, 3) := dk_180 0 165 (dk_at dksX1_habit_1 3 rfl rfl)
theorem dX1_habit_29 : decode cX1_habit 29 = .ok (.iload_n 1, 1) := dk_27 (dk_at dksX1_habit_1 6 rfl rfl)
theorem dX1_habit_30 : decode cX1_habit 30 = .ok (.iaload, 1) := dk_46 (dk_at dksX1_habit_1 7 rfl rfl)
theorem dX1_habit_31 : decode cX1_habit 31 = .ok (.iload_n 2, 1) := dk_28 (dk_at dksX1_habit_1 8 rfl rfl)
theorem dX1_habit_32 : decode cX1_habit 32 = .ok (.if_icmp .ne 7, 3) := dk_160 0 7 (dk_at dksX1_habit_1 9 rfl rfl)
theorem dX1_habit_35 : decode cX1_habit 35 = .ok (.iconst 5, 1) := dk_8 (dk_at dksX1_habit_1 12 rfl rfl)
theorem dX1_habit_36 : decode cX1_habit 36 = .ok (.goto 4, 3) := dk_167 0 4 (dk_at dksX1_habit_1 13 rfl rfl)
theorem dX1_habit_39 : decode cX1_habit 39 = .ok (.iconst 0, 1) := dk_3 (dk_at dksX1_habit_1 16 rfl rfl)
theorem dX1_habit_40 : decode cX1_habit 40 = .ok (.invokevirtual 389, 3) := dk_182 1 133 (dk_at dksX1_habit_1 17 rfl rfl)
theorem dX1_habit_43 : decode cX1_habit 43 = .ok (.ifCond .ne 5, 3) := dk_154 0 5 (dk_at dksX1_habit_1 20 rfl rfl)
theorem dX1_habit_46 : decode cX1_habit 46 = .ok (.iconst 0, 1) := dk_3 (dk_at dksX1_habit_1 23 rfl rfl)
theorem dX1_habit_47 : decode cX1_habit 47 = .ok (.ireturn, 1) := dk_172 (dk_at dksX1_habit_2 0 rfl rfl)
theorem dX1_habit_48 : decode cX1_habit 48 = .ok (.aload_n 0, 1) := dk_42 (dk_at dksX1_habit_2 1 rfl rfl)
theorem dX1_habit_49 : decode cX1_habit 49 = .ok (.invokevirtual 392, 3) := dk_182 1 136 (dk_at dksX1_habit_2 2 rfl rfl)
theorem dX1_habit_52 : decode cX1_habit 52 = .ok (.aload_n 0, 1) := dk_42 (dk_at dksX1_habit_2 5 rfl rfl)
theorem dX1_habit_53 : decode cX1_habit 53 = .ok (.getfield 29, 3) := dk_180 0 29 (dk_at dksX1_habit_2 6 rfl rfl)
theorem dX1_habit_56 : decode cX1_habit 56 = .ok (.getfield 165, 3) := dk_180 0 165 (dk_at dksX1_habit_2 9 rfl rfl)
theorem dX1_habit_59 : decode cX1_habit 59 = .ok (.iload_n 1, 1) := dk_27 (dk_at dksX1_habit_2 12 rfl rfl)
theorem dX1_habit_60 : decode cX1_habit 60 = .ok (.iload_n 2, 1) := dk_28 (dk_at dksX1_habit_2 13 rfl rfl)
theorem dX1_habit_61 : decode cX1_habit 61 = .ok (.iastore, 1) := dk_79 (dk_at dksX1_habit_2 14 rfl rfl)
theorem dX1_habit_62 : decode cX1_habit 62 = .ok (.aload_n 0, 1) := dk_42 (dk_at dksX1_habit_2 15 rfl rfl)
theorem dX1_habit_63 : decode cX1_habit 63 = .ok (.invokevirtual 398, 3) := dk_182 1 142 (dk_at dksX1_habit_2 16 rfl rfl)
theorem dX1_habit_66 : decode cX1_habit 66 = .ok (.ireturn, 1) := dk_172 (dk_at dksX1_habit_2 19 rfl rfl)
abbrev cX1_keep : ByteArray := prog_1_method_71_code
def yX1_keep : MethodName := ⟨RX1, "keep", "(II)Z"⟩
def dkwX1_keep_2 : List UInt8 := [154, 0, 5, 3, 172, 42, 182, 1, 136, 42, 180, 0, 29, 180, 0, 168, 27, 28, 79, 42, 182, 1, 142, 172]
abbrev dktX1_keep_2 : List UInt8 := dkwX1_keep_2 ++ []
def dkwX1_keep_1 : List UInt8 := [167, 0, 21, 42, 180, 0, 29, 180, 0, 168, 27, 46, 28, 160, 0, 7, 8, 167, 0, 4, 3, 182, 1, 133]
abbrev dktX1_keep_1 : List UInt8 := dkwX1_keep_1 ++ dktX1_keep_2
def dkwX1_keep_0 : List UInt8 := [42, 42, 27, 182, 0, 154, 154, 0, 7, 4, 167, 0, 35, 28, 6, 16, 30, 184, 0, 97, 154, 0, 7, 5]
abbrev dktX1_keep_0 : List UInt8 := dkwX1_keep_0 ++ dktX1_keep_1
theorem dksX1_keep_0 : cX1_keep.data.toList.drop 0 = dktX1_keep_0 := by decide +kernel
theorem dksX1_keep_1 : cX1_keep.data.toList.drop 24 = dktX1_keep_1 := dk_seg dksX1_keep_0 24 rfl rfl
theorem dksX1_keep_2 : cX1_keep.data.toList.drop 48 = dktX1_keep_2 := dk_seg dksX1_keep_1 24 rfl rfl
theorem dX1_keep_0 : decode cX1_keep 0 = .ok (.aload_n 0, 1) := dk_42 (dk_at dksX1_keep_0 0 rfl rfl)
theorem dX1_keep_1 : decode cX1_keep 1 = .ok (.aload_n 0, 1) := dk_42 (dk_at dksX1_keep_0 1 rfl rfl)
theorem dX1_keep_2 : decode cX1_keep 2 = .ok (.iload_n 1, 1) := dk_27 (dk_at dksX1_keep_0 2 rfl rfl)
theorem dX1_keep_3 : decode cX1_keep 3 = .ok (.invokevirtual 154, 3) := dk_182 0 154 (dk_at dksX1_keep_0 3 rfl rfl)
theorem dX1_keep_6 : decode cX1_keep 6 = .ok (.ifCond .ne 7, 3) := dk_154 0 7 (dk_at dksX1_keep_0 6 rfl rfl)
theorem dX1_keep_9 : decode cX1_keep 9 = .ok (.iconst 1, 1) := dk_4 (dk_at dksX1_keep_0 9 rfl rfl)
theorem dX1_keep_10 : decode cX1_keep 10 = .ok (.goto 35, 3) := dk_167 0 35 (dk_at dksX1_keep_0 10 rfl rfl)
theorem dX1_keep_13 : decode cX1_keep 13 = .ok (.iload_n 2, 1) := dk_28 (dk_at dksX1_keep_0 13 rfl rfl)
theorem dX1_keep_14 : decode cX1_keep 14 = .ok (.iconst 3, 1) := dk_6 (dk_at dksX1_keep_0 14 rfl rfl)
theorem dX1_keep_15 : decode cX1_keep 15 = .ok (.bipush 30, 2) := dk_16 30 (dk_at dksX1_keep_0 15 rfl rfl)
theorem dX1_keep_17 : decode cX1_keep 17 = .ok (.invokestatic 97, 3) := dk_184 0 97 (dk_at dksX1_keep_0 17 rfl rfl)
theorem dX1_keep_20 : decode cX1_keep 20 = .ok (.ifCond .ne 7, 3) := dk_154 0 7 (dk_at dksX1_keep_0 20 rfl rfl)
theorem dX1_keep_23 : decode cX1_keep 23 = .ok (.iconst 2, 1) := dk_5 (dk_at dksX1_keep_0 23 rfl rfl)
theorem dX1_keep_24 : decode cX1_keep 24 = .ok (.goto 21, 3) := dk_167 0 21 (dk_at dksX1_keep_1 0 rfl rfl)
theorem dX1_keep_27 : decode cX1_keep 27 = .ok (.aload_n 0, 1) := dk_42 (dk_at dksX1_keep_1 3 rfl rfl)
theorem dX1_keep_28 : decode cX1_keep 28 = .ok (.getfield 29, 3) := dk_180 0 29 (dk_at dksX1_keep_1 4 rfl rfl)
theorem dX1_keep_31 : decode cX1_keep 31 = .ok (.getfield 168, 3) := dk_180 0 168 (dk_at dksX1_keep_1 7 rfl rfl)
theorem dX1_keep_34 : decode cX1_keep 34 = .ok (.iload_n 1, 1) := dk_27 (dk_at dksX1_keep_1 10 rfl rfl)
theorem dX1_keep_35 : decode cX1_keep 35 = .ok (.iaload, 1) := dk_46 (dk_at dksX1_keep_1 11 rfl rfl)
theorem dX1_keep_36 : decode cX1_keep 36 = .ok (.iload_n 2, 1) := dk_28 (dk_at dksX1_keep_1 12 rfl rfl)
theorem dX1_keep_37 : decode cX1_keep 37 = .ok (.if_icmp .ne 7, 3) := dk_160 0 7 (dk_at dksX1_keep_1 13 rfl rfl)
theorem dX1_keep_40 : decode cX1_keep 40 = .ok (.iconst 5, 1) := dk_8 (dk_at dksX1_keep_1 16 rfl rfl)
theorem dX1_keep_41 : decode cX1_keep 41 = .ok (.goto 4, 3) := dk_167 0 4 (dk_at dksX1_keep_1 17 rfl rfl)
theorem dX1_keep_44 : decode cX1_keep 44 = .ok (.iconst 0, 1) := dk_3 (dk_at dksX1_keep_1 20 rfl rfl)
theorem dX1_keep_45 : decode cX1_keep 45 = .ok (.invokevirtual 389, 3) := dk_182 1 133 (dk_at dksX1_keep_1 21 rfl rfl)
theorem dX1_keep_48 : decode cX1_keep 48 = .ok (.ifCond .ne 5, 3) := dk_154 0 5 (dk_at dksX1_keep_2 0 rfl rfl)
theorem dX1_keep_51 : decode cX1_keep 51 = .ok (.iconst 0, 1) := dk_3 (dk_at dksX1_keep_2 3 rfl rfl)
theorem dX1_keep_52 : decode cX1_keep 52 = .ok (.ireturn, 1) := dk_172 (dk_at dksX1_keep_2 4 rfl rfl)
theorem dX1_keep_53 : decode cX1_keep 53 = .ok (.aload_n 0, 1) := dk_42 (dk_at dksX1_keep_2 5 rfl rfl)
theorem dX1_keep_54 : decode cX1_keep 54 = .ok (.invokevirtual 392, 3) := dk_182 1 136 (dk_at dksX1_keep_2 6 rfl rfl)
theorem dX1_keep_57 : decode cX1_keep 57 = .ok (.aload_n 0, 1) := dk_42 (dk_at dksX1_keep_2 9 rfl rfl)
theorem dX1_keep_58 : decode cX1_keep 58 = .ok (.getfield 29, 3) := dk_180 0 29 (dk_at dksX1_keep_2 10 rfl rfl)
theorem dX1_keep_61 : decode cX1_keep 61 = .ok (.getfield 168, 3) := dk_180 0 168 (dk_at dksX1_keep_2 13 rfl rfl)
theorem dX1_keep_64 : decode cX1_keep 64 = .ok (.iload_n 1, 1) := dk_27 (dk_at dksX1_keep_2 16 rfl rfl)
theorem dX1_keep_65 : decode cX1_keep 65 = .ok (.iload_n 2, 1) := dk_28 (dk_at dksX1_keep_2 17 rfl rfl)
theorem dX1_keep_66 : decode cX1_keep 66 = .ok (.iastore, 1) := dk_79 (dk_at dksX1_keep_2 18 rfl rfl)
theorem dX1_keep_67 : decode cX1_keep 67 = .ok (.aload_n 0, 1) := dk_42 (dk_at dksX1_keep_2 19 rfl rfl)
theorem dX1_keep_68 : decode cX1_keep 68 = .ok (.invokevirtual 398, 3) := dk_182 1 142 (dk_at dksX1_keep_2 20 rfl rfl)
theorem dX1_keep_71 : decode cX1_keep 71 = .ok (.ireturn, 1) := dk_172 (dk_at dksX1_keep_2 23 rfl rfl)
abbrev cX1_seed : ByteArray := prog_1_method_72_code
def yX1_seed : MethodName := ⟨RX1, "seed", "(I)Z"⟩
def dkwX1_seed_1 : List UInt8 := [167, 0, 4, 5, 182, 1, 133, 154, 0, 5, 3, 172, 42, 180, 0, 29, 27, 181, 1, 149, 4, 172]
abbrev dktX1_seed_1 : List UInt8 := dkwX1_seed_1 ++ []
def dkwX1_seed_0 : List UInt8 := [42, 42, 180, 0, 112, 199, 0, 7, 4, 167, 0, 19, 27, 3, 19, 1, 148, 184, 0, 97, 153, 0, 7, 3]
abbrev dktX1_seed_0 : List UInt8 := dkwX1_seed_0 ++ dktX1_seed_1
theorem dksX1_seed_0 : cX1_seed.data.toList.drop 0 = dktX1_seed_0 := by decide +kernel
theorem dksX1_seed_1 : cX1_seed.data.toList.drop 24 = dktX1_seed_1 := dk_seg dksX1_seed_0 24 rfl rfl
theorem dX1_seed_0 : decode cX1_seed 0 = .ok (.aload_n 0, 1) := dk_42 (dk_at dksX1_seed_0 0 rfl rfl)
theorem dX1_seed_1 : decode cX1_seed 1 = .ok (.aload_n 0, 1) := dk_42 (dk_at dksX1_seed_0 1 rfl rfl)
theorem dX1_seed_2 : decode cX1_seed 2 = .ok (.getfield 112, 3) := dk_180 0 112 (dk_at dksX1_seed_0 2 rfl rfl)
theorem dX1_seed_5 : decode cX1_seed 5 = .ok (.ifnonnull 7, 3) := dk_199 0 7 (dk_at dksX1_seed_0 5 rfl rfl)
theorem dX1_seed_8 : decode cX1_seed 8 = .ok (.iconst 1, 1) := dk_4 (dk_at dksX1_seed_0 8 rfl rfl)
theorem dX1_seed_9 : decode cX1_seed 9 = .ok (.goto 19, 3) := dk_167 0 19 (dk_at dksX1_seed_0 9 rfl rfl)
theorem dX1_seed_12 : decode cX1_seed 12 = .ok (.iload_n 1, 1) := dk_27 (dk_at dksX1_seed_0 12 rfl rfl)
theorem dX1_seed_13 : decode cX1_seed 13 = .ok (.iconst 0, 1) := dk_3 (dk_at dksX1_seed_0 13 rfl rfl)
theorem dX1_seed_14 : decode cX1_seed 14 = .ok (.ldc_w 404, 3) := dk_19 1 148 (dk_at dksX1_seed_0 14 rfl rfl)
theorem dX1_seed_17 : decode cX1_seed 17 = .ok (.invokestatic 97, 3) := dk_184 0 97 (dk_at dksX1_seed_0 17 rfl rfl)
theorem dX1_seed_20 : decode cX1_seed 20 = .ok (.ifCond .eq 7, 3) := dk_153 0 7 (dk_at dksX1_seed_0 20 rfl rfl)
theorem dX1_seed_23 : decode cX1_seed 23 = .ok (.iconst 0, 1) := dk_3 (dk_at dksX1_seed_0 23 rfl rfl)
theorem dX1_seed_24 : decode cX1_seed 24 = .ok (.goto 4, 3) := dk_167 0 4 (dk_at dksX1_seed_1 0 rfl rfl)
theorem dX1_seed_27 : decode cX1_seed 27 = .ok (.iconst 2, 1) := dk_5 (dk_at dksX1_seed_1 3 rfl rfl)
theorem dX1_seed_28 : decode cX1_seed 28 = .ok (.invokevirtual 389, 3) := dk_182 1 133 (dk_at dksX1_seed_1 4 rfl rfl)
theorem dX1_seed_31 : decode cX1_seed 31 = .ok (.ifCond .ne 5, 3) := dk_154 0 5 (dk_at dksX1_seed_1 7 rfl rfl)
theorem dX1_seed_34 : decode cX1_seed 34 = .ok (.iconst 0, 1) := dk_3 (dk_at dksX1_seed_1 10 rfl rfl)
theorem dX1_seed_35 : decode cX1_seed 35 = .ok (.ireturn, 1) := dk_172 (dk_at dksX1_seed_1 11 rfl rfl)
theorem dX1_seed_36 : decode cX1_seed 36 = .ok (.aload_n 0, 1) := dk_42 (dk_at dksX1_seed_1 12 rfl rfl)
theorem dX1_seed_37 : decode cX1_seed 37 = .ok (.getfield 29, 3) := dk_180 0 29 (dk_at dksX1_seed_1 13 rfl rfl)
theorem dX1_seed_40 : decode cX1_seed 40 = .ok (.iload_n 1, 1) := dk_27 (dk_at dksX1_seed_1 16 rfl rfl)
theorem dX1_seed_41 : decode cX1_seed 41 = .ok (.putfield 405, 3) := dk_181 1 149 (dk_at dksX1_seed_1 17 rfl rfl)
theorem dX1_seed_44 : decode cX1_seed 44 = .ok (.iconst 1, 1) := dk_4 (dk_at dksX1_seed_1 20 rfl rfl)
theorem dX1_seed_45 : decode cX1_seed 45 = .ok (.ireturn, 1) := dk_172 (dk_at dksX1_seed_1 21 rfl rfl)
abbrev cX1_undo : ByteArray := prog_1_method_73_code
def yX1_undo : MethodName := ⟨RX1, "undo", "()Z"⟩
def dkwX1_undo_2 : List UInt8 := [42, 182, 0, 132, 4, 172]
abbrev dktX1_undo_2 : List UInt8 := dkwX1_undo_2 ++ []
def dkwX1_undo_1 : List UInt8 := [180, 0, 126, 4, 100, 181, 0, 126, 42, 180, 0, 29, 42, 180, 0, 63, 42, 180, 0, 126, 50, 182, 1, 24]
abbrev dktX1_undo_1 : List UInt8 := dkwX1_undo_1 ++ dktX1_undo_2
def dkwX1_undo_0 : List UInt8 := [42, 42, 180, 0, 126, 154, 0, 8, 16, 6, 167, 0, 4, 3, 182, 1, 133, 154, 0, 5, 3, 172, 42, 89]
abbrev dktX1_undo_0 : List UInt8 := dkwX1_undo_0 ++ dktX1_undo_1
theorem dksX1_undo_0 : cX1_undo.data.toList.drop 0 = dktX1_undo_0 := by decide +kernel
theorem dksX1_undo_1 : cX1_undo.data.toList.drop 24 = dktX1_undo_1 := dk_seg dksX1_undo_0 24 rfl rfl
theorem dksX1_undo_2 : cX1_undo.data.toList.drop 48 = dktX1_undo_2 := dk_seg dksX1_undo_1 24 rfl rfl
theorem dX1_undo_0 : decode cX1_undo 0 = .ok (.aload_n 0, 1) := dk_42 (dk_at dksX1_undo_0 0 rfl rfl)
theorem dX1_undo_1 : decode cX1_undo 1 = .ok (.aload_n 0, 1) := dk_42 (dk_at dksX1_undo_0 1 rfl rfl)
theorem dX1_undo_2 : decode cX1_undo 2 = .ok (.getfield 126, 3) := dk_180 0 126 (dk_at dksX1_undo_0 2 rfl rfl)
theorem dX1_undo_5 : decode cX1_undo 5 = .ok (.ifCond .ne 8, 3) := dk_154 0 8 (dk_at dksX1_undo_0 5 rfl rfl)
theorem dX1_undo_8 : decode cX1_undo 8 = .ok (.bipush 6, 2) := dk_16 6 (dk_at dksX1_undo_0 8 rfl rfl)
theorem dX1_undo_10 : decode cX1_undo 10 = .ok (.goto 4, 3) := dk_167 0 4 (dk_at dksX1_undo_0 10 rfl rfl)
theorem dX1_undo_13 : decode cX1_undo 13 = .ok (.iconst 0, 1) := dk_3 (dk_at dksX1_undo_0 13 rfl rfl)
theorem dX1_undo_14 : decode cX1_undo 14 = .ok (.invokevirtual 389, 3) := dk_182 1 133 (dk_at dksX1_undo_0 14 rfl rfl)
theorem dX1_undo_17 : decode cX1_undo 17 = .ok (.ifCond .ne 5, 3) := dk_154 0 5 (dk_at dksX1_undo_0 17 rfl rfl)
theorem dX1_undo_20 : decode cX1_undo 20 = .ok (.iconst 0, 1) := dk_3 (dk_at dksX1_undo_0 20 rfl rfl)
theorem dX1_undo_21 : decode cX1_undo 21 = .ok (.ireturn, 1) := dk_172 (dk_at dksX1_undo_0 21 rfl rfl)
theorem dX1_undo_22 : decode cX1_undo 22 = .ok (.aload_n 0, 1) := dk_42 (dk_at dksX1_undo_0 22 rfl rfl)
theorem dX1_undo_23 : decode cX1_undo 23 = .ok (.dup, 1) := dk_89 (dk_at dksX1_undo_0 23 rfl rfl)
theorem dX1_undo_24 : decode cX1_undo 24 = .ok (.getfield 126, 3) := dk_180 0 126 (dk_at dksX1_undo_1 0 rfl rfl)
theorem dX1_undo_27 : decode cX1_undo 27 = .ok (.iconst 1, 1) := dk_4 (dk_at dksX1_undo_1 3 rfl rfl)
theorem dX1_undo_28 : decode cX1_undo 28 = .ok (.isub, 1) := dk_100 (dk_at dksX1_undo_1 4 rfl rfl)
theorem dX1_undo_29 : decode cX1_undo 29 = .ok (.putfield 126, 3) := dk_181 0 126 (dk_at dksX1_undo_1 5 rfl rfl)
theorem dX1_undo_32 : decode cX1_undo 32 = .ok (.aload_n 0, 1) := dk_42 (dk_at dksX1_undo_1 8 rfl rfl)
theorem dX1_undo_33 : decode cX1_undo 33 = .ok (.getfield 29, 3) := dk_180 0 29 (dk_at dksX1_undo_1 9 rfl rfl)
theorem dX1_undo_36 : decode cX1_undo 36 = .ok (.aload_n 0, 1) := dk_42 (dk_at dksX1_undo_1 12 rfl rfl)
theorem dX1_undo_37 : decode cX1_undo 37 = .ok (.getfield 63, 3) := dk_180 0 63 (dk_at dksX1_undo_1 13 rfl rfl)
theorem dX1_undo_40 : decode cX1_undo 40 = .ok (.aload_n 0, 1) := dk_42 (dk_at dksX1_undo_1 16 rfl rfl)
theorem dX1_undo_41 : decode cX1_undo 41 = .ok (.getfield 126, 3) := dk_180 0 126 (dk_at dksX1_undo_1 17 rfl rfl)
theorem dX1_undo_44 : decode cX1_undo 44 = .ok (.aaload, 1) := dk_50 (dk_at dksX1_undo_1 20 rfl rfl)
theorem dX1_undo_45 : decode cX1_undo 45 = .ok (.invokevirtual 280, 3) := dk_182 1 24 (dk_at dksX1_undo_1 21 rfl rfl)
theorem dX1_undo_48 : decode cX1_undo 48 = .ok (.aload_n 0, 1) := dk_42 (dk_at dksX1_undo_2 0 rfl rfl)
theorem dX1_undo_49 : decode cX1_undo 49 = .ok (.invokevirtual 132, 3) := dk_182 0 132 (dk_at dksX1_undo_2 1 rfl rfl)
theorem dX1_undo_52 : decode cX1_undo 52 = .ok (.iconst 1, 1) := dk_4 (dk_at dksX1_undo_2 4 rfl rfl)
theorem dX1_undo_53 : decode cX1_undo 53 = .ok (.ireturn, 1) := dk_172 (dk_at dksX1_undo_2 5 rfl rfl)
abbrev cX1_mark : ByteArray := prog_1_method_74_code
def yX1_mark : MethodName := ⟨RX1, "mark", "()I"⟩
def dkwX1_mark_2 : List UInt8 := [182, 1, 24, 42, 89, 180, 0, 129, 4, 96, 181, 0, 129, 42, 180, 0, 129, 4, 100, 172]
abbrev dktX1_mark_2 : List UInt8 := dkwX1_mark_2 ++ []
def dkwX1_mark_1 : List UInt8 := [160, 0, 9, 42, 6, 182, 0, 101, 172, 42, 180, 0, 67, 42, 180, 0, 129, 50, 42, 180, 0, 29]
abbrev dktX1_mark_1 : List UInt8 := dkwX1_mark_1 ++ dktX1_mark_2
def dkwX1_mark_0 : List UInt8 := [42, 182, 0, 87, 42, 180, 0, 112, 199, 0, 9, 42, 4, 182, 0, 101, 172, 42, 180, 0, 129, 6]
abbrev dktX1_mark_0 : List UInt8 := dkwX1_mark_0 ++ dktX1_mark_1
theorem dksX1_mark_0 : cX1_mark.data.toList.drop 0 = dktX1_mark_0 := by decide +kernel
theorem dksX1_mark_1 : cX1_mark.data.toList.drop 22 = dktX1_mark_1 := dk_seg dksX1_mark_0 22 rfl rfl
theorem dksX1_mark_2 : cX1_mark.data.toList.drop 44 = dktX1_mark_2 := dk_seg dksX1_mark_1 22 rfl rfl
theorem dX1_mark_0 : decode cX1_mark 0 = .ok (.aload_n 0, 1) := dk_42 (dk_at dksX1_mark_0 0 rfl rfl)
theorem dX1_mark_1 : decode cX1_mark 1 = .ok (.invokevirtual 87, 3) := dk_182 0 87 (dk_at dksX1_mark_0 1 rfl rfl)
theorem dX1_mark_4 : decode cX1_mark 4 = .ok (.aload_n 0, 1) := dk_42 (dk_at dksX1_mark_0 4 rfl rfl)
theorem dX1_mark_5 : decode cX1_mark 5 = .ok (.getfield 112, 3) := dk_180 0 112 (dk_at dksX1_mark_0 5 rfl rfl)
theorem dX1_mark_8 : decode cX1_mark 8 = .ok (.ifnonnull 9, 3) := dk_199 0 9 (dk_at dksX1_mark_0 8 rfl rfl)
theorem dX1_mark_11 : decode cX1_mark 11 = .ok (.aload_n 0, 1) := dk_42 (dk_at dksX1_mark_0 11 rfl rfl)
theorem dX1_mark_12 : decode cX1_mark 12 = .ok (.iconst 1, 1) := dk_4 (dk_at dksX1_mark_0 12 rfl rfl)
theorem dX1_mark_13 : decode cX1_mark 13 = .ok (.invokevirtual 101, 3) := dk_182 0 101 (dk_at dksX1_mark_0 13 rfl rfl)
theorem dX1_mark_16 : decode cX1_mark 16 = .ok (.ireturn, 1) := dk_172 (dk_at dksX1_mark_0 16 rfl rfl)
theorem dX1_mark_17 : decode cX1_mark 17 = .ok (.aload_n 0, 1) := dk_42 (dk_at dksX1_mark_0 17 rfl rfl)
theorem dX1_mark_18 : decode cX1_mark 18 = .ok (.getfield 129, 3) := dk_180 0 129 (dk_at dksX1_mark_0 18 rfl rfl)
theorem dX1_mark_21 : decode cX1_mark 21 = .ok (.iconst 3, 1) := dk_6 (dk_at dksX1_mark_0 21 rfl rfl)
theorem dX1_mark_22 : decode cX1_mark 22 = .ok (.if_icmp .ne 9, 3) := dk_160 0 9 (dk_at dksX1_mark_1 0 rfl rfl)
theorem dX1_mark_25 : decode cX1_mark 25 = .ok (.aload_n 0, 1) := dk_42 (dk_at dksX1_mark_1 3 rfl rfl)
theorem dX1_mark_26 : decode cX1_mark 26 = .ok (.iconst 3, 1) := dk_6 (dk_at dksX1_mark_1 4 rfl rfl)
theorem dX1_mark_27 : decode cX1_mark 27 = .ok (.invokevirtual 101, 3) := dk_182 0 101 (dk_at dksX1_mark_1 5 rfl rfl)
theorem dX1_mark_30 : decode cX1_mark 30 = .ok (.ireturn, 1) := dk_172 (dk_at dksX1_mark_1 8 rfl rfl)
theorem dX1_mark_31 : decode cX1_mark 31 = .ok (.aload_n 0, 1) := dk_42 (dk_at dksX1_mark_1 9 rfl rfl)
theorem dX1_mark_32 : decode cX1_mark 32 = .ok (.getfield 67, 3) := dk_180 0 67 (dk_at dksX1_mark_1 10 rfl rfl)
theorem dX1_mark_35 : decode cX1_mark 35 = .ok (.aload_n 0, 1) := dk_42 (dk_at dksX1_mark_1 13 rfl rfl)
theorem dX1_mark_36 : decode cX1_mark 36 = .ok (.getfield 129, 3) := dk_180 0 129 (dk_at dksX1_mark_1 14 rfl rfl)
theorem dX1_mark_39 : decode cX1_mark 39 = .ok (.aaload, 1) := dk_50 (dk_at dksX1_mark_1 17 rfl rfl)
theorem dX1_mark_40 : decode cX1_mark 40 = .ok (.aload_n 0, 1) := dk_42 (dk_at dksX1_mark_1 18 rfl rfl)
theorem dX1_mark_41 : decode cX1_mark 41 = .ok (.getfield 29, 3) := dk_180 0 29 (dk_at dksX1_mark_1 19 rfl rfl)
theorem dX1_mark_44 : decode cX1_mark 44 = .ok (.invokevirtual 280, 3) := dk_182 1 24 (dk_at dksX1_mark_2 0 rfl rfl)
theorem dX1_mark_47 : decode cX1_mark 47 = .ok (.aload_n 0, 1) := dk_42 (dk_at dksX1_mark_2 3 rfl rfl)
theorem dX1_mark_48 : decode cX1_mark 48 = .ok (.dup, 1) := dk_89 (dk_at dksX1_mark_2 4 rfl rfl)
theorem dX1_mark_49 : decode cX1_mark 49 = .ok (.getfield 129, 3) := dk_180 0 129 (dk_at dksX1_mark_2 5 rfl rfl)
theorem dX1_mark_52 : decode cX1_mark 52 = .ok (.iconst 1, 1) := dk_4 (dk_at dksX1_mark_2 8 rfl rfl)
theorem dX1_mark_53 : decode cX1_mark 53 = .ok (.iadd, 1) := dk_96 (dk_at dksX1_mark_2 9 rfl rfl)
theorem dX1_mark_54 : decode cX1_mark 54 = .ok (.putfield 129, 3) := dk_181 0 129 (dk_at dksX1_mark_2 10 rfl rfl)
theorem dX1_mark_57 : decode cX1_mark 57 = .ok (.aload_n 0, 1) := dk_42 (dk_at dksX1_mark_2 13 rfl rfl)
theorem dX1_mark_58 : decode cX1_mark 58 = .ok (.getfield 129, 3) := dk_180 0 129 (dk_at dksX1_mark_2 14 rfl rfl)
theorem dX1_mark_61 : decode cX1_mark 61 = .ok (.iconst 1, 1) := dk_4 (dk_at dksX1_mark_2 17 rfl rfl)
theorem dX1_mark_62 : decode cX1_mark 62 = .ok (.isub, 1) := dk_100 (dk_at dksX1_mark_2 18 rfl rfl)
theorem dX1_mark_63 : decode cX1_mark 63 = .ok (.ireturn, 1) := dk_172 (dk_at dksX1_mark_2 19 rfl rfl)
abbrev cX1_back : ByteArray := prog_1_method_75_code
def yX1_back : MethodName := ⟨RX1, "back", "(I)Z"⟩
def dkwX1_back_2 : List UInt8 := [182, 0, 132, 4, 172]
abbrev dktX1_back_2 : List UInt8 := dkwX1_back_2 ++ []
def dkwX1_back_1 : List UInt8 := [154, 0, 5, 3, 172, 42, 180, 0, 29, 42, 180, 0, 67, 27, 50, 182, 1, 24, 42, 3, 181, 0, 126, 42]
abbrev dktX1_back_1 : List UInt8 := dkwX1_back_1 ++ dktX1_back_2
def dkwX1_back_0 : List UInt8 := [42, 27, 3, 42, 180, 0, 129, 4, 100, 184, 0, 97, 153, 0, 7, 3, 167, 0, 4, 4, 182, 1, 133]
abbrev dktX1_back_0 : List UInt8 := dkwX1_back_0 ++ dktX1_back_1
theorem dksX1_back_0 : cX1_back.data.toList.drop 0 = dktX1_back_0 := by decide +kernel
theorem dksX1_back_1 : cX1_back.data.toList.drop 23 = dktX1_back_1 := dk_seg dksX1_back_0 23 rfl rfl
theorem dksX1_back_2 : cX1_back.data.toList.drop 47 = dktX1_back_2 := dk_seg dksX1_back_1 24 rfl rfl
theorem dX1_back_0 : decode cX1_back 0 = .ok (.aload_n 0, 1) := dk_42 (dk_at dksX1_back_0 0 rfl rfl)
theorem dX1_back_1 : decode cX1_back 1 = .ok (.iload_n 1, 1) := dk_27 (dk_at dksX1_back_0 1 rfl rfl)
theorem dX1_back_2 : decode cX1_back 2 = .ok (.iconst 0, 1) := dk_3 (dk_at dksX1_back_0 2 rfl rfl)
theorem dX1_back_3 : decode cX1_back 3 = .ok (.aload_n 0, 1) := dk_42 (dk_at dksX1_back_0 3 rfl rfl)
theorem dX1_back_4 : decode cX1_back 4 = .ok (.getfield 129, 3) := dk_180 0 129 (dk_at dksX1_back_0 4 rfl rfl)
theorem dX1_back_7 : decode cX1_back 7 = .ok (.iconst 1, 1) := dk_4 (dk_at dksX1_back_0 7 rfl rfl)
theorem dX1_back_8 : decode cX1_back 8 = .ok (.isub, 1) := dk_100 (dk_at dksX1_back_0 8 rfl rfl)
theorem dX1_back_9 : decode cX1_back 9 = .ok (.invokestatic 97, 3) := dk_184 0 97 (dk_at dksX1_back_0 9 rfl rfl)
theorem dX1_back_12 : decode cX1_back 12 = .ok (.ifCond .eq 7, 3) := dk_153 0 7 (dk_at dksX1_back_0 12 rfl rfl)
theorem dX1_back_15 : decode cX1_back 15 = .ok (.iconst 0, 1) := dk_3 (dk_at dksX1_back_0 15 rfl rfl)
theorem dX1_back_16 : decode cX1_back 16 = .ok (.goto 4, 3) := dk_167 0 4 (dk_at dksX1_back_0 16 rfl rfl)
theorem dX1_back_19 : decode cX1_back 19 = .ok (.iconst 1, 1) := dk_4 (dk_at dksX1_back_0 19 rfl rfl)
theorem dX1_back_20 : decode cX1_back 20 = .ok (.invokevirtual 389, 3) := dk_182 1 133 (dk_at dksX1_back_0 20 rfl rfl)
theorem dX1_back_23 : decode cX1_back 23 = .ok (.ifCond .ne 5, 3) := dk_154 0 5 (dk_at dksX1_back_1 0 rfl rfl)
theorem dX1_back_26 : decode cX1_back 26 = .ok (.iconst 0, 1) := dk_3 (dk_at dksX1_back_1 3 rfl rfl)
theorem dX1_back_27 : decode cX1_back 27 = .ok (.ireturn, 1) := dk_172 (dk_at dksX1_back_1 4 rfl rfl)
theorem dX1_back_28 : decode cX1_back 28 = .ok (.aload_n 0, 1) := dk_42 (dk_at dksX1_back_1 5 rfl rfl)
theorem dX1_back_29 : decode cX1_back 29 = .ok (.getfield 29, 3) := dk_180 0 29 (dk_at dksX1_back_1 6 rfl rfl)
theorem dX1_back_32 : decode cX1_back 32 = .ok (.aload_n 0, 1) := dk_42 (dk_at dksX1_back_1 9 rfl rfl)
theorem dX1_back_33 : decode cX1_back 33 = .ok (.getfield 67, 3) := dk_180 0 67 (dk_at dksX1_back_1 10 rfl rfl)
theorem dX1_back_36 : decode cX1_back 36 = .ok (.iload_n 1, 1) := dk_27 (dk_at dksX1_back_1 13 rfl rfl)
theorem dX1_back_37 : decode cX1_back 37 = .ok (.aaload, 1) := dk_50 (dk_at dksX1_back_1 14 rfl rfl)
theorem dX1_back_38 : decode cX1_back 38 = .ok (.invokevirtual 280, 3) := dk_182 1 24 (dk_at dksX1_back_1 15 rfl rfl)
theorem dX1_back_41 : decode cX1_back 41 = .ok (.aload_n 0, 1) := dk_42 (dk_at dksX1_back_1 18 rfl rfl)
theorem dX1_back_42 : decode cX1_back 42 = .ok (.iconst 0, 1) := dk_3 (dk_at dksX1_back_1 19 rfl rfl)
theorem dX1_back_43 : decode cX1_back 43 = .ok (.putfield 126, 3) := dk_181 0 126 (dk_at dksX1_back_1 20 rfl rfl)
theorem dX1_back_46 : decode cX1_back 46 = .ok (.aload_n 0, 1) := dk_42 (dk_at dksX1_back_1 23 rfl rfl)
theorem dX1_back_47 : decode cX1_back 47 = .ok (.invokevirtual 132, 3) := dk_182 0 132 (dk_at dksX1_back_2 0 rfl rfl)
theorem dX1_back_50 : decode cX1_back 50 = .ok (.iconst 1, 1) := dk_4 (dk_at dksX1_back_2 3 rfl rfl)
theorem dX1_back_51 : decode cX1_back 51 = .ok (.ireturn, 1) := dk_172 (dk_at dksX1_back_2 4 rfl rfl)
abbrev cX1_size : ByteArray := prog_1_method_77_code
def yX1_size : MethodName := ⟨RX1, "size", "(I)I"⟩
def dkwX1_size_6 : List UInt8 := [42, 180, 0, 29, 180, 1, 149, 172, 42, 180, 0, 126, 172, 42, 180, 0, 129, 172, 2, 172]
abbrev dktX1_size_6 : List UInt8 := dkwX1_size_6 ++ []
def dkwX1_size_5 : List UInt8 := [180, 0, 29, 180, 1, 132, 96, 172, 42, 180, 0, 112, 180, 1, 49, 172, 42, 180, 0, 112, 180, 1, 88, 172]
abbrev dktX1_size_5 : List UInt8 := dkwX1_size_5 ++ dktX1_size_6
def dkwX1_size_4 : List UInt8 := [42, 180, 0, 112, 180, 1, 117, 172, 42, 180, 0, 112, 180, 0, 135, 172, 42, 180, 0, 112, 180, 1, 155, 42]
abbrev dktX1_size_4 : List UInt8 := dkwX1_size_4 ++ dktX1_size_5
def dkwX1_size_3 : List UInt8 := [42, 180, 0, 112, 180, 0, 147, 172, 42, 180, 0, 112, 180, 0, 144, 172, 42, 180, 0, 112, 180, 1, 18, 172]
abbrev dktX1_size_3 : List UInt8 := dkwX1_size_3 ++ dktX1_size_4
def dkwX1_size_2 : List UInt8 := [170, 0, 0, 0, 147, 0, 0, 0, 0, 0, 0, 0, 10, 0, 0, 0, 57, 0, 0, 0, 65, 0, 0, 0, 73, 0, 0, 0, 81, 0, 0, 0, 89, 0, 0, 0, 97, 0, 0, 0, 113, 0, 0, 0, 121, 0, 0, 0, 129, 0, 0, 0, 137, 0, 0, 0, 142]
abbrev dktX1_size_2 : List UInt8 := dkwX1_size_2 ++ dktX1_size_3
def dkwX1_size_1 : List UInt8 := [184, 0, 97, 153, 0, 7, 3, 167, 0, 4, 2, 172, 27]
abbrev dktX1_size_1 : List UInt8 := dkwX1_size_1 ++ dktX1_size_2
def dkwX1_size_0 : List UInt8 := [27, 16, 11, 160, 0, 8, 42, 180, 0, 90, 172, 42, 180, 0, 112, 199, 0, 19, 27, 3, 16, 10]
abbrev dktX1_size_0 : List UInt8 := dkwX1_size_0 ++ dktX1_size_1
theorem dksX1_size_0 : cX1_size.data.toList.drop 0 = dktX1_size_0 := by decide +kernel
theorem dksX1_size_1 : cX1_size.data.toList.drop 22 = dktX1_size_1 := dk_seg dksX1_size_0 22 rfl rfl
theorem dksX1_size_2 : cX1_size.data.toList.drop 35 = dktX1_size_2 := dk_seg dksX1_size_1 13 rfl rfl
theorem dksX1_size_3 : cX1_size.data.toList.drop 92 = dktX1_size_3 := dk_seg dksX1_size_2 57 rfl rfl
theorem dksX1_size_4 : cX1_size.data.toList.drop 116 = dktX1_size_4 := dk_seg dksX1_size_3 24 rfl rfl
theorem dksX1_size_5 : cX1_size.data.toList.drop 140 = dktX1_size_5 := dk_seg dksX1_size_4 24 rfl rfl
theorem dksX1_size_6 : cX1_size.data.toList.drop 164 = dktX1_size_6 := dk_seg dksX1_size_5 24 rfl rfl
theorem dX1_size_0 : decode cX1_size 0 = .ok (.iload_n 1, 1) := dk_27 (dk_at dksX1_size_0 0 rfl rfl)
theorem dX1_size_1 : decode cX1_size 1 = .ok (.bipush 11, 2) := dk_16 11 (dk_at dksX1_size_0 1 rfl rfl)
theorem dX1_size_3 : decode cX1_size 3 = .ok (.if_icmp .ne 8, 3) := dk_160 0 8 (dk_at dksX1_size_0 3 rfl rfl)
theorem dX1_size_6 : decode cX1_size 6 = .ok (.aload_n 0, 1) := dk_42 (dk_at dksX1_size_0 6 rfl rfl)
theorem dX1_size_7 : decode cX1_size 7 = .ok (.getfield 90, 3) := dk_180 0 90 (dk_at dksX1_size_0 7 rfl rfl)
theorem dX1_size_10 : decode cX1_size 10 = .ok (.ireturn, 1) := dk_172 (dk_at dksX1_size_0 10 rfl rfl)
theorem dX1_size_11 : decode cX1_size 11 = .ok (.aload_n 0, 1) := dk_42 (dk_at dksX1_size_0 11 rfl rfl)
theorem dX1_size_12 : decode cX1_size 12 = .ok (.getfield 112, 3) := dk_180 0 112 (dk_at dksX1_size_0 12 rfl rfl)
theorem dX1_size_15 : decode cX1_size 15 = .ok (.ifnonnull 19, 3) := dk_199 0 19 (dk_at dksX1_size_0 15 rfl rfl)
theorem dX1_size_18 : decode cX1_size 18 = .ok (.iload_n 1, 1) := dk_27 (dk_at dksX1_size_0 18 rfl rfl)
theorem dX1_size_19 : decode cX1_size 19 = .ok (.iconst 0, 1) := dk_3 (dk_at dksX1_size_0 19 rfl rfl)
theorem dX1_size_20 : decode cX1_size 20 = .ok (.bipush 10, 2) := dk_16 10 (dk_at dksX1_size_0 20 rfl rfl)
theorem dX1_size_22 : decode cX1_size 22 = .ok (.invokestatic 97, 3) := dk_184 0 97 (dk_at dksX1_size_1 0 rfl rfl)
theorem dX1_size_25 : decode cX1_size 25 = .ok (.ifCond .eq 7, 3) := dk_153 0 7 (dk_at dksX1_size_1 3 rfl rfl)
theorem dX1_size_28 : decode cX1_size 28 = .ok (.iconst 0, 1) := dk_3 (dk_at dksX1_size_1 6 rfl rfl)
theorem dX1_size_29 : decode cX1_size 29 = .ok (.goto 4, 3) := dk_167 0 4 (dk_at dksX1_size_1 7 rfl rfl)
theorem dX1_size_32 : decode cX1_size 32 = .ok (.iconst (-1), 1) := dk_2 (dk_at dksX1_size_1 10 rfl rfl)
theorem dX1_size_33 : decode cX1_size 33 = .ok (.ireturn, 1) := dk_172 (dk_at dksX1_size_1 11 rfl rfl)
theorem dX1_size_34 : decode cX1_size 34 = .ok (.iload_n 1, 1) := dk_27 (dk_at dksX1_size_1 12 rfl rfl)
theorem dX1_size_35 : decode cX1_size 35 = .ok (.tableswitch 147 0 10 #[57, 65, 73, 81, 89, 97, 113, 121, 129, 137, 142], 57) := by decide +kernel
theorem dX1_size_92 : decode cX1_size 92 = .ok (.aload_n 0, 1) := dk_42 (dk_at dksX1_size_3 0 rfl rfl)
theorem dX1_size_93 : decode cX1_size 93 = .ok (.getfield 112, 3) := dk_180 0 112 (dk_at dksX1_size_3 1 rfl rfl)
theorem dX1_size_96 : decode cX1_size 96 = .ok (.getfield 147, 3) := dk_180 0 147 (dk_at dksX1_size_3 4 rfl rfl)
theorem dX1_size_99 : decode cX1_size 99 = .ok (.ireturn, 1) := dk_172 (dk_at dksX1_size_3 7 rfl rfl)
theorem dX1_size_100 : decode cX1_size 100 = .ok (.aload_n 0, 1) := dk_42 (dk_at dksX1_size_3 8 rfl rfl)
theorem dX1_size_101 : decode cX1_size 101 = .ok (.getfield 112, 3) := dk_180 0 112 (dk_at dksX1_size_3 9 rfl rfl)
theorem dX1_size_104 : decode cX1_size 104 = .ok (.getfield 144, 3) := dk_180 0 144 (dk_at dksX1_size_3 12 rfl rfl)
theorem dX1_size_107 : decode cX1_size 107 = .ok (.ireturn, 1) := dk_172 (dk_at dksX1_size_3 15 rfl rfl)
theorem dX1_size_108 : decode cX1_size 108 = .ok (.aload_n 0, 1) := dk_42 (dk_at dksX1_size_3 16 rfl rfl)
theorem dX1_size_109 : decode cX1_size 109 = .ok (.getfield 112, 3) := dk_180 0 112 (dk_at dksX1_size_3 17 rfl rfl)
theorem dX1_size_112 : decode cX1_size 112 = .ok (.getfield 274, 3) := dk_180 1 18 (dk_at dksX1_size_3 20 rfl rfl)
theorem dX1_size_115 : decode cX1_size 115 = .ok (.ireturn, 1) := dk_172 (dk_at dksX1_size_3 23 rfl rfl)
theorem dX1_size_116 : decode cX1_size 116 = .ok (.aload_n 0, 1) := dk_42 (dk_at dksX1_size_4 0 rfl rfl)
theorem dX1_size_117 : decode cX1_size 117 = .ok (.getfield 112, 3) := dk_180 0 112 (dk_at dksX1_size_4 1 rfl rfl)
theorem dX1_size_120 : decode cX1_size 120 = .ok (.getfield 373, 3) := dk_180 1 117 (dk_at dksX1_size_4 4 rfl rfl)
theorem dX1_size_123 : decode cX1_size 123 = .ok (.ireturn, 1) := dk_172 (dk_at dksX1_size_4 7 rfl rfl)
theorem dX1_size_124 : decode cX1_size 124 = .ok (.aload_n 0, 1) := dk_42 (dk_at dksX1_size_4 8 rfl rfl)
theorem dX1_size_125 : decode cX1_size 125 = .ok (.getfield 112, 3) := dk_180 0 112 (dk_at dksX1_size_4 9 rfl rfl)
theorem dX1_size_128 : decode cX1_size 128 = .ok (.getfield 135, 3) := dk_180 0 135 (dk_at dksX1_size_4 12 rfl rfl)
theorem dX1_size_131 : decode cX1_size 131 = .ok (.ireturn, 1) := dk_172 (dk_at dksX1_size_4 15 rfl rfl)
theorem dX1_size_132 : decode cX1_size 132 = .ok (.aload_n 0, 1) := dk_42 (dk_at dksX1_size_4 16 rfl rfl)
theorem dX1_size_133 : decode cX1_size 133 = .ok (.getfield 112, 3) := dk_180 0 112 (dk_at dksX1_size_4 17 rfl rfl)
theorem dX1_size_136 : decode cX1_size 136 = .ok (.getfield 411, 3) := dk_180 1 155 (dk_at dksX1_size_4 20 rfl rfl)
theorem dX1_size_139 : decode cX1_size 139 = .ok (.aload_n 0, 1) := dk_42 (dk_at dksX1_size_4 23 rfl rfl)
theorem dX1_size_140 : decode cX1_size 140 = .ok (.getfield 29, 3) := dk_180 0 29 (dk_at dksX1_size_5 0 rfl rfl)
theorem dX1_size_143 : decode cX1_size 143 = .ok (.getfield 388, 3) := dk_180 1 132 (dk_at dksX1_size_5 3 rfl rfl)
theorem dX1_size_146 : decode cX1_size 146 = .ok (.iadd, 1) := dk_96 (dk_at dksX1_size_5 6 rfl rfl)
theorem dX1_size_147 : decode cX1_size 147 = .ok (.ireturn, 1) := dk_172 (dk_at dksX1_size_5 7 rfl rfl)
theorem dX1_size_148 : decode cX1_size 148 = .ok (.aload_n 0, 1) := dk_42 (dk_at dksX1_size_5 8 rfl rfl)
theorem dX1_size_149 : decode cX1_size 149 = .ok (.getfield 112, 3) := dk_180 0 112 (dk_at dksX1_size_5 9 rfl rfl)
theorem dX1_size_152 : decode cX1_size 152 = .ok (.getfield 305, 3) := dk_180 1 49 (dk_at dksX1_size_5 12 rfl rfl)
theorem dX1_size_155 : decode cX1_size 155 = .ok (.ireturn, 1) := dk_172 (dk_at dksX1_size_5 15 rfl rfl)
theorem dX1_size_156 : decode cX1_size 156 = .ok (.aload_n 0, 1) := dk_42 (dk_at dksX1_size_5 16 rfl rfl)
theorem dX1_size_157 : decode cX1_size 157 = .ok (.getfield 112, 3) := dk_180 0 112 (dk_at dksX1_size_5 17 rfl rfl)
theorem dX1_size_160 : decode cX1_size 160 = .ok (.getfield 344, 3) := dk_180 1 88 (dk_at dksX1_size_5 20 rfl rfl)
theorem dX1_size_163 : decode cX1_size 163 = .ok (.ireturn, 1) := dk_172 (dk_at dksX1_size_5 23 rfl rfl)
theorem dX1_size_164 : decode cX1_size 164 = .ok (.aload_n 0, 1) := dk_42 (dk_at dksX1_size_6 0 rfl rfl)
theorem dX1_size_165 : decode cX1_size 165 = .ok (.getfield 29, 3) := dk_180 0 29 (dk_at dksX1_size_6 1 rfl rfl)
theorem dX1_size_168 : decode cX1_size 168 = .ok (.getfield 405, 3) := dk_180 1 149 (dk_at dksX1_size_6 4 rfl rfl)
theorem dX1_size_171 : decode cX1_size 171 = .ok (.ireturn, 1) := dk_172 (dk_at dksX1_size_6 7 rfl rfl)
theorem dX1_size_172 : decode cX1_size 172 = .ok (.aload_n 0, 1) := dk_42 (dk_at dksX1_size_6 8 rfl rfl)
theorem dX1_size_173 : decode cX1_size 173 = .ok (.getfield 126, 3) := dk_180 0 126 (dk_at dksX1_size_6 9 rfl rfl)
theorem dX1_size_176 : decode cX1_size 176 = .ok (.ireturn, 1) := dk_172 (dk_at dksX1_size_6 12 rfl rfl)
theorem dX1_size_177 : decode cX1_size 177 = .ok (.aload_n 0, 1) := dk_42 (dk_at dksX1_size_6 13 rfl rfl)
theorem dX1_size_178 : decode cX1_size 178 = .ok (.getfield 129, 3) := dk_180 0 129 (dk_at dksX1_size_6 14 rfl rfl)
theorem dX1_size_181 : decode cX1_size 181 = .ok (.ireturn, 1) := dk_172 (dk_at dksX1_size_6 17 rfl rfl)
theorem dX1_size_182 : decode cX1_size 182 = .ok (.iconst (-1), 1) := dk_2 (dk_at dksX1_size_6 18 rfl rfl)
theorem dX1_size_183 : decode cX1_size 183 = .ok (.ireturn, 1) := dk_172 (dk_at dksX1_size_6 19 rfl rfl)
abbrev cX1_trouble : ByteArray := prog_1_method_78_code
def yX1_trouble : MethodName := ⟨RX1, "trouble", "()I"⟩
theorem dX1_trouble_0 : decode cX1_trouble 0 = .ok (.aload_n 0, 1) := by decide +kernel
theorem dX1_trouble_1 : decode cX1_trouble 1 = .ok (.getfield 84, 3) := by decide +kernel
theorem dX1_trouble_4 : decode cX1_trouble 4 = .ok (.ireturn, 1) := by decide +kernel
abbrev cX1_led : ByteArray := prog_1_method_76_code
def yX1_led : MethodName := ⟨RX1, "led", "(I)I"⟩
def dkwX1_led_2 : List UInt8 := [167, 255, 214, 187, 1, 152, 89, 183, 1, 154, 191]
abbrev dktX1_led_2 : List UInt8 := dkwX1_led_2 ++ []
def dkwX1_led_1 : List UInt8 := [182, 1, 9, 154, 0, 6, 167, 0, 13, 28, 27, 160, 0, 5, 29, 172, 132, 2, 1, 132, 3, 1]
abbrev dktX1_led_1 : List UInt8 := dkwX1_led_1 ++ dktX1_led_2
def dkwX1_led_0 : List UInt8 := [3, 61, 3, 62, 42, 180, 0, 112, 198, 0, 41, 29, 42, 180, 0, 112, 180, 0, 135, 162, 0, 30, 42, 29]
abbrev dktX1_led_0 : List UInt8 := dkwX1_led_0 ++ dktX1_led_1
theorem dksX1_led_0 : cX1_led.data.toList.drop 0 = dktX1_led_0 := by decide +kernel
theorem dksX1_led_1 : cX1_led.data.toList.drop 24 = dktX1_led_1 := dk_seg dksX1_led_0 24 rfl rfl
theorem dksX1_led_2 : cX1_led.data.toList.drop 46 = dktX1_led_2 := dk_seg dksX1_led_1 22 rfl rfl
theorem dX1_led_0 : decode cX1_led 0 = .ok (.iconst 0, 1) := dk_3 (dk_at dksX1_led_0 0 rfl rfl)
theorem dX1_led_1 : decode cX1_led 1 = .ok (.istore_n 2, 1) := dk_61 (dk_at dksX1_led_0 1 rfl rfl)
theorem dX1_led_2 : decode cX1_led 2 = .ok (.iconst 0, 1) := dk_3 (dk_at dksX1_led_0 2 rfl rfl)
theorem dX1_led_3 : decode cX1_led 3 = .ok (.istore_n 3, 1) := dk_62 (dk_at dksX1_led_0 3 rfl rfl)
theorem dX1_led_4 : decode cX1_led 4 = .ok (.aload_n 0, 1) := dk_42 (dk_at dksX1_led_0 4 rfl rfl)
theorem dX1_led_5 : decode cX1_led 5 = .ok (.getfield 112, 3) := dk_180 0 112 (dk_at dksX1_led_0 5 rfl rfl)
theorem dX1_led_8 : decode cX1_led 8 = .ok (.ifnull 41, 3) := dk_198 0 41 (dk_at dksX1_led_0 8 rfl rfl)
theorem dX1_led_11 : decode cX1_led 11 = .ok (.iload_n 3, 1) := dk_29 (dk_at dksX1_led_0 11 rfl rfl)
theorem dX1_led_12 : decode cX1_led 12 = .ok (.aload_n 0, 1) := dk_42 (dk_at dksX1_led_0 12 rfl rfl)
theorem dX1_led_13 : decode cX1_led 13 = .ok (.getfield 112, 3) := dk_180 0 112 (dk_at dksX1_led_0 13 rfl rfl)
theorem dX1_led_16 : decode cX1_led 16 = .ok (.getfield 135, 3) := dk_180 0 135 (dk_at dksX1_led_0 16 rfl rfl)
theorem dX1_led_19 : decode cX1_led 19 = .ok (.if_icmp .ge 30, 3) := dk_162 0 30 (dk_at dksX1_led_0 19 rfl rfl)
theorem dX1_led_22 : decode cX1_led 22 = .ok (.aload_n 0, 1) := dk_42 (dk_at dksX1_led_0 22 rfl rfl)
theorem dX1_led_23 : decode cX1_led 23 = .ok (.iload_n 3, 1) := dk_29 (dk_at dksX1_led_0 23 rfl rfl)
theorem dX1_led_24 : decode cX1_led 24 = .ok (.invokevirtual 265, 3) := dk_182 1 9 (dk_at dksX1_led_1 0 rfl rfl)
theorem dX1_led_27 : decode cX1_led 27 = .ok (.ifCond .ne 6, 3) := dk_154 0 6 (dk_at dksX1_led_1 3 rfl rfl)
theorem dX1_led_30 : decode cX1_led 30 = .ok (.goto 13, 3) := dk_167 0 13 (dk_at dksX1_led_1 6 rfl rfl)
theorem dX1_led_33 : decode cX1_led 33 = .ok (.iload_n 2, 1) := dk_28 (dk_at dksX1_led_1 9 rfl rfl)
theorem dX1_led_34 : decode cX1_led 34 = .ok (.iload_n 1, 1) := dk_27 (dk_at dksX1_led_1 10 rfl rfl)
theorem dX1_led_35 : decode cX1_led 35 = .ok (.if_icmp .ne 5, 3) := dk_160 0 5 (dk_at dksX1_led_1 11 rfl rfl)
theorem dX1_led_38 : decode cX1_led 38 = .ok (.iload_n 3, 1) := dk_29 (dk_at dksX1_led_1 14 rfl rfl)
theorem dX1_led_39 : decode cX1_led 39 = .ok (.ireturn, 1) := dk_172 (dk_at dksX1_led_1 15 rfl rfl)
theorem dX1_led_40 : decode cX1_led 40 = .ok (.iinc 2 1, 3) := dk_132 2 1 (dk_at dksX1_led_1 16 rfl rfl)
theorem dX1_led_43 : decode cX1_led 43 = .ok (.iinc 3 1, 3) := dk_132 3 1 (dk_at dksX1_led_1 19 rfl rfl)
theorem dX1_led_46 : decode cX1_led 46 = .ok (.goto (-42), 3) := dk_167 255 214 (dk_at dksX1_led_2 0 rfl rfl)
theorem dX1_led_49 : decode cX1_led 49 = .ok (.new 408, 3) := dk_187 1 152 (dk_at dksX1_led_2 3 rfl rfl)
theorem dX1_led_52 : decode cX1_led 52 = .ok (.dup, 1) := dk_89 (dk_at dksX1_led_2 6 rfl rfl)
theorem dX1_led_53 : decode cX1_led 53 = .ok (.invokespecial 410, 3) := dk_183 1 154 (dk_at dksX1_led_2 7 rfl rfl)
theorem dX1_led_56 : decode cX1_led 56 = .ok (.athrow, 1) := dk_191 (dk_at dksX1_led_2 10 rfl rfl)
theorem q130 : (Jvm.Cond.initialized "BrushGlass") ∈ lw_all := lw_g (lw_at lw_m1 1 rfl) rfl
theorem q166 : (Jvm.Cond.instantiable "BrushGlass" (21 : Nat)) ∈ lw_all := lw_g (lw_at lw_m1 37 rfl) rfl
theorem q168 : (Jvm.Cond.instanceMethod ({ cls := "BrushGlass", name := "<init>", desc := "()V" } : Jvm.MethodName)) ∈ lw_all := lw_g (lw_at lw_m1 39 rfl) rfl
theorem q169 : (Jvm.Cond.code ({ cls := "BrushGlass", name := "<init>", desc := "()V" } : Jvm.MethodName) prog_1_method_4_code (2 : Nat) (Option.none : Option Jvm.ClassFile.FieldType)) ∈ lw_all := lw_g (lw_at lw_m1 40 rfl) rfl
theorem q170 : (Jvm.Cond.methodLink "BrushGlass" (1 : Nat) ({ cls := "java/lang/Object", name := "<init>", desc := "()V" } : Jvm.MethodName)) ∈ lw_all := lw_g (lw_at lw_m1 41 rfl) rfl
theorem q173 : (Jvm.Cond.classLink "BrushGlass" (13 : Nat) "BrushGlass$Reader") ∈ lw_all := lw_g (lw_at lw_m1 44 rfl) rfl
theorem q175 : (Jvm.Cond.methodLink "BrushGlass" (15 : Nat) ({ cls := "BrushGlass$Reader", name := "<init>", desc := "([B)V" } : Jvm.MethodName)) ∈ lw_all := lw_g (lw_at lw_m1 46 rfl) rfl
theorem q232 : (Jvm.Cond.fieldLink "BrushGlass" (118 : Nat) "BrushGlass$Refused" "fault" "I") ∈ lw_all := lw_g (lw_at lw_m1 103 rfl) rfl
theorem q234 : (Jvm.Cond.fieldLink "BrushGlass" (119 : Nat) "BrushGlass$Refused" "place" "I") ∈ lw_all := lw_g (lw_at lw_m1 105 rfl) rfl
theorem q285 : (Jvm.Cond.classLink "BrushGlass" (26 : Nat) "BrushGlass$Plan") ∈ lw_all := lw_g (lw_at lw_m1 156 rfl) rfl
theorem q287 : (Jvm.Cond.methodLink "BrushGlass" (28 : Nat) ({ cls := "BrushGlass$Plan", name := "<init>", desc := "()V" } : Jvm.MethodName)) ∈ lw_all := lw_g (lw_at lw_m1 158 rfl) rfl
theorem q300 : (Jvm.Cond.fieldLink "BrushGlass" (330 : Nat) "BrushGlass$Move" "day" "I") ∈ lw_all := lw_g (lw_at lw_m1 171 rfl) rfl
theorem q303 : (Jvm.Cond.fieldLink "BrushGlass" (333 : Nat) "BrushGlass$Move" "place" "I") ∈ lw_all := lw_g (lw_at lw_m1 174 rfl) rfl
theorem q306 : (Jvm.Cond.fieldLink "BrushGlass" (334 : Nat) "BrushGlass$Move" "other" "I") ∈ lw_all := lw_g (lw_at lw_m1 177 rfl) rfl
theorem q317 : (Jvm.Cond.fieldLink "BrushGlass" (161 : Nat) "BrushGlass$Plan" "kinds" "[I") ∈ lw_all := lw_g (lw_at lw_m1 188 rfl) rfl
theorem q320 : (Jvm.Cond.fieldLink "BrushGlass" (165 : Nat) "BrushGlass$Plan" "habits" "[I") ∈ lw_all := lw_g (lw_at lw_m1 191 rfl) rfl
theorem q323 : (Jvm.Cond.fieldLink "BrushGlass" (168 : Nat) "BrushGlass$Plan" "keeps" "[I") ∈ lw_all := lw_g (lw_at lw_m1 194 rfl) rfl
theorem q327 : (Jvm.Cond.fieldLink "BrushGlass" (388 : Nat) "BrushGlass$Plan" "many" "I") ∈ lw_all := lw_g (lw_at lw_m1 198 rfl) rfl
theorem q329 : (Jvm.Cond.fieldLink "BrushGlass" (405 : Nat) "BrushGlass$Plan" "seed" "I") ∈ lw_all := lw_g (lw_at lw_m1 200 rfl) rfl
theorem q343 : (Jvm.Cond.classLink "BrushGlass" (39 : Nat) "BrushGlass$Month") ∈ lw_all := lw_g (lw_at lw_m1 214 rfl) rfl
theorem q345 : (Jvm.Cond.methodLink "BrushGlass" (41 : Nat) ({ cls := "BrushGlass$Month", name := "<init>", desc := "()V" } : Jvm.MethodName)) ∈ lw_all := lw_g (lw_at lw_m1 216 rfl) rfl
theorem q417 : (Jvm.Cond.fieldLink "BrushGlass" (218 : Nat) "BrushGlass$Brush" "owner" "I") ∈ lw_all := lw_g (lw_at lw_m2 48 rfl) rfl
theorem q421 : (Jvm.Cond.fieldLink "BrushGlass" (223 : Nat) "BrushGlass$Brush" "colour" "I") ∈ lw_all := lw_g (lw_at lw_m2 52 rfl) rfl
theorem q424 : (Jvm.Cond.fieldLink "BrushGlass" (226 : Nat) "BrushGlass$Brush" "bought" "I") ∈ lw_all := lw_g (lw_at lw_m2 55 rfl) rfl
theorem q427 : (Jvm.Cond.fieldLink "BrushGlass" (229 : Nat) "BrushGlass$Brush" "thrown" "I") ∈ lw_all := lw_g (lw_at lw_m2 58 rfl) rfl
theorem q430 : (Jvm.Cond.fieldLink "BrushGlass" (232 : Nat) "BrushGlass$Brush" "worn" "I") ∈ lw_all := lw_g (lw_at lw_m2 61 rfl) rfl
theorem q463 : (Jvm.Cond.fieldLink "BrushGlass" (211 : Nat) "BrushGlass$Month" "many" "I") ∈ lw_all := lw_g (lw_at lw_m2 94 rfl) rfl
theorem q491 : (Jvm.Cond.classLink "BrushGlass" (49 : Nat) "BrushGlass$Pairings") ∈ lw_all := lw_g (lw_at lw_m2 122 rfl) rfl
theorem q493 : (Jvm.Cond.methodLinkNest "BrushGlass" (51 : Nat) ({ cls := "BrushGlass$Pairings", name := "<init>", desc := "()V" } : Jvm.MethodName) "BrushGlass") ∈ lw_tbl := lw_at lw_m2 124 rfl
theorem q507 : (Jvm.Cond.fieldLink "BrushGlass" (359 : Nat) "BrushGlass$Pairings" "many" "I") ∈ lw_all := lw_g (lw_at lw_m2 138 rfl) rfl
theorem q529 : (Jvm.Cond.classLink "BrushGlass" (56 : Nat) "BrushGlass$Colouring") ∈ lw_all := lw_g (lw_at lw_m2 160 rfl) rfl
theorem q531 : (Jvm.Cond.methodLinkNest "BrushGlass" (58 : Nat) ({ cls := "BrushGlass$Colouring", name := "<init>", desc := "()V" } : Jvm.MethodName) "BrushGlass") ∈ lw_tbl := lw_at lw_m2 162 rfl
theorem q538 : (Jvm.Cond.fieldLink "BrushGlass" (299 : Nat) "BrushGlass$Colouring" "fewest" "I") ∈ lw_all := lw_g (lw_at lw_m2 169 rfl) rfl
theorem q547 : (Jvm.Cond.classLink "BrushGlass" (70 : Nat) "BrushGlass$Move") ∈ lw_all := lw_g (lw_at lw_m2 178 rfl) rfl
theorem q548 : (Jvm.Cond.methodLinkNest "BrushGlass" (72 : Nat) ({ cls := "BrushGlass$Move", name := "<init>", desc := "()V" } : Jvm.MethodName) "BrushGlass") ∈ lw_tbl := lw_at lw_m2 179 rfl
theorem q549 : (Jvm.Cond.fieldLink "BrushGlass" (9 : Nat) "BrushGlass" "tape" "[B") ∈ lw_all := lw_g (lw_at lw_m2 180 rfl) rfl
theorem q550 : (Jvm.Cond.fieldLink "BrushGlass" (90 : Nat) "BrushGlass" "taped" "I") ∈ lw_all := lw_g (lw_at lw_m2 181 rfl) rfl
theorem q551 : (Jvm.Cond.fieldLink "BrushGlass" (18 : Nat) "BrushGlass" "reader" "LBrushGlass$Reader;") ∈ lw_all := lw_g (lw_at lw_m2 182 rfl) rfl
theorem q552 : (Jvm.Cond.fieldLink "BrushGlass" (112 : Nat) "BrushGlass" "glass" "LBrushGlass$Glass;") ∈ lw_all := lw_g (lw_at lw_m2 183 rfl) rfl
theorem q553 : (Jvm.Cond.fieldLink "BrushGlass" (84 : Nat) "BrushGlass" "trouble" "I") ∈ lw_all := lw_g (lw_at lw_m2 184 rfl) rfl
theorem q554 : (Jvm.Cond.fieldLink "BrushGlass" (105 : Nat) "BrushGlass" "fault" "I") ∈ lw_all := lw_g (lw_at lw_m2 185 rfl) rfl
theorem q555 : (Jvm.Cond.fieldLink "BrushGlass" (22 : Nat) "BrushGlass" "where" "I") ∈ lw_all := lw_g (lw_at lw_m2 186 rfl) rfl
theorem q556 : (Jvm.Cond.fieldLink "BrushGlass" (129 : Nat) "BrushGlass" "markMany" "I") ∈ lw_all := lw_g (lw_at lw_m2 187 rfl) rfl
theorem q557 : (Jvm.Cond.fieldLink "BrushGlass" (126 : Nat) "BrushGlass" "undoMany" "I") ∈ lw_all := lw_g (lw_at lw_m2 188 rfl) rfl
theorem q558 : (Jvm.Cond.fieldLink "BrushGlass" (29 : Nat) "BrushGlass" "plan" "LBrushGlass$Plan;") ∈ lw_all := lw_g (lw_at lw_m2 189 rfl) rfl
theorem q559 : (Jvm.Cond.fieldLink "BrushGlass" (33 : Nat) "BrushGlass" "was" "LBrushGlass$Plan;") ∈ lw_all := lw_g (lw_at lw_m2 190 rfl) rfl
theorem q560 : (Jvm.Cond.fieldLink "BrushGlass" (36 : Nat) "BrushGlass" "trial" "LBrushGlass$Plan;") ∈ lw_all := lw_g (lw_at lw_m2 191 rfl) rfl
theorem q561 : (Jvm.Cond.fieldLink "BrushGlass" (42 : Nat) "BrushGlass" "month" "LBrushGlass$Month;") ∈ lw_all := lw_g (lw_at lw_m2 192 rfl) rfl
theorem q562 : (Jvm.Cond.fieldLink "BrushGlass" (46 : Nat) "BrushGlass" "tried" "LBrushGlass$Month;") ∈ lw_all := lw_g (lw_at lw_m2 193 rfl) rfl
theorem q563 : (Jvm.Cond.fieldLink "BrushGlass" (52 : Nat) "BrushGlass" "pairs" "LBrushGlass$Pairings;") ∈ lw_all := lw_g (lw_at lw_m2 194 rfl) rfl
theorem q564 : (Jvm.Cond.fieldLink "BrushGlass" (59 : Nat) "BrushGlass" "colouring" "LBrushGlass$Colouring;") ∈ lw_all := lw_g (lw_at lw_m2 195 rfl) rfl
theorem q565 : (Jvm.Cond.fieldLink "BrushGlass" (63 : Nat) "BrushGlass" "undone" "[LBrushGlass$Plan;") ∈ lw_all := lw_g (lw_at lw_m2 196 rfl) rfl
theorem q566 : (Jvm.Cond.fieldLink "BrushGlass" (67 : Nat) "BrushGlass" "marks" "[LBrushGlass$Plan;") ∈ lw_all := lw_g (lw_at lw_m2 197 rfl) rfl
theorem q567 : (Jvm.Cond.fieldLink "BrushGlass" (73 : Nat) "BrushGlass" "one" "LBrushGlass$Move;") ∈ lw_all := lw_g (lw_at lw_m2 198 rfl) rfl
theorem q568 : (Jvm.Cond.fieldLink "BrushGlass" (77 : Nat) "BrushGlass" "odds" "[J") ∈ lw_all := lw_g (lw_at lw_m2 199 rfl) rfl
theorem q569 : (Jvm.Cond.fieldLink "BrushGlass" (81 : Nat) "BrushGlass" "then" "[J") ∈ lw_all := lw_g (lw_at lw_m2 200 rfl) rfl
theorem q570 : (Jvm.Cond.laysFinal "BrushGlass" "BrushGlass" "tape" "[B") ∈ lw_all := lw_g (lw_at lw_m2 201 rfl) rfl
theorem q571 : (Jvm.Cond.soleField "BrushGlass" "tape") ∈ lw_all := lw_g (lw_at lw_m2 202 rfl) rfl
theorem q572 : (Jvm.Cond.lays "BrushGlass" "BrushGlass" "taped" "I") ∈ lw_all := lw_g (lw_at lw_m2 203 rfl) rfl
theorem q573 : (Jvm.Cond.soleField "BrushGlass" "taped") ∈ lw_all := lw_g (lw_at lw_m2 204 rfl) rfl
theorem q574 : (Jvm.Cond.laysFinal "BrushGlass" "BrushGlass" "reader" "LBrushGlass$Reader;") ∈ lw_all := lw_g (lw_at lw_m2 205 rfl) rfl
theorem q575 : (Jvm.Cond.soleField "BrushGlass" "reader") ∈ lw_all := lw_g (lw_at lw_m2 206 rfl) rfl
theorem q576 : (Jvm.Cond.lays "BrushGlass" "BrushGlass" "glass" "LBrushGlass$Glass;") ∈ lw_all := lw_g (lw_at lw_m2 207 rfl) rfl
theorem q577 : (Jvm.Cond.soleField "BrushGlass" "glass") ∈ lw_all := lw_g (lw_at lw_m2 208 rfl) rfl
theorem q578 : (Jvm.Cond.lays "BrushGlass" "BrushGlass" "trouble" "I") ∈ lw_all := lw_g (lw_at lw_m2 209 rfl) rfl
theorem q579 : (Jvm.Cond.soleField "BrushGlass" "trouble") ∈ lw_all := lw_g (lw_at lw_m2 210 rfl) rfl
theorem q580 : (Jvm.Cond.lays "BrushGlass" "BrushGlass" "fault" "I") ∈ lw_all := lw_g (lw_at lw_m2 211 rfl) rfl
theorem q581 : (Jvm.Cond.soleField "BrushGlass" "fault") ∈ lw_all := lw_g (lw_at lw_m2 212 rfl) rfl
theorem q582 : (Jvm.Cond.lays "BrushGlass" "BrushGlass" "where" "I") ∈ lw_all := lw_g (lw_at lw_m2 213 rfl) rfl
theorem q583 : (Jvm.Cond.soleField "BrushGlass" "where") ∈ lw_all := lw_g (lw_at lw_m2 214 rfl) rfl
theorem q584 : (Jvm.Cond.lays "BrushGlass" "BrushGlass" "markMany" "I") ∈ lw_all := lw_g (lw_at lw_m2 215 rfl) rfl
theorem q585 : (Jvm.Cond.soleField "BrushGlass" "markMany") ∈ lw_all := lw_g (lw_at lw_m2 216 rfl) rfl
theorem q586 : (Jvm.Cond.lays "BrushGlass" "BrushGlass" "undoMany" "I") ∈ lw_all := lw_g (lw_at lw_m2 217 rfl) rfl
theorem q587 : (Jvm.Cond.soleField "BrushGlass" "undoMany") ∈ lw_all := lw_g (lw_at lw_m2 218 rfl) rfl
theorem q588 : (Jvm.Cond.laysFinal "BrushGlass" "BrushGlass" "plan" "LBrushGlass$Plan;") ∈ lw_all := lw_g (lw_at lw_m2 219 rfl) rfl
theorem q589 : (Jvm.Cond.soleField "BrushGlass" "plan") ∈ lw_all := lw_g (lw_at lw_m2 220 rfl) rfl
theorem q590 : (Jvm.Cond.laysFinal "BrushGlass" "BrushGlass" "was" "LBrushGlass$Plan;") ∈ lw_all := lw_g (lw_at lw_m2 221 rfl) rfl
theorem q591 : (Jvm.Cond.soleField "BrushGlass" "was") ∈ lw_all := lw_g (lw_at lw_m2 222 rfl) rfl
theorem q592 : (Jvm.Cond.laysFinal "BrushGlass" "BrushGlass" "trial" "LBrushGlass$Plan;") ∈ lw_all := lw_g (lw_at lw_m2 223 rfl) rfl
theorem q593 : (Jvm.Cond.soleField "BrushGlass" "trial") ∈ lw_all := lw_g (lw_at lw_m2 224 rfl) rfl
theorem q594 : (Jvm.Cond.laysFinal "BrushGlass" "BrushGlass" "month" "LBrushGlass$Month;") ∈ lw_all := lw_g (lw_at lw_m2 225 rfl) rfl
theorem q595 : (Jvm.Cond.soleField "BrushGlass" "month") ∈ lw_all := lw_g (lw_at lw_m2 226 rfl) rfl
theorem q596 : (Jvm.Cond.laysFinal "BrushGlass" "BrushGlass" "tried" "LBrushGlass$Month;") ∈ lw_all := lw_g (lw_at lw_m2 227 rfl) rfl
theorem q597 : (Jvm.Cond.soleField "BrushGlass" "tried") ∈ lw_all := lw_g (lw_at lw_m2 228 rfl) rfl
theorem q598 : (Jvm.Cond.laysFinal "BrushGlass" "BrushGlass" "pairs" "LBrushGlass$Pairings;") ∈ lw_all := lw_g (lw_at lw_m2 229 rfl) rfl
theorem q599 : (Jvm.Cond.soleField "BrushGlass" "pairs") ∈ lw_all := lw_g (lw_at lw_m2 230 rfl) rfl
theorem q600 : (Jvm.Cond.laysFinal "BrushGlass" "BrushGlass" "colouring" "LBrushGlass$Colouring;") ∈ lw_all := lw_g (lw_at lw_m2 231 rfl) rfl
theorem q601 : (Jvm.Cond.soleField "BrushGlass" "colouring") ∈ lw_all := lw_g (lw_at lw_m2 232 rfl) rfl
theorem q602 : (Jvm.Cond.laysFinal "BrushGlass" "BrushGlass" "undone" "[LBrushGlass$Plan;") ∈ lw_all := lw_g (lw_at lw_m2 233 rfl) rfl
theorem q603 : (Jvm.Cond.soleField "BrushGlass" "undone") ∈ lw_all := lw_g (lw_at lw_m2 234 rfl) rfl
theorem q604 : (Jvm.Cond.laysFinal "BrushGlass" "BrushGlass" "marks" "[LBrushGlass$Plan;") ∈ lw_all := lw_g (lw_at lw_m2 235 rfl) rfl
theorem q605 : (Jvm.Cond.soleField "BrushGlass" "marks") ∈ lw_all := lw_g (lw_at lw_m2 236 rfl) rfl
theorem q606 : (Jvm.Cond.laysFinal "BrushGlass" "BrushGlass" "one" "LBrushGlass$Move;") ∈ lw_all := lw_g (lw_at lw_m2 237 rfl) rfl
theorem q607 : (Jvm.Cond.soleField "BrushGlass" "one") ∈ lw_all := lw_g (lw_at lw_m2 238 rfl) rfl
theorem q608 : (Jvm.Cond.laysFinal "BrushGlass" "BrushGlass" "odds" "[J") ∈ lw_all := lw_g (lw_at lw_m2 239 rfl) rfl
theorem q609 : (Jvm.Cond.soleField "BrushGlass" "odds") ∈ lw_all := lw_g (lw_at lw_m3 0 rfl) rfl
theorem q610 : (Jvm.Cond.laysFinal "BrushGlass" "BrushGlass" "then" "[J") ∈ lw_all := lw_g (lw_at lw_m3 1 rfl) rfl
theorem q611 : (Jvm.Cond.soleField "BrushGlass" "then") ∈ lw_all := lw_g (lw_at lw_m3 2 rfl) rfl
theorem q612 : (Jvm.Cond.superclass "BrushGlass" "java/lang/Object") ∈ lw_all := lw_g (lw_at lw_m3 3 rfl) rfl
theorem q615 : (Jvm.Cond.instanceMethod ({ cls := "BrushGlass", name := "feed", desc := "(IIIII)I" } : Jvm.MethodName)) ∈ lw_all := lw_g (lw_at lw_m3 6 rfl) rfl
theorem q616 : (Jvm.Cond.selects "BrushGlass" ({ cls := "BrushGlass", name := "feed", desc := "(IIIII)I" } : Jvm.MethodName) ({ cls := "BrushGlass", name := "feed", desc := "(IIIII)I" } : Jvm.MethodName)) ∈ lw_all := lw_g (lw_at lw_m3 7 rfl) rfl
theorem q617 : (Jvm.Cond.code ({ cls := "BrushGlass", name := "feed", desc := "(IIIII)I" } : Jvm.MethodName) prog_1_method_8_code (6 : Nat) (Option.some Jvm.ClassFile.FieldType.int)) ∈ lw_all := lw_g (lw_at lw_m3 8 rfl) rfl
theorem q618 : (Jvm.Cond.methodLink "BrushGlass" (93 : Nat) ({ cls := "BrushGlass", name := "bytes", desc := "(I)V" } : Jvm.MethodName)) ∈ lw_all := lw_g (lw_at lw_m3 9 rfl) rfl
theorem q619 : (Jvm.Cond.privateMethod ({ cls := "BrushGlass", name := "bytes", desc := "(I)V" } : Jvm.MethodName)) ∈ lw_tbl := lw_at lw_m3 10 rfl
theorem q620 : (Jvm.Cond.instanceMethod ({ cls := "BrushGlass", name := "bytes", desc := "(I)V" } : Jvm.MethodName)) ∈ lw_all := lw_g (lw_at lw_m3 11 rfl) rfl
theorem q621 : (Jvm.Cond.code ({ cls := "BrushGlass", name := "bytes", desc := "(I)V" } : Jvm.MethodName) prog_1_method_9_code (3 : Nat) (Option.none : Option Jvm.ClassFile.FieldType)) ∈ lw_all := lw_g (lw_at lw_m3 12 rfl) rfl
theorem q623 : (Jvm.Cond.instanceMethod ({ cls := "BrushGlass", name := "glass", desc := "(I)I" } : Jvm.MethodName)) ∈ lw_all := lw_g (lw_at lw_m3 14 rfl) rfl
theorem q624 : (Jvm.Cond.selects "BrushGlass" ({ cls := "BrushGlass", name := "glass", desc := "(I)I" } : Jvm.MethodName) ({ cls := "BrushGlass", name := "glass", desc := "(I)I" } : Jvm.MethodName)) ∈ lw_all := lw_g (lw_at lw_m3 15 rfl) rfl
theorem q625 : (Jvm.Cond.codeWith ({ cls := "BrushGlass", name := "glass", desc := "(I)I" } : Jvm.MethodName) prog_1_method_10_code (3 : Nat) (Option.some Jvm.ClassFile.FieldType.int) [((32 : Nat), (44 : Nat), (47 : Nat), (116 : Nat))]) ∈ lw_all := lw_g (lw_at lw_m3 16 rfl) rfl
theorem q626 : (Jvm.Cond.classLink "BrushGlass" (116 : Nat) "BrushGlass$Refused") ∈ lw_all := lw_g (lw_at lw_m3 17 rfl) rfl
theorem q627 : (Jvm.Cond.methodLink "BrushGlass" (87 : Nat) ({ cls := "BrushGlass", name := "anew", desc := "()V" } : Jvm.MethodName)) ∈ lw_all := lw_g (lw_at lw_m3 18 rfl) rfl
theorem q628 : (Jvm.Cond.privateMethod ({ cls := "BrushGlass", name := "anew", desc := "()V" } : Jvm.MethodName)) ∈ lw_tbl := lw_at lw_m3 19 rfl
theorem q629 : (Jvm.Cond.instanceMethod ({ cls := "BrushGlass", name := "anew", desc := "()V" } : Jvm.MethodName)) ∈ lw_all := lw_g (lw_at lw_m3 20 rfl) rfl
theorem q630 : (Jvm.Cond.code ({ cls := "BrushGlass", name := "anew", desc := "()V" } : Jvm.MethodName) prog_1_method_5_code (1 : Nat) (Option.none : Option Jvm.ClassFile.FieldType)) ∈ lw_all := lw_g (lw_at lw_m3 21 rfl) rfl
theorem q631 : (Jvm.Cond.methodLink "BrushGlass" (97 : Nat) ({ cls := "BrushGlass", name := "in", desc := "(III)Z" } : Jvm.MethodName)) ∈ lw_all := lw_g (lw_at lw_m3 22 rfl) rfl
theorem q632 : (Jvm.Cond.static ({ cls := "BrushGlass", name := "in", desc := "(III)Z" } : Jvm.MethodName)) ∈ lw_all := lw_g (lw_at lw_m3 23 rfl) rfl
theorem q633 : (Jvm.Cond.code ({ cls := "BrushGlass", name := "in", desc := "(III)Z" } : Jvm.MethodName) prog_1_method_1_code (3 : Nat) (Option.some Jvm.ClassFile.FieldType.boolean)) ∈ lw_all := lw_g (lw_at lw_m3 24 rfl) rfl
theorem q634 : (Jvm.Cond.methodLink "BrushGlass" (101 : Nat) ({ cls := "BrushGlass", name := "no", desc := "(I)I" } : Jvm.MethodName)) ∈ lw_all := lw_g (lw_at lw_m3 25 rfl) rfl
theorem q635 : (Jvm.Cond.privateMethod ({ cls := "BrushGlass", name := "no", desc := "(I)I" } : Jvm.MethodName)) ∈ lw_tbl := lw_at lw_m3 26 rfl
theorem q636 : (Jvm.Cond.instanceMethod ({ cls := "BrushGlass", name := "no", desc := "(I)I" } : Jvm.MethodName)) ∈ lw_all := lw_g (lw_at lw_m3 27 rfl) rfl
theorem q637 : (Jvm.Cond.code ({ cls := "BrushGlass", name := "no", desc := "(I)I" } : Jvm.MethodName) prog_1_method_6_code (2 : Nat) (Option.some Jvm.ClassFile.FieldType.int)) ∈ lw_all := lw_g (lw_at lw_m3 28 rfl) rfl
theorem q638 : (Jvm.Cond.methodLink "BrushGlass" (108 : Nat) ({ cls := "BrushGlass$Reader", name := "read", desc := "(I)LBrushGlass$Glass;" } : Jvm.MethodName)) ∈ lw_all := lw_g (lw_at lw_m3 29 rfl) rfl
theorem q659 : (Jvm.Cond.fieldLink "BrushGlass" (157 : Nat) "BrushGlass$Glass" "people" "[LBrushGlass$Person;") ∈ lw_all := lw_g (lw_at lw_m3 50 rfl) rfl
theorem q667 : (Jvm.Cond.fieldLink "BrushGlass" (308 : Nat) "BrushGlass$Glass" "seeings" "[LBrushGlass$Seeing;") ∈ lw_all := lw_g (lw_at lw_m3 58 rfl) rfl
theorem q670 : (Jvm.Cond.fieldLink "BrushGlass" (347 : Nat) "BrushGlass$Glass" "sayings" "[LBrushGlass$Saying;") ∈ lw_all := lw_g (lw_at lw_m3 61 rfl) rfl
theorem q674 : (Jvm.Cond.fieldLink "BrushGlass" (147 : Nat) "BrushGlass$Glass" "days" "I") ∈ lw_all := lw_g (lw_at lw_m3 65 rfl) rfl
theorem q677 : (Jvm.Cond.fieldLink "BrushGlass" (144 : Nat) "BrushGlass$Glass" "places" "I") ∈ lw_all := lw_g (lw_at lw_m3 68 rfl) rfl
theorem q680 : (Jvm.Cond.fieldLink "BrushGlass" (274 : Nat) "BrushGlass$Glass" "colours" "I") ∈ lw_all := lw_g (lw_at lw_m3 71 rfl) rfl
theorem q682 : (Jvm.Cond.fieldLink "BrushGlass" (373 : Nat) "BrushGlass$Glass" "reach" "I") ∈ lw_all := lw_g (lw_at lw_m3 73 rfl) rfl
theorem q688 : (Jvm.Cond.fieldLink "BrushGlass" (135 : Nat) "BrushGlass$Glass" "personMany" "I") ∈ lw_all := lw_g (lw_at lw_m3 79 rfl) rfl
theorem q692 : (Jvm.Cond.fieldLink "BrushGlass" (411 : Nat) "BrushGlass$Glass" "moveMany" "I") ∈ lw_all := lw_g (lw_at lw_m3 83 rfl) rfl
theorem q695 : (Jvm.Cond.fieldLink "BrushGlass" (305 : Nat) "BrushGlass$Glass" "seeingMany" "I") ∈ lw_all := lw_g (lw_at lw_m3 86 rfl) rfl
theorem q697 : (Jvm.Cond.fieldLink "BrushGlass" (344 : Nat) "BrushGlass$Glass" "sayingMany" "I") ∈ lw_all := lw_g (lw_at lw_m3 88 rfl) rfl
theorem q960 : (Jvm.Cond.fieldLink "BrushGlass" (186 : Nat) "BrushGlass$Person" "order" "[I") ∈ lw_all := lw_g (lw_at lw_m4 111 rfl) rfl
theorem q963 : (Jvm.Cond.fieldLink "BrushGlass" (189 : Nat) "BrushGlass$Person" "begins" "[I") ∈ lw_all := lw_g (lw_at lw_m4 114 rfl) rfl
theorem q966 : (Jvm.Cond.fieldLink "BrushGlass" (192 : Nat) "BrushGlass$Person" "ends" "[I") ∈ lw_all := lw_g (lw_at lw_m4 117 rfl) rfl
theorem q971 : (Jvm.Cond.fieldLink "BrushGlass" (183 : Nat) "BrushGlass$Person" "likes" "I") ∈ lw_all := lw_g (lw_at lw_m4 122 rfl) rfl
theorem q974 : (Jvm.Cond.fieldLink "BrushGlass" (180 : Nat) "BrushGlass$Person" "stays" "I") ∈ lw_all := lw_g (lw_at lw_m4 125 rfl) rfl
theorem q983 : (Jvm.Cond.fieldLink "BrushGlass" (171 : Nat) "BrushGlass$Person" "wears" "I") ∈ lw_all := lw_g (lw_at lw_m4 134 rfl) rfl
theorem q986 : (Jvm.Cond.fieldLink "BrushGlass" (176 : Nat) "BrushGlass$Person" "takes" "Z") ∈ lw_all := lw_g (lw_at lw_m4 137 rfl) rfl
theorem q1129 : (Jvm.Cond.fieldLink "BrushGlass" (340 : Nat) "BrushGlass$Saying" "person" "I") ∈ lw_all := lw_g (lw_at lw_m5 40 rfl) rfl
theorem q1131 : (Jvm.Cond.fieldLink "BrushGlass" (337 : Nat) "BrushGlass$Saying" "day" "I") ∈ lw_all := lw_g (lw_at lw_m5 42 rfl) rfl
theorem q1133 : (Jvm.Cond.fieldLink "BrushGlass" (343 : Nat) "BrushGlass$Saying" "place" "I") ∈ lw_all := lw_g (lw_at lw_m5 44 rfl) rfl
theorem q1145 : (Jvm.Cond.methodLink "BrushGlass" (122 : Nat) ({ cls := "BrushGlass$Plan", name := "begin", desc := "(LBrushGlass$Glass;)V" } : Jvm.MethodName)) ∈ lw_all := lw_g (lw_at lw_m5 56 rfl) rfl
theorem q1149 : (Jvm.Cond.methodLink "BrushGlass" (132 : Nat) ({ cls := "BrushGlass", name := "runMonth", desc := "()V" } : Jvm.MethodName)) ∈ lw_all := lw_g (lw_at lw_m5 60 rfl) rfl
theorem q1150 : (Jvm.Cond.privateMethod ({ cls := "BrushGlass", name := "runMonth", desc := "()V" } : Jvm.MethodName)) ∈ lw_tbl := lw_at lw_m5 61 rfl
theorem q1151 : (Jvm.Cond.instanceMethod ({ cls := "BrushGlass", name := "runMonth", desc := "()V" } : Jvm.MethodName)) ∈ lw_all := lw_g (lw_at lw_m5 62 rfl) rfl
theorem q1152 : (Jvm.Cond.code ({ cls := "BrushGlass", name := "runMonth", desc := "()V" } : Jvm.MethodName) prog_1_method_11_code (1 : Nat) (Option.none : Option Jvm.ClassFile.FieldType)) ∈ lw_all := lw_g (lw_at lw_m5 63 rfl) rfl
theorem q1153 : (Jvm.Cond.methodLink "BrushGlass" (140 : Nat) ({ cls := "BrushGlass$Month", name := "run", desc := "(LBrushGlass$Glass;LBrushGlass$Plan;LBrushGlass$Move;)V" } : Jvm.MethodName)) ∈ lw_all := lw_g (lw_at lw_m5 64 rfl) rfl
theorem q1279 : (Jvm.Cond.instanceMethod ({ cls := "BrushGlass", name := "fault", desc := "()I" } : Jvm.MethodName)) ∈ lw_all := lw_g (lw_at lw_m5 190 rfl) rfl
theorem q1280 : (Jvm.Cond.selects "BrushGlass" ({ cls := "BrushGlass", name := "fault", desc := "()I" } : Jvm.MethodName) ({ cls := "BrushGlass", name := "fault", desc := "()I" } : Jvm.MethodName)) ∈ lw_all := lw_g (lw_at lw_m5 191 rfl) rfl
theorem q1281 : (Jvm.Cond.code ({ cls := "BrushGlass", name := "fault", desc := "()I" } : Jvm.MethodName) prog_1_method_12_code (1 : Nat) (Option.some Jvm.ClassFile.FieldType.int)) ∈ lw_all := lw_g (lw_at lw_m5 192 rfl) rfl
theorem q1283 : (Jvm.Cond.instanceMethod ({ cls := "BrushGlass", name := "where", desc := "()I" } : Jvm.MethodName)) ∈ lw_all := lw_g (lw_at lw_m5 194 rfl) rfl
theorem q1284 : (Jvm.Cond.selects "BrushGlass" ({ cls := "BrushGlass", name := "where", desc := "()I" } : Jvm.MethodName) ({ cls := "BrushGlass", name := "where", desc := "()I" } : Jvm.MethodName)) ∈ lw_all := lw_g (lw_at lw_m5 195 rfl) rfl
theorem q1285 : (Jvm.Cond.code ({ cls := "BrushGlass", name := "where", desc := "()I" } : Jvm.MethodName) prog_1_method_13_code (1 : Nat) (Option.some Jvm.ClassFile.FieldType.int)) ∈ lw_all := lw_g (lw_at lw_m5 196 rfl) rfl
theorem q1287 : (Jvm.Cond.instanceMethod ({ cls := "BrushGlass", name := "person", desc := "(II)I" } : Jvm.MethodName)) ∈ lw_all := lw_g (lw_at lw_m5 198 rfl) rfl
theorem q1288 : (Jvm.Cond.selects "BrushGlass" ({ cls := "BrushGlass", name := "person", desc := "(II)I" } : Jvm.MethodName) ({ cls := "BrushGlass", name := "person", desc := "(II)I" } : Jvm.MethodName)) ∈ lw_all := lw_g (lw_at lw_m5 199 rfl) rfl
theorem q1289 : (Jvm.Cond.code ({ cls := "BrushGlass", name := "person", desc := "(II)I" } : Jvm.MethodName) prog_1_method_18_code (4 : Nat) (Option.some Jvm.ClassFile.FieldType.int)) ∈ lw_all := lw_g (lw_at lw_m5 200 rfl) rfl
theorem q1290 : (Jvm.Cond.methodLink "BrushGlass" (154 : Nat) ({ cls := "BrushGlass", name := "isPerson", desc := "(I)Z" } : Jvm.MethodName)) ∈ lw_all := lw_g (lw_at lw_m5 201 rfl) rfl
theorem q1291 : (Jvm.Cond.privateMethod ({ cls := "BrushGlass", name := "isPerson", desc := "(I)Z" } : Jvm.MethodName)) ∈ lw_tbl := lw_at lw_m5 202 rfl
theorem q1292 : (Jvm.Cond.instanceMethod ({ cls := "BrushGlass", name := "isPerson", desc := "(I)Z" } : Jvm.MethodName)) ∈ lw_all := lw_g (lw_at lw_m5 203 rfl) rfl
theorem q1293 : (Jvm.Cond.code ({ cls := "BrushGlass", name := "isPerson", desc := "(I)Z" } : Jvm.MethodName) prog_1_method_14_code (2 : Nat) (Option.some Jvm.ClassFile.FieldType.boolean)) ∈ lw_all := lw_g (lw_at lw_m5 204 rfl) rfl
theorem q1295 : (Jvm.Cond.instanceMethod ({ cls := "BrushGlass", name := "likes", desc := "(II)I" } : Jvm.MethodName)) ∈ lw_all := lw_g (lw_at lw_m5 206 rfl) rfl
theorem q1296 : (Jvm.Cond.selects "BrushGlass" ({ cls := "BrushGlass", name := "likes", desc := "(II)I" } : Jvm.MethodName) ({ cls := "BrushGlass", name := "likes", desc := "(II)I" } : Jvm.MethodName)) ∈ lw_all := lw_g (lw_at lw_m5 207 rfl) rfl
theorem q1297 : (Jvm.Cond.code ({ cls := "BrushGlass", name := "likes", desc := "(II)I" } : Jvm.MethodName) prog_1_method_19_code (3 : Nat) (Option.some Jvm.ClassFile.FieldType.int)) ∈ lw_all := lw_g (lw_at lw_m5 208 rfl) rfl
theorem q1299 : (Jvm.Cond.instanceMethod ({ cls := "BrushGlass", name := "stay", desc := "(III)I" } : Jvm.MethodName)) ∈ lw_all := lw_g (lw_at lw_m5 210 rfl) rfl
theorem q1300 : (Jvm.Cond.selects "BrushGlass" ({ cls := "BrushGlass", name := "stay", desc := "(III)I" } : Jvm.MethodName) ({ cls := "BrushGlass", name := "stay", desc := "(III)I" } : Jvm.MethodName)) ∈ lw_all := lw_g (lw_at lw_m5 211 rfl) rfl
theorem q1301 : (Jvm.Cond.code ({ cls := "BrushGlass", name := "stay", desc := "(III)I" } : Jvm.MethodName) prog_1_method_20_code (4 : Nat) (Option.some Jvm.ClassFile.FieldType.int)) ∈ lw_all := lw_g (lw_at lw_m5 212 rfl) rfl
theorem q1303 : (Jvm.Cond.instanceMethod ({ cls := "BrushGlass", name := "here", desc := "(I)I" } : Jvm.MethodName)) ∈ lw_all := lw_g (lw_at lw_m5 214 rfl) rfl
theorem q1304 : (Jvm.Cond.selects "BrushGlass" ({ cls := "BrushGlass", name := "here", desc := "(I)I" } : Jvm.MethodName) ({ cls := "BrushGlass", name := "here", desc := "(I)I" } : Jvm.MethodName)) ∈ lw_all := lw_g (lw_at lw_m5 215 rfl) rfl
theorem q1305 : (Jvm.Cond.code ({ cls := "BrushGlass", name := "here", desc := "(I)I" } : Jvm.MethodName) prog_1_method_21_code (3 : Nat) (Option.some Jvm.ClassFile.FieldType.int)) ∈ lw_all := lw_g (lw_at lw_m5 216 rfl) rfl
theorem q1306 : (Jvm.Cond.methodLink "BrushGlass" (195 : Nat) ({ cls := "BrushGlass", name := "dayWhy", desc := "(ZI)I" } : Jvm.MethodName)) ∈ lw_all := lw_g (lw_at lw_m5 217 rfl) rfl
theorem q1307 : (Jvm.Cond.privateMethod ({ cls := "BrushGlass", name := "dayWhy", desc := "(ZI)I" } : Jvm.MethodName)) ∈ lw_tbl := lw_at lw_m5 218 rfl
theorem q1308 : (Jvm.Cond.instanceMethod ({ cls := "BrushGlass", name := "dayWhy", desc := "(ZI)I" } : Jvm.MethodName)) ∈ lw_all := lw_g (lw_at lw_m5 219 rfl) rfl
theorem q1309 : (Jvm.Cond.code ({ cls := "BrushGlass", name := "dayWhy", desc := "(ZI)I" } : Jvm.MethodName) prog_1_method_17_code (3 : Nat) (Option.some Jvm.ClassFile.FieldType.int)) ∈ lw_all := lw_g (lw_at lw_m5 220 rfl) rfl
theorem q1310 : (Jvm.Cond.methodLink "BrushGlass" (150 : Nat) ({ cls := "BrushGlass", name := "isDay", desc := "(I)Z" } : Jvm.MethodName)) ∈ lw_all := lw_g (lw_at lw_m5 221 rfl) rfl
theorem q1311 : (Jvm.Cond.privateMethod ({ cls := "BrushGlass", name := "isDay", desc := "(I)Z" } : Jvm.MethodName)) ∈ lw_tbl := lw_at lw_m5 222 rfl
theorem q1312 : (Jvm.Cond.instanceMethod ({ cls := "BrushGlass", name := "isDay", desc := "(I)Z" } : Jvm.MethodName)) ∈ lw_all := lw_g (lw_at lw_m5 223 rfl) rfl
theorem q1313 : (Jvm.Cond.code ({ cls := "BrushGlass", name := "isDay", desc := "(I)Z" } : Jvm.MethodName) prog_1_method_16_code (2 : Nat) (Option.some Jvm.ClassFile.FieldType.boolean)) ∈ lw_all := lw_g (lw_at lw_m5 224 rfl) rfl
theorem q1314 : (Jvm.Cond.methodLink "BrushGlass" (199 : Nat) ({ cls := "BrushGlass$Glass", name := "here", desc := "(I)I" } : Jvm.MethodName)) ∈ lw_all := lw_g (lw_at lw_m5 225 rfl) rfl
theorem q1320 : (Jvm.Cond.instanceMethod ({ cls := "BrushGlass", name := "most", desc := "()I" } : Jvm.MethodName)) ∈ lw_all := lw_g (lw_at lw_m5 231 rfl) rfl
theorem q1321 : (Jvm.Cond.selects "BrushGlass" ({ cls := "BrushGlass", name := "most", desc := "()I" } : Jvm.MethodName) ({ cls := "BrushGlass", name := "most", desc := "()I" } : Jvm.MethodName)) ∈ lw_all := lw_g (lw_at lw_m5 232 rfl) rfl
theorem q1322 : (Jvm.Cond.code ({ cls := "BrushGlass", name := "most", desc := "()I" } : Jvm.MethodName) prog_1_method_22_code (3 : Nat) (Option.some Jvm.ClassFile.FieldType.int)) ∈ lw_all := lw_g (lw_at lw_m5 233 rfl) rfl
theorem q1323 : (Jvm.Cond.methodLink "BrushGlass" (202 : Nat) ({ cls := "BrushGlass", name := "ones", desc := "(I)I" } : Jvm.MethodName)) ∈ lw_all := lw_g (lw_at lw_m5 234 rfl) rfl
theorem q1324 : (Jvm.Cond.static ({ cls := "BrushGlass", name := "ones", desc := "(I)I" } : Jvm.MethodName)) ∈ lw_all := lw_g (lw_at lw_m5 235 rfl) rfl
theorem q1325 : (Jvm.Cond.code ({ cls := "BrushGlass", name := "ones", desc := "(I)I" } : Jvm.MethodName) prog_1_method_3_code (3 : Nat) (Option.some Jvm.ClassFile.FieldType.int)) ∈ lw_all := lw_g (lw_at lw_m5 236 rfl) rfl
theorem q1326 : (Jvm.Cond.methodLink "BrushGlass" (205 : Nat) ({ cls := "java/lang/Math", name := "max", desc := "(II)I" } : Jvm.MethodName)) ∈ lw_all := lw_g (lw_at lw_m5 237 rfl) rfl
theorem q1330 : (Jvm.Cond.instanceMethod ({ cls := "BrushGlass", name := "brushes", desc := "()I" } : Jvm.MethodName)) ∈ lw_all := lw_g (lw_at lw_m6 1 rfl) rfl
theorem q1331 : (Jvm.Cond.selects "BrushGlass" ({ cls := "BrushGlass", name := "brushes", desc := "()I" } : Jvm.MethodName) ({ cls := "BrushGlass", name := "brushes", desc := "()I" } : Jvm.MethodName)) ∈ lw_all := lw_g (lw_at lw_m6 2 rfl) rfl
theorem q1332 : (Jvm.Cond.code ({ cls := "BrushGlass", name := "brushes", desc := "()I" } : Jvm.MethodName) prog_1_method_23_code (1 : Nat) (Option.some Jvm.ClassFile.FieldType.int)) ∈ lw_all := lw_g (lw_at lw_m6 3 rfl) rfl
theorem q1334 : (Jvm.Cond.instanceMethod ({ cls := "BrushGlass", name := "brush", desc := "(II)I" } : Jvm.MethodName)) ∈ lw_all := lw_g (lw_at lw_m6 5 rfl) rfl
theorem q1335 : (Jvm.Cond.selects "BrushGlass" ({ cls := "BrushGlass", name := "brush", desc := "(II)I" } : Jvm.MethodName) ({ cls := "BrushGlass", name := "brush", desc := "(II)I" } : Jvm.MethodName)) ∈ lw_all := lw_g (lw_at lw_m6 6 rfl) rfl
theorem q1336 : (Jvm.Cond.code ({ cls := "BrushGlass", name := "brush", desc := "(II)I" } : Jvm.MethodName) prog_1_method_24_code (4 : Nat) (Option.some Jvm.ClassFile.FieldType.int)) ∈ lw_all := lw_g (lw_at lw_m6 7 rfl) rfl
theorem q1337 : (Jvm.Cond.methodLink "BrushGlass" (214 : Nat) ({ cls := "BrushGlass$Month", name := "brush", desc := "(I)LBrushGlass$Brush;" } : Jvm.MethodName)) ∈ lw_all := lw_g (lw_at lw_m6 8 rfl) rfl
theorem q1339 : (Jvm.Cond.instanceMethod ({ cls := "BrushGlass", name := "at", desc := "(II)I" } : Jvm.MethodName)) ∈ lw_all := lw_g (lw_at lw_m6 10 rfl) rfl
theorem q1340 : (Jvm.Cond.selects "BrushGlass" ({ cls := "BrushGlass", name := "at", desc := "(II)I" } : Jvm.MethodName) ({ cls := "BrushGlass", name := "at", desc := "(II)I" } : Jvm.MethodName)) ∈ lw_all := lw_g (lw_at lw_m6 11 rfl) rfl
theorem q1341 : (Jvm.Cond.code ({ cls := "BrushGlass", name := "at", desc := "(II)I" } : Jvm.MethodName) prog_1_method_25_code (4 : Nat) (Option.some Jvm.ClassFile.FieldType.int)) ∈ lw_all := lw_g (lw_at lw_m6 12 rfl) rfl
theorem q1342 : (Jvm.Cond.methodLink "BrushGlass" (235 : Nat) ({ cls := "BrushGlass", name := "isPlace", desc := "(I)Z" } : Jvm.MethodName)) ∈ lw_all := lw_g (lw_at lw_m6 13 rfl) rfl
theorem q1343 : (Jvm.Cond.privateMethod ({ cls := "BrushGlass", name := "isPlace", desc := "(I)Z" } : Jvm.MethodName)) ∈ lw_tbl := lw_at lw_m6 14 rfl
theorem q1344 : (Jvm.Cond.instanceMethod ({ cls := "BrushGlass", name := "isPlace", desc := "(I)Z" } : Jvm.MethodName)) ∈ lw_all := lw_g (lw_at lw_m6 15 rfl) rfl
theorem q1345 : (Jvm.Cond.code ({ cls := "BrushGlass", name := "isPlace", desc := "(I)Z" } : Jvm.MethodName) prog_1_method_15_code (2 : Nat) (Option.some Jvm.ClassFile.FieldType.boolean)) ∈ lw_all := lw_g (lw_at lw_m6 16 rfl) rfl
theorem q1346 : (Jvm.Cond.methodLink "BrushGlass" (238 : Nat) ({ cls := "BrushGlass$Month", name := "at", desc := "(II)I" } : Jvm.MethodName)) ∈ lw_all := lw_g (lw_at lw_m6 17 rfl) rfl
theorem q1351 : (Jvm.Cond.instanceMethod ({ cls := "BrushGlass", name := "colour", desc := "(II)I" } : Jvm.MethodName)) ∈ lw_all := lw_g (lw_at lw_m6 22 rfl) rfl
theorem q1352 : (Jvm.Cond.selects "BrushGlass" ({ cls := "BrushGlass", name := "colour", desc := "(II)I" } : Jvm.MethodName) ({ cls := "BrushGlass", name := "colour", desc := "(II)I" } : Jvm.MethodName)) ∈ lw_all := lw_g (lw_at lw_m6 23 rfl) rfl
theorem q1353 : (Jvm.Cond.code ({ cls := "BrushGlass", name := "colour", desc := "(II)I" } : Jvm.MethodName) prog_1_method_26_code (4 : Nat) (Option.some Jvm.ClassFile.FieldType.int)) ∈ lw_all := lw_g (lw_at lw_m6 24 rfl) rfl
theorem q1354 : (Jvm.Cond.methodLink "BrushGlass" (241 : Nat) ({ cls := "BrushGlass$Month", name := "colour", desc := "(II)I" } : Jvm.MethodName)) ∈ lw_all := lw_g (lw_at lw_m6 25 rfl) rfl
theorem q1360 : (Jvm.Cond.instanceMethod ({ cls := "BrushGlass", name := "whose", desc := "(II)I" } : Jvm.MethodName)) ∈ lw_all := lw_g (lw_at lw_m6 31 rfl) rfl
theorem q1361 : (Jvm.Cond.selects "BrushGlass" ({ cls := "BrushGlass", name := "whose", desc := "(II)I" } : Jvm.MethodName) ({ cls := "BrushGlass", name := "whose", desc := "(II)I" } : Jvm.MethodName)) ∈ lw_all := lw_g (lw_at lw_m6 32 rfl) rfl
theorem q1362 : (Jvm.Cond.code ({ cls := "BrushGlass", name := "whose", desc := "(II)I" } : Jvm.MethodName) prog_1_method_27_code (4 : Nat) (Option.some Jvm.ClassFile.FieldType.int)) ∈ lw_all := lw_g (lw_at lw_m6 33 rfl) rfl
theorem q1363 : (Jvm.Cond.methodLink "BrushGlass" (243 : Nat) ({ cls := "BrushGlass$Month", name := "whose", desc := "(II)I" } : Jvm.MethodName)) ∈ lw_all := lw_g (lw_at lw_m6 34 rfl) rfl
theorem q1368 : (Jvm.Cond.instanceMethod ({ cls := "BrushGlass", name := "place", desc := "(II)I" } : Jvm.MethodName)) ∈ lw_all := lw_g (lw_at lw_m6 39 rfl) rfl
theorem q1369 : (Jvm.Cond.selects "BrushGlass" ({ cls := "BrushGlass", name := "place", desc := "(II)I" } : Jvm.MethodName) ({ cls := "BrushGlass", name := "place", desc := "(II)I" } : Jvm.MethodName)) ∈ lw_all := lw_g (lw_at lw_m6 40 rfl) rfl
theorem q1370 : (Jvm.Cond.code ({ cls := "BrushGlass", name := "place", desc := "(II)I" } : Jvm.MethodName) prog_1_method_28_code (4 : Nat) (Option.some Jvm.ClassFile.FieldType.int)) ∈ lw_all := lw_g (lw_at lw_m6 41 rfl) rfl
theorem q1371 : (Jvm.Cond.methodLink "BrushGlass" (246 : Nat) ({ cls := "BrushGlass$Month", name := "place", desc := "(II)I" } : Jvm.MethodName)) ∈ lw_all := lw_g (lw_at lw_m6 42 rfl) rfl
theorem q1376 : (Jvm.Cond.instanceMethod ({ cls := "BrushGlass", name := "many", desc := "(I)I" } : Jvm.MethodName)) ∈ lw_all := lw_g (lw_at lw_m6 47 rfl) rfl
theorem q1377 : (Jvm.Cond.selects "BrushGlass" ({ cls := "BrushGlass", name := "many", desc := "(I)I" } : Jvm.MethodName) ({ cls := "BrushGlass", name := "many", desc := "(I)I" } : Jvm.MethodName)) ∈ lw_all := lw_g (lw_at lw_m6 48 rfl) rfl
theorem q1378 : (Jvm.Cond.code ({ cls := "BrushGlass", name := "many", desc := "(I)I" } : Jvm.MethodName) prog_1_method_29_code (3 : Nat) (Option.some Jvm.ClassFile.FieldType.int)) ∈ lw_all := lw_g (lw_at lw_m6 49 rfl) rfl
theorem q1379 : (Jvm.Cond.methodLink "BrushGlass" (248 : Nat) ({ cls := "BrushGlass$Month", name := "there", desc := "(I)I" } : Jvm.MethodName)) ∈ lw_all := lw_g (lw_at lw_m6 50 rfl) rfl
theorem q1384 : (Jvm.Cond.instanceMethod ({ cls := "BrushGlass", name := "full", desc := "()I" } : Jvm.MethodName)) ∈ lw_all := lw_g (lw_at lw_m6 55 rfl) rfl
theorem q1385 : (Jvm.Cond.selects "BrushGlass" ({ cls := "BrushGlass", name := "full", desc := "()I" } : Jvm.MethodName) ({ cls := "BrushGlass", name := "full", desc := "()I" } : Jvm.MethodName)) ∈ lw_all := lw_g (lw_at lw_m6 56 rfl) rfl
theorem q1386 : (Jvm.Cond.code ({ cls := "BrushGlass", name := "full", desc := "()I" } : Jvm.MethodName) prog_1_method_30_code (3 : Nat) (Option.some Jvm.ClassFile.FieldType.int)) ∈ lw_all := lw_g (lw_at lw_m6 57 rfl) rfl
theorem q1388 : (Jvm.Cond.instanceMethod ({ cls := "BrushGlass", name := "uses", desc := "(II)I" } : Jvm.MethodName)) ∈ lw_all := lw_g (lw_at lw_m6 59 rfl) rfl
theorem q1389 : (Jvm.Cond.selects "BrushGlass" ({ cls := "BrushGlass", name := "uses", desc := "(II)I" } : Jvm.MethodName) ({ cls := "BrushGlass", name := "uses", desc := "(II)I" } : Jvm.MethodName)) ∈ lw_all := lw_g (lw_at lw_m6 60 rfl) rfl
theorem q1390 : (Jvm.Cond.code ({ cls := "BrushGlass", name := "uses", desc := "(II)I" } : Jvm.MethodName) prog_1_method_31_code (4 : Nat) (Option.some Jvm.ClassFile.FieldType.int)) ∈ lw_all := lw_g (lw_at lw_m6 61 rfl) rfl
theorem q1391 : (Jvm.Cond.methodLink "BrushGlass" (251 : Nat) ({ cls := "BrushGlass$Month", name := "used", desc := "(II)I" } : Jvm.MethodName)) ∈ lw_all := lw_g (lw_at lw_m6 62 rfl) rfl
theorem q1396 : (Jvm.Cond.instanceMethod ({ cls := "BrushGlass", name := "wet", desc := "(II)I" } : Jvm.MethodName)) ∈ lw_all := lw_g (lw_at lw_m6 67 rfl) rfl
theorem q1397 : (Jvm.Cond.selects "BrushGlass" ({ cls := "BrushGlass", name := "wet", desc := "(II)I" } : Jvm.MethodName) ({ cls := "BrushGlass", name := "wet", desc := "(II)I" } : Jvm.MethodName)) ∈ lw_all := lw_g (lw_at lw_m6 68 rfl) rfl
theorem q1398 : (Jvm.Cond.code ({ cls := "BrushGlass", name := "wet", desc := "(II)I" } : Jvm.MethodName) prog_1_method_32_code (7 : Nat) (Option.some Jvm.ClassFile.FieldType.int)) ∈ lw_all := lw_g (lw_at lw_m6 69 rfl) rfl
theorem q1400 : (Jvm.Cond.instanceMethod ({ cls := "BrushGlass", name := "shared", desc := "(I)I" } : Jvm.MethodName)) ∈ lw_all := lw_g (lw_at lw_m6 71 rfl) rfl
theorem q1401 : (Jvm.Cond.selects "BrushGlass" ({ cls := "BrushGlass", name := "shared", desc := "(I)I" } : Jvm.MethodName) ({ cls := "BrushGlass", name := "shared", desc := "(I)I" } : Jvm.MethodName)) ∈ lw_all := lw_g (lw_at lw_m6 72 rfl) rfl
theorem q1402 : (Jvm.Cond.code ({ cls := "BrushGlass", name := "shared", desc := "(I)I" } : Jvm.MethodName) prog_1_method_33_code (3 : Nat) (Option.some Jvm.ClassFile.FieldType.int)) ∈ lw_all := lw_g (lw_at lw_m6 73 rfl) rfl
theorem q1403 : (Jvm.Cond.methodLink "BrushGlass" (254 : Nat) ({ cls := "BrushGlass$Month", name := "shared", desc := "(I)I" } : Jvm.MethodName)) ∈ lw_all := lw_g (lw_at lw_m6 74 rfl) rfl
theorem q1413 : (Jvm.Cond.instanceMethod ({ cls := "BrushGlass", name := "sharedAll", desc := "()I" } : Jvm.MethodName)) ∈ lw_all := lw_g (lw_at lw_m6 84 rfl) rfl
theorem q1414 : (Jvm.Cond.selects "BrushGlass" ({ cls := "BrushGlass", name := "sharedAll", desc := "()I" } : Jvm.MethodName) ({ cls := "BrushGlass", name := "sharedAll", desc := "()I" } : Jvm.MethodName)) ∈ lw_all := lw_g (lw_at lw_m6 85 rfl) rfl
theorem q1415 : (Jvm.Cond.code ({ cls := "BrushGlass", name := "sharedAll", desc := "()I" } : Jvm.MethodName) prog_1_method_34_code (1 : Nat) (Option.some Jvm.ClassFile.FieldType.int)) ∈ lw_all := lw_g (lw_at lw_m6 86 rfl) rfl
theorem q1416 : (Jvm.Cond.methodLink "BrushGlass" (257 : Nat) ({ cls := "BrushGlass$Month", name := "sharedAll", desc := "()I" } : Jvm.MethodName)) ∈ lw_all := lw_g (lw_at lw_m6 87 rfl) rfl
theorem q1422 : (Jvm.Cond.instanceMethod ({ cls := "BrushGlass", name := "suffers", desc := "(I)I" } : Jvm.MethodName)) ∈ lw_all := lw_g (lw_at lw_m6 93 rfl) rfl
theorem q1423 : (Jvm.Cond.selects "BrushGlass" ({ cls := "BrushGlass", name := "suffers", desc := "(I)I" } : Jvm.MethodName) ({ cls := "BrushGlass", name := "suffers", desc := "(I)I" } : Jvm.MethodName)) ∈ lw_all := lw_g (lw_at lw_m6 94 rfl) rfl
theorem q1424 : (Jvm.Cond.code ({ cls := "BrushGlass", name := "suffers", desc := "(I)I" } : Jvm.MethodName) prog_1_method_35_code (5 : Nat) (Option.some Jvm.ClassFile.FieldType.int)) ∈ lw_all := lw_g (lw_at lw_m6 95 rfl) rfl
theorem q1425 : (Jvm.Cond.methodLink "BrushGlass" (261 : Nat) ({ cls := "BrushGlass$Month", name := "isShared", desc := "(II)Z" } : Jvm.MethodName)) ∈ lw_all := lw_g (lw_at lw_m6 96 rfl) rfl
theorem q1427 : (Jvm.Cond.instanceMethod ({ cls := "BrushGlass", name := "sins", desc := "(I)I" } : Jvm.MethodName)) ∈ lw_all := lw_g (lw_at lw_m6 98 rfl) rfl
theorem q1428 : (Jvm.Cond.selects "BrushGlass" ({ cls := "BrushGlass", name := "sins", desc := "(I)I" } : Jvm.MethodName) ({ cls := "BrushGlass", name := "sins", desc := "(I)I" } : Jvm.MethodName)) ∈ lw_all := lw_g (lw_at lw_m6 99 rfl) rfl
theorem q1429 : (Jvm.Cond.code ({ cls := "BrushGlass", name := "sins", desc := "(I)I" } : Jvm.MethodName) prog_1_method_37_code (2 : Nat) (Option.some Jvm.ClassFile.FieldType.int)) ∈ lw_all := lw_g (lw_at lw_m6 100 rfl) rfl
theorem q1430 : (Jvm.Cond.methodLink "BrushGlass" (265 : Nat) ({ cls := "BrushGlass", name := "sinsOf", desc := "(I)I" } : Jvm.MethodName)) ∈ lw_all := lw_g (lw_at lw_m6 101 rfl) rfl
theorem q1431 : (Jvm.Cond.privateMethod ({ cls := "BrushGlass", name := "sinsOf", desc := "(I)I" } : Jvm.MethodName)) ∈ lw_tbl := lw_at lw_m6 102 rfl
theorem q1432 : (Jvm.Cond.instanceMethod ({ cls := "BrushGlass", name := "sinsOf", desc := "(I)I" } : Jvm.MethodName)) ∈ lw_all := lw_g (lw_at lw_m6 103 rfl) rfl
theorem q1433 : (Jvm.Cond.code ({ cls := "BrushGlass", name := "sinsOf", desc := "(I)I" } : Jvm.MethodName) prog_1_method_36_code (4 : Nat) (Option.some Jvm.ClassFile.FieldType.int)) ∈ lw_all := lw_g (lw_at lw_m6 104 rfl) rfl
theorem q1435 : (Jvm.Cond.instanceMethod ({ cls := "BrushGlass", name := "alike", desc := "(I)I" } : Jvm.MethodName)) ∈ lw_all := lw_g (lw_at lw_m6 106 rfl) rfl
theorem q1436 : (Jvm.Cond.selects "BrushGlass" ({ cls := "BrushGlass", name := "alike", desc := "(I)I" } : Jvm.MethodName) ({ cls := "BrushGlass", name := "alike", desc := "(I)I" } : Jvm.MethodName)) ∈ lw_all := lw_g (lw_at lw_m6 107 rfl) rfl
theorem q1437 : (Jvm.Cond.code ({ cls := "BrushGlass", name := "alike", desc := "(I)I" } : Jvm.MethodName) prog_1_method_38_code (3 : Nat) (Option.some Jvm.ClassFile.FieldType.int)) ∈ lw_all := lw_g (lw_at lw_m6 108 rfl) rfl
theorem q1438 : (Jvm.Cond.methodLink "BrushGlass" (268 : Nat) ({ cls := "BrushGlass$Month", name := "alike", desc := "(I)I" } : Jvm.MethodName)) ∈ lw_all := lw_g (lw_at lw_m6 109 rfl) rfl
theorem q1448 : (Jvm.Cond.instanceMethod ({ cls := "BrushGlass", name := "alikeDays", desc := "()I" } : Jvm.MethodName)) ∈ lw_all := lw_g (lw_at lw_m6 119 rfl) rfl
theorem q1449 : (Jvm.Cond.selects "BrushGlass" ({ cls := "BrushGlass", name := "alikeDays", desc := "()I" } : Jvm.MethodName) ({ cls := "BrushGlass", name := "alikeDays", desc := "()I" } : Jvm.MethodName)) ∈ lw_all := lw_g (lw_at lw_m6 120 rfl) rfl
theorem q1450 : (Jvm.Cond.code ({ cls := "BrushGlass", name := "alikeDays", desc := "()I" } : Jvm.MethodName) prog_1_method_39_code (1 : Nat) (Option.some Jvm.ClassFile.FieldType.int)) ∈ lw_all := lw_g (lw_at lw_m6 121 rfl) rfl
theorem q1451 : (Jvm.Cond.methodLink "BrushGlass" (271 : Nat) ({ cls := "BrushGlass$Month", name := "alikeDays", desc := "()I" } : Jvm.MethodName)) ∈ lw_all := lw_g (lw_at lw_m6 122 rfl) rfl
theorem q1457 : (Jvm.Cond.instanceMethod ({ cls := "BrushGlass", name := "notches", desc := "()I" } : Jvm.MethodName)) ∈ lw_all := lw_g (lw_at lw_m6 128 rfl) rfl
theorem q1458 : (Jvm.Cond.selects "BrushGlass" ({ cls := "BrushGlass", name := "notches", desc := "()I" } : Jvm.MethodName) ({ cls := "BrushGlass", name := "notches", desc := "()I" } : Jvm.MethodName)) ∈ lw_all := lw_g (lw_at lw_m6 129 rfl) rfl
theorem q1459 : (Jvm.Cond.code ({ cls := "BrushGlass", name := "notches", desc := "()I" } : Jvm.MethodName) prog_1_method_40_code (4 : Nat) (Option.some Jvm.ClassFile.FieldType.int)) ∈ lw_all := lw_g (lw_at lw_m6 130 rfl) rfl
theorem q1460 : (Jvm.Cond.methodLink "BrushGlass" (277 : Nat) ({ cls := "BrushGlass$Month", name := "ofColour", desc := "(II)I" } : Jvm.MethodName)) ∈ lw_all := lw_g (lw_at lw_m6 131 rfl) rfl
theorem q1462 : (Jvm.Cond.instanceMethod ({ cls := "BrushGlass", name := "byHabit", desc := "(I)I" } : Jvm.MethodName)) ∈ lw_all := lw_g (lw_at lw_m6 133 rfl) rfl
theorem q1463 : (Jvm.Cond.selects "BrushGlass" ({ cls := "BrushGlass", name := "byHabit", desc := "(I)I" } : Jvm.MethodName) ({ cls := "BrushGlass", name := "byHabit", desc := "(I)I" } : Jvm.MethodName)) ∈ lw_all := lw_g (lw_at lw_m6 134 rfl) rfl
theorem q1464 : (Jvm.Cond.code ({ cls := "BrushGlass", name := "byHabit", desc := "(I)I" } : Jvm.MethodName) prog_1_method_42_code (2 : Nat) (Option.some Jvm.ClassFile.FieldType.int)) ∈ lw_all := lw_g (lw_at lw_m6 135 rfl) rfl
theorem q1465 : (Jvm.Cond.methodLink "BrushGlass" (287 : Nat) ({ cls := "BrushGlass", name := "daysBy", desc := "(I)I" } : Jvm.MethodName)) ∈ lw_all := lw_g (lw_at lw_m6 136 rfl) rfl
theorem q1466 : (Jvm.Cond.privateMethod ({ cls := "BrushGlass", name := "daysBy", desc := "(I)I" } : Jvm.MethodName)) ∈ lw_tbl := lw_at lw_m6 137 rfl
theorem q1467 : (Jvm.Cond.instanceMethod ({ cls := "BrushGlass", name := "daysBy", desc := "(I)I" } : Jvm.MethodName)) ∈ lw_all := lw_g (lw_at lw_m6 138 rfl) rfl
theorem q1468 : (Jvm.Cond.code ({ cls := "BrushGlass", name := "daysBy", desc := "(I)I" } : Jvm.MethodName) prog_1_method_41_code (2 : Nat) (Option.some Jvm.ClassFile.FieldType.int)) ∈ lw_all := lw_g (lw_at lw_m6 139 rfl) rfl
theorem q1469 : (Jvm.Cond.methodLink "BrushGlass" (280 : Nat) ({ cls := "BrushGlass$Plan", name := "become", desc := "(LBrushGlass$Plan;)V" } : Jvm.MethodName)) ∈ lw_all := lw_g (lw_at lw_m6 140 rfl) rfl
theorem q1481 : (Jvm.Cond.methodLink "BrushGlass" (284 : Nat) ({ cls := "BrushGlass$Plan", name := "allByHabit", desc := "(I)V" } : Jvm.MethodName)) ∈ lw_all := lw_g (lw_at lw_m6 152 rfl) rfl
theorem q1486 : (Jvm.Cond.instanceMethod ({ cls := "BrushGlass", name := "bestHabit", desc := "()I" } : Jvm.MethodName)) ∈ lw_all := lw_g (lw_at lw_m6 157 rfl) rfl
theorem q1487 : (Jvm.Cond.selects "BrushGlass" ({ cls := "BrushGlass", name := "bestHabit", desc := "()I" } : Jvm.MethodName) ({ cls := "BrushGlass", name := "bestHabit", desc := "()I" } : Jvm.MethodName)) ∈ lw_all := lw_g (lw_at lw_m6 158 rfl) rfl
theorem q1488 : (Jvm.Cond.code ({ cls := "BrushGlass", name := "bestHabit", desc := "()I" } : Jvm.MethodName) prog_1_method_43_code (3 : Nat) (Option.some Jvm.ClassFile.FieldType.int)) ∈ lw_all := lw_g (lw_at lw_m6 159 rfl) rfl
theorem q1490 : (Jvm.Cond.instanceMethod ({ cls := "BrushGlass", name := "byKind", desc := "(I)I" } : Jvm.MethodName)) ∈ lw_all := lw_g (lw_at lw_m6 161 rfl) rfl
theorem q1491 : (Jvm.Cond.selects "BrushGlass" ({ cls := "BrushGlass", name := "byKind", desc := "(I)I" } : Jvm.MethodName) ({ cls := "BrushGlass", name := "byKind", desc := "(I)I" } : Jvm.MethodName)) ∈ lw_all := lw_g (lw_at lw_m6 162 rfl) rfl
theorem q1492 : (Jvm.Cond.code ({ cls := "BrushGlass", name := "byKind", desc := "(I)I" } : Jvm.MethodName) prog_1_method_45_code (2 : Nat) (Option.some Jvm.ClassFile.FieldType.int)) ∈ lw_all := lw_g (lw_at lw_m6 163 rfl) rfl
theorem q1493 : (Jvm.Cond.methodLink "BrushGlass" (293 : Nat) ({ cls := "BrushGlass", name := "sharedBy", desc := "(I)I" } : Jvm.MethodName)) ∈ lw_all := lw_g (lw_at lw_m6 164 rfl) rfl
theorem q1494 : (Jvm.Cond.privateMethod ({ cls := "BrushGlass", name := "sharedBy", desc := "(I)I" } : Jvm.MethodName)) ∈ lw_tbl := lw_at lw_m6 165 rfl
theorem q1495 : (Jvm.Cond.instanceMethod ({ cls := "BrushGlass", name := "sharedBy", desc := "(I)I" } : Jvm.MethodName)) ∈ lw_all := lw_g (lw_at lw_m6 166 rfl) rfl
theorem q1496 : (Jvm.Cond.code ({ cls := "BrushGlass", name := "sharedBy", desc := "(I)I" } : Jvm.MethodName) prog_1_method_44_code (2 : Nat) (Option.some Jvm.ClassFile.FieldType.int)) ∈ lw_all := lw_g (lw_at lw_m6 167 rfl) rfl
theorem q1497 : (Jvm.Cond.methodLink "BrushGlass" (290 : Nat) ({ cls := "BrushGlass$Plan", name := "allOfKind", desc := "(I)V" } : Jvm.MethodName)) ∈ lw_all := lw_g (lw_at lw_m6 168 rfl) rfl
theorem q1502 : (Jvm.Cond.instanceMethod ({ cls := "BrushGlass", name := "bestKind", desc := "()I" } : Jvm.MethodName)) ∈ lw_all := lw_g (lw_at lw_m6 173 rfl) rfl
theorem q1503 : (Jvm.Cond.selects "BrushGlass" ({ cls := "BrushGlass", name := "bestKind", desc := "()I" } : Jvm.MethodName) ({ cls := "BrushGlass", name := "bestKind", desc := "()I" } : Jvm.MethodName)) ∈ lw_all := lw_g (lw_at lw_m6 174 rfl) rfl
theorem q1504 : (Jvm.Cond.code ({ cls := "BrushGlass", name := "bestKind", desc := "()I" } : Jvm.MethodName) prog_1_method_46_code (3 : Nat) (Option.some Jvm.ClassFile.FieldType.int)) ∈ lw_all := lw_g (lw_at lw_m6 175 rfl) rfl
theorem q1506 : (Jvm.Cond.instanceMethod ({ cls := "BrushGlass", name := "colours", desc := "()I" } : Jvm.MethodName)) ∈ lw_all := lw_g (lw_at lw_m6 177 rfl) rfl
theorem q1507 : (Jvm.Cond.selects "BrushGlass" ({ cls := "BrushGlass", name := "colours", desc := "()I" } : Jvm.MethodName) ({ cls := "BrushGlass", name := "colours", desc := "()I" } : Jvm.MethodName)) ∈ lw_all := lw_g (lw_at lw_m6 178 rfl) rfl
theorem q1508 : (Jvm.Cond.code ({ cls := "BrushGlass", name := "colours", desc := "()I" } : Jvm.MethodName) prog_1_method_47_code (1 : Nat) (Option.some Jvm.ClassFile.FieldType.int)) ∈ lw_all := lw_g (lw_at lw_m6 179 rfl) rfl
theorem q1509 : (Jvm.Cond.methodLink "BrushGlass" (296 : Nat) ({ cls := "BrushGlass$Colouring", name := "find", desc := "(LBrushGlass$Glass;)V" } : Jvm.MethodName)) ∈ lw_all := lw_g (lw_at lw_m6 180 rfl) rfl
theorem q1526 : (Jvm.Cond.instanceMethod ({ cls := "BrushGlass", name := "colourOf", desc := "(I)I" } : Jvm.MethodName)) ∈ lw_all := lw_g (lw_at lw_m6 197 rfl) rfl
theorem q1527 : (Jvm.Cond.selects "BrushGlass" ({ cls := "BrushGlass", name := "colourOf", desc := "(I)I" } : Jvm.MethodName) ({ cls := "BrushGlass", name := "colourOf", desc := "(I)I" } : Jvm.MethodName)) ∈ lw_all := lw_g (lw_at lw_m6 198 rfl) rfl
theorem q1528 : (Jvm.Cond.code ({ cls := "BrushGlass", name := "colourOf", desc := "(I)I" } : Jvm.MethodName) prog_1_method_48_code (2 : Nat) (Option.some Jvm.ClassFile.FieldType.int)) ∈ lw_all := lw_g (lw_at lw_m6 199 rfl) rfl
theorem q1529 : (Jvm.Cond.methodLink "BrushGlass" (302 : Nat) ({ cls := "BrushGlass$Colouring", name := "of", desc := "(I)I" } : Jvm.MethodName)) ∈ lw_all := lw_g (lw_at lw_m6 200 rfl) rfl
theorem q1534 : (Jvm.Cond.instanceMethod ({ cls := "BrushGlass", name := "judge", desc := "()I" } : Jvm.MethodName)) ∈ lw_all := lw_g (lw_at lw_m6 205 rfl) rfl
theorem q1535 : (Jvm.Cond.selects "BrushGlass" ({ cls := "BrushGlass", name := "judge", desc := "()I" } : Jvm.MethodName) ({ cls := "BrushGlass", name := "judge", desc := "()I" } : Jvm.MethodName)) ∈ lw_all := lw_g (lw_at lw_m6 206 rfl) rfl
theorem q1536 : (Jvm.Cond.code ({ cls := "BrushGlass", name := "judge", desc := "()I" } : Jvm.MethodName) prog_1_method_49_code (2 : Nat) (Option.some Jvm.ClassFile.FieldType.int)) ∈ lw_all := lw_g (lw_at lw_m6 207 rfl) rfl
theorem q1537 : (Jvm.Cond.methodLink "BrushGlass" (312 : Nat) ({ cls := "BrushGlass$Month", name := "wrong", desc := "(LBrushGlass$Seeing;)I" } : Jvm.MethodName)) ∈ lw_all := lw_g (lw_at lw_m6 208 rfl) rfl
theorem q1542 : (Jvm.Cond.instanceMethod ({ cls := "BrushGlass", name := "judgeAt", desc := "(I)I" } : Jvm.MethodName)) ∈ lw_all := lw_g (lw_at lw_m6 213 rfl) rfl
theorem q1543 : (Jvm.Cond.selects "BrushGlass" ({ cls := "BrushGlass", name := "judgeAt", desc := "(I)I" } : Jvm.MethodName) ({ cls := "BrushGlass", name := "judgeAt", desc := "(I)I" } : Jvm.MethodName)) ∈ lw_all := lw_g (lw_at lw_m6 214 rfl) rfl
theorem q1544 : (Jvm.Cond.code ({ cls := "BrushGlass", name := "judgeAt", desc := "(I)I" } : Jvm.MethodName) prog_1_method_50_code (2 : Nat) (Option.some Jvm.ClassFile.FieldType.int)) ∈ lw_all := lw_g (lw_at lw_m6 215 rfl) rfl
theorem q1546 : (Jvm.Cond.instanceMethod ({ cls := "BrushGlass", name := "explains", desc := "()I" } : Jvm.MethodName)) ∈ lw_all := lw_g (lw_at lw_m6 217 rfl) rfl
theorem q1547 : (Jvm.Cond.selects "BrushGlass" ({ cls := "BrushGlass", name := "explains", desc := "()I" } : Jvm.MethodName) ({ cls := "BrushGlass", name := "explains", desc := "()I" } : Jvm.MethodName)) ∈ lw_all := lw_g (lw_at lw_m6 218 rfl) rfl
theorem q1548 : (Jvm.Cond.code ({ cls := "BrushGlass", name := "explains", desc := "()I" } : Jvm.MethodName) prog_1_method_53_code (2 : Nat) (Option.some Jvm.ClassFile.FieldType.int)) ∈ lw_all := lw_g (lw_at lw_m6 219 rfl) rfl
theorem q1549 : (Jvm.Cond.methodLink "BrushGlass" (324 : Nat) ({ cls := "BrushGlass", name := "explainWhy", desc := "()I" } : Jvm.MethodName)) ∈ lw_all := lw_g (lw_at lw_m6 220 rfl) rfl
theorem q1550 : (Jvm.Cond.privateMethod ({ cls := "BrushGlass", name := "explainWhy", desc := "()I" } : Jvm.MethodName)) ∈ lw_tbl := lw_at lw_m6 221 rfl
theorem q1551 : (Jvm.Cond.instanceMethod ({ cls := "BrushGlass", name := "explainWhy", desc := "()I" } : Jvm.MethodName)) ∈ lw_all := lw_g (lw_at lw_m6 222 rfl) rfl
theorem q1552 : (Jvm.Cond.code ({ cls := "BrushGlass", name := "explainWhy", desc := "()I" } : Jvm.MethodName) prog_1_method_52_code (1 : Nat) (Option.some Jvm.ClassFile.FieldType.int)) ∈ lw_all := lw_g (lw_at lw_m6 223 rfl) rfl
theorem q1553 : (Jvm.Cond.methodLink "BrushGlass" (320 : Nat) ({ cls := "BrushGlass$Month", name := "isRight", desc := "()Z" } : Jvm.MethodName)) ∈ lw_all := lw_g (lw_at lw_m6 224 rfl) rfl
theorem q1558 : (Jvm.Cond.methodLink "BrushGlass" (327 : Nat) ({ cls := "BrushGlass", name := "explained", desc := "(I)I" } : Jvm.MethodName)) ∈ lw_all := lw_g (lw_at lw_m6 229 rfl) rfl
theorem q1559 : (Jvm.Cond.privateMethod ({ cls := "BrushGlass", name := "explained", desc := "(I)I" } : Jvm.MethodName)) ∈ lw_tbl := lw_at lw_m6 230 rfl
theorem q1560 : (Jvm.Cond.instanceMethod ({ cls := "BrushGlass", name := "explained", desc := "(I)I" } : Jvm.MethodName)) ∈ lw_all := lw_g (lw_at lw_m6 231 rfl) rfl
theorem q1561 : (Jvm.Cond.code ({ cls := "BrushGlass", name := "explained", desc := "(I)I" } : Jvm.MethodName) prog_1_method_51_code (6 : Nat) (Option.some Jvm.ClassFile.FieldType.int)) ∈ lw_all := lw_g (lw_at lw_m6 232 rfl) rfl
theorem q1562 : (Jvm.Cond.methodLink "BrushGlass" (316 : Nat) ({ cls := "BrushGlass$Move", name := "be", desc := "(III)V" } : Jvm.MethodName)) ∈ lw_all := lw_g (lw_at lw_m6 233 rfl) rfl
theorem q1564 : (Jvm.Cond.instanceMethod ({ cls := "BrushGlass", name := "explain", desc := "(II)I" } : Jvm.MethodName)) ∈ lw_all := lw_g (lw_at lw_m6 235 rfl) rfl
theorem q1565 : (Jvm.Cond.selects "BrushGlass" ({ cls := "BrushGlass", name := "explain", desc := "(II)I" } : Jvm.MethodName) ({ cls := "BrushGlass", name := "explain", desc := "(II)I" } : Jvm.MethodName)) ∈ lw_all := lw_g (lw_at lw_m6 236 rfl) rfl
theorem q1566 : (Jvm.Cond.code ({ cls := "BrushGlass", name := "explain", desc := "(II)I" } : Jvm.MethodName) prog_1_method_54_code (4 : Nat) (Option.some Jvm.ClassFile.FieldType.int)) ∈ lw_all := lw_g (lw_at lw_m6 237 rfl) rfl
theorem q1568 : (Jvm.Cond.instanceMethod ({ cls := "BrushGlass", name := "isTrue", desc := "(I)I" } : Jvm.MethodName)) ∈ lw_all := lw_g (lw_at lw_m6 239 rfl) rfl
theorem q1569 : (Jvm.Cond.selects "BrushGlass" ({ cls := "BrushGlass", name := "isTrue", desc := "(I)I" } : Jvm.MethodName) ({ cls := "BrushGlass", name := "isTrue", desc := "(I)I" } : Jvm.MethodName)) ∈ lw_all := lw_g (lw_at lw_m7 0 rfl) rfl
theorem q1570 : (Jvm.Cond.code ({ cls := "BrushGlass", name := "isTrue", desc := "(I)I" } : Jvm.MethodName) prog_1_method_56_code (2 : Nat) (Option.some Jvm.ClassFile.FieldType.int)) ∈ lw_all := lw_g (lw_at lw_m7 1 rfl) rfl
theorem q1571 : (Jvm.Cond.methodLink "BrushGlass" (351 : Nat) ({ cls := "BrushGlass", name := "isSo", desc := "(LBrushGlass$Saying;)Z" } : Jvm.MethodName)) ∈ lw_all := lw_g (lw_at lw_m7 2 rfl) rfl
theorem q1572 : (Jvm.Cond.privateMethod ({ cls := "BrushGlass", name := "isSo", desc := "(LBrushGlass$Saying;)Z" } : Jvm.MethodName)) ∈ lw_tbl := lw_at lw_m7 3 rfl
theorem q1573 : (Jvm.Cond.instanceMethod ({ cls := "BrushGlass", name := "isSo", desc := "(LBrushGlass$Saying;)Z" } : Jvm.MethodName)) ∈ lw_all := lw_g (lw_at lw_m7 4 rfl) rfl
theorem q1574 : (Jvm.Cond.code ({ cls := "BrushGlass", name := "isSo", desc := "(LBrushGlass$Saying;)Z" } : Jvm.MethodName) prog_1_method_55_code (2 : Nat) (Option.some Jvm.ClassFile.FieldType.boolean)) ∈ lw_all := lw_g (lw_at lw_m7 5 rfl) rfl
theorem q1576 : (Jvm.Cond.instanceMethod ({ cls := "BrushGlass", name := "wrongOnes", desc := "()I" } : Jvm.MethodName)) ∈ lw_all := lw_g (lw_at lw_m7 7 rfl) rfl
theorem q1577 : (Jvm.Cond.selects "BrushGlass" ({ cls := "BrushGlass", name := "wrongOnes", desc := "()I" } : Jvm.MethodName) ({ cls := "BrushGlass", name := "wrongOnes", desc := "()I" } : Jvm.MethodName)) ∈ lw_all := lw_g (lw_at lw_m7 8 rfl) rfl
theorem q1578 : (Jvm.Cond.code ({ cls := "BrushGlass", name := "wrongOnes", desc := "()I" } : Jvm.MethodName) prog_1_method_57_code (3 : Nat) (Option.some Jvm.ClassFile.FieldType.int)) ∈ lw_all := lw_g (lw_at lw_m7 9 rfl) rfl
theorem q1580 : (Jvm.Cond.instanceMethod ({ cls := "BrushGlass", name := "pairings", desc := "(I)I" } : Jvm.MethodName)) ∈ lw_all := lw_g (lw_at lw_m7 11 rfl) rfl
theorem q1581 : (Jvm.Cond.selects "BrushGlass" ({ cls := "BrushGlass", name := "pairings", desc := "(I)I" } : Jvm.MethodName) ({ cls := "BrushGlass", name := "pairings", desc := "(I)I" } : Jvm.MethodName)) ∈ lw_all := lw_g (lw_at lw_m7 12 rfl) rfl
theorem q1582 : (Jvm.Cond.code ({ cls := "BrushGlass", name := "pairings", desc := "(I)I" } : Jvm.MethodName) prog_1_method_58_code (3 : Nat) (Option.some Jvm.ClassFile.FieldType.int)) ∈ lw_all := lw_g (lw_at lw_m7 13 rfl) rfl
theorem q1583 : (Jvm.Cond.methodLink "BrushGlass" (355 : Nat) ({ cls := "BrushGlass$Pairings", name := "lay", desc := "(LBrushGlass$Glass;LBrushGlass$Month;II)V" } : Jvm.MethodName)) ∈ lw_all := lw_g (lw_at lw_m7 14 rfl) rfl
theorem q1603 : (Jvm.Cond.static ({ cls := "BrushGlass", name := "has", desc := "(II)Z" } : Jvm.MethodName)) ∈ lw_all := lw_g (lw_at lw_m7 34 rfl) rfl
theorem q1604 : (Jvm.Cond.code ({ cls := "BrushGlass", name := "has", desc := "(II)Z" } : Jvm.MethodName) prog_1_method_2_code (2 : Nat) (Option.some Jvm.ClassFile.FieldType.boolean)) ∈ lw_all := lw_g (lw_at lw_m7 35 rfl) rfl
theorem q1613 : (Jvm.Cond.instanceMethod ({ cls := "BrushGlass", name := "could", desc := "(II)I" } : Jvm.MethodName)) ∈ lw_all := lw_g (lw_at lw_m7 44 rfl) rfl
theorem q1614 : (Jvm.Cond.selects "BrushGlass" ({ cls := "BrushGlass", name := "could", desc := "(II)I" } : Jvm.MethodName) ({ cls := "BrushGlass", name := "could", desc := "(II)I" } : Jvm.MethodName)) ∈ lw_all := lw_g (lw_at lw_m7 45 rfl) rfl
theorem q1615 : (Jvm.Cond.code ({ cls := "BrushGlass", name := "could", desc := "(II)I" } : Jvm.MethodName) prog_1_method_59_code (4 : Nat) (Option.some Jvm.ClassFile.FieldType.int)) ∈ lw_all := lw_g (lw_at lw_m7 46 rfl) rfl
theorem q1616 : (Jvm.Cond.methodLink "BrushGlass" (360 : Nat) ({ cls := "BrushGlass$Pairings", name := "could", desc := "(I)I" } : Jvm.MethodName)) ∈ lw_all := lw_g (lw_at lw_m7 47 rfl) rfl
theorem q1621 : (Jvm.Cond.instanceMethod ({ cls := "BrushGlass", name := "surely", desc := "(II)I" } : Jvm.MethodName)) ∈ lw_all := lw_g (lw_at lw_m7 52 rfl) rfl
theorem q1622 : (Jvm.Cond.selects "BrushGlass" ({ cls := "BrushGlass", name := "surely", desc := "(II)I" } : Jvm.MethodName) ({ cls := "BrushGlass", name := "surely", desc := "(II)I" } : Jvm.MethodName)) ∈ lw_all := lw_g (lw_at lw_m7 53 rfl) rfl
theorem q1623 : (Jvm.Cond.code ({ cls := "BrushGlass", name := "surely", desc := "(II)I" } : Jvm.MethodName) prog_1_method_60_code (4 : Nat) (Option.some Jvm.ClassFile.FieldType.int)) ∈ lw_all := lw_g (lw_at lw_m7 54 rfl) rfl
theorem q1624 : (Jvm.Cond.methodLink "BrushGlass" (363 : Nat) ({ cls := "BrushGlass$Pairings", name := "surely", desc := "(I)I" } : Jvm.MethodName)) ∈ lw_all := lw_g (lw_at lw_m7 55 rfl) rfl
theorem q1629 : (Jvm.Cond.instanceMethod ({ cls := "BrushGlass", name := "ask", desc := "(I)I" } : Jvm.MethodName)) ∈ lw_all := lw_g (lw_at lw_m7 60 rfl) rfl
theorem q1630 : (Jvm.Cond.selects "BrushGlass" ({ cls := "BrushGlass", name := "ask", desc := "(I)I" } : Jvm.MethodName) ({ cls := "BrushGlass", name := "ask", desc := "(I)I" } : Jvm.MethodName)) ∈ lw_all := lw_g (lw_at lw_m7 61 rfl) rfl
theorem q1631 : (Jvm.Cond.code ({ cls := "BrushGlass", name := "ask", desc := "(I)I" } : Jvm.MethodName) prog_1_method_61_code (6 : Nat) (Option.some Jvm.ClassFile.FieldType.int)) ∈ lw_all := lw_g (lw_at lw_m7 62 rfl) rfl
theorem q1632 : (Jvm.Cond.methodLink "BrushGlass" (366 : Nat) ({ cls := "BrushGlass$Pairings", name := "all", desc := "()I" } : Jvm.MethodName)) ∈ lw_all := lw_g (lw_at lw_m7 63 rfl) rfl
theorem q1637 : (Jvm.Cond.instanceMethod ({ cls := "BrushGlass", name := "drift", desc := "(IIZ)J" } : Jvm.MethodName)) ∈ lw_all := lw_g (lw_at lw_m7 68 rfl) rfl
theorem q1638 : (Jvm.Cond.selects "BrushGlass" ({ cls := "BrushGlass", name := "drift", desc := "(IIZ)J" } : Jvm.MethodName) ({ cls := "BrushGlass", name := "drift", desc := "(IIZ)J" } : Jvm.MethodName)) ∈ lw_all := lw_g (lw_at lw_m7 69 rfl) rfl
theorem q1639 : (Jvm.Cond.code ({ cls := "BrushGlass", name := "drift", desc := "(IIZ)J" } : Jvm.MethodName) prog_1_method_64_code (10 : Nat) (Option.some Jvm.ClassFile.FieldType.long)) ∈ lw_all := lw_g (lw_at lw_m7 70 rfl) rfl
theorem q1640 : (Jvm.Cond.constantLong "BrushGlass" (382 : Nat) (100 : Int64)) ∈ lw_all := lw_g (lw_at lw_m7 71 rfl) rfl
theorem q1641 : (Jvm.Cond.methodLink "BrushGlass" (384 : Nat) ({ cls := "BrushGlass", name := "drifted", desc := "(IIJ)J" } : Jvm.MethodName)) ∈ lw_all := lw_g (lw_at lw_m7 72 rfl) rfl
theorem q1642 : (Jvm.Cond.privateMethod ({ cls := "BrushGlass", name := "drifted", desc := "(IIJ)J" } : Jvm.MethodName)) ∈ lw_tbl := lw_at lw_m7 73 rfl
theorem q1643 : (Jvm.Cond.instanceMethod ({ cls := "BrushGlass", name := "drifted", desc := "(IIJ)J" } : Jvm.MethodName)) ∈ lw_all := lw_g (lw_at lw_m7 74 rfl) rfl
theorem q1644 : (Jvm.Cond.code ({ cls := "BrushGlass", name := "drifted", desc := "(IIJ)J" } : Jvm.MethodName) prog_1_method_63_code (8 : Nat) (Option.some Jvm.ClassFile.FieldType.long)) ∈ lw_all := lw_g (lw_at lw_m7 75 rfl) rfl
theorem q1645 : (Jvm.Cond.methodLink "BrushGlass" (376 : Nat) ({ cls := "java/lang/System", name := "arraycopy", desc := "(Ljava/lang/Object;ILjava/lang/Object;II)V" } : Jvm.MethodName)) ∈ lw_all := lw_g (lw_at lw_m7 76 rfl) rfl
theorem q1646 : (Jvm.Cond.methodLink "BrushGlass" (369 : Nat) ({ cls := "BrushGlass", name := "dividing", desc := "(JJ)J" } : Jvm.MethodName)) ∈ lw_all := lw_g (lw_at lw_m7 77 rfl) rfl
theorem q1647 : (Jvm.Cond.static ({ cls := "BrushGlass", name := "dividing", desc := "(JJ)J" } : Jvm.MethodName)) ∈ lw_all := lw_g (lw_at lw_m7 78 rfl) rfl
theorem q1648 : (Jvm.Cond.code ({ cls := "BrushGlass", name := "dividing", desc := "(JJ)J" } : Jvm.MethodName) prog_1_method_62_code (4 : Nat) (Option.some Jvm.ClassFile.FieldType.long)) ∈ lw_all := lw_g (lw_at lw_m7 79 rfl) rfl
theorem q1650 : (Jvm.Cond.instanceMethod ({ cls := "BrushGlass", name := "move", desc := "(III)Z" } : Jvm.MethodName)) ∈ lw_all := lw_g (lw_at lw_m7 81 rfl) rfl
theorem q1651 : (Jvm.Cond.selects "BrushGlass" ({ cls := "BrushGlass", name := "move", desc := "(III)Z" } : Jvm.MethodName) ({ cls := "BrushGlass", name := "move", desc := "(III)Z" } : Jvm.MethodName)) ∈ lw_all := lw_g (lw_at lw_m7 82 rfl) rfl
theorem q1652 : (Jvm.Cond.code ({ cls := "BrushGlass", name := "move", desc := "(III)Z" } : Jvm.MethodName) prog_1_method_67_code (4 : Nat) (Option.some Jvm.ClassFile.FieldType.boolean)) ∈ lw_all := lw_g (lw_at lw_m7 83 rfl) rfl
theorem q1653 : (Jvm.Cond.methodLink "BrushGlass" (389 : Nat) ({ cls := "BrushGlass", name := "yes", desc := "(I)Z" } : Jvm.MethodName)) ∈ lw_all := lw_g (lw_at lw_m7 84 rfl) rfl
theorem q1654 : (Jvm.Cond.privateMethod ({ cls := "BrushGlass", name := "yes", desc := "(I)Z" } : Jvm.MethodName)) ∈ lw_tbl := lw_at lw_m7 85 rfl
theorem q1655 : (Jvm.Cond.instanceMethod ({ cls := "BrushGlass", name := "yes", desc := "(I)Z" } : Jvm.MethodName)) ∈ lw_all := lw_g (lw_at lw_m7 86 rfl) rfl
theorem q1656 : (Jvm.Cond.code ({ cls := "BrushGlass", name := "yes", desc := "(I)Z" } : Jvm.MethodName) prog_1_method_7_code (2 : Nat) (Option.some Jvm.ClassFile.FieldType.boolean)) ∈ lw_all := lw_g (lw_at lw_m7 87 rfl) rfl
theorem q1657 : (Jvm.Cond.methodLink "BrushGlass" (392 : Nat) ({ cls := "BrushGlass", name := "note", desc := "()V" } : Jvm.MethodName)) ∈ lw_all := lw_g (lw_at lw_m7 88 rfl) rfl
theorem q1658 : (Jvm.Cond.privateMethod ({ cls := "BrushGlass", name := "note", desc := "()V" } : Jvm.MethodName)) ∈ lw_tbl := lw_at lw_m7 89 rfl
theorem q1659 : (Jvm.Cond.instanceMethod ({ cls := "BrushGlass", name := "note", desc := "()V" } : Jvm.MethodName)) ∈ lw_all := lw_g (lw_at lw_m7 90 rfl) rfl
theorem q1660 : (Jvm.Cond.code ({ cls := "BrushGlass", name := "note", desc := "()V" } : Jvm.MethodName) prog_1_method_65_code (1 : Nat) (Option.none : Option Jvm.ClassFile.FieldType)) ∈ lw_all := lw_g (lw_at lw_m7 91 rfl) rfl
theorem q1661 : (Jvm.Cond.methodLink "BrushGlass" (395 : Nat) ({ cls := "BrushGlass$Plan", name := "add", desc := "(III)V" } : Jvm.MethodName)) ∈ lw_all := lw_g (lw_at lw_m7 92 rfl) rfl
theorem q1666 : (Jvm.Cond.methodLink "BrushGlass" (398 : Nat) ({ cls := "BrushGlass", name := "done", desc := "()Z" } : Jvm.MethodName)) ∈ lw_all := lw_g (lw_at lw_m7 97 rfl) rfl
theorem q1667 : (Jvm.Cond.privateMethod ({ cls := "BrushGlass", name := "done", desc := "()Z" } : Jvm.MethodName)) ∈ lw_tbl := lw_at lw_m7 98 rfl
theorem q1668 : (Jvm.Cond.instanceMethod ({ cls := "BrushGlass", name := "done", desc := "()Z" } : Jvm.MethodName)) ∈ lw_all := lw_g (lw_at lw_m7 99 rfl) rfl
theorem q1669 : (Jvm.Cond.code ({ cls := "BrushGlass", name := "done", desc := "()Z" } : Jvm.MethodName) prog_1_method_66_code (3 : Nat) (Option.some Jvm.ClassFile.FieldType.boolean)) ∈ lw_all := lw_g (lw_at lw_m7 100 rfl) rfl
theorem q1671 : (Jvm.Cond.instanceMethod ({ cls := "BrushGlass", name := "shake", desc := "()I" } : Jvm.MethodName)) ∈ lw_all := lw_g (lw_at lw_m7 102 rfl) rfl
theorem q1672 : (Jvm.Cond.selects "BrushGlass" ({ cls := "BrushGlass", name := "shake", desc := "()I" } : Jvm.MethodName) ({ cls := "BrushGlass", name := "shake", desc := "()I" } : Jvm.MethodName)) ∈ lw_all := lw_g (lw_at lw_m7 103 rfl) rfl
theorem q1673 : (Jvm.Cond.code ({ cls := "BrushGlass", name := "shake", desc := "()I" } : Jvm.MethodName) prog_1_method_68_code (3 : Nat) (Option.some Jvm.ClassFile.FieldType.int)) ∈ lw_all := lw_g (lw_at lw_m7 104 rfl) rfl
theorem q1674 : (Jvm.Cond.methodLink "BrushGlass" (401 : Nat) ({ cls := "BrushGlass$Plan", name := "draw", desc := "()I" } : Jvm.MethodName)) ∈ lw_all := lw_g (lw_at lw_m7 105 rfl) rfl
theorem q1680 : (Jvm.Cond.instanceMethod ({ cls := "BrushGlass", name := "kind", desc := "(II)Z" } : Jvm.MethodName)) ∈ lw_all := lw_g (lw_at lw_m7 111 rfl) rfl
theorem q1681 : (Jvm.Cond.selects "BrushGlass" ({ cls := "BrushGlass", name := "kind", desc := "(II)Z" } : Jvm.MethodName) ({ cls := "BrushGlass", name := "kind", desc := "(II)Z" } : Jvm.MethodName)) ∈ lw_all := lw_g (lw_at lw_m7 112 rfl) rfl
theorem q1682 : (Jvm.Cond.code ({ cls := "BrushGlass", name := "kind", desc := "(II)Z" } : Jvm.MethodName) prog_1_method_69_code (3 : Nat) (Option.some Jvm.ClassFile.FieldType.boolean)) ∈ lw_all := lw_g (lw_at lw_m7 113 rfl) rfl
theorem q1684 : (Jvm.Cond.instanceMethod ({ cls := "BrushGlass", name := "habit", desc := "(II)Z" } : Jvm.MethodName)) ∈ lw_all := lw_g (lw_at lw_m7 115 rfl) rfl
theorem q1685 : (Jvm.Cond.selects "BrushGlass" ({ cls := "BrushGlass", name := "habit", desc := "(II)Z" } : Jvm.MethodName) ({ cls := "BrushGlass", name := "habit", desc := "(II)Z" } : Jvm.MethodName)) ∈ lw_all := lw_g (lw_at lw_m7 116 rfl) rfl
theorem q1686 : (Jvm.Cond.code ({ cls := "BrushGlass", name := "habit", desc := "(II)Z" } : Jvm.MethodName) prog_1_method_70_code (3 : Nat) (Option.some Jvm.ClassFile.FieldType.boolean)) ∈ lw_all := lw_g (lw_at lw_m7 117 rfl) rfl
theorem q1688 : (Jvm.Cond.instanceMethod ({ cls := "BrushGlass", name := "keep", desc := "(II)Z" } : Jvm.MethodName)) ∈ lw_all := lw_g (lw_at lw_m7 119 rfl) rfl
theorem q1689 : (Jvm.Cond.selects "BrushGlass" ({ cls := "BrushGlass", name := "keep", desc := "(II)Z" } : Jvm.MethodName) ({ cls := "BrushGlass", name := "keep", desc := "(II)Z" } : Jvm.MethodName)) ∈ lw_all := lw_g (lw_at lw_m7 120 rfl) rfl
theorem q1690 : (Jvm.Cond.code ({ cls := "BrushGlass", name := "keep", desc := "(II)Z" } : Jvm.MethodName) prog_1_method_71_code (3 : Nat) (Option.some Jvm.ClassFile.FieldType.boolean)) ∈ lw_all := lw_g (lw_at lw_m7 121 rfl) rfl
theorem q1692 : (Jvm.Cond.instanceMethod ({ cls := "BrushGlass", name := "seed", desc := "(I)Z" } : Jvm.MethodName)) ∈ lw_all := lw_g (lw_at lw_m7 123 rfl) rfl
theorem q1693 : (Jvm.Cond.selects "BrushGlass" ({ cls := "BrushGlass", name := "seed", desc := "(I)Z" } : Jvm.MethodName) ({ cls := "BrushGlass", name := "seed", desc := "(I)Z" } : Jvm.MethodName)) ∈ lw_all := lw_g (lw_at lw_m7 124 rfl) rfl
theorem q1694 : (Jvm.Cond.code ({ cls := "BrushGlass", name := "seed", desc := "(I)Z" } : Jvm.MethodName) prog_1_method_72_code (2 : Nat) (Option.some Jvm.ClassFile.FieldType.boolean)) ∈ lw_all := lw_g (lw_at lw_m7 125 rfl) rfl
theorem q1695 : (Jvm.Cond.constant "BrushGlass" (404 : Nat) (65536 : Int32)) ∈ lw_all := lw_g (lw_at lw_m7 126 rfl) rfl
theorem q1697 : (Jvm.Cond.instanceMethod ({ cls := "BrushGlass", name := "undo", desc := "()Z" } : Jvm.MethodName)) ∈ lw_all := lw_g (lw_at lw_m7 128 rfl) rfl
theorem q1698 : (Jvm.Cond.selects "BrushGlass" ({ cls := "BrushGlass", name := "undo", desc := "()Z" } : Jvm.MethodName) ({ cls := "BrushGlass", name := "undo", desc := "()Z" } : Jvm.MethodName)) ∈ lw_all := lw_g (lw_at lw_m7 129 rfl) rfl
theorem q1699 : (Jvm.Cond.code ({ cls := "BrushGlass", name := "undo", desc := "()Z" } : Jvm.MethodName) prog_1_method_73_code (1 : Nat) (Option.some Jvm.ClassFile.FieldType.boolean)) ∈ lw_all := lw_g (lw_at lw_m7 130 rfl) rfl
theorem q1701 : (Jvm.Cond.instanceMethod ({ cls := "BrushGlass", name := "mark", desc := "()I" } : Jvm.MethodName)) ∈ lw_all := lw_g (lw_at lw_m7 132 rfl) rfl
theorem q1702 : (Jvm.Cond.selects "BrushGlass" ({ cls := "BrushGlass", name := "mark", desc := "()I" } : Jvm.MethodName) ({ cls := "BrushGlass", name := "mark", desc := "()I" } : Jvm.MethodName)) ∈ lw_all := lw_g (lw_at lw_m7 133 rfl) rfl
theorem q1703 : (Jvm.Cond.code ({ cls := "BrushGlass", name := "mark", desc := "()I" } : Jvm.MethodName) prog_1_method_74_code (1 : Nat) (Option.some Jvm.ClassFile.FieldType.int)) ∈ lw_all := lw_g (lw_at lw_m7 134 rfl) rfl
theorem q1705 : (Jvm.Cond.instanceMethod ({ cls := "BrushGlass", name := "back", desc := "(I)Z" } : Jvm.MethodName)) ∈ lw_all := lw_g (lw_at lw_m7 136 rfl) rfl
theorem q1706 : (Jvm.Cond.selects "BrushGlass" ({ cls := "BrushGlass", name := "back", desc := "(I)Z" } : Jvm.MethodName) ({ cls := "BrushGlass", name := "back", desc := "(I)Z" } : Jvm.MethodName)) ∈ lw_all := lw_g (lw_at lw_m7 137 rfl) rfl
theorem q1707 : (Jvm.Cond.code ({ cls := "BrushGlass", name := "back", desc := "(I)Z" } : Jvm.MethodName) prog_1_method_75_code (2 : Nat) (Option.some Jvm.ClassFile.FieldType.boolean)) ∈ lw_all := lw_g (lw_at lw_m7 138 rfl) rfl
theorem q1709 : (Jvm.Cond.instanceMethod ({ cls := "BrushGlass", name := "size", desc := "(I)I" } : Jvm.MethodName)) ∈ lw_all := lw_g (lw_at lw_m7 140 rfl) rfl
theorem q1710 : (Jvm.Cond.selects "BrushGlass" ({ cls := "BrushGlass", name := "size", desc := "(I)I" } : Jvm.MethodName) ({ cls := "BrushGlass", name := "size", desc := "(I)I" } : Jvm.MethodName)) ∈ lw_all := lw_g (lw_at lw_m7 141 rfl) rfl
theorem q1711 : (Jvm.Cond.code ({ cls := "BrushGlass", name := "size", desc := "(I)I" } : Jvm.MethodName) prog_1_method_77_code (2 : Nat) (Option.some Jvm.ClassFile.FieldType.int)) ∈ lw_all := lw_g (lw_at lw_m7 142 rfl) rfl
theorem q1713 : (Jvm.Cond.instanceMethod ({ cls := "BrushGlass", name := "trouble", desc := "()I" } : Jvm.MethodName)) ∈ lw_all := lw_g (lw_at lw_m7 144 rfl) rfl
theorem q1714 : (Jvm.Cond.selects "BrushGlass" ({ cls := "BrushGlass", name := "trouble", desc := "()I" } : Jvm.MethodName) ({ cls := "BrushGlass", name := "trouble", desc := "()I" } : Jvm.MethodName)) ∈ lw_all := lw_g (lw_at lw_m7 145 rfl) rfl
theorem q1715 : (Jvm.Cond.code ({ cls := "BrushGlass", name := "trouble", desc := "()I" } : Jvm.MethodName) prog_1_method_78_code (1 : Nat) (Option.some Jvm.ClassFile.FieldType.int)) ∈ lw_all := lw_g (lw_at lw_m7 146 rfl) rfl
theorem q1721 : (Jvm.Cond.instanceMethod ({ cls := "BrushGlass", name := "led", desc := "(I)I" } : Jvm.MethodName)) ∈ lw_all := lw_g (lw_at lw_m7 152 rfl) rfl
theorem q1722 : (Jvm.Cond.selects "BrushGlass" ({ cls := "BrushGlass", name := "led", desc := "(I)I" } : Jvm.MethodName) ({ cls := "BrushGlass", name := "led", desc := "(I)I" } : Jvm.MethodName)) ∈ lw_all := lw_g (lw_at lw_m7 153 rfl) rfl
theorem q1723 : (Jvm.Cond.code ({ cls := "BrushGlass", name := "led", desc := "(I)I" } : Jvm.MethodName) prog_1_method_76_code (4 : Nat) (Option.some Jvm.ClassFile.FieldType.int)) ∈ lw_all := lw_g (lw_at lw_m7 154 rfl) rfl
theorem q1724 : (Jvm.Cond.classLink "BrushGlass" (408 : Nat) "java/util/NoSuchElementException") ∈ lw_all := lw_g (lw_at lw_m7 155 rfl) rfl
theorem q1733 : (Jvm.Cond.methodLink "BrushGlass" (410 : Nat) ({ cls := "java/util/NoSuchElementException", name := "<init>", desc := "()V" } : Jvm.MethodName)) ∈ lw_all := lw_g (lw_at lw_m7 164 rfl) rfl
theorem q2591 : (Jvm.Cond.castable "BrushGlass" "java/lang/Object") ∈ lw_tbl := lw_at lw_m11 62 rfl
theorem in_X1 : ∀ w ∈ wsX10, w ∈ lw_all := lw_in wsX10 [570, 572, 574, 576, 578, 580, 582, 584, 586, 588, 590, 592, 594, 596, 598, 600, 602, 604, 606, 608, 610] (by decide +kernel) (by decide +kernel)
