/-! FACTS OF THE TABLES, JOINED -/
set_option maxRecDepth 100000
def zTb1 (M : Nat) : Prop := ∀ x ∈ zcode M, zOL M x
theorem up_0 : zupto zTb1 0 := trivial
theorem up_1 : zupto zTb1 1 := ⟨up_0, ok_0_0⟩
theorem up_2 : zupto zTb1 2 := ⟨up_1, ok_1_0⟩
theorem up_3 : zupto zTb1 3 := ⟨up_2, ok_2_0⟩
theorem up_4 : zupto zTb1 4 := ⟨up_3, ok_3_0⟩
theorem up_5 : zupto zTb1 5 := ⟨up_4, ok_4_0⟩
theorem up_6 : zupto zTb1 6 := ⟨up_5, ok_5_0⟩
theorem up_7 : zupto zTb1 7 := ⟨up_6, ok_6_0⟩
theorem up_8 : zupto zTb1 8 := ⟨up_7, ok_7_0⟩
theorem up_9 : zupto zTb1 9 := ⟨up_8, ok_8_0⟩
theorem up_10 : zupto zTb1 10 := ⟨up_9, ok_9_0⟩
theorem up_11 : zupto zTb1 11 := ⟨up_10, ok_10_0⟩
theorem up_12 : zupto zTb1 12 := ⟨up_11, ok_11_0⟩
theorem up_13 : zupto zTb1 13 := ⟨up_12, ok_12_0⟩
theorem up_14 : zupto zTb1 14 := ⟨up_13, ok_13_0⟩
theorem up_15 : zupto zTb1 15 := ⟨up_14, ok_14_0⟩
theorem up_16 : zupto zTb1 16 := ⟨up_15, ok_15_0⟩
theorem up_17 : zupto zTb1 17 := ⟨up_16, ok_16_0⟩
theorem up_18 : zupto zTb1 18 := ⟨up_17, ok_17_0⟩
theorem up_19 : zupto zTb1 19 := ⟨up_18, ok_18_0⟩
theorem up_20 : zupto zTb1 20 := ⟨up_19, ok_19_0⟩
theorem up_21 : zupto zTb1 21 := ⟨up_20, ok_20_0⟩
theorem up_22 : zupto zTb1 22 := ⟨up_21, ok_21_0⟩
theorem up_23 : zupto zTb1 23 := ⟨up_22, ok_22_0⟩
theorem up_24 : zupto zTb1 24 := ⟨up_23, ok_23_0⟩
theorem up_25 : zupto zTb1 25 := ⟨up_24, ok_24_0⟩
theorem up_26 : zupto zTb1 26 := ⟨up_25, ok_25_0⟩
theorem up_27 : zupto zTb1 27 := ⟨up_26, ok_26_0⟩
theorem up_28 : zupto zTb1 28 := ⟨up_27, ok_27_0⟩
theorem up_29 : zupto zTb1 29 := ⟨up_28, ok_28_0⟩
theorem up_30 : zupto zTb1 30 := ⟨up_29, ok_29_0⟩
theorem up_31 : zupto zTb1 31 := ⟨up_30, ok_30_0⟩
theorem up_32 : zupto zTb1 32 := ⟨up_31, ok_31_0⟩
theorem up_33 : zupto zTb1 33 := ⟨up_32, ok_32_0⟩
theorem up_34 : zupto zTb1 34 := ⟨up_33, ok_33_0⟩
theorem up_35 : zupto zTb1 35 := ⟨up_34, ok_34_0⟩
theorem up_36 : zupto zTb1 36 := ⟨up_35, ok_35_0⟩
theorem up_37 : zupto zTb1 37 := ⟨up_36, ok_36_0⟩
theorem up_38 : zupto zTb1 38 := ⟨up_37, ok_37_0⟩
theorem up_39 : zupto zTb1 39 := ⟨up_38, ok_38_0⟩
theorem up_40 : zupto zTb1 40 := ⟨up_39, ok_39_0⟩
theorem up_41 : zupto zTb1 41 := ⟨up_40, ok_40_0⟩
theorem up_42 : zupto zTb1 42 := ⟨up_41, ok_41_0⟩
theorem up_43 : zupto zTb1 43 := ⟨up_42, ok_42_0⟩
theorem up_44 : zupto zTb1 44 := ⟨up_43, ok_43_0⟩
theorem up_45 : zupto zTb1 45 := ⟨up_44, ok_44_0⟩
theorem up_46 : zupto zTb1 46 := ⟨up_45, ok_45_0⟩
theorem up_47 : zupto zTb1 47 := ⟨up_46, ok_46_0⟩
theorem up_48 : zupto zTb1 48 := ⟨up_47, ok_47_0⟩
theorem up_49 : zupto zTb1 49 := ⟨up_48, ok_48_0⟩
theorem up_50 : zupto zTb1 50 := ⟨up_49, ok_49_0⟩
theorem up_51 : zupto zTb1 51 := ⟨up_50, ok_50_0⟩
theorem up_52 : zupto zTb1 52 := ⟨up_51, ok_51_0⟩
theorem up_53 : zupto zTb1 53 := ⟨up_52, ok_52_0⟩
theorem up_54 : zupto zTb1 54 := ⟨up_53, ok_53_0⟩
theorem up_55 : zupto zTb1 55 := ⟨up_54, ok_54_0⟩
theorem up_56 : zupto zTb1 56 := ⟨up_55, ok_55_0⟩
theorem up_57 : zupto zTb1 57 := ⟨up_56, ok_56_0⟩
theorem up_58 : zupto zTb1 58 := ⟨up_57, ok_57_0⟩
theorem up_59 : zupto zTb1 59 := ⟨up_58, ok_58_0⟩
theorem up_60 : zupto zTb1 60 := ⟨up_59, ok_59_0⟩
theorem up_61 : zupto zTb1 61 := ⟨up_60, ok_60_0⟩
theorem up_62 : zupto zTb1 62 := ⟨up_61, ok_61_0⟩
theorem up_63 : zupto zTb1 63 := ⟨up_62, ok_62_0⟩
theorem up_64 : zupto zTb1 64 := ⟨up_63, ok_63_0⟩
theorem up_65 : zupto zTb1 65 := ⟨up_64, ok_64_0⟩
theorem up_66 : zupto zTb1 66 := ⟨up_65, ok_65_0⟩
theorem up_67 : zupto zTb1 67 := ⟨up_66, ok_66_0⟩
theorem up_68 : zupto zTb1 68 := ⟨up_67, ok_67_0⟩
theorem up_69 : zupto zTb1 69 := ⟨up_68, ok_68_0⟩
theorem up_70 : zupto zTb1 70 := ⟨up_69, ok_69_0⟩
theorem up_71 : zupto zTb1 71 := ⟨up_70, ok_70_0⟩
theorem up_72 : zupto zTb1 72 := ⟨up_71, ok_71_0⟩
theorem up_73 : zupto zTb1 73 := ⟨up_72, ok_72_0⟩
theorem up_74 : zupto zTb1 74 := ⟨up_73, ok_73_0⟩
theorem up_75 : zupto zTb1 75 := ⟨up_74, ok_74_0⟩
theorem up_76 : zupto zTb1 76 := ⟨up_75, ok_75_0⟩
theorem up_77 : zupto zTb1 77 := ⟨up_76, ok_76_0⟩
theorem up_78 : zupto zTb1 78 := ⟨up_77, ok_77_0⟩
theorem up_79 : zupto zTb1 79 := ⟨up_78, ok_78_0⟩
theorem up_80 : zupto zTb1 80 := ⟨up_79, ok_79_0⟩
theorem up_81 : zupto zTb1 81 := ⟨up_80, ok_80_0⟩
theorem up_82 : zupto zTb1 82 := ⟨up_81, ok_81_0⟩
theorem up_83 : zupto zTb1 83 := ⟨up_82, ok_82_0⟩
theorem up_84 : zupto zTb1 84 := ⟨up_83, ok_83_0⟩
theorem up_85 : zupto zTb1 85 := ⟨up_84, ok_84_0⟩
theorem up_86 : zupto zTb1 86 := ⟨up_85, ok_85_0⟩
theorem up_87 : zupto zTb1 87 := ⟨up_86, ok_86_0⟩
theorem up_88 : zupto zTb1 88 := ⟨up_87, ok_87_0⟩
theorem up_89 : zupto zTb1 89 := ⟨up_88, ok_88_0⟩
theorem up_90 : zupto zTb1 90 := ⟨up_89, ok_89_0⟩
theorem up_91 : zupto zTb1 91 := ⟨up_90, ok_90_0⟩
theorem up_92 : zupto zTb1 92 := ⟨up_91, ok_91_0⟩
theorem up_93 : zupto zTb1 93 := ⟨up_92, ok_92_0⟩
theorem up_94 : zupto zTb1 94 := ⟨up_93, ok_93_0⟩
theorem up_95 : zupto zTb1 95 := ⟨up_94, ok_94_0⟩
theorem up_96 : zupto zTb1 96 := ⟨up_95, ok_95_0⟩
theorem up_97 : zupto zTb1 97 := ⟨up_96, ok_96_0⟩
theorem up_98 : zupto zTb1 98 := ⟨up_97, ok_97_0⟩
theorem up_99 : zupto zTb1 99 := ⟨up_98, ok_98_0⟩
theorem up_100 : zupto zTb1 100 := ⟨up_99, ok_99_0⟩
theorem up_101 : zupto zTb1 101 := ⟨up_100, ok_100_0⟩
theorem up_102 : zupto zTb1 102 := ⟨up_101, ok_101_0⟩
theorem up_103 : zupto zTb1 103 := ⟨up_102, ok_102_0⟩
theorem up_104 : zupto zTb1 104 := ⟨up_103, ok_103_0⟩
theorem up_105 : zupto zTb1 105 := ⟨up_104, ok_104_0⟩
theorem up_106 : zupto zTb1 106 := ⟨up_105, ok_105_0⟩
theorem up_107 : zupto zTb1 107 := ⟨up_106, ok_106_0⟩
theorem up_108 : zupto zTb1 108 := ⟨up_107, ok_107_0⟩
theorem up_109 : zupto zTb1 109 := ⟨up_108, ok_108_0⟩
theorem up_110 : zupto zTb1 110 := ⟨up_109, ok_109_0⟩
theorem up_111 : zupto zTb1 111 := ⟨up_110, ok_110_0⟩
theorem up_112 : zupto zTb1 112 := ⟨up_111, ok_111_0⟩
theorem up_113 : zupto zTb1 113 := ⟨up_112, ok_112_0⟩
theorem up_114 : zupto zTb1 114 := ⟨up_113, ok_113_0⟩
theorem up_115 : zupto zTb1 115 := ⟨up_114, ok_114_0⟩
theorem up_116 : zupto zTb1 116 := ⟨up_115, ok_115_0⟩
theorem up_117 : zupto zTb1 117 := ⟨up_116, ok_116_0⟩
theorem up_118 : zupto zTb1 118 := ⟨up_117, ok_117_0⟩
theorem up_119 : zupto zTb1 119 := ⟨up_118, ok_118_0⟩
theorem up_120 : zupto zTb1 120 := ⟨up_119, ok_119_0⟩
theorem up_121 : zupto zTb1 121 := ⟨up_120, ok_120_0⟩
theorem up_122 : zupto zTb1 122 := ⟨up_121, ok_121_0⟩
theorem up_123 : zupto zTb1 123 := ⟨up_122, ok_122_0⟩
theorem up_124 : zupto zTb1 124 := ⟨up_123, ok_123_0⟩
theorem up_125 : zupto zTb1 125 := ⟨up_124, ok_124_0⟩
theorem up_126 : zupto zTb1 126 := ⟨up_125, ok_125_0⟩
theorem up_127 : zupto zTb1 127 := ⟨up_126, ok_126_0⟩
theorem up_128 : zupto zTb1 128 := ⟨up_127, ok_127_0⟩
theorem up_129 : zupto zTb1 129 := ⟨up_128, ok_128_0⟩
theorem up_130 : zupto zTb1 130 := ⟨up_129, ok_129_0⟩
theorem up_131 : zupto zTb1 131 := ⟨up_130, ok_130_0⟩
theorem up_132 : zupto zTb1 132 := ⟨up_131, ok_131_0⟩
theorem up_133 : zupto zTb1 133 := ⟨up_132, ok_132_0⟩
theorem up_134 : zupto zTb1 134 := ⟨up_133, ok_133_0⟩
theorem up_135 : zupto zTb1 135 := ⟨up_134, ok_134_0⟩
theorem up_136 : zupto zTb1 136 := ⟨up_135, ok_135_0⟩
theorem up_137 : zupto zTb1 137 := ⟨up_136, ok_136_0⟩
theorem up_138 : zupto zTb1 138 := ⟨up_137, ok_137_0⟩
theorem up_139 : zupto zTb1 139 := ⟨up_138, ok_138_0⟩
theorem up_140 : zupto zTb1 140 := ⟨up_139, ok_139_0⟩
theorem up_141 : zupto zTb1 141 := ⟨up_140, ok_140_0⟩
theorem up_142 : zupto zTb1 142 := ⟨up_141, ok_141_0⟩
theorem up_143 : zupto zTb1 143 := ⟨up_142, ok_142_0⟩
theorem up_144 : zupto zTb1 144 := ⟨up_143, ok_143_0⟩
theorem up_145 : zupto zTb1 145 := ⟨up_144, ok_144_0⟩
theorem up_146 : zupto zTb1 146 := ⟨up_145, ok_145_0⟩
theorem up_147 : zupto zTb1 147 := ⟨up_146, ok_146_0⟩
theorem up_148 : zupto zTb1 148 := ⟨up_147, ok_147_0⟩
theorem up_149 : zupto zTb1 149 := ⟨up_148, ok_148_0⟩
theorem up_150 : zupto zTb1 150 := ⟨up_149, ok_149_0⟩
theorem up_151 : zupto zTb1 151 := ⟨up_150, ok_150_0⟩
theorem up_152 : zupto zTb1 152 := ⟨up_151, ok_151_0⟩
theorem up_153 : zupto zTb1 153 := ⟨up_152, ok_152_0⟩
theorem up_154 : zupto zTb1 154 := ⟨up_153, ok_153_0⟩
theorem up_155 : zupto zTb1 155 := ⟨up_154, ok_154_0⟩
theorem up_156 : zupto zTb1 156 := ⟨up_155, ok_155_0⟩
theorem up_157 : zupto zTb1 157 := ⟨up_156, ok_156_0⟩
theorem up_158 : zupto zTb1 158 := ⟨up_157, ok_157_0⟩
theorem up_159 : zupto zTb1 159 := ⟨up_158, ok_158_0⟩
theorem up_160 : zupto zTb1 160 := ⟨up_159, ok_159_0⟩
theorem up_161 : zupto zTb1 161 := ⟨up_160, ok_160_0⟩
theorem up_162 : zupto zTb1 162 := ⟨up_161, ok_161_0⟩
theorem up_163 : zupto zTb1 163 := ⟨up_162, ok_162_0⟩
theorem up_164 : zupto zTb1 164 := ⟨up_163, ok_163_0⟩
theorem up_165 : zupto zTb1 165 := ⟨up_164, ok_164_0⟩
theorem up_166 : zupto zTb1 166 := ⟨up_165, ok_165_0⟩
theorem up_167 : zupto zTb1 167 := ⟨up_166, ok_166_0⟩
theorem up_168 : zupto zTb1 168 := ⟨up_167, ok_167_0⟩
theorem up_169 : zupto zTb1 169 := ⟨up_168, ok_168_0⟩
theorem up_170 : zupto zTb1 170 := ⟨up_169, ok_169_0⟩
theorem up_171 : zupto zTb1 171 := ⟨up_170, ok_170_0⟩
theorem up_172 : zupto zTb1 172 := ⟨up_171, ok_171_0⟩
theorem up_173 : zupto zTb1 173 := ⟨up_172, ok_172_0⟩
theorem up_174 : zupto zTb1 174 := ⟨up_173, ok_173_0⟩
theorem up_175 : zupto zTb1 175 := ⟨up_174, ok_174_0⟩
theorem up_176 : zupto zTb1 176 := ⟨up_175, ok_175_0⟩
theorem up_177 : zupto zTb1 177 := ⟨up_176, ok_176_0⟩
theorem up_178 : zupto zTb1 178 := ⟨up_177, ok_177_0⟩
theorem up_179 : zupto zTb1 179 := ⟨up_178, ok_178_0⟩
theorem up_180 : zupto zTb1 180 := ⟨up_179, ok_179_0⟩
theorem up_181 : zupto zTb1 181 := ⟨up_180, ok_180_0⟩
theorem up_182 : zupto zTb1 182 := ⟨up_181, ok_181_0⟩
theorem up_183 : zupto zTb1 183 := ⟨up_182, ok_182_0⟩
theorem up_184 : zupto zTb1 184 := ⟨up_183, ok_183_0⟩
theorem up_185 : zupto zTb1 185 := ⟨up_184, ok_184_0⟩
theorem up_186 : zupto zTb1 186 := ⟨up_185, ok_185_0⟩
theorem up_187 : zupto zTb1 187 := ⟨up_186, ok_186_0⟩
theorem up_188 : zupto zTb1 188 := ⟨up_187, ok_187_0⟩
theorem up_189 : zupto zTb1 189 := ⟨up_188, ok_188_0⟩
theorem up_190 : zupto zTb1 190 := ⟨up_189, ok_189_0⟩
theorem up_191 : zupto zTb1 191 := ⟨up_190, ok_190_0⟩
theorem up_192 : zupto zTb1 192 := ⟨up_191, ok_191_0⟩
theorem up_193 : zupto zTb1 193 := ⟨up_192, ok_192_0⟩
theorem up_194 : zupto zTb1 194 := ⟨up_193, ok_193_0⟩
theorem up_195 : zupto zTb1 195 := ⟨up_194, ok_194_0⟩
theorem up_196 : zupto zTb1 196 := ⟨up_195, ok_195_0⟩
theorem up_197 : zupto zTb1 197 := ⟨up_196, ok_196_0⟩
theorem up_198 : zupto zTb1 198 := ⟨up_197, ok_197_0⟩
theorem up_199 : zupto zTb1 199 := ⟨up_198, ok_198_0⟩
theorem up_200 : zupto zTb1 200 := ⟨up_199, ok_199_0⟩
theorem up_201 : zupto zTb1 201 := ⟨up_200, ok_200_0⟩
theorem up_202 : zupto zTb1 202 := ⟨up_201, ok_201_0⟩
theorem up_203 : zupto zTb1 203 := ⟨up_202, ok_202_0⟩
theorem up_204 : zupto zTb1 204 := ⟨up_203, ok_203_0⟩
theorem up_205 : zupto zTb1 205 := ⟨up_204, ok_204_0⟩
theorem up_206 : zupto zTb1 206 := ⟨up_205, ok_205_0⟩
theorem up_207 : zupto zTb1 207 := ⟨up_206, ok_206_0⟩
theorem up_208 : zupto zTb1 208 := ⟨up_207, ok_207_0⟩
theorem up_209 : zupto zTb1 209 := ⟨up_208, ok_208_0⟩
theorem up_210 : zupto zTb1 210 := ⟨up_209, ok_209_0⟩
theorem up_211 : zupto zTb1 211 := ⟨up_210, ok_210_0⟩
theorem up_212 : zupto zTb1 212 := ⟨up_211, ok_211_0⟩
theorem up_213 : zupto zTb1 213 := ⟨up_212, ok_212_0⟩
theorem up_214 : zupto zTb1 214 := ⟨up_213, ok_213_0⟩
theorem up_215 : zupto zTb1 215 := ⟨up_214, ok_214_0⟩
theorem up_216 : zupto zTb1 216 := ⟨up_215, ok_215_0⟩
theorem up_217 : zupto zTb1 217 := ⟨up_216, ok_216_0⟩
theorem up_218 : zupto zTb1 218 := ⟨up_217, ok_217_0⟩
theorem up_219 : zupto zTb1 219 := ⟨up_218, ok_218_0⟩
theorem up_220 : zupto zTb1 220 := ⟨up_219, ok_219_0⟩
theorem up_221 : zupto zTb1 221 := ⟨up_220, ok_220_0⟩
theorem up_222 : zupto zTb1 222 := ⟨up_221, ok_221_0⟩
theorem up_223 : zupto zTb1 223 := ⟨up_222, ok_222_0⟩
theorem up_224 : zupto zTb1 224 := ⟨up_223, ok_223_0⟩
theorem up_225 : zupto zTb1 225 := ⟨up_224, ok_224_0⟩
theorem up_226 : zupto zTb1 226 := ⟨up_225, ok_225_0⟩
theorem up_227 : zupto zTb1 227 := ⟨up_226, ok_226_0⟩
theorem up_228 : zupto zTb1 228 := ⟨up_227, ok_227_0⟩
theorem up_229 : zupto zTb1 229 := ⟨up_228, ok_228_0⟩
theorem up_230 : zupto zTb1 230 := ⟨up_229, ok_229_0⟩
theorem up_231 : zupto zTb1 231 := ⟨up_230, ok_230_0⟩
theorem up_232 : zupto zTb1 232 := ⟨up_231, ok_231_0⟩
theorem up_233 : zupto zTb1 233 := ⟨up_232, ok_232_0⟩
theorem up_234 : zupto zTb1 234 := ⟨up_233, ok_233_0⟩
theorem up_235 : zupto zTb1 235 := ⟨up_234, ok_234_0⟩
theorem up_236 : zupto zTb1 236 := ⟨up_235, ok_235_0⟩
theorem up_237 : zupto zTb1 237 := ⟨up_236, ok_236_0⟩
theorem up_238 : zupto zTb1 238 := ⟨up_237, ok_237_0⟩
theorem up_239 : zupto zTb1 239 := ⟨up_238, ok_238_0⟩
theorem up_240 : zupto zTb1 240 := ⟨up_239, ok_239_0⟩
theorem up_241 : zupto zTb1 241 := ⟨up_240, ok_240_0⟩
theorem up_242 : zupto zTb1 242 := ⟨up_241, ok_241_0⟩
theorem up_243 : zupto zTb1 243 := ⟨up_242, ok_242_0⟩
theorem up_244 : zupto zTb1 244 := ⟨up_243, ok_243_0⟩
theorem up_245 : zupto zTb1 245 := ⟨up_244, ok_244_0⟩
theorem up_246 : zupto zTb1 246 := ⟨up_245, ok_245_0⟩
theorem up_247 : zupto zTb1 247 := ⟨up_246, ok_246_0⟩
theorem up_248 : zupto zTb1 248 := ⟨up_247, ok_247_0⟩
theorem up_249 : zupto zTb1 249 := ⟨up_248, ok_248_0⟩
theorem up_250 : zupto zTb1 250 := ⟨up_249, ok_249_0⟩
theorem up_251 : zupto zTb1 251 := ⟨up_250, ok_250_0⟩
theorem up_252 : zupto zTb1 252 := ⟨up_251, ok_251_0⟩
theorem up_253 : zupto zTb1 253 := ⟨up_252, ok_252_0⟩
theorem up_254 : zupto zTb1 254 := ⟨up_253, ok_253_0⟩
theorem up_255 : zupto zTb1 255 := ⟨up_254, ok_254_0⟩
theorem up_256 : zupto zTb1 256 := ⟨up_255, ok_255_0⟩
theorem up_257 : zupto zTb1 257 := ⟨up_256, ok_256_0⟩
theorem up_258 : zupto zTb1 258 := ⟨up_257, ok_257_0⟩
theorem up_259 : zupto zTb1 259 := ⟨up_258, ok_258_0⟩
theorem up_260 : zupto zTb1 260 := ⟨up_259, ok_259_0⟩
theorem up_261 : zupto zTb1 261 := ⟨up_260, ok_260_0⟩
theorem up_262 : zupto zTb1 262 := ⟨up_261, ok_261_0⟩
theorem up_263 : zupto zTb1 263 := ⟨up_262, ok_262_0⟩
theorem up_264 : zupto zTb1 264 := ⟨up_263, ok_263_0⟩
theorem up_265 : zupto zTb1 265 := ⟨up_264, ok_264_0⟩
theorem up_266 : zupto zTb1 266 := ⟨up_265, ok_265_0⟩
theorem up_267 : zupto zTb1 267 := ⟨up_266, ok_266_0⟩
theorem up_268 : zupto zTb1 268 := ⟨up_267, ok_267_0⟩
theorem up_269 : zupto zTb1 269 := ⟨up_268, ok_268_0⟩
theorem up_270 : zupto zTb1 270 := ⟨up_269, ok_269_0⟩
theorem up_271 : zupto zTb1 271 := ⟨up_270, ok_270_0⟩
theorem up_272 : zupto zTb1 272 := ⟨up_271, ok_271_0⟩
theorem up_273 : zupto zTb1 273 := ⟨up_272, ok_272_0⟩
theorem up_274 : zupto zTb1 274 := ⟨up_273, ok_273_0⟩
theorem up_275 : zupto zTb1 275 := ⟨up_274, ok_274_0⟩
theorem up_276 : zupto zTb1 276 := ⟨up_275, ok_275_0⟩
theorem up_277 : zupto zTb1 277 := ⟨up_276, ok_276_0⟩
theorem up_278 : zupto zTb1 278 := ⟨up_277, ok_277_0⟩
theorem up_279 : zupto zTb1 279 := ⟨up_278, ok_278_0⟩
theorem up_280 : zupto zTb1 280 := ⟨up_279, ok_279_0⟩
theorem up_281 : zupto zTb1 281 := ⟨up_280, ok_280_0⟩
theorem up_282 : zupto zTb1 282 := ⟨up_281, ok_281_0⟩
theorem up_283 : zupto zTb1 283 := ⟨up_282, ok_282_0⟩
theorem up_284 : zupto zTb1 284 := ⟨up_283, ok_283_0⟩
theorem up_285 : zupto zTb1 285 := ⟨up_284, ok_284_0⟩
theorem up_286 : zupto zTb1 286 := ⟨up_285, ok_285_0⟩
theorem up_287 : zupto zTb1 287 := ⟨up_286, ok_286_0⟩
theorem up_288 : zupto zTb1 288 := ⟨up_287, ok_287_0⟩
theorem up_289 : zupto zTb1 289 := ⟨up_288, ok_288_0⟩
theorem up_290 : zupto zTb1 290 := ⟨up_289, ok_289_0⟩
theorem up_291 : zupto zTb1 291 := ⟨up_290, ok_290_0⟩
theorem up_292 : zupto zTb1 292 := ⟨up_291, ok_291_0⟩
theorem up_293 : zupto zTb1 293 := ⟨up_292, ok_292_0⟩
theorem up_294 : zupto zTb1 294 := ⟨up_293, ok_293_0⟩
theorem up_295 : zupto zTb1 295 := ⟨up_294, ok_294_0⟩
theorem up_296 : zupto zTb1 296 := ⟨up_295, ok_295_0⟩
theorem up_297 : zupto zTb1 297 := ⟨up_296, ok_296_0⟩
theorem up_298 : zupto zTb1 298 := ⟨up_297, ok_297_0⟩
theorem up_299 : zupto zTb1 299 := ⟨up_298, ok_298_0⟩
theorem up_300 : zupto zTb1 300 := ⟨up_299, ok_299_0⟩
theorem up_301 : zupto zTb1 301 := ⟨up_300, ok_300_0⟩
theorem up_302 : zupto zTb1 302 := ⟨up_301, ok_301_0⟩
theorem up_303 : zupto zTb1 303 := ⟨up_302, ok_302_0⟩
theorem up_304 : zupto zTb1 304 := ⟨up_303, ok_303_0⟩
theorem up_305 : zupto zTb1 305 := ⟨up_304, ok_304_0⟩
theorem up_306 : zupto zTb1 306 := ⟨up_305, ok_305_0⟩
theorem up_307 : zupto zTb1 307 := ⟨up_306, ok_306_0⟩
theorem up_308 : zupto zTb1 308 := ⟨up_307, ok_307_0⟩
theorem up_309 : zupto zTb1 309 := ⟨up_308, ok_308_0⟩
theorem up_310 : zupto zTb1 310 := ⟨up_309, ok_309_0⟩
theorem up_311 : zupto zTb1 311 := ⟨up_310, ok_310_0⟩
theorem up_312 : zupto zTb1 312 := ⟨up_311, ok_311_0⟩
theorem up_313 : zupto zTb1 313 := ⟨up_312, ok_312_0⟩
theorem up_314 : zupto zTb1 314 := ⟨up_313, ok_313_0⟩
theorem up_315 : zupto zTb1 315 := ⟨up_314, ok_314_0⟩
theorem up_316 : zupto zTb1 316 := ⟨up_315, ok_315_0⟩
theorem up_317 : zupto zTb1 317 := ⟨up_316, ok_316_0⟩
theorem up_318 : zupto zTb1 318 := ⟨up_317, ok_317_0⟩
theorem up_319 : zupto zTb1 319 := ⟨up_318, ok_318_0⟩
theorem up_320 : zupto zTb1 320 := ⟨up_319, ok_319_0⟩
theorem up_321 : zupto zTb1 321 := ⟨up_320, ok_320_0⟩
theorem up_322 : zupto zTb1 322 := ⟨up_321, ok_321_0⟩
theorem up_323 : zupto zTb1 323 := ⟨up_322, ok_322_0⟩
theorem up_324 : zupto zTb1 324 := ⟨up_323, ok_323_0⟩
theorem up_325 : zupto zTb1 325 := ⟨up_324, ok_324_0⟩
theorem up_326 : zupto zTb1 326 := ⟨up_325, ok_325_0⟩
theorem up_327 : zupto zTb1 327 := ⟨up_326, ok_326_0⟩
theorem up_328 : zupto zTb1 328 := ⟨up_327, ok_327_0⟩
theorem up_329 : zupto zTb1 329 := ⟨up_328, ok_328_0⟩
theorem up_330 : zupto zTb1 330 := ⟨up_329, ok_329_0⟩
theorem up_331 : zupto zTb1 331 := ⟨up_330, ok_330_0⟩
theorem up_332 : zupto zTb1 332 := ⟨up_331, ok_331_0⟩
theorem up_333 : zupto zTb1 333 := ⟨up_332, ok_332_0⟩
theorem up_334 : zupto zTb1 334 := ⟨up_333, ok_333_0⟩
theorem up_335 : zupto zTb1 335 := ⟨up_334, ok_334_0⟩
theorem up_336 : zupto zTb1 336 := ⟨up_335, ok_335_0⟩
theorem up_337 : zupto zTb1 337 := ⟨up_336, ok_336_0⟩
theorem up_338 : zupto zTb1 338 := ⟨up_337, ok_337_0⟩
theorem up_339 : zupto zTb1 339 := ⟨up_338, ok_338_0⟩
theorem up_340 : zupto zTb1 340 := ⟨up_339, ok_339_0⟩
theorem up_341 : zupto zTb1 341 := ⟨up_340, ok_340_0⟩
theorem up_342 : zupto zTb1 342 := ⟨up_341, ok_341_0⟩
theorem up_343 : zupto zTb1 343 := ⟨up_342, ok_342_0⟩
theorem up_344 : zupto zTb1 344 := ⟨up_343, ok_343_0⟩
theorem up_345 : zupto zTb1 345 := ⟨up_344, ok_344_0⟩
theorem up_346 : zupto zTb1 346 := ⟨up_345, ok_345_0⟩
theorem up_347 : zupto zTb1 347 := ⟨up_346, ok_346_0⟩
theorem up_348 : zupto zTb1 348 := ⟨up_347, ok_347_0⟩
theorem up_349 : zupto zTb1 349 := ⟨up_348, ok_348_0⟩
theorem up_350 : zupto zTb1 350 := ⟨up_349, ok_349_0⟩
theorem up_351 : zupto zTb1 351 := ⟨up_350, ok_350_0⟩
theorem up_352 : zupto zTb1 352 := ⟨up_351, ok_351_0⟩
theorem up_353 : zupto zTb1 353 := ⟨up_352, ok_352_0⟩
theorem up_354 : zupto zTb1 354 := ⟨up_353, ok_353_0⟩
theorem up_355 : zupto zTb1 355 := ⟨up_354, ok_354_0⟩
theorem up_356 : zupto zTb1 356 := ⟨up_355, ok_355_0⟩
theorem up_357 : zupto zTb1 357 := ⟨up_356, ok_356_0⟩
theorem up_358 : zupto zTb1 358 := ⟨up_357, ok_357_0⟩
theorem up_359 : zupto zTb1 359 := ⟨up_358, ok_358_0⟩
theorem up_360 : zupto zTb1 360 := ⟨up_359, ok_359_0⟩
theorem zhnd1 (pc : Nat) : zhand 117 pc = if covers ⟨32, 44, 47, 116⟩ pc = true then some (4, 47) else none := by
  show (match Nat.ble 32 pc, Nat.ble (pc + 1) 44 with | true, true => some (4, 47) | _, _ => none) = _
  by_cases h1 : 32 ≤ pc <;> by_cases h2 : pc < 44
  · rw [Nat.ble_eq_true_of_le h1, Nat.ble_eq_true_of_le h2, if_pos (by simp only [covers, Bool.and_eq_true, decide_eq_true_iff]; exact ⟨h1, h2⟩)]
  · rw [Nat.ble_eq_true_of_le h1, Bool.eq_false_iff.mpr (fun h => h2 (Nat.le_of_ble_eq_true h)), if_neg (by simp only [covers, Bool.and_eq_true, decide_eq_true_iff]; exact fun h => h2 h.2)]
  · rw [Bool.eq_false_iff.mpr (fun h => h1 (Nat.le_of_ble_eq_true h)), if_neg (by simp only [covers, Bool.and_eq_true, decide_eq_true_iff]; exact fun h => h1 h.1)]
  · rw [Bool.eq_false_iff.mpr (fun h => h1 (Nat.le_of_ble_eq_true h)), if_neg (by simp only [covers, Bool.and_eq_true, decide_eq_true_iff]; exact fun h => h1 h.1)]
theorem zhnd2 (pc : Nat) : zhand 352 pc = if covers ⟨0, 9, 12, 13⟩ pc = true then some (24, 12) else none := by
  show (match Nat.ble 0 pc, Nat.ble (pc + 1) 9 with | true, true => some (24, 12) | _, _ => none) = _
  by_cases h1 : 0 ≤ pc <;> by_cases h2 : pc < 9
  · rw [Nat.ble_eq_true_of_le h1, Nat.ble_eq_true_of_le h2, if_pos (by simp only [covers, Bool.and_eq_true, decide_eq_true_iff]; exact ⟨h1, h2⟩)]
  · rw [Nat.ble_eq_true_of_le h1, Bool.eq_false_iff.mpr (fun h => h2 (Nat.le_of_ble_eq_true h)), if_neg (by simp only [covers, Bool.and_eq_true, decide_eq_true_iff]; exact fun h => h2 h.2)]
  · rw [Bool.eq_false_iff.mpr (fun h => h1 (Nat.le_of_ble_eq_true h)), if_neg (by simp only [covers, Bool.and_eq_true, decide_eq_true_iff]; exact fun h => h1 h.1)]
  · rw [Bool.eq_false_iff.mpr (fun h => h1 (Nat.le_of_ble_eq_true h)), if_neg (by simp only [covers, Bool.and_eq_true, decide_eq_true_iff]; exact fun h => h1 h.1)]
theorem zgetD_big {α : Type} {d : α} (l : List α) {i : Nat} (h : l.length ≤ i) : l.getD i d = d := by
  rw [List.getD_eq_getElem?_getD, List.getElem?_eq_none h]
  rfl
theorem znbeq {a b : Nat} (h : a ≠ b) : Nat.beq a b = false := by
  cases e : Nat.beq a b with
  | false => rfl
  | true => exact absurd (Nat.eq_of_beq_eq_true e) h
theorem zcode_big {M : Nat} (h : 360 ≤ M) : zcode M = [] := by
  unfold zcode
  rcases Nat.lt_or_ge (M / 20) 18 with h1 | h1
  · have e : M / 20 = 18 := by omega
    rw [e]
    have h2 : 0 ≤ M % 20 := by omega
    exact zgetD_big _ h2
  · rw [zgetD_big zcs h1]
    exact zgetD_big _ (Nat.zero_le _)
theorem zTab_ok : zTab := by
  refine ⟨fun M pc e h => ?_, fun M => ?_⟩
  · have h1 : ∀ x ∈ zcode M, zOL M x := by
      rcases Nat.lt_or_ge M 360 with hM | hM
      · exact zupto_lt up_360 hM
      · rw [zcode_big hM]; exact zfm0
    exact zget_all (zcode M) h1 pc e h
  · unfold zHnd
    by_cases h1 : M = 117
    · subst h1
      exact ⟨⟨32, 44, 47, 116⟩, 4, _, rfl, rfl, fun pc => zhnd1 pc, by decide, q626, (znm_ 64 rfl)⟩
    · by_cases h2 : M = 352
      · subst h2
        exact ⟨⟨0, 9, 12, 13⟩, 24, _, rfl, rfl, fun pc => zhnd2 pc, by decide, q1719, (znm_ 65 rfl)⟩
      · have e1 : Nat.beq M 117 = false := znbeq h1
        have e2 : Nat.beq M 352 = false := znbeq h2
        have e3 : zhd M = none := by unfold zhd; rw [e1, e2]
        rw [e3]
        intro pc
        unfold zhand
        rw [e1, e2]
