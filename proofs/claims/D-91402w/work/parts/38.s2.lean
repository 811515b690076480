set_option maxRecDepth 100000
theorem cn_J16_mixedInsertionSort : zo_Cn yJ16_mixedInsertionSort 4 := ⟨by decide, by decide, by decide +kernel⟩
theorem cn_J16_insertionSort : zo_Cn yJ16_insertionSort 3 := ⟨by decide, by decide, by decide +kernel⟩
theorem cn_J16_tryMergeRuns : zo_Cn yJ16_tryMergeRuns 4 := ⟨by decide, by decide, by decide +kernel⟩
theorem cn_J16_sort_2 : zo_Cn yJ16_sort_2 5 := ⟨by decide, by decide, by decide +kernel⟩
theorem cn_J16_sort : zo_Cn yJ16_sort 4 := ⟨by decide, by decide, by decide +kernel⟩
theorem dJ16_sort_2_0 : decode cJ16_sort_2 0 = .ok (.iload 4, 2) := by decide +kernel
theorem dJ16_sort_2_2 : decode cJ16_sort_2 2 = .ok (.iconst 1, 1) := by decide +kernel
theorem dJ16_sort_2_3 : decode cJ16_sort_2 3 = .ok (.isub, 1) := by decide +kernel
theorem dJ16_sort_2_4 : decode cJ16_sort_2 4 = .ok (.istore 5, 2) := by decide +kernel
theorem dJ16_sort_2_6 : decode cJ16_sort_2 6 = .ok (.iload 4, 2) := by decide +kernel
theorem dJ16_sort_2_8 : decode cJ16_sort_2 8 = .ok (.iload_n 3, 1) := by decide +kernel
theorem dJ16_sort_2_9 : decode cJ16_sort_2 9 = .ok (.isub, 1) := by decide +kernel
theorem dJ16_sort_2_10 : decode cJ16_sort_2 10 = .ok (.istore 6, 2) := by decide +kernel
theorem dJ16_sort_2_12 : decode cJ16_sort_2 12 = .ok (.iload 6, 2) := by decide +kernel
theorem dJ16_sort_2_14 : decode cJ16_sort_2 14 = .ok (.bipush 65, 2) := by decide +kernel
theorem dJ16_sort_2_16 : decode cJ16_sort_2 16 = .ok (.iload_n 2, 1) := by decide +kernel
theorem dJ16_sort_2_17 : decode cJ16_sort_2 17 = .ok (.iadd, 1) := by decide +kernel
theorem dJ16_sort_2_18 : decode cJ16_sort_2 18 = .ok (.if_icmp .ge 28, 3) := by decide +kernel
theorem dJ16_sort_2_21 : decode cJ16_sort_2 21 = .ok (.iload_n 2, 1) := by decide +kernel
theorem dJ16_sort_2_22 : decode cJ16_sort_2 22 = .ok (.iconst 1, 1) := by decide +kernel
theorem dJ16_sort_2_23 : decode cJ16_sort_2 23 = .ok (.iand, 1) := by decide +kernel
theorem dJ16_sort_2_24 : decode cJ16_sort_2 24 = .ok (.ifCond .le 22, 3) := by decide +kernel
theorem dJ16_sort_2_27 : decode cJ16_sort_2 27 = .ok (.aload_n 1, 1) := by decide +kernel
theorem dJ16_sort_2_28 : decode cJ16_sort_2 28 = .ok (.iload_n 3, 1) := by decide +kernel
theorem dJ16_sort_2_29 : decode cJ16_sort_2 29 = .ok (.iload 4, 2) := by decide +kernel
theorem dJ16_sort_2_31 : decode cJ16_sort_2 31 = .ok (.iconst 3, 1) := by decide +kernel
theorem dJ16_sort_2_32 : decode cJ16_sort_2 32 = .ok (.iload 6, 2) := by decide +kernel
theorem dJ16_sort_2_34 : decode cJ16_sort_2 34 = .ok (.iconst 5, 1) := by decide +kernel
theorem dJ16_sort_2_35 : decode cJ16_sort_2 35 = .ok (.ishr, 1) := by decide +kernel
theorem dJ16_sort_2_36 : decode cJ16_sort_2 36 = .ok (.iconst 3, 1) := by decide +kernel
theorem dJ16_sort_2_37 : decode cJ16_sort_2 37 = .ok (.ishl, 1) := by decide +kernel
theorem dJ16_sort_2_38 : decode cJ16_sort_2 38 = .ok (.imul, 1) := by decide +kernel
theorem dJ16_sort_2_39 : decode cJ16_sort_2 39 = .ok (.isub, 1) := by decide +kernel
theorem dJ16_sort_2_40 : decode cJ16_sort_2 40 = .ok (.iload 4, 2) := by decide +kernel
theorem dJ16_sort_2_42 : decode cJ16_sort_2 42 = .ok (.invokestatic 30, 3) := by decide +kernel
theorem dJ16_sort_2_45 : decode cJ16_sort_2 45 = .ok (.return_, 1) := by decide +kernel
theorem dJ16_sort_2_46 : decode cJ16_sort_2 46 = .ok (.iload 6, 2) := by decide +kernel
theorem dJ16_sort_2_48 : decode cJ16_sort_2 48 = .ok (.bipush 44, 2) := by decide +kernel
theorem dJ16_sort_2_50 : decode cJ16_sort_2 50 = .ok (.if_icmp .ge 11, 3) := by decide +kernel
theorem dJ16_sort_2_53 : decode cJ16_sort_2 53 = .ok (.aload_n 1, 1) := by decide +kernel
theorem dJ16_sort_2_54 : decode cJ16_sort_2 54 = .ok (.iload_n 3, 1) := by decide +kernel
theorem dJ16_sort_2_55 : decode cJ16_sort_2 55 = .ok (.iload 4, 2) := by decide +kernel
theorem dJ16_sort_2_57 : decode cJ16_sort_2 57 = .ok (.invokestatic 34, 3) := by decide +kernel
theorem dJ16_sort_2_60 : decode cJ16_sort_2 60 = .ok (.return_, 1) := by decide +kernel
theorem dJ16_sort_2_61 : decode cJ16_sort_2 61 = .ok (.iload_n 2, 1) := by decide +kernel
theorem dJ16_sort_2_62 : decode cJ16_sort_2 62 = .ok (.ifCond .eq 17, 3) := by decide +kernel
theorem dJ16_sort_2_65 : decode cJ16_sort_2 65 = .ok (.iload 6, 2) := by decide +kernel
theorem dJ16_sort_2_67 : decode cJ16_sort_2 67 = .ok (.sipush 4096, 3) := by decide +kernel
theorem dJ16_sort_2_70 : decode cJ16_sort_2 70 = .ok (.if_icmp .le 21, 3) := by decide +kernel
theorem dJ16_sort_2_73 : decode cJ16_sort_2 73 = .ok (.iload_n 2, 1) := by decide +kernel
theorem dJ16_sort_2_74 : decode cJ16_sort_2 74 = .ok (.iconst 1, 1) := by decide +kernel
theorem dJ16_sort_2_75 : decode cJ16_sort_2 75 = .ok (.iand, 1) := by decide +kernel
theorem dJ16_sort_2_76 : decode cJ16_sort_2 76 = .ok (.ifCond .le 15, 3) := by decide +kernel
theorem dJ16_sort_2_79 : decode cJ16_sort_2 79 = .ok (.aload_n 0, 1) := by decide +kernel
theorem dJ16_sort_2_80 : decode cJ16_sort_2 80 = .ok (.aload_n 1, 1) := by decide +kernel
theorem dJ16_sort_2_81 : decode cJ16_sort_2 81 = .ok (.iload_n 3, 1) := by decide +kernel
theorem dJ16_sort_2_82 : decode cJ16_sort_2 82 = .ok (.iload 6, 2) := by decide +kernel
theorem dJ16_sort_2_84 : decode cJ16_sort_2 84 = .ok (.invokestatic 38, 3) := by decide +kernel
theorem dJ16_sort_2_87 : decode cJ16_sort_2 87 = .ok (.ifCond .eq 4, 3) := by decide +kernel
theorem dJ16_sort_2_90 : decode cJ16_sort_2 90 = .ok (.return_, 1) := by decide +kernel
theorem dJ16_sort_2_91 : decode cJ16_sort_2 91 = .ok (.iinc 2 6, 3) := by decide +kernel
theorem dJ16_sort_2_94 : decode cJ16_sort_2 94 = .ok (.iload_n 2, 1) := by decide +kernel
theorem dJ16_sort_2_95 : decode cJ16_sort_2 95 = .ok (.sipush 384, 3) := by decide +kernel
theorem dJ16_sort_2_98 : decode cJ16_sort_2 98 = .ok (.if_icmp .le 11, 3) := by decide +kernel
theorem dJ16_sort_2_101 : decode cJ16_sort_2 101 = .ok (.aload_n 1, 1) := by decide +kernel
theorem dJ16_sort_2_102 : decode cJ16_sort_2 102 = .ok (.iload_n 3, 1) := by decide +kernel
theorem dJ16_sort_2_103 : decode cJ16_sort_2 103 = .ok (.iload 4, 2) := by decide +kernel
theorem dJ16_sort_2_105 : decode cJ16_sort_2 105 = .ok (.invokestatic 42, 3) := by decide +kernel
theorem dJ16_sort_2_108 : decode cJ16_sort_2 108 = .ok (.return_, 1) := by decide +kernel
theorem dJ16_sort_2_109 : decode cJ16_sort_2 109 = .ok (.iload 6, 2) := by decide +kernel
theorem dJ16_sort_2_111 : decode cJ16_sort_2 111 = .ok (.iconst 3, 1) := by decide +kernel
theorem dJ16_sort_2_112 : decode cJ16_sort_2 112 = .ok (.ishr, 1) := by decide +kernel
theorem dJ16_sort_2_113 : decode cJ16_sort_2 113 = .ok (.iconst 3, 1) := by decide +kernel
theorem dJ16_sort_2_114 : decode cJ16_sort_2 114 = .ok (.imul, 1) := by decide +kernel
theorem dJ16_sort_2_115 : decode cJ16_sort_2 115 = .ok (.iconst 3, 1) := by decide +kernel
theorem dJ16_sort_2_116 : decode cJ16_sort_2 116 = .ok (.iadd, 1) := by decide +kernel
theorem dJ16_sort_2_117 : decode cJ16_sort_2 117 = .ok (.istore 7, 2) := by decide +kernel
theorem dJ16_sort_2_119 : decode cJ16_sort_2 119 = .ok (.iload_n 3, 1) := by decide +kernel
theorem dJ16_sort_2_120 : decode cJ16_sort_2 120 = .ok (.iload 7, 2) := by decide +kernel
theorem dJ16_sort_2_122 : decode cJ16_sort_2 122 = .ok (.iadd, 1) := by decide +kernel
theorem dJ16_sort_2_123 : decode cJ16_sort_2 123 = .ok (.istore 8, 2) := by decide +kernel
theorem dJ16_sort_2_125 : decode cJ16_sort_2 125 = .ok (.iload 5, 2) := by decide +kernel
theorem dJ16_sort_2_127 : decode cJ16_sort_2 127 = .ok (.iload 7, 2) := by decide +kernel
theorem dJ16_sort_2_129 : decode cJ16_sort_2 129 = .ok (.isub, 1) := by decide +kernel
theorem dJ16_sort_2_130 : decode cJ16_sort_2 130 = .ok (.istore 9, 2) := by decide +kernel
theorem dJ16_sort_2_132 : decode cJ16_sort_2 132 = .ok (.iload 8, 2) := by decide +kernel
theorem dJ16_sort_2_134 : decode cJ16_sort_2 134 = .ok (.iload 9, 2) := by decide +kernel
theorem dJ16_sort_2_136 : decode cJ16_sort_2 136 = .ok (.iadd, 1) := by decide +kernel
theorem dJ16_sort_2_137 : decode cJ16_sort_2 137 = .ok (.iconst 1, 1) := by decide +kernel
theorem dJ16_sort_2_138 : decode cJ16_sort_2 138 = .ok (.iushr, 1) := by decide +kernel
theorem dJ16_sort_2_139 : decode cJ16_sort_2 139 = .ok (.istore 10, 2) := by decide +kernel
theorem dJ16_sort_2_141 : decode cJ16_sort_2 141 = .ok (.iload 8, 2) := by decide +kernel
theorem dJ16_sort_2_143 : decode cJ16_sort_2 143 = .ok (.iload 10, 2) := by decide +kernel
theorem dJ16_sort_2_145 : decode cJ16_sort_2 145 = .ok (.iadd, 1) := by decide +kernel
theorem dJ16_sort_2_146 : decode cJ16_sort_2 146 = .ok (.iconst 1, 1) := by decide +kernel
theorem dJ16_sort_2_147 : decode cJ16_sort_2 147 = .ok (.iushr, 1) := by decide +kernel
theorem dJ16_sort_2_148 : decode cJ16_sort_2 148 = .ok (.istore 11, 2) := by decide +kernel
theorem dJ16_sort_2_150 : decode cJ16_sort_2 150 = .ok (.iload 10, 2) := by decide +kernel
theorem dJ16_sort_2_152 : decode cJ16_sort_2 152 = .ok (.iload 9, 2) := by decide +kernel
theorem dJ16_sort_2_154 : decode cJ16_sort_2 154 = .ok (.iadd, 1) := by decide +kernel
theorem dJ16_sort_2_155 : decode cJ16_sort_2 155 = .ok (.iconst 1, 1) := by decide +kernel
theorem dJ16_sort_2_156 : decode cJ16_sort_2 156 = .ok (.iushr, 1) := by decide +kernel
theorem dJ16_sort_2_157 : decode cJ16_sort_2 157 = .ok (.istore 12, 2) := by decide +kernel
theorem dJ16_sort_2_159 : decode cJ16_sort_2 159 = .ok (.aload_n 1, 1) := by decide +kernel
theorem dJ16_sort_2_160 : decode cJ16_sort_2 160 = .ok (.iload 10, 2) := by decide +kernel
theorem dJ16_sort_2_162 : decode cJ16_sort_2 162 = .ok (.iaload, 1) := by decide +kernel
theorem dJ16_sort_2_163 : decode cJ16_sort_2 163 = .ok (.istore 13, 2) := by decide +kernel
theorem dJ16_sort_2_165 : decode cJ16_sort_2 165 = .ok (.aload_n 1, 1) := by decide +kernel
theorem dJ16_sort_2_166 : decode cJ16_sort_2 166 = .ok (.iload 9, 2) := by decide +kernel
theorem dJ16_sort_2_168 : decode cJ16_sort_2 168 = .ok (.iaload, 1) := by decide +kernel
theorem dJ16_sort_2_169 : decode cJ16_sort_2 169 = .ok (.aload_n 1, 1) := by decide +kernel
theorem dJ16_sort_2_170 : decode cJ16_sort_2 170 = .ok (.iload 11, 2) := by decide +kernel
theorem dJ16_sort_2_172 : decode cJ16_sort_2 172 = .ok (.iaload, 1) := by decide +kernel
theorem dJ16_sort_2_173 : decode cJ16_sort_2 173 = .ok (.if_icmp .ge 23, 3) := by decide +kernel
theorem dJ16_sort_2_176 : decode cJ16_sort_2 176 = .ok (.aload_n 1, 1) := by decide +kernel
theorem dJ16_sort_2_177 : decode cJ16_sort_2 177 = .ok (.iload 9, 2) := by decide +kernel
theorem dJ16_sort_2_179 : decode cJ16_sort_2 179 = .ok (.iaload, 1) := by decide +kernel
theorem dJ16_sort_2_180 : decode cJ16_sort_2 180 = .ok (.istore 14, 2) := by decide +kernel
theorem dJ16_sort_2_182 : decode cJ16_sort_2 182 = .ok (.aload_n 1, 1) := by decide +kernel
theorem dJ16_sort_2_183 : decode cJ16_sort_2 183 = .ok (.iload 9, 2) := by decide +kernel
theorem dJ16_sort_2_185 : decode cJ16_sort_2 185 = .ok (.aload_n 1, 1) := by decide +kernel
theorem dJ16_sort_2_186 : decode cJ16_sort_2 186 = .ok (.iload 11, 2) := by decide +kernel
theorem dJ16_sort_2_188 : decode cJ16_sort_2 188 = .ok (.iaload, 1) := by decide +kernel
theorem dJ16_sort_2_189 : decode cJ16_sort_2 189 = .ok (.iastore, 1) := by decide +kernel
theorem dJ16_sort_2_190 : decode cJ16_sort_2 190 = .ok (.aload_n 1, 1) := by decide +kernel
theorem dJ16_sort_2_191 : decode cJ16_sort_2 191 = .ok (.iload 11, 2) := by decide +kernel
theorem dJ16_sort_2_193 : decode cJ16_sort_2 193 = .ok (.iload 14, 2) := by decide +kernel
theorem dJ16_sort_2_195 : decode cJ16_sort_2 195 = .ok (.iastore, 1) := by decide +kernel
theorem dJ16_sort_2_196 : decode cJ16_sort_2 196 = .ok (.aload_n 1, 1) := by decide +kernel
theorem dJ16_sort_2_197 : decode cJ16_sort_2 197 = .ok (.iload 12, 2) := by decide +kernel
theorem dJ16_sort_2_199 : decode cJ16_sort_2 199 = .ok (.iaload, 1) := by decide +kernel
theorem dJ16_sort_2_200 : decode cJ16_sort_2 200 = .ok (.aload_n 1, 1) := by decide +kernel
theorem dJ16_sort_2_201 : decode cJ16_sort_2 201 = .ok (.iload 8, 2) := by decide +kernel
theorem dJ16_sort_2_203 : decode cJ16_sort_2 203 = .ok (.iaload, 1) := by decide +kernel
theorem dJ16_sort_2_204 : decode cJ16_sort_2 204 = .ok (.if_icmp .ge 23, 3) := by decide +kernel
theorem dJ16_sort_2_207 : decode cJ16_sort_2 207 = .ok (.aload_n 1, 1) := by decide +kernel
theorem dJ16_sort_2_208 : decode cJ16_sort_2 208 = .ok (.iload 12, 2) := by decide +kernel
theorem dJ16_sort_2_210 : decode cJ16_sort_2 210 = .ok (.iaload, 1) := by decide +kernel
theorem dJ16_sort_2_211 : decode cJ16_sort_2 211 = .ok (.istore 14, 2) := by decide +kernel
theorem dJ16_sort_2_213 : decode cJ16_sort_2 213 = .ok (.aload_n 1, 1) := by decide +kernel
theorem dJ16_sort_2_214 : decode cJ16_sort_2 214 = .ok (.iload 12, 2) := by decide +kernel
theorem dJ16_sort_2_216 : decode cJ16_sort_2 216 = .ok (.aload_n 1, 1) := by decide +kernel
theorem dJ16_sort_2_217 : decode cJ16_sort_2 217 = .ok (.iload 8, 2) := by decide +kernel
theorem dJ16_sort_2_219 : decode cJ16_sort_2 219 = .ok (.iaload, 1) := by decide +kernel
theorem dJ16_sort_2_220 : decode cJ16_sort_2 220 = .ok (.iastore, 1) := by decide +kernel
theorem dJ16_sort_2_221 : decode cJ16_sort_2 221 = .ok (.aload_n 1, 1) := by decide +kernel
theorem dJ16_sort_2_222 : decode cJ16_sort_2 222 = .ok (.iload 8, 2) := by decide +kernel
theorem dJ16_sort_2_224 : decode cJ16_sort_2 224 = .ok (.iload 14, 2) := by decide +kernel
theorem dJ16_sort_2_226 : decode cJ16_sort_2 226 = .ok (.iastore, 1) := by decide +kernel
theorem dJ16_sort_2_227 : decode cJ16_sort_2 227 = .ok (.aload_n 1, 1) := by decide +kernel
theorem dJ16_sort_2_228 : decode cJ16_sort_2 228 = .ok (.iload 9, 2) := by decide +kernel
theorem dJ16_sort_2_230 : decode cJ16_sort_2 230 = .ok (.iaload, 1) := by decide +kernel
theorem dJ16_sort_2_231 : decode cJ16_sort_2 231 = .ok (.aload_n 1, 1) := by decide +kernel
theorem dJ16_sort_2_232 : decode cJ16_sort_2 232 = .ok (.iload 12, 2) := by decide +kernel
theorem dJ16_sort_2_234 : decode cJ16_sort_2 234 = .ok (.iaload, 1) := by decide +kernel
theorem dJ16_sort_2_235 : decode cJ16_sort_2 235 = .ok (.if_icmp .ge 23, 3) := by decide +kernel
theorem dJ16_sort_2_238 : decode cJ16_sort_2 238 = .ok (.aload_n 1, 1) := by decide +kernel
theorem dJ16_sort_2_239 : decode cJ16_sort_2 239 = .ok (.iload 9, 2) := by decide +kernel
theorem dJ16_sort_2_241 : decode cJ16_sort_2 241 = .ok (.iaload, 1) := by decide +kernel
theorem dJ16_sort_2_242 : decode cJ16_sort_2 242 = .ok (.istore 14, 2) := by decide +kernel
theorem dJ16_sort_2_244 : decode cJ16_sort_2 244 = .ok (.aload_n 1, 1) := by decide +kernel
theorem dJ16_sort_2_245 : decode cJ16_sort_2 245 = .ok (.iload 9, 2) := by decide +kernel
theorem dJ16_sort_2_247 : decode cJ16_sort_2 247 = .ok (.aload_n 1, 1) := by decide +kernel
theorem dJ16_sort_2_248 : decode cJ16_sort_2 248 = .ok (.iload 12, 2) := by decide +kernel
theorem dJ16_sort_2_250 : decode cJ16_sort_2 250 = .ok (.iaload, 1) := by decide +kernel
theorem dJ16_sort_2_251 : decode cJ16_sort_2 251 = .ok (.iastore, 1) := by decide +kernel
theorem dJ16_sort_2_252 : decode cJ16_sort_2 252 = .ok (.aload_n 1, 1) := by decide +kernel
theorem dJ16_sort_2_253 : decode cJ16_sort_2 253 = .ok (.iload 12, 2) := by decide +kernel
theorem dJ16_sort_2_255 : decode cJ16_sort_2 255 = .ok (.iload 14, 2) := by decide +kernel
theorem dJ16_sort_2_257 : decode cJ16_sort_2 257 = .ok (.iastore, 1) := by decide +kernel
theorem dJ16_sort_2_258 : decode cJ16_sort_2 258 = .ok (.aload_n 1, 1) := by decide +kernel
theorem dJ16_sort_2_259 : decode cJ16_sort_2 259 = .ok (.iload 11, 2) := by decide +kernel
theorem dJ16_sort_2_261 : decode cJ16_sort_2 261 = .ok (.iaload, 1) := by decide +kernel
theorem dJ16_sort_2_262 : decode cJ16_sort_2 262 = .ok (.aload_n 1, 1) := by decide +kernel
theorem dJ16_sort_2_263 : decode cJ16_sort_2 263 = .ok (.iload 8, 2) := by decide +kernel
theorem dJ16_sort_2_265 : decode cJ16_sort_2 265 = .ok (.iaload, 1) := by decide +kernel
theorem dJ16_sort_2_266 : decode cJ16_sort_2 266 = .ok (.if_icmp .ge 23, 3) := by decide +kernel
theorem dJ16_sort_2_269 : decode cJ16_sort_2 269 = .ok (.aload_n 1, 1) := by decide +kernel
theorem dJ16_sort_2_270 : decode cJ16_sort_2 270 = .ok (.iload 11, 2) := by decide +kernel
theorem dJ16_sort_2_272 : decode cJ16_sort_2 272 = .ok (.iaload, 1) := by decide +kernel
theorem dJ16_sort_2_273 : decode cJ16_sort_2 273 = .ok (.istore 14, 2) := by decide +kernel
theorem dJ16_sort_2_275 : decode cJ16_sort_2 275 = .ok (.aload_n 1, 1) := by decide +kernel
theorem dJ16_sort_2_276 : decode cJ16_sort_2 276 = .ok (.iload 11, 2) := by decide +kernel
theorem dJ16_sort_2_278 : decode cJ16_sort_2 278 = .ok (.aload_n 1, 1) := by decide +kernel
theorem dJ16_sort_2_279 : decode cJ16_sort_2 279 = .ok (.iload 8, 2) := by decide +kernel
theorem dJ16_sort_2_281 : decode cJ16_sort_2 281 = .ok (.iaload, 1) := by decide +kernel
theorem dJ16_sort_2_282 : decode cJ16_sort_2 282 = .ok (.iastore, 1) := by decide +kernel
theorem dJ16_sort_2_283 : decode cJ16_sort_2 283 = .ok (.aload_n 1, 1) := by decide +kernel
theorem dJ16_sort_2_284 : decode cJ16_sort_2 284 = .ok (.iload 8, 2) := by decide +kernel
theorem dJ16_sort_2_286 : decode cJ16_sort_2 286 = .ok (.iload 14, 2) := by decide +kernel
theorem dJ16_sort_2_288 : decode cJ16_sort_2 288 = .ok (.iastore, 1) := by decide +kernel
theorem dJ16_sort_2_289 : decode cJ16_sort_2 289 = .ok (.aload_n 1, 1) := by decide +kernel
theorem dJ16_sort_2_290 : decode cJ16_sort_2 290 = .ok (.iload 12, 2) := by decide +kernel
theorem dJ16_sort_2_292 : decode cJ16_sort_2 292 = .ok (.iaload, 1) := by decide +kernel
theorem dJ16_sort_2_293 : decode cJ16_sort_2 293 = .ok (.aload_n 1, 1) := by decide +kernel
theorem dJ16_sort_2_294 : decode cJ16_sort_2 294 = .ok (.iload 11, 2) := by decide +kernel
theorem dJ16_sort_2_296 : decode cJ16_sort_2 296 = .ok (.iaload, 1) := by decide +kernel
theorem dJ16_sort_2_297 : decode cJ16_sort_2 297 = .ok (.if_icmp .ge 23, 3) := by decide +kernel
theorem dJ16_sort_2_300 : decode cJ16_sort_2 300 = .ok (.aload_n 1, 1) := by decide +kernel
theorem dJ16_sort_2_301 : decode cJ16_sort_2 301 = .ok (.iload 12, 2) := by decide +kernel
theorem dJ16_sort_2_303 : decode cJ16_sort_2 303 = .ok (.iaload, 1) := by decide +kernel
theorem dJ16_sort_2_304 : decode cJ16_sort_2 304 = .ok (.istore 14, 2) := by decide +kernel
theorem dJ16_sort_2_306 : decode cJ16_sort_2 306 = .ok (.aload_n 1, 1) := by decide +kernel
theorem dJ16_sort_2_307 : decode cJ16_sort_2 307 = .ok (.iload 12, 2) := by decide +kernel
theorem dJ16_sort_2_309 : decode cJ16_sort_2 309 = .ok (.aload_n 1, 1) := by decide +kernel
theorem dJ16_sort_2_310 : decode cJ16_sort_2 310 = .ok (.iload 11, 2) := by decide +kernel
theorem dJ16_sort_2_312 : decode cJ16_sort_2 312 = .ok (.iaload, 1) := by decide +kernel
theorem dJ16_sort_2_313 : decode cJ16_sort_2 313 = .ok (.iastore, 1) := by decide +kernel
theorem dJ16_sort_2_314 : decode cJ16_sort_2 314 = .ok (.aload_n 1, 1) := by decide +kernel
theorem dJ16_sort_2_315 : decode cJ16_sort_2 315 = .ok (.iload 11, 2) := by decide +kernel
theorem dJ16_sort_2_317 : decode cJ16_sort_2 317 = .ok (.iload 14, 2) := by decide +kernel
theorem dJ16_sort_2_319 : decode cJ16_sort_2 319 = .ok (.iastore, 1) := by decide +kernel
theorem dJ16_sort_2_320 : decode cJ16_sort_2 320 = .ok (.iload 13, 2) := by decide +kernel
theorem dJ16_sort_2_322 : decode cJ16_sort_2 322 = .ok (.aload_n 1, 1) := by decide +kernel
theorem dJ16_sort_2_323 : decode cJ16_sort_2 323 = .ok (.iload 11, 2) := by decide +kernel
theorem dJ16_sort_2_325 : decode cJ16_sort_2 325 = .ok (.iaload, 1) := by decide +kernel
theorem dJ16_sort_2_326 : decode cJ16_sort_2 326 = .ok (.if_icmp .ge 54, 3) := by decide +kernel
theorem dJ16_sort_2_329 : decode cJ16_sort_2 329 = .ok (.iload 13, 2) := by decide +kernel
theorem dJ16_sort_2_331 : decode cJ16_sort_2 331 = .ok (.aload_n 1, 1) := by decide +kernel
theorem dJ16_sort_2_332 : decode cJ16_sort_2 332 = .ok (.iload 8, 2) := by decide +kernel
theorem dJ16_sort_2_334 : decode cJ16_sort_2 334 = .ok (.iaload, 1) := by decide +kernel
theorem dJ16_sort_2_335 : decode cJ16_sort_2 335 = .ok (.if_icmp .ge 28, 3) := by decide +kernel
theorem dJ16_sort_2_338 : decode cJ16_sort_2 338 = .ok (.aload_n 1, 1) := by decide +kernel
theorem dJ16_sort_2_339 : decode cJ16_sort_2 339 = .ok (.iload 10, 2) := by decide +kernel
theorem dJ16_sort_2_341 : decode cJ16_sort_2 341 = .ok (.aload_n 1, 1) := by decide +kernel
theorem dJ16_sort_2_342 : decode cJ16_sort_2 342 = .ok (.iload 11, 2) := by decide +kernel
theorem dJ16_sort_2_344 : decode cJ16_sort_2 344 = .ok (.iaload, 1) := by decide +kernel
theorem dJ16_sort_2_345 : decode cJ16_sort_2 345 = .ok (.iastore, 1) := by decide +kernel
theorem dJ16_sort_2_346 : decode cJ16_sort_2 346 = .ok (.aload_n 1, 1) := by decide +kernel
theorem dJ16_sort_2_347 : decode cJ16_sort_2 347 = .ok (.iload 11, 2) := by decide +kernel
theorem dJ16_sort_2_349 : decode cJ16_sort_2 349 = .ok (.aload_n 1, 1) := by decide +kernel
theorem dJ16_sort_2_350 : decode cJ16_sort_2 350 = .ok (.iload 8, 2) := by decide +kernel
theorem dJ16_sort_2_352 : decode cJ16_sort_2 352 = .ok (.iaload, 1) := by decide +kernel
theorem dJ16_sort_2_353 : decode cJ16_sort_2 353 = .ok (.iastore, 1) := by decide +kernel
theorem dJ16_sort_2_354 : decode cJ16_sort_2 354 = .ok (.aload_n 1, 1) := by decide +kernel
theorem dJ16_sort_2_355 : decode cJ16_sort_2 355 = .ok (.iload 8, 2) := by decide +kernel
theorem dJ16_sort_2_357 : decode cJ16_sort_2 357 = .ok (.iload 13, 2) := by decide +kernel
theorem dJ16_sort_2_359 : decode cJ16_sort_2 359 = .ok (.iastore, 1) := by decide +kernel
theorem dJ16_sort_2_360 : decode cJ16_sort_2 360 = .ok (.goto 77, 3) := by decide +kernel
theorem dJ16_sort_2_363 : decode cJ16_sort_2 363 = .ok (.aload_n 1, 1) := by decide +kernel
theorem dJ16_sort_2_364 : decode cJ16_sort_2 364 = .ok (.iload 10, 2) := by decide +kernel
theorem dJ16_sort_2_366 : decode cJ16_sort_2 366 = .ok (.aload_n 1, 1) := by decide +kernel
theorem dJ16_sort_2_367 : decode cJ16_sort_2 367 = .ok (.iload 11, 2) := by decide +kernel
theorem dJ16_sort_2_369 : decode cJ16_sort_2 369 = .ok (.iaload, 1) := by decide +kernel
theorem dJ16_sort_2_370 : decode cJ16_sort_2 370 = .ok (.iastore, 1) := by decide +kernel
theorem dJ16_sort_2_371 : decode cJ16_sort_2 371 = .ok (.aload_n 1, 1) := by decide +kernel
theorem dJ16_sort_2_372 : decode cJ16_sort_2 372 = .ok (.iload 11, 2) := by decide +kernel
theorem dJ16_sort_2_374 : decode cJ16_sort_2 374 = .ok (.iload 13, 2) := by decide +kernel
theorem dJ16_sort_2_376 : decode cJ16_sort_2 376 = .ok (.iastore, 1) := by decide +kernel
theorem dJ16_sort_2_377 : decode cJ16_sort_2 377 = .ok (.goto 60, 3) := by decide +kernel
theorem dJ16_sort_2_380 : decode cJ16_sort_2 380 = .ok (.iload 13, 2) := by decide +kernel
theorem dJ16_sort_2_382 : decode cJ16_sort_2 382 = .ok (.aload_n 1, 1) := by decide +kernel
theorem dJ16_sort_2_383 : decode cJ16_sort_2 383 = .ok (.iload 12, 2) := by decide +kernel
theorem dJ16_sort_2_385 : decode cJ16_sort_2 385 = .ok (.iaload, 1) := by decide +kernel
theorem dJ16_sort_2_386 : decode cJ16_sort_2 386 = .ok (.if_icmp .le 51, 3) := by decide +kernel
theorem dJ16_sort_2_389 : decode cJ16_sort_2 389 = .ok (.iload 13, 2) := by decide +kernel
theorem dJ16_sort_2_391 : decode cJ16_sort_2 391 = .ok (.aload_n 1, 1) := by decide +kernel
theorem dJ16_sort_2_392 : decode cJ16_sort_2 392 = .ok (.iload 9, 2) := by decide +kernel
theorem dJ16_sort_2_394 : decode cJ16_sort_2 394 = .ok (.iaload, 1) := by decide +kernel
theorem dJ16_sort_2_395 : decode cJ16_sort_2 395 = .ok (.if_icmp .le 28, 3) := by decide +kernel
theorem dJ16_sort_2_398 : decode cJ16_sort_2 398 = .ok (.aload_n 1, 1) := by decide +kernel
theorem dJ16_sort_2_399 : decode cJ16_sort_2 399 = .ok (.iload 10, 2) := by decide +kernel
theorem dJ16_sort_2_401 : decode cJ16_sort_2 401 = .ok (.aload_n 1, 1) := by decide +kernel
theorem dJ16_sort_2_402 : decode cJ16_sort_2 402 = .ok (.iload 12, 2) := by decide +kernel
theorem dJ16_sort_2_404 : decode cJ16_sort_2 404 = .ok (.iaload, 1) := by decide +kernel
theorem dJ16_sort_2_405 : decode cJ16_sort_2 405 = .ok (.iastore, 1) := by decide +kernel
theorem dJ16_sort_2_406 : decode cJ16_sort_2 406 = .ok (.aload_n 1, 1) := by decide +kernel
theorem dJ16_sort_2_407 : decode cJ16_sort_2 407 = .ok (.iload 12, 2) := by decide +kernel
theorem dJ16_sort_2_409 : decode cJ16_sort_2 409 = .ok (.aload_n 1, 1) := by decide +kernel
theorem dJ16_sort_2_410 : decode cJ16_sort_2 410 = .ok (.iload 9, 2) := by decide +kernel
theorem dJ16_sort_2_412 : decode cJ16_sort_2 412 = .ok (.iaload, 1) := by decide +kernel
theorem dJ16_sort_2_413 : decode cJ16_sort_2 413 = .ok (.iastore, 1) := by decide +kernel
theorem dJ16_sort_2_414 : decode cJ16_sort_2 414 = .ok (.aload_n 1, 1) := by decide +kernel
theorem dJ16_sort_2_415 : decode cJ16_sort_2 415 = .ok (.iload 9, 2) := by decide +kernel
theorem dJ16_sort_2_417 : decode cJ16_sort_2 417 = .ok (.iload 13, 2) := by decide +kernel
theorem dJ16_sort_2_419 : decode cJ16_sort_2 419 = .ok (.iastore, 1) := by decide +kernel
theorem dJ16_sort_2_420 : decode cJ16_sort_2 420 = .ok (.goto 17, 3) := by decide +kernel
theorem dJ16_sort_2_423 : decode cJ16_sort_2 423 = .ok (.aload_n 1, 1) := by decide +kernel
theorem dJ16_sort_2_424 : decode cJ16_sort_2 424 = .ok (.iload 10, 2) := by decide +kernel
theorem dJ16_sort_2_426 : decode cJ16_sort_2 426 = .ok (.aload_n 1, 1) := by decide +kernel
theorem dJ16_sort_2_427 : decode cJ16_sort_2 427 = .ok (.iload 12, 2) := by decide +kernel
theorem dJ16_sort_2_429 : decode cJ16_sort_2 429 = .ok (.iaload, 1) := by decide +kernel
theorem dJ16_sort_2_430 : decode cJ16_sort_2 430 = .ok (.iastore, 1) := by decide +kernel
theorem dJ16_sort_2_431 : decode cJ16_sort_2 431 = .ok (.aload_n 1, 1) := by decide +kernel
theorem dJ16_sort_2_432 : decode cJ16_sort_2 432 = .ok (.iload 12, 2) := by decide +kernel
theorem dJ16_sort_2_434 : decode cJ16_sort_2 434 = .ok (.iload 13, 2) := by decide +kernel
theorem dJ16_sort_2_436 : decode cJ16_sort_2 436 = .ok (.iastore, 1) := by decide +kernel
theorem dJ16_sort_2_437 : decode cJ16_sort_2 437 = .ok (.iload_n 3, 1) := by decide +kernel
theorem dJ16_sort_2_438 : decode cJ16_sort_2 438 = .ok (.istore 14, 2) := by decide +kernel
theorem dJ16_sort_2_440 : decode cJ16_sort_2 440 = .ok (.iload 5, 2) := by decide +kernel
theorem dJ16_sort_2_442 : decode cJ16_sort_2 442 = .ok (.istore 15, 2) := by decide +kernel
theorem dJ16_sort_2_444 : decode cJ16_sort_2 444 = .ok (.aload_n 1, 1) := by decide +kernel
theorem dJ16_sort_2_445 : decode cJ16_sort_2 445 = .ok (.iload 8, 2) := by decide +kernel
theorem dJ16_sort_2_447 : decode cJ16_sort_2 447 = .ok (.iaload, 1) := by decide +kernel
theorem dJ16_sort_2_448 : decode cJ16_sort_2 448 = .ok (.aload_n 1, 1) := by decide +kernel
theorem dJ16_sort_2_449 : decode cJ16_sort_2 449 = .ok (.iload 11, 2) := by decide +kernel
theorem dJ16_sort_2_451 : decode cJ16_sort_2 451 = .ok (.iaload, 1) := by decide +kernel
theorem dJ16_sort_2_452 : decode cJ16_sort_2 452 = .ok (.if_icmp .ge 324, 3) := by decide +kernel
theorem dJ16_sort_2_455 : decode cJ16_sort_2 455 = .ok (.aload_n 1, 1) := by decide +kernel
theorem dJ16_sort_2_456 : decode cJ16_sort_2 456 = .ok (.iload 11, 2) := by decide +kernel
theorem dJ16_sort_2_458 : decode cJ16_sort_2 458 = .ok (.iaload, 1) := by decide +kernel
theorem dJ16_sort_2_459 : decode cJ16_sort_2 459 = .ok (.aload_n 1, 1) := by decide +kernel
theorem dJ16_sort_2_460 : decode cJ16_sort_2 460 = .ok (.iload 10, 2) := by decide +kernel
theorem dJ16_sort_2_462 : decode cJ16_sort_2 462 = .ok (.iaload, 1) := by decide +kernel
theorem dJ16_sort_2_463 : decode cJ16_sort_2 463 = .ok (.if_icmp .ge 313, 3) := by decide +kernel
theorem dJ16_sort_2_466 : decode cJ16_sort_2 466 = .ok (.aload_n 1, 1) := by decide +kernel
theorem dJ16_sort_2_467 : decode cJ16_sort_2 467 = .ok (.iload 10, 2) := by decide +kernel
theorem dJ16_sort_2_469 : decode cJ16_sort_2 469 = .ok (.iaload, 1) := by decide +kernel
theorem dJ16_sort_2_470 : decode cJ16_sort_2 470 = .ok (.aload_n 1, 1) := by decide +kernel
theorem dJ16_sort_2_471 : decode cJ16_sort_2 471 = .ok (.iload 12, 2) := by decide +kernel
theorem dJ16_sort_2_473 : decode cJ16_sort_2 473 = .ok (.iaload, 1) := by decide +kernel
theorem dJ16_sort_2_474 : decode cJ16_sort_2 474 = .ok (.if_icmp .ge 302, 3) := by decide +kernel
theorem dJ16_sort_2_477 : decode cJ16_sort_2 477 = .ok (.aload_n 1, 1) := by decide +kernel
theorem dJ16_sort_2_478 : decode cJ16_sort_2 478 = .ok (.iload 12, 2) := by decide +kernel
theorem dJ16_sort_2_480 : decode cJ16_sort_2 480 = .ok (.iaload, 1) := by decide +kernel
theorem dJ16_sort_2_481 : decode cJ16_sort_2 481 = .ok (.aload_n 1, 1) := by decide +kernel
theorem dJ16_sort_2_482 : decode cJ16_sort_2 482 = .ok (.iload 9, 2) := by decide +kernel
theorem dJ16_sort_2_484 : decode cJ16_sort_2 484 = .ok (.iaload, 1) := by decide +kernel
theorem dJ16_sort_2_485 : decode cJ16_sort_2 485 = .ok (.if_icmp .ge 291, 3) := by decide +kernel
theorem dJ16_sort_2_488 : decode cJ16_sort_2 488 = .ok (.aload_n 1, 1) := by decide +kernel
theorem dJ16_sort_2_489 : decode cJ16_sort_2 489 = .ok (.iload 8, 2) := by decide +kernel
theorem dJ16_sort_2_491 : decode cJ16_sort_2 491 = .ok (.iaload, 1) := by decide +kernel
theorem dJ16_sort_2_492 : decode cJ16_sort_2 492 = .ok (.istore 16, 2) := by decide +kernel
theorem dJ16_sort_2_494 : decode cJ16_sort_2 494 = .ok (.aload_n 1, 1) := by decide +kernel
theorem dJ16_sort_2_495 : decode cJ16_sort_2 495 = .ok (.iload 9, 2) := by decide +kernel
theorem dJ16_sort_2_497 : decode cJ16_sort_2 497 = .ok (.iaload, 1) := by decide +kernel
theorem dJ16_sort_2_498 : decode cJ16_sort_2 498 = .ok (.istore 17, 2) := by decide +kernel
theorem dJ16_sort_2_500 : decode cJ16_sort_2 500 = .ok (.aload_n 1, 1) := by decide +kernel
theorem dJ16_sort_2_501 : decode cJ16_sort_2 501 = .ok (.iload 8, 2) := by decide +kernel
theorem dJ16_sort_2_503 : decode cJ16_sort_2 503 = .ok (.aload_n 1, 1) := by decide +kernel
theorem dJ16_sort_2_504 : decode cJ16_sort_2 504 = .ok (.iload 14, 2) := by decide +kernel
theorem dJ16_sort_2_506 : decode cJ16_sort_2 506 = .ok (.iaload, 1) := by decide +kernel
theorem dJ16_sort_2_507 : decode cJ16_sort_2 507 = .ok (.iastore, 1) := by decide +kernel
theorem dJ16_sort_2_508 : decode cJ16_sort_2 508 = .ok (.aload_n 1, 1) := by decide +kernel
theorem dJ16_sort_2_509 : decode cJ16_sort_2 509 = .ok (.iload 9, 2) := by decide +kernel
theorem dJ16_sort_2_511 : decode cJ16_sort_2 511 = .ok (.aload_n 1, 1) := by decide +kernel
theorem dJ16_sort_2_512 : decode cJ16_sort_2 512 = .ok (.iload 15, 2) := by decide +kernel
theorem dJ16_sort_2_514 : decode cJ16_sort_2 514 = .ok (.iaload, 1) := by decide +kernel
theorem dJ16_sort_2_515 : decode cJ16_sort_2 515 = .ok (.iastore, 1) := by decide +kernel
theorem dJ16_sort_2_516 : decode cJ16_sort_2 516 = .ok (.aload_n 1, 1) := by decide +kernel
theorem dJ16_sort_2_517 : decode cJ16_sort_2 517 = .ok (.iinc 14 1, 3) := by decide +kernel
theorem dJ16_sort_2_520 : decode cJ16_sort_2 520 = .ok (.iload 14, 2) := by decide +kernel
theorem dJ16_sort_2_522 : decode cJ16_sort_2 522 = .ok (.iaload, 1) := by decide +kernel
theorem dJ16_sort_2_523 : decode cJ16_sort_2 523 = .ok (.iload 16, 2) := by decide +kernel
theorem dJ16_sort_2_525 : decode cJ16_sort_2 525 = .ok (.if_icmp .ge 6, 3) := by decide +kernel
theorem dJ16_sort_2_528 : decode cJ16_sort_2 528 = .ok (.goto (-12), 3) := by decide +kernel
theorem dJ16_sort_2_531 : decode cJ16_sort_2 531 = .ok (.aload_n 1, 1) := by decide +kernel
theorem dJ16_sort_2_532 : decode cJ16_sort_2 532 = .ok (.iinc 15 (-1), 3) := by decide +kernel
theorem dJ16_sort_2_535 : decode cJ16_sort_2 535 = .ok (.iload 15, 2) := by decide +kernel
theorem dJ16_sort_2_537 : decode cJ16_sort_2 537 = .ok (.iaload, 1) := by decide +kernel
theorem dJ16_sort_2_538 : decode cJ16_sort_2 538 = .ok (.iload 17, 2) := by decide +kernel
theorem dJ16_sort_2_540 : decode cJ16_sort_2 540 = .ok (.if_icmp .le 6, 3) := by decide +kernel
theorem dJ16_sort_2_543 : decode cJ16_sort_2 543 = .ok (.goto (-12), 3) := by decide +kernel
theorem dJ16_sort_2_546 : decode cJ16_sort_2 546 = .ok (.iinc 14 (-1), 3) := by decide +kernel
theorem dJ16_sort_2_549 : decode cJ16_sort_2 549 = .ok (.iload 14, 2) := by decide +kernel
theorem dJ16_sort_2_551 : decode cJ16_sort_2 551 = .ok (.istore 18, 2) := by decide +kernel
theorem dJ16_sort_2_553 : decode cJ16_sort_2 553 = .ok (.iinc 15 1, 3) := by decide +kernel
theorem dJ16_sort_2_556 : decode cJ16_sort_2 556 = .ok (.iload 15, 2) := by decide +kernel
theorem dJ16_sort_2_558 : decode cJ16_sort_2 558 = .ok (.istore 19, 2) := by decide +kernel
theorem dJ16_sort_2_560 : decode cJ16_sort_2 560 = .ok (.iinc 19 (-1), 3) := by decide +kernel
theorem dJ16_sort_2_563 : decode cJ16_sort_2 563 = .ok (.iload 19, 2) := by decide +kernel
theorem dJ16_sort_2_565 : decode cJ16_sort_2 565 = .ok (.iload 14, 2) := by decide +kernel
theorem dJ16_sort_2_567 : decode cJ16_sort_2 567 = .ok (.if_icmp .le 110, 3) := by decide +kernel
theorem dJ16_sort_2_570 : decode cJ16_sort_2 570 = .ok (.aload_n 1, 1) := by decide +kernel
theorem dJ16_sort_2_571 : decode cJ16_sort_2 571 = .ok (.iload 19, 2) := by decide +kernel
theorem dJ16_sort_2_573 : decode cJ16_sort_2 573 = .ok (.iaload, 1) := by decide +kernel
theorem dJ16_sort_2_574 : decode cJ16_sort_2 574 = .ok (.istore 20, 2) := by decide +kernel
theorem dJ16_sort_2_576 : decode cJ16_sort_2 576 = .ok (.iload 20, 2) := by decide +kernel
theorem dJ16_sort_2_578 : decode cJ16_sort_2 578 = .ok (.iload 16, 2) := by decide +kernel
theorem dJ16_sort_2_580 : decode cJ16_sort_2 580 = .ok (.if_icmp .ge 70, 3) := by decide +kernel
theorem dJ16_sort_2_583 : decode cJ16_sort_2 583 = .ok (.iload 14, 2) := by decide +kernel
theorem dJ16_sort_2_585 : decode cJ16_sort_2 585 = .ok (.iload 19, 2) := by decide +kernel
theorem dJ16_sort_2_587 : decode cJ16_sort_2 587 = .ok (.if_icmp .ge 87, 3) := by decide +kernel
theorem dJ16_sort_2_590 : decode cJ16_sort_2 590 = .ok (.aload_n 1, 1) := by decide +kernel
theorem dJ16_sort_2_591 : decode cJ16_sort_2 591 = .ok (.iinc 14 1, 3) := by decide +kernel
theorem dJ16_sort_2_594 : decode cJ16_sort_2 594 = .ok (.iload 14, 2) := by decide +kernel
theorem dJ16_sort_2_596 : decode cJ16_sort_2 596 = .ok (.iaload, 1) := by decide +kernel
theorem dJ16_sort_2_597 : decode cJ16_sort_2 597 = .ok (.iload 16, 2) := by decide +kernel
theorem dJ16_sort_2_599 : decode cJ16_sort_2 599 = .ok (.if_icmp .lt (-16), 3) := by decide +kernel
theorem dJ16_sort_2_602 : decode cJ16_sort_2 602 = .ok (.aload_n 1, 1) := by decide +kernel
theorem dJ16_sort_2_603 : decode cJ16_sort_2 603 = .ok (.iload 14, 2) := by decide +kernel
theorem dJ16_sort_2_605 : decode cJ16_sort_2 605 = .ok (.iaload, 1) := by decide +kernel
theorem dJ16_sort_2_606 : decode cJ16_sort_2 606 = .ok (.iload 17, 2) := by decide +kernel
theorem dJ16_sort_2_608 : decode cJ16_sort_2 608 = .ok (.if_icmp .le 25, 3) := by decide +kernel
theorem dJ16_sort_2_611 : decode cJ16_sort_2 611 = .ok (.aload_n 1, 1) := by decide +kernel
theorem dJ16_sort_2_612 : decode cJ16_sort_2 612 = .ok (.iload 19, 2) := by decide +kernel
theorem dJ16_sort_2_614 : decode cJ16_sort_2 614 = .ok (.aload_n 1, 1) := by decide +kernel
theorem dJ16_sort_2_615 : decode cJ16_sort_2 615 = .ok (.iinc 15 (-1), 3) := by decide +kernel
theorem dJ16_sort_2_618 : decode cJ16_sort_2 618 = .ok (.iload 15, 2) := by decide +kernel
theorem dJ16_sort_2_620 : decode cJ16_sort_2 620 = .ok (.iaload, 1) := by decide +kernel
theorem dJ16_sort_2_621 : decode cJ16_sort_2 621 = .ok (.iastore, 1) := by decide +kernel
theorem dJ16_sort_2_622 : decode cJ16_sort_2 622 = .ok (.aload_n 1, 1) := by decide +kernel
theorem dJ16_sort_2_623 : decode cJ16_sort_2 623 = .ok (.iload 15, 2) := by decide +kernel
theorem dJ16_sort_2_625 : decode cJ16_sort_2 625 = .ok (.aload_n 1, 1) := by decide +kernel
theorem dJ16_sort_2_626 : decode cJ16_sort_2 626 = .ok (.iload 14, 2) := by decide +kernel
theorem dJ16_sort_2_628 : decode cJ16_sort_2 628 = .ok (.iaload, 1) := by decide +kernel
theorem dJ16_sort_2_629 : decode cJ16_sort_2 629 = .ok (.iastore, 1) := by decide +kernel
theorem dJ16_sort_2_630 : decode cJ16_sort_2 630 = .ok (.goto 11, 3) := by decide +kernel
theorem dJ16_sort_2_633 : decode cJ16_sort_2 633 = .ok (.aload_n 1, 1) := by decide +kernel
theorem dJ16_sort_2_634 : decode cJ16_sort_2 634 = .ok (.iload 19, 2) := by decide +kernel
theorem dJ16_sort_2_636 : decode cJ16_sort_2 636 = .ok (.aload_n 1, 1) := by decide +kernel
theorem dJ16_sort_2_637 : decode cJ16_sort_2 637 = .ok (.iload 14, 2) := by decide +kernel
theorem dJ16_sort_2_639 : decode cJ16_sort_2 639 = .ok (.iaload, 1) := by decide +kernel
theorem dJ16_sort_2_640 : decode cJ16_sort_2 640 = .ok (.iastore, 1) := by decide +kernel
theorem dJ16_sort_2_641 : decode cJ16_sort_2 641 = .ok (.aload_n 1, 1) := by decide +kernel
theorem dJ16_sort_2_642 : decode cJ16_sort_2 642 = .ok (.iload 14, 2) := by decide +kernel
theorem dJ16_sort_2_644 : decode cJ16_sort_2 644 = .ok (.iload 20, 2) := by decide +kernel
theorem dJ16_sort_2_646 : decode cJ16_sort_2 646 = .ok (.iastore, 1) := by decide +kernel
theorem dJ16_sort_2_647 : decode cJ16_sort_2 647 = .ok (.goto 27, 3) := by decide +kernel
theorem dJ16_sort_2_650 : decode cJ16_sort_2 650 = .ok (.iload 20, 2) := by decide +kernel
theorem dJ16_sort_2_652 : decode cJ16_sort_2 652 = .ok (.iload 17, 2) := by decide +kernel
theorem dJ16_sort_2_654 : decode cJ16_sort_2 654 = .ok (.if_icmp .le 20, 3) := by decide +kernel
theorem dJ16_sort_2_657 : decode cJ16_sort_2 657 = .ok (.aload_n 1, 1) := by decide +kernel
theorem dJ16_sort_2_658 : decode cJ16_sort_2 658 = .ok (.iload 19, 2) := by decide +kernel
theorem dJ16_sort_2_660 : decode cJ16_sort_2 660 = .ok (.aload_n 1, 1) := by decide +kernel
theorem dJ16_sort_2_661 : decode cJ16_sort_2 661 = .ok (.iinc 15 (-1), 3) := by decide +kernel
theorem dJ16_sort_2_664 : decode cJ16_sort_2 664 = .ok (.iload 15, 2) := by decide +kernel
theorem dJ16_sort_2_666 : decode cJ16_sort_2 666 = .ok (.iaload, 1) := by decide +kernel
theorem dJ16_sort_2_667 : decode cJ16_sort_2 667 = .ok (.iastore, 1) := by decide +kernel
theorem dJ16_sort_2_668 : decode cJ16_sort_2 668 = .ok (.aload_n 1, 1) := by decide +kernel
theorem dJ16_sort_2_669 : decode cJ16_sort_2 669 = .ok (.iload 15, 2) := by decide +kernel
theorem dJ16_sort_2_671 : decode cJ16_sort_2 671 = .ok (.iload 20, 2) := by decide +kernel
theorem dJ16_sort_2_673 : decode cJ16_sort_2 673 = .ok (.iastore, 1) := by decide +kernel
theorem dJ16_sort_2_674 : decode cJ16_sort_2 674 = .ok (.goto (-114), 3) := by decide +kernel
theorem dJ16_sort_2_677 : decode cJ16_sort_2 677 = .ok (.aload_n 1, 1) := by decide +kernel
theorem dJ16_sort_2_678 : decode cJ16_sort_2 678 = .ok (.iload_n 3, 1) := by decide +kernel
theorem dJ16_sort_2_679 : decode cJ16_sort_2 679 = .ok (.aload_n 1, 1) := by decide +kernel
theorem dJ16_sort_2_680 : decode cJ16_sort_2 680 = .ok (.iload 14, 2) := by decide +kernel
theorem dJ16_sort_2_682 : decode cJ16_sort_2 682 = .ok (.iaload, 1) := by decide +kernel
theorem dJ16_sort_2_683 : decode cJ16_sort_2 683 = .ok (.iastore, 1) := by decide +kernel
theorem dJ16_sort_2_684 : decode cJ16_sort_2 684 = .ok (.aload_n 1, 1) := by decide +kernel
theorem dJ16_sort_2_685 : decode cJ16_sort_2 685 = .ok (.iload 14, 2) := by decide +kernel
theorem dJ16_sort_2_687 : decode cJ16_sort_2 687 = .ok (.iload 16, 2) := by decide +kernel
theorem dJ16_sort_2_689 : decode cJ16_sort_2 689 = .ok (.iastore, 1) := by decide +kernel
theorem dJ16_sort_2_690 : decode cJ16_sort_2 690 = .ok (.aload_n 1, 1) := by decide +kernel
theorem dJ16_sort_2_691 : decode cJ16_sort_2 691 = .ok (.iload 5, 2) := by decide +kernel
theorem dJ16_sort_2_693 : decode cJ16_sort_2 693 = .ok (.aload_n 1, 1) := by decide +kernel
theorem dJ16_sort_2_694 : decode cJ16_sort_2 694 = .ok (.iload 15, 2) := by decide +kernel
theorem dJ16_sort_2_696 : decode cJ16_sort_2 696 = .ok (.iaload, 1) := by decide +kernel
theorem dJ16_sort_2_697 : decode cJ16_sort_2 697 = .ok (.iastore, 1) := by decide +kernel
theorem dJ16_sort_2_698 : decode cJ16_sort_2 698 = .ok (.aload_n 1, 1) := by decide +kernel
theorem dJ16_sort_2_699 : decode cJ16_sort_2 699 = .ok (.iload 15, 2) := by decide +kernel
theorem dJ16_sort_2_701 : decode cJ16_sort_2 701 = .ok (.iload 17, 2) := by decide +kernel
theorem dJ16_sort_2_703 : decode cJ16_sort_2 703 = .ok (.iastore, 1) := by decide +kernel
theorem dJ16_sort_2_704 : decode cJ16_sort_2 704 = .ok (.iload 6, 2) := by decide +kernel
theorem dJ16_sort_2_706 : decode cJ16_sort_2 706 = .ok (.sipush 4096, 3) := by decide +kernel
theorem dJ16_sort_2_709 : decode cJ16_sort_2 709 = .ok (.if_icmp .le 36, 3) := by decide +kernel
theorem dJ16_sort_2_712 : decode cJ16_sort_2 712 = .ok (.aload_n 0, 1) := by decide +kernel
theorem dJ16_sort_2_713 : decode cJ16_sort_2 713 = .ok (.ifnull 32, 3) := by decide +kernel
theorem dJ16_sort_2_716 : decode cJ16_sort_2 716 = .ok (.aload_n 0, 1) := by decide +kernel
theorem dJ16_sort_2_717 : decode cJ16_sort_2 717 = .ok (.iload_n 2, 1) := by decide +kernel
theorem dJ16_sort_2_718 : decode cJ16_sort_2 718 = .ok (.iconst 1, 1) := by decide +kernel
theorem dJ16_sort_2_719 : decode cJ16_sort_2 719 = .ok (.ior, 1) := by decide +kernel
theorem dJ16_sort_2_720 : decode cJ16_sort_2 720 = .ok (.iload 14, 2) := by decide +kernel
theorem dJ16_sort_2_722 : decode cJ16_sort_2 722 = .ok (.iconst 1, 1) := by decide +kernel
theorem dJ16_sort_2_723 : decode cJ16_sort_2 723 = .ok (.iadd, 1) := by decide +kernel
theorem dJ16_sort_2_724 : decode cJ16_sort_2 724 = .ok (.iload 15, 2) := by decide +kernel
theorem dJ16_sort_2_726 : decode cJ16_sort_2 726 = .ok (.invokevirtual 45, 3) := by decide +kernel
theorem dJ16_sort_2_729 : decode cJ16_sort_2 729 = .ok (.aload_n 0, 1) := by decide +kernel
theorem dJ16_sort_2_730 : decode cJ16_sort_2 730 = .ok (.iload_n 2, 1) := by decide +kernel
theorem dJ16_sort_2_731 : decode cJ16_sort_2 731 = .ok (.iconst 1, 1) := by decide +kernel
theorem dJ16_sort_2_732 : decode cJ16_sort_2 732 = .ok (.ior, 1) := by decide +kernel
theorem dJ16_sort_2_733 : decode cJ16_sort_2 733 = .ok (.iload 15, 2) := by decide +kernel
theorem dJ16_sort_2_735 : decode cJ16_sort_2 735 = .ok (.iconst 1, 1) := by decide +kernel
theorem dJ16_sort_2_736 : decode cJ16_sort_2 736 = .ok (.iadd, 1) := by decide +kernel
theorem dJ16_sort_2_737 : decode cJ16_sort_2 737 = .ok (.iload 4, 2) := by decide +kernel
theorem dJ16_sort_2_739 : decode cJ16_sort_2 739 = .ok (.invokevirtual 45, 3) := by decide +kernel
theorem dJ16_sort_2_742 : decode cJ16_sort_2 742 = .ok (.goto 31, 3) := by decide +kernel
theorem dJ16_sort_2_745 : decode cJ16_sort_2 745 = .ok (.aload_n 0, 1) := by decide +kernel
theorem dJ16_sort_2_746 : decode cJ16_sort_2 746 = .ok (.aload_n 1, 1) := by decide +kernel
theorem dJ16_sort_2_747 : decode cJ16_sort_2 747 = .ok (.iload_n 2, 1) := by decide +kernel
theorem dJ16_sort_2_748 : decode cJ16_sort_2 748 = .ok (.iconst 1, 1) := by decide +kernel
theorem dJ16_sort_2_749 : decode cJ16_sort_2 749 = .ok (.ior, 1) := by decide +kernel
theorem dJ16_sort_2_750 : decode cJ16_sort_2 750 = .ok (.iload 14, 2) := by decide +kernel
theorem dJ16_sort_2_752 : decode cJ16_sort_2 752 = .ok (.iconst 1, 1) := by decide +kernel
theorem dJ16_sort_2_753 : decode cJ16_sort_2 753 = .ok (.iadd, 1) := by decide +kernel
theorem dJ16_sort_2_754 : decode cJ16_sort_2 754 = .ok (.iload 15, 2) := by decide +kernel
theorem dJ16_sort_2_756 : decode cJ16_sort_2 756 = .ok (.invokestatic 26, 3) := by decide +kernel
theorem dJ16_sort_2_759 : decode cJ16_sort_2 759 = .ok (.aload_n 0, 1) := by decide +kernel
theorem dJ16_sort_2_760 : decode cJ16_sort_2 760 = .ok (.aload_n 1, 1) := by decide +kernel
theorem dJ16_sort_2_761 : decode cJ16_sort_2 761 = .ok (.iload_n 2, 1) := by decide +kernel
theorem dJ16_sort_2_762 : decode cJ16_sort_2 762 = .ok (.iconst 1, 1) := by decide +kernel
theorem dJ16_sort_2_763 : decode cJ16_sort_2 763 = .ok (.ior, 1) := by decide +kernel
theorem dJ16_sort_2_764 : decode cJ16_sort_2 764 = .ok (.iload 15, 2) := by decide +kernel
theorem dJ16_sort_2_766 : decode cJ16_sort_2 766 = .ok (.iconst 1, 1) := by decide +kernel
theorem dJ16_sort_2_767 : decode cJ16_sort_2 767 = .ok (.iadd, 1) := by decide +kernel
theorem dJ16_sort_2_768 : decode cJ16_sort_2 768 = .ok (.iload 4, 2) := by decide +kernel
theorem dJ16_sort_2_770 : decode cJ16_sort_2 770 = .ok (.invokestatic 26, 3) := by decide +kernel
theorem dJ16_sort_2_773 : decode cJ16_sort_2 773 = .ok (.goto 167, 3) := by decide +kernel
theorem dJ16_sort_2_776 : decode cJ16_sort_2 776 = .ok (.aload_n 1, 1) := by decide +kernel
theorem dJ16_sort_2_777 : decode cJ16_sort_2 777 = .ok (.iload 10, 2) := by decide +kernel
theorem dJ16_sort_2_779 : decode cJ16_sort_2 779 = .ok (.iaload, 1) := by decide +kernel
theorem dJ16_sort_2_780 : decode cJ16_sort_2 780 = .ok (.istore 16, 2) := by decide +kernel
theorem dJ16_sort_2_782 : decode cJ16_sort_2 782 = .ok (.aload_n 1, 1) := by decide +kernel
theorem dJ16_sort_2_783 : decode cJ16_sort_2 783 = .ok (.iload 10, 2) := by decide +kernel
theorem dJ16_sort_2_785 : decode cJ16_sort_2 785 = .ok (.aload_n 1, 1) := by decide +kernel
theorem dJ16_sort_2_786 : decode cJ16_sort_2 786 = .ok (.iload 14, 2) := by decide +kernel
theorem dJ16_sort_2_788 : decode cJ16_sort_2 788 = .ok (.iaload, 1) := by decide +kernel
theorem dJ16_sort_2_789 : decode cJ16_sort_2 789 = .ok (.iastore, 1) := by decide +kernel
theorem dJ16_sort_2_790 : decode cJ16_sort_2 790 = .ok (.iinc 15 1, 3) := by decide +kernel
theorem dJ16_sort_2_793 : decode cJ16_sort_2 793 = .ok (.iload 15, 2) := by decide +kernel
theorem dJ16_sort_2_795 : decode cJ16_sort_2 795 = .ok (.istore 17, 2) := by decide +kernel
theorem dJ16_sort_2_797 : decode cJ16_sort_2 797 = .ok (.iinc 17 (-1), 3) := by decide +kernel
theorem dJ16_sort_2_800 : decode cJ16_sort_2 800 = .ok (.iload 17, 2) := by decide +kernel
theorem dJ16_sort_2_802 : decode cJ16_sort_2 802 = .ok (.iload 14, 2) := by decide +kernel
theorem dJ16_sort_2_804 : decode cJ16_sort_2 804 = .ok (.if_icmp .le 85, 3) := by decide +kernel
theorem dJ16_sort_2_807 : decode cJ16_sort_2 807 = .ok (.aload_n 1, 1) := by decide +kernel
theorem dJ16_sort_2_808 : decode cJ16_sort_2 808 = .ok (.iload 17, 2) := by decide +kernel
theorem dJ16_sort_2_810 : decode cJ16_sort_2 810 = .ok (.iaload, 1) := by decide +kernel
theorem dJ16_sort_2_811 : decode cJ16_sort_2 811 = .ok (.istore 18, 2) := by decide +kernel
theorem dJ16_sort_2_813 : decode cJ16_sort_2 813 = .ok (.iload 18, 2) := by decide +kernel
theorem dJ16_sort_2_815 : decode cJ16_sort_2 815 = .ok (.iload 16, 2) := by decide +kernel
theorem dJ16_sort_2_817 : decode cJ16_sort_2 817 = .ok (.if_icmp .eq 69, 3) := by decide +kernel
theorem dJ16_sort_2_820 : decode cJ16_sort_2 820 = .ok (.aload_n 1, 1) := by decide +kernel
theorem dJ16_sort_2_821 : decode cJ16_sort_2 821 = .ok (.iload 17, 2) := by decide +kernel
theorem dJ16_sort_2_823 : decode cJ16_sort_2 823 = .ok (.iload 16, 2) := by decide +kernel
theorem dJ16_sort_2_825 : decode cJ16_sort_2 825 = .ok (.iastore, 1) := by decide +kernel
theorem dJ16_sort_2_826 : decode cJ16_sort_2 826 = .ok (.iload 18, 2) := by decide +kernel
theorem dJ16_sort_2_828 : decode cJ16_sort_2 828 = .ok (.iload 16, 2) := by decide +kernel
theorem dJ16_sort_2_830 : decode cJ16_sort_2 830 = .ok (.if_icmp .ge 47, 3) := by decide +kernel
theorem dJ16_sort_2_833 : decode cJ16_sort_2 833 = .ok (.aload_n 1, 1) := by decide +kernel
theorem dJ16_sort_2_834 : decode cJ16_sort_2 834 = .ok (.iinc 14 1, 3) := by decide +kernel
theorem dJ16_sort_2_837 : decode cJ16_sort_2 837 = .ok (.iload 14, 2) := by decide +kernel
theorem dJ16_sort_2_839 : decode cJ16_sort_2 839 = .ok (.iaload, 1) := by decide +kernel
theorem dJ16_sort_2_840 : decode cJ16_sort_2 840 = .ok (.iload 16, 2) := by decide +kernel
theorem dJ16_sort_2_842 : decode cJ16_sort_2 842 = .ok (.if_icmp .ge 6, 3) := by decide +kernel
theorem dJ16_sort_2_845 : decode cJ16_sort_2 845 = .ok (.goto (-12), 3) := by decide +kernel
theorem dJ16_sort_2_848 : decode cJ16_sort_2 848 = .ok (.aload_n 1, 1) := by decide +kernel
theorem dJ16_sort_2_849 : decode cJ16_sort_2 849 = .ok (.iload 14, 2) := by decide +kernel
theorem dJ16_sort_2_851 : decode cJ16_sort_2 851 = .ok (.iaload, 1) := by decide +kernel
theorem dJ16_sort_2_852 : decode cJ16_sort_2 852 = .ok (.iload 16, 2) := by decide +kernel
theorem dJ16_sort_2_854 : decode cJ16_sort_2 854 = .ok (.if_icmp .le 14, 3) := by decide +kernel
theorem dJ16_sort_2_857 : decode cJ16_sort_2 857 = .ok (.aload_n 1, 1) := by decide +kernel
theorem dJ16_sort_2_858 : decode cJ16_sort_2 858 = .ok (.iinc 15 (-1), 3) := by decide +kernel
theorem dJ16_sort_2_861 : decode cJ16_sort_2 861 = .ok (.iload 15, 2) := by decide +kernel
theorem dJ16_sort_2_863 : decode cJ16_sort_2 863 = .ok (.aload_n 1, 1) := by decide +kernel
theorem dJ16_sort_2_864 : decode cJ16_sort_2 864 = .ok (.iload 14, 2) := by decide +kernel
theorem dJ16_sort_2_866 : decode cJ16_sort_2 866 = .ok (.iaload, 1) := by decide +kernel
theorem dJ16_sort_2_867 : decode cJ16_sort_2 867 = .ok (.iastore, 1) := by decide +kernel
theorem dJ16_sort_2_868 : decode cJ16_sort_2 868 = .ok (.aload_n 1, 1) := by decide +kernel
theorem dJ16_sort_2_869 : decode cJ16_sort_2 869 = .ok (.iload 14, 2) := by decide +kernel
theorem dJ16_sort_2_871 : decode cJ16_sort_2 871 = .ok (.iload 18, 2) := by decide +kernel
theorem dJ16_sort_2_873 : decode cJ16_sort_2 873 = .ok (.iastore, 1) := by decide +kernel
theorem dJ16_sort_2_874 : decode cJ16_sort_2 874 = .ok (.goto 12, 3) := by decide +kernel
theorem dJ16_sort_2_877 : decode cJ16_sort_2 877 = .ok (.aload_n 1, 1) := by decide +kernel
theorem dJ16_sort_2_878 : decode cJ16_sort_2 878 = .ok (.iinc 15 (-1), 3) := by decide +kernel
theorem dJ16_sort_2_881 : decode cJ16_sort_2 881 = .ok (.iload 15, 2) := by decide +kernel
theorem dJ16_sort_2_883 : decode cJ16_sort_2 883 = .ok (.iload 18, 2) := by decide +kernel
theorem dJ16_sort_2_885 : decode cJ16_sort_2 885 = .ok (.iastore, 1) := by decide +kernel
theorem dJ16_sort_2_886 : decode cJ16_sort_2 886 = .ok (.goto (-89), 3) := by decide +kernel
theorem dJ16_sort_2_889 : decode cJ16_sort_2 889 = .ok (.aload_n 1, 1) := by decide +kernel
theorem dJ16_sort_2_890 : decode cJ16_sort_2 890 = .ok (.iload_n 3, 1) := by decide +kernel
theorem dJ16_sort_2_891 : decode cJ16_sort_2 891 = .ok (.aload_n 1, 1) := by decide +kernel
theorem dJ16_sort_2_892 : decode cJ16_sort_2 892 = .ok (.iload 14, 2) := by decide +kernel
theorem dJ16_sort_2_894 : decode cJ16_sort_2 894 = .ok (.iaload, 1) := by decide +kernel
theorem dJ16_sort_2_895 : decode cJ16_sort_2 895 = .ok (.iastore, 1) := by decide +kernel
theorem dJ16_sort_2_896 : decode cJ16_sort_2 896 = .ok (.aload_n 1, 1) := by decide +kernel
theorem dJ16_sort_2_897 : decode cJ16_sort_2 897 = .ok (.iload 14, 2) := by decide +kernel
theorem dJ16_sort_2_899 : decode cJ16_sort_2 899 = .ok (.iload 16, 2) := by decide +kernel
theorem dJ16_sort_2_901 : decode cJ16_sort_2 901 = .ok (.iastore, 1) := by decide +kernel
theorem dJ16_sort_2_902 : decode cJ16_sort_2 902 = .ok (.iload 6, 2) := by decide +kernel
theorem dJ16_sort_2_904 : decode cJ16_sort_2 904 = .ok (.sipush 4096, 3) := by decide +kernel
theorem dJ16_sort_2_907 : decode cJ16_sort_2 907 = .ok (.if_icmp .le 21, 3) := by decide +kernel
theorem dJ16_sort_2_910 : decode cJ16_sort_2 910 = .ok (.aload_n 0, 1) := by decide +kernel
theorem dJ16_sort_2_911 : decode cJ16_sort_2 911 = .ok (.ifnull 17, 3) := by decide +kernel
theorem dJ16_sort_2_914 : decode cJ16_sort_2 914 = .ok (.aload_n 0, 1) := by decide +kernel
theorem dJ16_sort_2_915 : decode cJ16_sort_2 915 = .ok (.iload_n 2, 1) := by decide +kernel
theorem dJ16_sort_2_916 : decode cJ16_sort_2 916 = .ok (.iconst 1, 1) := by decide +kernel
theorem dJ16_sort_2_917 : decode cJ16_sort_2 917 = .ok (.ior, 1) := by decide +kernel
theorem dJ16_sort_2_918 : decode cJ16_sort_2 918 = .ok (.iload 15, 2) := by decide +kernel
theorem dJ16_sort_2_920 : decode cJ16_sort_2 920 = .ok (.iload 4, 2) := by decide +kernel
theorem dJ16_sort_2_922 : decode cJ16_sort_2 922 = .ok (.invokevirtual 45, 3) := by decide +kernel
theorem dJ16_sort_2_925 : decode cJ16_sort_2 925 = .ok (.goto 15, 3) := by decide +kernel
theorem dJ16_sort_2_928 : decode cJ16_sort_2 928 = .ok (.aload_n 0, 1) := by decide +kernel
theorem dJ16_sort_2_929 : decode cJ16_sort_2 929 = .ok (.aload_n 1, 1) := by decide +kernel
theorem dJ16_sort_2_930 : decode cJ16_sort_2 930 = .ok (.iload_n 2, 1) := by decide +kernel
theorem dJ16_sort_2_931 : decode cJ16_sort_2 931 = .ok (.iconst 1, 1) := by decide +kernel
theorem dJ16_sort_2_932 : decode cJ16_sort_2 932 = .ok (.ior, 1) := by decide +kernel
theorem dJ16_sort_2_933 : decode cJ16_sort_2 933 = .ok (.iload 15, 2) := by decide +kernel
theorem dJ16_sort_2_935 : decode cJ16_sort_2 935 = .ok (.iload 4, 2) := by decide +kernel
theorem dJ16_sort_2_937 : decode cJ16_sort_2 937 = .ok (.invokestatic 26, 3) := by decide +kernel
theorem dJ16_sort_2_940 : decode cJ16_sort_2 940 = .ok (.iload 14, 2) := by decide +kernel
theorem dJ16_sort_2_942 : decode cJ16_sort_2 942 = .ok (.istore 4, 2) := by decide +kernel
theorem dJ16_sort_2_944 : decode cJ16_sort_2 944 = .ok (.goto (-944), 3) := by decide +kernel
def fn_J16_sort_2_b_674 (N : Nat) (K0 : Nat → Int32 → Int32 → Int32 → zo_O → Option zo_R) (K560 : Nat → Int32 → Int32 → Int32 → Int32 → Int32 → Int32 → Int32 → Int32 → Int32 → Int32 → zo_O → Option zo_R) (x1 : Nat) (x2 : Int32) (x3 : Int32) (x4 : Int32) (x5 : Int32) (x6 : Int32) (x14 : Int32) (x15 : Int32) (x16 : Int32) (x17 : Int32) (x19 : Int32) (Ω : zo_O) : Option zo_R :=
  K560 x1 x2 x3 x4 x5 x6 x14 x15 x16 x17 x19 Ω
theorem ct_J16_sort_2_b_674 {Y : zo_Y} (hY : zo_Gd Y cJ16_sort_2 21 RJ16 1) (hJ : zo_JC (zo_J Y)) (hCon : ∀ Ω, zo_J Y Ω → zo_Con Ω) (hr : zo_rt Y (Option.none : Option Jvm.ClassFile.FieldType)) (N : Nat) (K0 : Nat → Int32 → Int32 → Int32 → zo_O → Option zo_R) (K560 : Nat → Int32 → Int32 → Int32 → Int32 → Int32 → Int32 → Int32 → Int32 → Int32 → Int32 → zo_O → Option zo_R) (hK0 : ∀ (x1 : Nat) (x2 : Int32) (x3 : Int32) (x4 : Int32) (Ω : zo_O) (res : zo_R), K0 x1 x2 x3 x4 Ω = some res → TW Y res Ω 0 [(0, vo none), (1, vr 35 x1), (2, vi x2), (3, vi x3), (4, vi x4)] []) (hK560 : ∀ (x1 : Nat) (x2 : Int32) (x3 : Int32) (x4 : Int32) (x5 : Int32) (x6 : Int32) (x14 : Int32) (x15 : Int32) (x16 : Int32) (x17 : Int32) (x19 : Int32) (Ω : zo_O) (res : zo_R), K560 x1 x2 x3 x4 x5 x6 x14 x15 x16 x17 x19 Ω = some res → TW Y res Ω 560 [(0, vo none), (1, vr 35 x1), (2, vi x2), (3, vi x3), (4, vi x4), (5, vi x5), (6, vi x6), (14, vi x14), (15, vi x15), (16, vi x16), (17, vi x17), (19, vi x19)] []) (x1 : Nat) (x2 : Int32) (x3 : Int32) (x4 : Int32) (x5 : Int32) (x6 : Int32) (x14 : Int32) (x15 : Int32) (x16 : Int32) (x17 : Int32) (x19 : Int32) (Ω : zo_O) (res : zo_R) (h : fn_J16_sort_2_b_674 N K0 K560 x1 x2 x3 x4 x5 x6 x14 x15 x16 x17 x19 Ω = some res) : TW Y res Ω 674 [(0, vo none), (1, vr 35 x1), (2, vi x2), (3, vi x3), (4, vi x4), (5, vi x5), (6, vi x6), (14, vi x14), (15, vi x15), (16, vi x16), (17, vi x17), (19, vi x19)] [] := by
  unfold fn_J16_sort_2_b_674 at h
  refine zo_goto hY 560 dJ16_sort_2_674 (by decide) ?_
  exact hK560 x1 x2 x3 x4 x5 x6 x14 x15 x16 x17 x19 Ω _ h
def fn_J16_sort_2_b_641 (N : Nat) (K0 : Nat → Int32 → Int32 → Int32 → zo_O → Option zo_R) (K560 : Nat → Int32 → Int32 → Int32 → Int32 → Int32 → Int32 → Int32 → Int32 → Int32 → Int32 → zo_O → Option zo_R) (x1 : Nat) (x2 : Int32) (x3 : Int32) (x4 : Int32) (x5 : Int32) (x6 : Int32) (x14 : Int32) (x15 : Int32) (x16 : Int32) (x17 : Int32) (x19 : Int32) (x20 : Int32) (Ω : zo_O) : Option zo_R :=
  ix x14 (gL Ω 35 x1) fun j1 => lt (sI Ω 35 x1 j1 x20) fun Ω2 =>
  fn_J16_sort_2_b_674 N K0 K560 x1 x2 x3 x4 x5 x6 x14 x15 x16 x17 x19 Ω2
theorem ct_J16_sort_2_b_641 {Y : zo_Y} (hY : zo_Gd Y cJ16_sort_2 21 RJ16 1) (hJ : zo_JC (zo_J Y)) (hCon : ∀ Ω, zo_J Y Ω → zo_Con Ω) (hr : zo_rt Y (Option.none : Option Jvm.ClassFile.FieldType)) (N : Nat) (K0 : Nat → Int32 → Int32 → Int32 → zo_O → Option zo_R) (K560 : Nat → Int32 → Int32 → Int32 → Int32 → Int32 → Int32 → Int32 → Int32 → Int32 → Int32 → zo_O → Option zo_R) (hK0 : ∀ (x1 : Nat) (x2 : Int32) (x3 : Int32) (x4 : Int32) (Ω : zo_O) (res : zo_R), K0 x1 x2 x3 x4 Ω = some res → TW Y res Ω 0 [(0, vo none), (1, vr 35 x1), (2, vi x2), (3, vi x3), (4, vi x4)] []) (hK560 : ∀ (x1 : Nat) (x2 : Int32) (x3 : Int32) (x4 : Int32) (x5 : Int32) (x6 : Int32) (x14 : Int32) (x15 : Int32) (x16 : Int32) (x17 : Int32) (x19 : Int32) (Ω : zo_O) (res : zo_R), K560 x1 x2 x3 x4 x5 x6 x14 x15 x16 x17 x19 Ω = some res → TW Y res Ω 560 [(0, vo none), (1, vr 35 x1), (2, vi x2), (3, vi x3), (4, vi x4), (5, vi x5), (6, vi x6), (14, vi x14), (15, vi x15), (16, vi x16), (17, vi x17), (19, vi x19)] []) (x1 : Nat) (x2 : Int32) (x3 : Int32) (x4 : Int32) (x5 : Int32) (x6 : Int32) (x14 : Int32) (x15 : Int32) (x16 : Int32) (x17 : Int32) (x19 : Int32) (x20 : Int32) (Ω : zo_O) (res : zo_R) (h : fn_J16_sort_2_b_641 N K0 K560 x1 x2 x3 x4 x5 x6 x14 x15 x16 x17 x19 x20 Ω = some res) : TW Y res Ω 641 [(0, vo none), (1, vr 35 x1), (2, vi x2), (3, vi x3), (4, vi x4), (5, vi x5), (6, vi x6), (14, vi x14), (15, vi x15), (16, vi x16), (17, vi x17), (19, vi x19), (20, vi x20)] [] := by
  unfold fn_J16_sort_2_b_641 at h
  refine zo_aload_n hY dJ16_sort_2_641 rfl 1 rfl ?_
  refine zo_iload hY dJ16_sort_2_642 7 rfl ?_
  refine zo_iload hY dJ16_sort_2_644 12 rfl ?_
  refine zo_ast hY hJ (by decide) (Or.inl ⟨rfl, rfl, dJ16_sort_2_646⟩) (fun _ => rfl) h (fun j1 Ω2 h => ?_)
  refine zo_goto hY 674 dJ16_sort_2_647 (by decide) ?_
  refine zo_sub [0, 1, 2, 3, 4, 5, 6, 7, 8, 9, 10, 11] rfl ?_
  exact ct_J16_sort_2_b_674 hY hJ hCon hr N K0 K560 hK0 hK560 x1 x2 x3 x4 x5 x6 x14 x15 x16 x17 x19 Ω2 _ h
def bd_J16_sort_2_b_583 (N : Nat) (K0 : Nat → Int32 → Int32 → Int32 → zo_O → Option zo_R) (K560 : Nat → Int32 → Int32 → Int32 → Int32 → Int32 → Int32 → Int32 → Int32 → Int32 → Int32 → zo_O → Option zo_R) (K583 : Nat → Int32 → Int32 → Int32 → Int32 → Int32 → Int32 → Int32 → Int32 → Int32 → Int32 → Int32 → zo_O → Option zo_R) (x1 : Nat) (x2 : Int32) (x3 : Int32) (x4 : Int32) (x5 : Int32) (x6 : Int32) (x14 : Int32) (x15 : Int32) (x16 : Int32) (x17 : Int32) (x19 : Int32) (x20 : Int32) (Ω : zo_O) : Option zo_R :=
  if x19 ≤ x14 then (
    fn_J16_sort_2_b_674 N K0 K560 x1 x2 x3 x4 x5 x6 x14 x15 x16 x17 x19 Ω
    ) else
  ix (x14 + 1) (gL Ω 35 x1) fun j2 =>
  if gI Ω 35 x1 j2 < x16 then (
    K583 x1 x2 x3 x4 x5 x6 (x14 + 1) x15 x16 x17 x19 x20 Ω
    ) else
  ix (x14 + 1) (gL Ω 35 x1) fun j4 =>
  if gI Ω 35 x1 j4 ≤ x17 then (
    ix (x14 + 1) (gL Ω 35 x1) fun j6 =>
    ix x19 (gL Ω 35 x1) fun j7 => lt (sI Ω 35 x1 j7 (gI Ω 35 x1 j6)) fun Ω8 =>
    fn_J16_sort_2_b_641 N K0 K560 x1 x2 x3 x4 x5 x6 (x14 + 1) x15 x16 x17 x19 x20 Ω8
    ) else
  ix (x15 + (-1)) (gL Ω 35 x1) fun j9 =>
  ix x19 (gL Ω 35 x1) fun j10 => lt (sI Ω 35 x1 j10 (gI Ω 35 x1 j9)) fun Ω11 =>
  ix (x14 + 1) (gL Ω11 35 x1) fun j12 =>
  ix (x15 + (-1)) (gL Ω11 35 x1) fun j13 => lt (sI Ω11 35 x1 j13 (gI Ω11 35 x1 j12)) fun Ω14 =>
  fn_J16_sort_2_b_641 N K0 K560 x1 x2 x3 x4 x5 x6 (x14 + 1) (x15 + (-1)) x16 x17 x19 x20 Ω14
theorem cb_J16_sort_2_b_583 {Y : zo_Y} (hY : zo_Gd Y cJ16_sort_2 21 RJ16 1) (hJ : zo_JC (zo_J Y)) (hCon : ∀ Ω, zo_J Y Ω → zo_Con Ω) (hr : zo_rt Y (Option.none : Option Jvm.ClassFile.FieldType)) (N : Nat) (K0 : Nat → Int32 → Int32 → Int32 → zo_O → Option zo_R) (K560 : Nat → Int32 → Int32 → Int32 → Int32 → Int32 → Int32 → Int32 → Int32 → Int32 → Int32 → zo_O → Option zo_R) (K583 : Nat → Int32 → Int32 → Int32 → Int32 → Int32 → Int32 → Int32 → Int32 → Int32 → Int32 → Int32 → zo_O → Option zo_R) (hK0 : ∀ (x1 : Nat) (x2 : Int32) (x3 : Int32) (x4 : Int32) (Ω : zo_O) (res : zo_R), K0 x1 x2 x3 x4 Ω = some res → TW Y res Ω 0 [(0, vo none), (1, vr 35 x1), (2, vi x2), (3, vi x3), (4, vi x4)] []) (hK560 : ∀ (x1 : Nat) (x2 : Int32) (x3 : Int32) (x4 : Int32) (x5 : Int32) (x6 : Int32) (x14 : Int32) (x15 : Int32) (x16 : Int32) (x17 : Int32) (x19 : Int32) (Ω : zo_O) (res : zo_R), K560 x1 x2 x3 x4 x5 x6 x14 x15 x16 x17 x19 Ω = some res → TW Y res Ω 560 [(0, vo none), (1, vr 35 x1), (2, vi x2), (3, vi x3), (4, vi x4), (5, vi x5), (6, vi x6), (14, vi x14), (15, vi x15), (16, vi x16), (17, vi x17), (19, vi x19)] []) (hK583 : ∀ (x1 : Nat) (x2 : Int32) (x3 : Int32) (x4 : Int32) (x5 : Int32) (x6 : Int32) (x14 : Int32) (x15 : Int32) (x16 : Int32) (x17 : Int32) (x19 : Int32) (x20 : Int32) (Ω : zo_O) (res : zo_R), K583 x1 x2 x3 x4 x5 x6 x14 x15 x16 x17 x19 x20 Ω = some res → TW Y res Ω 583 [(0, vo none), (1, vr 35 x1), (2, vi x2), (3, vi x3), (4, vi x4), (5, vi x5), (6, vi x6), (14, vi x14), (15, vi x15), (16, vi x16), (17, vi x17), (19, vi x19), (20, vi x20)] []) (x1 : Nat) (x2 : Int32) (x3 : Int32) (x4 : Int32) (x5 : Int32) (x6 : Int32) (x14 : Int32) (x15 : Int32) (x16 : Int32) (x17 : Int32) (x19 : Int32) (x20 : Int32) (Ω : zo_O) (res : zo_R) (h : bd_J16_sort_2_b_583 N K0 K560 K583 x1 x2 x3 x4 x5 x6 x14 x15 x16 x17 x19 x20 Ω = some res) : TW Y res Ω 583 [(0, vo none), (1, vr 35 x1), (2, vi x2), (3, vi x3), (4, vi x4), (5, vi x5), (6, vi x6), (14, vi x14), (15, vi x15), (16, vi x16), (17, vi x17), (19, vi x19), (20, vi x20)] [] := by
  unfold bd_J16_sort_2_b_583 at h
  refine zo_iload hY dJ16_sort_2_583 7 rfl ?_
  refine zo_iload hY dJ16_sort_2_585 11 rfl ?_
  refine zo_icmp_ge hY 674 dJ16_sort_2_587 (by decide) h (fun c1 h => ?_) (fun c1 h => ?_)
  · refine zo_sub [0, 1, 2, 3, 4, 5, 6, 7, 8, 9, 10, 11] rfl ?_
    exact ct_J16_sort_2_b_674 hY hJ hCon hr N K0 K560 hK0 hK560 x1 x2 x3 x4 x5 x6 x14 x15 x16 x17 x19 Ω _ h
  · refine zo_aload_n hY dJ16_sort_2_590 rfl 1 rfl ?_
    refine zo_iinc hY 1 dJ16_sort_2_591 (by decide) (by decide) 7 rfl rfl (ls' := [(14, vi (x14 + 1)), (0, vo none), (1, vr 35 x1), (2, vi x2), (3, vi x3), (4, vi x4), (5, vi x5), (6, vi x6), (15, vi x15), (16, vi x16), (17, vi x17), (19, vi x19), (20, vi x20)]) rfl ?_
    refine zo_iload hY dJ16_sort_2_594 0 rfl ?_
    refine zo_ald hY (by decide) (Or.inl ⟨rfl, dJ16_sort_2_596⟩) (fun _ => rfl) h (fun j2 h => ?_)
    refine zo_iload hY dJ16_sort_2_597 9 rfl ?_
    refine zo_icmp_lt hY 583 dJ16_sort_2_599 (by decide) h (fun c3 h => ?_) (fun c3 h => ?_)
    · refine zo_sub [1, 2, 3, 4, 5, 6, 7, 0, 8, 9, 10, 11, 12] rfl ?_
      exact hK583 x1 x2 x3 x4 x5 x6 (x14 + 1) x15 x16 x17 x19 x20 Ω _ h
    · refine zo_aload_n hY dJ16_sort_2_602 rfl 2 rfl ?_
      refine zo_iload hY dJ16_sort_2_603 0 rfl ?_
      refine zo_ald hY (by decide) (Or.inl ⟨rfl, dJ16_sort_2_605⟩) (fun _ => rfl) h (fun j4 h => ?_)
      refine zo_iload hY dJ16_sort_2_606 10 rfl ?_
      refine zo_icmp_le hY 633 dJ16_sort_2_608 (by decide) h (fun c5 h => ?_) (fun c5 h => ?_)
      · refine zo_aload_n hY dJ16_sort_2_633 rfl 2 rfl ?_
        refine zo_iload hY dJ16_sort_2_634 11 rfl ?_
        refine zo_aload_n hY dJ16_sort_2_636 rfl 2 rfl ?_
        refine zo_iload hY dJ16_sort_2_637 0 rfl ?_
        refine zo_ald hY (by decide) (Or.inl ⟨rfl, dJ16_sort_2_639⟩) (fun _ => rfl) h (fun j6 h => ?_)
        refine zo_ast hY hJ (by decide) (Or.inl ⟨rfl, rfl, dJ16_sort_2_640⟩) (fun _ => rfl) h (fun j7 Ω8 h => ?_)
        refine zo_sub [1, 2, 3, 4, 5, 6, 7, 0, 8, 9, 10, 11, 12] rfl ?_
        exact ct_J16_sort_2_b_641 hY hJ hCon hr N K0 K560 hK0 hK560 x1 x2 x3 x4 x5 x6 (x14 + 1) x15 x16 x17 x19 x20 Ω8 _ h
      · refine zo_aload_n hY dJ16_sort_2_611 rfl 2 rfl ?_
        refine zo_iload hY dJ16_sort_2_612 11 rfl ?_
        refine zo_aload_n hY dJ16_sort_2_614 rfl 2 rfl ?_
        refine zo_iinc hY (-1) dJ16_sort_2_615 (by decide) (by decide) 8 rfl rfl (ls' := [(15, vi (x15 + (-1))), (14, vi (x14 + 1)), (0, vo none), (1, vr 35 x1), (2, vi x2), (3, vi x3), (4, vi x4), (5, vi x5), (6, vi x6), (16, vi x16), (17, vi x17), (19, vi x19), (20, vi x20)]) rfl ?_
        refine zo_iload hY dJ16_sort_2_618 0 rfl ?_
        refine zo_ald hY (by decide) (Or.inl ⟨rfl, dJ16_sort_2_620⟩) (fun _ => rfl) h (fun j9 h => ?_)
        refine zo_ast hY hJ (by decide) (Or.inl ⟨rfl, rfl, dJ16_sort_2_621⟩) (fun _ => rfl) h (fun j10 Ω11 h => ?_)
        refine zo_aload_n hY dJ16_sort_2_622 rfl 3 rfl ?_
        refine zo_iload hY dJ16_sort_2_623 0 rfl ?_
        refine zo_aload_n hY dJ16_sort_2_625 rfl 3 rfl ?_
        refine zo_iload hY dJ16_sort_2_626 1 rfl ?_
        refine zo_ald hY (by decide) (Or.inl ⟨rfl, dJ16_sort_2_628⟩) (fun _ => rfl) h (fun j12 h => ?_)
        refine zo_ast hY hJ (by decide) (Or.inl ⟨rfl, rfl, dJ16_sort_2_629⟩) (fun _ => rfl) h (fun j13 Ω14 h => ?_)
        refine zo_goto hY 641 dJ16_sort_2_630 (by decide) ?_
        refine zo_sub [2, 3, 4, 5, 6, 7, 8, 1, 0, 9, 10, 11, 12] rfl ?_
        exact ct_J16_sort_2_b_641 hY hJ hCon hr N K0 K560 hK0 hK560 x1 x2 x3 x4 x5 x6 (x14 + 1) (x15 + (-1)) x16 x17 x19 x20 Ω14 _ h
def fn_J16_sort_2_b_583 (N : Nat) (K0 : Nat → Int32 → Int32 → Int32 → zo_O → Option zo_R) (K560 : Nat → Int32 → Int32 → Int32 → Int32 → Int32 → Int32 → Int32 → Int32 → Int32 → Int32 → zo_O → Option zo_R) : Nat → Nat → Int32 → Int32 → Int32 → Int32 → Int32 → Int32 → Int32 → Int32 → Int32 → Int32 → Int32 → zo_O → Option zo_R
  | 0, _, _, _, _, _, _, _, _, _, _, _, _, _ => none
  | n + 1, x1, x2, x3, x4, x5, x6, x14, x15, x16, x17, x19, x20, Ω => bd_J16_sort_2_b_583 N K0 K560 (fn_J16_sort_2_b_583 N K0 K560 n) x1 x2 x3 x4 x5 x6 x14 x15 x16 x17 x19 x20 Ω
theorem ct_J16_sort_2_b_583 {Y : zo_Y} (hY : zo_Gd Y cJ16_sort_2 21 RJ16 1) (hJ : zo_JC (zo_J Y)) (hCon : ∀ Ω, zo_J Y Ω → zo_Con Ω) (hr : zo_rt Y (Option.none : Option Jvm.ClassFile.FieldType)) (N : Nat) (K0 : Nat → Int32 → Int32 → Int32 → zo_O → Option zo_R) (K560 : Nat → Int32 → Int32 → Int32 → Int32 → Int32 → Int32 → Int32 → Int32 → Int32 → Int32 → zo_O → Option zo_R) (hK0 : ∀ (x1 : Nat) (x2 : Int32) (x3 : Int32) (x4 : Int32) (Ω : zo_O) (res : zo_R), K0 x1 x2 x3 x4 Ω = some res → TW Y res Ω 0 [(0, vo none), (1, vr 35 x1), (2, vi x2), (3, vi x3), (4, vi x4)] []) (hK560 : ∀ (x1 : Nat) (x2 : Int32) (x3 : Int32) (x4 : Int32) (x5 : Int32) (x6 : Int32) (x14 : Int32) (x15 : Int32) (x16 : Int32) (x17 : Int32) (x19 : Int32) (Ω : zo_O) (res : zo_R), K560 x1 x2 x3 x4 x5 x6 x14 x15 x16 x17 x19 Ω = some res → TW Y res Ω 560 [(0, vo none), (1, vr 35 x1), (2, vi x2), (3, vi x3), (4, vi x4), (5, vi x5), (6, vi x6), (14, vi x14), (15, vi x15), (16, vi x16), (17, vi x17), (19, vi x19)] []) : ∀ (n : Nat) (x1 : Nat) (x2 : Int32) (x3 : Int32) (x4 : Int32) (x5 : Int32) (x6 : Int32) (x14 : Int32) (x15 : Int32) (x16 : Int32) (x17 : Int32) (x19 : Int32) (x20 : Int32) (Ω : zo_O) (res : zo_R), fn_J16_sort_2_b_583 N K0 K560 n x1 x2 x3 x4 x5 x6 x14 x15 x16 x17 x19 x20 Ω = some res → TW Y res Ω 583 [(0, vo none), (1, vr 35 x1), (2, vi x2), (3, vi x3), (4, vi x4), (5, vi x5), (6, vi x6), (14, vi x14), (15, vi x15), (16, vi x16), (17, vi x17), (19, vi x19), (20, vi x20)] [] := by
  intro n
  induction n with
  | zero => intro x1 x2 x3 x4 x5 x6 x14 x15 x16 x17 x19 x20 Ω res h; exact nomatch (show (none : Option zo_R) = some res from h)
  | succ n ih => intro x1 x2 x3 x4 x5 x6 x14 x15 x16 x17 x19 x20 Ω res h; exact cb_J16_sort_2_b_583 hY hJ hCon hr N K0 K560 (fn_J16_sort_2_b_583 N K0 K560 n) hK0 hK560 ih x1 x2 x3 x4 x5 x6 x14 x15 x16 x17 x19 x20 Ω res h
def fn_J16_sort_2_b_745 (N : Nat) (K0 : Nat → Int32 → Int32 → Int32 → zo_O → Option zo_R) (x1 : Nat) (x2 : Int32) (x3 : Int32) (x4 : Int32) (x14 : Int32) (x15 : Int32) (Ω : zo_O) : Option zo_R :=
  none
theorem ct_J16_sort_2_b_745 {Y : zo_Y} (hY : zo_Gd Y cJ16_sort_2 21 RJ16 1) (hJ : zo_JC (zo_J Y)) (hCon : ∀ Ω, zo_J Y Ω → zo_Con Ω) (hr : zo_rt Y (Option.none : Option Jvm.ClassFile.FieldType)) (N : Nat) (K0 : Nat → Int32 → Int32 → Int32 → zo_O → Option zo_R) (hK0 : ∀ (x1 : Nat) (x2 : Int32) (x3 : Int32) (x4 : Int32) (Ω : zo_O) (res : zo_R), K0 x1 x2 x3 x4 Ω = some res → TW Y res Ω 0 [(0, vo none), (1, vr 35 x1), (2, vi x2), (3, vi x3), (4, vi x4)] []) (x1 : Nat) (x2 : Int32) (x3 : Int32) (x4 : Int32) (x14 : Int32) (x15 : Int32) (Ω : zo_O) (res : zo_R) (h : fn_J16_sort_2_b_745 N K0 x1 x2 x3 x4 x14 x15 Ω = some res) : TW Y res Ω 745 [(0, vo none), (1, vr 35 x1), (2, vi x2), (3, vi x3), (4, vi x4), (14, vi x14), (15, vi x15)] [] := by
  unfold fn_J16_sort_2_b_745 at h
  refine zo_aload_n hY dJ16_sort_2_745 rfl 0 rfl ?_
  refine zo_aload_n hY dJ16_sort_2_746 rfl 1 rfl ?_
  refine zo_iload_n hY dJ16_sort_2_747 rfl 2 rfl ?_
  refine zo_iconst hY 1 (by decide) dJ16_sort_2_748 ?_
  refine zo_ior hY dJ16_sort_2_749 ?_
  refine zo_iload hY dJ16_sort_2_750 5 rfl ?_
  refine zo_iconst hY 1 (by decide) dJ16_sort_2_752 ?_
  refine zo_iadd hY dJ16_sort_2_753 ?_
  refine zo_iload hY dJ16_sort_2_754 6 rfl ?_
  cases h
def bd_J16_sort_2_b_560 (N : Nat) (K0 : Nat → Int32 → Int32 → Int32 → zo_O → Option zo_R) (K560 : Nat → Int32 → Int32 → Int32 → Int32 → Int32 → Int32 → Int32 → Int32 → Int32 → Int32 → zo_O → Option zo_R) (x1 : Nat) (x2 : Int32) (x3 : Int32) (x4 : Int32) (x5 : Int32) (x6 : Int32) (x14 : Int32) (x15 : Int32) (x16 : Int32) (x17 : Int32) (x19 : Int32) (Ω : zo_O) : Option zo_R :=
  if x19 + (-1) ≤ x14 then (
    ix x14 (gL Ω 35 x1) fun j2 =>
    ix x3 (gL Ω 35 x1) fun j3 => lt (sI Ω 35 x1 j3 (gI Ω 35 x1 j2)) fun Ω4 =>
    ix x14 (gL Ω4 35 x1) fun j5 => lt (sI Ω4 35 x1 j5 x16) fun Ω6 =>
    ix x15 (gL Ω6 35 x1) fun j7 =>
    ix x5 (gL Ω6 35 x1) fun j8 => lt (sI Ω6 35 x1 j8 (gI Ω6 35 x1 j7)) fun Ω9 =>
    ix x15 (gL Ω9 35 x1) fun j10 => lt (sI Ω9 35 x1 j10 x17) fun Ω11 =>
    if x6 ≤ 4096 then (
      fn_J16_sort_2_b_745 N K0 x1 x2 x3 x4 x14 x15 Ω11
      ) else
    fn_J16_sort_2_b_745 N K0 x1 x2 x3 x4 x14 x15 Ω11
    ) else
  ix (x19 + (-1)) (gL Ω 35 x1) fun j13 =>
  li (gI Ω 35 x1 j13) fun y14 =>
  if x16 ≤ y14 then (
    if y14 ≤ x17 then (
      fn_J16_sort_2_b_674 N K0 K560 x1 x2 x3 x4 x5 x6 x14 x15 x16 x17 (x19 + (-1)) Ω
      ) else
    ix (x15 + (-1)) (gL Ω 35 x1) fun j17 =>
    ix (x19 + (-1)) (gL Ω 35 x1) fun j18 => lt (sI Ω 35 x1 j18 (gI Ω 35 x1 j17)) fun Ω19 =>
    ix (x15 + (-1)) (gL Ω19 35 x1) fun j20 => lt (sI Ω19 35 x1 j20 y14) fun Ω21 =>
    fn_J16_sort_2_b_674 N K0 K560 x1 x2 x3 x4 x5 x6 x14 (x15 + (-1)) x16 x17 (x19 + (-1)) Ω21
    ) else
  fn_J16_sort_2_b_583 N K0 K560 N x1 x2 x3 x4 x5 x6 x14 x15 x16 x17 (x19 + (-1)) y14 Ω
theorem cb_J16_sort_2_b_560 {Y : zo_Y} (hY : zo_Gd Y cJ16_sort_2 21 RJ16 1) (hJ : zo_JC (zo_J Y)) (hCon : ∀ Ω, zo_J Y Ω → zo_Con Ω) (hr : zo_rt Y (Option.none : Option Jvm.ClassFile.FieldType)) (N : Nat) (K0 : Nat → Int32 → Int32 → Int32 → zo_O → Option zo_R) (K560 : Nat → Int32 → Int32 → Int32 → Int32 → Int32 → Int32 → Int32 → Int32 → Int32 → Int32 → zo_O → Option zo_R) (hK0 : ∀ (x1 : Nat) (x2 : Int32) (x3 : Int32) (x4 : Int32) (Ω : zo_O) (res : zo_R), K0 x1 x2 x3 x4 Ω = some res → TW Y res Ω 0 [(0, vo none), (1, vr 35 x1), (2, vi x2), (3, vi x3), (4, vi x4)] []) (hK560 : ∀ (x1 : Nat) (x2 : Int32) (x3 : Int32) (x4 : Int32) (x5 : Int32) (x6 : Int32) (x14 : Int32) (x15 : Int32) (x16 : Int32) (x17 : Int32) (x19 : Int32) (Ω : zo_O) (res : zo_R), K560 x1 x2 x3 x4 x5 x6 x14 x15 x16 x17 x19 Ω = some res → TW Y res Ω 560 [(0, vo none), (1, vr 35 x1), (2, vi x2), (3, vi x3), (4, vi x4), (5, vi x5), (6, vi x6), (14, vi x14), (15, vi x15), (16, vi x16), (17, vi x17), (19, vi x19)] []) (x1 : Nat) (x2 : Int32) (x3 : Int32) (x4 : Int32) (x5 : Int32) (x6 : Int32) (x14 : Int32) (x15 : Int32) (x16 : Int32) (x17 : Int32) (x19 : Int32) (Ω : zo_O) (res : zo_R) (h : bd_J16_sort_2_b_560 N K0 K560 x1 x2 x3 x4 x5 x6 x14 x15 x16 x17 x19 Ω = some res) : TW Y res Ω 560 [(0, vo none), (1, vr 35 x1), (2, vi x2), (3, vi x3), (4, vi x4), (5, vi x5), (6, vi x6), (14, vi x14), (15, vi x15), (16, vi x16), (17, vi x17), (19, vi x19)] [] := by
  unfold bd_J16_sort_2_b_560 at h
  refine zo_iinc hY (-1) dJ16_sort_2_560 (by decide) (by decide) 11 rfl rfl (ls' := [(19, vi (x19 + (-1))), (0, vo none), (1, vr 35 x1), (2, vi x2), (3, vi x3), (4, vi x4), (5, vi x5), (6, vi x6), (14, vi x14), (15, vi x15), (16, vi x16), (17, vi x17)]) rfl ?_
  refine zo_iload hY dJ16_sort_2_563 0 rfl ?_
  refine zo_iload hY dJ16_sort_2_565 8 rfl ?_
  refine zo_icmp_le hY 677 dJ16_sort_2_567 (by decide) h (fun c1 h => ?_) (fun c1 h => ?_)
  · refine zo_aload_n hY dJ16_sort_2_677 rfl 2 rfl ?_
    refine zo_iload_n hY dJ16_sort_2_678 rfl 4 rfl ?_
    refine zo_aload_n hY dJ16_sort_2_679 rfl 2 rfl ?_
    refine zo_iload hY dJ16_sort_2_680 8 rfl ?_
    refine zo_ald hY (by decide) (Or.inl ⟨rfl, dJ16_sort_2_682⟩) (fun _ => rfl) h (fun j2 h => ?_)
    refine zo_ast hY hJ (by decide) (Or.inl ⟨rfl, rfl, dJ16_sort_2_683⟩) (fun _ => rfl) h (fun j3 Ω4 h => ?_)
    refine zo_aload_n hY dJ16_sort_2_684 rfl 2 rfl ?_
    refine zo_iload hY dJ16_sort_2_685 8 rfl ?_
    refine zo_iload hY dJ16_sort_2_687 10 rfl ?_
    refine zo_ast hY hJ (by decide) (Or.inl ⟨rfl, rfl, dJ16_sort_2_689⟩) (fun _ => rfl) h (fun j5 Ω6 h => ?_)
    refine zo_aload_n hY dJ16_sort_2_690 rfl 2 rfl ?_
    refine zo_iload hY dJ16_sort_2_691 6 rfl ?_
    refine zo_aload_n hY dJ16_sort_2_693 rfl 2 rfl ?_
    refine zo_iload hY dJ16_sort_2_694 9 rfl ?_
    refine zo_ald hY (by decide) (Or.inl ⟨rfl, dJ16_sort_2_696⟩) (fun _ => rfl) h (fun j7 h => ?_)
    refine zo_ast hY hJ (by decide) (Or.inl ⟨rfl, rfl, dJ16_sort_2_697⟩) (fun _ => rfl) h (fun j8 Ω9 h => ?_)
    refine zo_aload_n hY dJ16_sort_2_698 rfl 2 rfl ?_
    refine zo_iload hY dJ16_sort_2_699 9 rfl ?_
    refine zo_iload hY dJ16_sort_2_701 11 rfl ?_
    refine zo_ast hY hJ (by decide) (Or.inl ⟨rfl, rfl, dJ16_sort_2_703⟩) (fun _ => rfl) h (fun j10 Ω11 h => ?_)
    refine zo_iload hY dJ16_sort_2_704 7 rfl ?_
    refine zo_sipush hY 4096 (by decide) dJ16_sort_2_706 ?_
    refine zo_icmp_le hY 745 dJ16_sort_2_709 (by decide) h (fun c12 h => ?_) (fun c12 h => ?_)
    · refine zo_sub [1, 2, 3, 4, 5, 8, 9] rfl ?_
      exact ct_J16_sort_2_b_745 hY hJ hCon hr N K0 hK0 x1 x2 x3 x4 x14 x15 Ω11 _ h
    · refine zo_aload_n hY dJ16_sort_2_712 rfl 1 rfl ?_
      refine zo_ifnull0 hY 745 dJ16_sort_2_713 (by decide) ?_
      refine zo_sub [1, 2, 3, 4, 5, 8, 9] rfl ?_
      exact ct_J16_sort_2_b_745 hY hJ hCon hr N K0 hK0 x1 x2 x3 x4 x14 x15 Ω11 _ h
  · refine zo_aload_n hY dJ16_sort_2_570 rfl 2 rfl ?_
    refine zo_iload hY dJ16_sort_2_571 0 rfl ?_
    refine zo_ald hY (by decide) (Or.inl ⟨rfl, dJ16_sort_2_573⟩) (fun _ => rfl) h (fun j13 h => ?_)
    refine zo_nmi h (fun y14 h => ?_)
    refine zo_istore hY dJ16_sort_2_574 (by decide) rfl (ls' := [(20, vi y14), (19, vi (x19 + (-1))), (0, vo none), (1, vr 35 x1), (2, vi x2), (3, vi x3), (4, vi x4), (5, vi x5), (6, vi x6), (14, vi x14), (15, vi x15), (16, vi x16), (17, vi x17)]) rfl ?_
    refine zo_iload hY dJ16_sort_2_576 0 rfl ?_
    refine zo_iload hY dJ16_sort_2_578 11 rfl ?_
    refine zo_icmp_ge hY 650 dJ16_sort_2_580 (by decide) h (fun c15 h => ?_) (fun c15 h => ?_)
    · refine zo_iload hY dJ16_sort_2_650 0 rfl ?_
      refine zo_iload hY dJ16_sort_2_652 12 rfl ?_
      refine zo_icmp_le hY 674 dJ16_sort_2_654 (by decide) h (fun c16 h => ?_) (fun c16 h => ?_)
      · refine zo_sub [2, 3, 4, 5, 6, 7, 8, 9, 10, 11, 12, 1] rfl ?_
        exact ct_J16_sort_2_b_674 hY hJ hCon hr N K0 K560 hK0 hK560 x1 x2 x3 x4 x5 x6 x14 x15 x16 x17 (x19 + (-1)) Ω _ h
      · refine zo_aload_n hY dJ16_sort_2_657 rfl 3 rfl ?_
        refine zo_iload hY dJ16_sort_2_658 1 rfl ?_
        refine zo_aload_n hY dJ16_sort_2_660 rfl 3 rfl ?_
        refine zo_iinc hY (-1) dJ16_sort_2_661 (by decide) (by decide) 10 rfl rfl (ls' := [(15, vi (x15 + (-1))), (20, vi y14), (19, vi (x19 + (-1))), (0, vo none), (1, vr 35 x1), (2, vi x2), (3, vi x3), (4, vi x4), (5, vi x5), (6, vi x6), (14, vi x14), (16, vi x16), (17, vi x17)]) rfl ?_
        refine zo_iload hY dJ16_sort_2_664 0 rfl ?_
        refine zo_ald hY (by decide) (Or.inl ⟨rfl, dJ16_sort_2_666⟩) (fun _ => rfl) h (fun j17 h => ?_)
        refine zo_ast hY hJ (by decide) (Or.inl ⟨rfl, rfl, dJ16_sort_2_667⟩) (fun _ => rfl) h (fun j18 Ω19 h => ?_)
        refine zo_aload_n hY dJ16_sort_2_668 rfl 4 rfl ?_
        refine zo_iload hY dJ16_sort_2_669 0 rfl ?_
        refine zo_iload hY dJ16_sort_2_671 1 rfl ?_
        refine zo_ast hY hJ (by decide) (Or.inl ⟨rfl, rfl, dJ16_sort_2_673⟩) (fun _ => rfl) h (fun j20 Ω21 h => ?_)
        refine zo_sub [3, 4, 5, 6, 7, 8, 9, 10, 0, 11, 12, 2] rfl ?_
        exact ct_J16_sort_2_b_674 hY hJ hCon hr N K0 K560 hK0 hK560 x1 x2 x3 x4 x5 x6 x14 (x15 + (-1)) x16 x17 (x19 + (-1)) Ω21 _ h
    · refine zo_sub [2, 3, 4, 5, 6, 7, 8, 9, 10, 11, 12, 1, 0] rfl ?_
      exact ct_J16_sort_2_b_583 hY hJ hCon hr N K0 K560 hK0 hK560 N x1 x2 x3 x4 x5 x6 x14 x15 x16 x17 (x19 + (-1)) y14 Ω _ h
def fn_J16_sort_2_b_560 (N : Nat) (K0 : Nat → Int32 → Int32 → Int32 → zo_O → Option zo_R) : Nat → Nat → Int32 → Int32 → Int32 → Int32 → Int32 → Int32 → Int32 → Int32 → Int32 → Int32 → zo_O → Option zo_R
  | 0, _, _, _, _, _, _, _, _, _, _, _, _ => none
  | n + 1, x1, x2, x3, x4, x5, x6, x14, x15, x16, x17, x19, Ω => bd_J16_sort_2_b_560 N K0 (fn_J16_sort_2_b_560 N K0 n) x1 x2 x3 x4 x5 x6 x14 x15 x16 x17 x19 Ω
theorem ct_J16_sort_2_b_560 {Y : zo_Y} (hY : zo_Gd Y cJ16_sort_2 21 RJ16 1) (hJ : zo_JC (zo_J Y)) (hCon : ∀ Ω, zo_J Y Ω → zo_Con Ω) (hr : zo_rt Y (Option.none : Option Jvm.ClassFile.FieldType)) (N : Nat) (K0 : Nat → Int32 → Int32 → Int32 → zo_O → Option zo_R) (hK0 : ∀ (x1 : Nat) (x2 : Int32) (x3 : Int32) (x4 : Int32) (Ω : zo_O) (res : zo_R), K0 x1 x2 x3 x4 Ω = some res → TW Y res Ω 0 [(0, vo none), (1, vr 35 x1), (2, vi x2), (3, vi x3), (4, vi x4)] []) : ∀ (n : Nat) (x1 : Nat) (x2 : Int32) (x3 : Int32) (x4 : Int32) (x5 : Int32) (x6 : Int32) (x14 : Int32) (x15 : Int32) (x16 : Int32) (x17 : Int32) (x19 : Int32) (Ω : zo_O) (res : zo_R), fn_J16_sort_2_b_560 N K0 n x1 x2 x3 x4 x5 x6 x14 x15 x16 x17 x19 Ω = some res → TW Y res Ω 560 [(0, vo none), (1, vr 35 x1), (2, vi x2), (3, vi x3), (4, vi x4), (5, vi x5), (6, vi x6), (14, vi x14), (15, vi x15), (16, vi x16), (17, vi x17), (19, vi x19)] [] := by
  intro n
  induction n with
  | zero => intro x1 x2 x3 x4 x5 x6 x14 x15 x16 x17 x19 Ω res h; exact nomatch (show (none : Option zo_R) = some res from h)
  | succ n ih => intro x1 x2 x3 x4 x5 x6 x14 x15 x16 x17 x19 Ω res h; exact cb_J16_sort_2_b_560 hY hJ hCon hr N K0 (fn_J16_sort_2_b_560 N K0 n) hK0 ih x1 x2 x3 x4 x5 x6 x14 x15 x16 x17 x19 Ω res h
def bd_J16_sort_2_b_531 (N : Nat) (K0 : Nat → Int32 → Int32 → Int32 → zo_O → Option zo_R) (K531 : Nat → Int32 → Int32 → Int32 → Int32 → Int32 → Int32 → Int32 → Int32 → Int32 → zo_O → Option zo_R) (x1 : Nat) (x2 : Int32) (x3 : Int32) (x4 : Int32) (x5 : Int32) (x6 : Int32) (x14 : Int32) (x15 : Int32) (x16 : Int32) (x17 : Int32) (Ω : zo_O) : Option zo_R :=
  ix (x15 + (-1)) (gL Ω 35 x1) fun j1 =>
  if gI Ω 35 x1 j1 ≤ x17 then (
    li (x14 + (-1)) fun y3 =>
    li (x15 + (-1) + 1) fun y4 =>
    fn_J16_sort_2_b_560 N K0 N x1 x2 x3 x4 x5 x6 (x14 + (-1)) (x15 + (-1) + 1) x16 x17 y4 Ω
    ) else
  K531 x1 x2 x3 x4 x5 x6 x14 (x15 + (-1)) x16 x17 Ω
theorem cb_J16_sort_2_b_531 {Y : zo_Y} (hY : zo_Gd Y cJ16_sort_2 21 RJ16 1) (hJ : zo_JC (zo_J Y)) (hCon : ∀ Ω, zo_J Y Ω → zo_Con Ω) (hr : zo_rt Y (Option.none : Option Jvm.ClassFile.FieldType)) (N : Nat) (K0 : Nat → Int32 → Int32 → Int32 → zo_O → Option zo_R) (K531 : Nat → Int32 → Int32 → Int32 → Int32 → Int32 → Int32 → Int32 → Int32 → Int32 → zo_O → Option zo_R) (hK0 : ∀ (x1 : Nat) (x2 : Int32) (x3 : Int32) (x4 : Int32) (Ω : zo_O) (res : zo_R), K0 x1 x2 x3 x4 Ω = some res → TW Y res Ω 0 [(0, vo none), (1, vr 35 x1), (2, vi x2), (3, vi x3), (4, vi x4)] []) (hK531 : ∀ (x1 : Nat) (x2 : Int32) (x3 : Int32) (x4 : Int32) (x5 : Int32) (x6 : Int32) (x14 : Int32) (x15 : Int32) (x16 : Int32) (x17 : Int32) (Ω : zo_O) (res : zo_R), K531 x1 x2 x3 x4 x5 x6 x14 x15 x16 x17 Ω = some res → TW Y res Ω 531 [(0, vo none), (1, vr 35 x1), (2, vi x2), (3, vi x3), (4, vi x4), (5, vi x5), (6, vi x6), (14, vi x14), (15, vi x15), (16, vi x16), (17, vi x17)] []) (x1 : Nat) (x2 : Int32) (x3 : Int32) (x4 : Int32) (x5 : Int32) (x6 : Int32) (x14 : Int32) (x15 : Int32) (x16 : Int32) (x17 : Int32) (Ω : zo_O) (res : zo_R) (h : bd_J16_sort_2_b_531 N K0 K531 x1 x2 x3 x4 x5 x6 x14 x15 x16 x17 Ω = some res) : TW Y res Ω 531 [(0, vo none), (1, vr 35 x1), (2, vi x2), (3, vi x3), (4, vi x4), (5, vi x5), (6, vi x6), (14, vi x14), (15, vi x15), (16, vi x16), (17, vi x17)] [] := by
  unfold bd_J16_sort_2_b_531 at h
  refine zo_aload_n hY dJ16_sort_2_531 rfl 1 rfl ?_
  refine zo_iinc hY (-1) dJ16_sort_2_532 (by decide) (by decide) 8 rfl rfl (ls' := [(15, vi (x15 + (-1))), (0, vo none), (1, vr 35 x1), (2, vi x2), (3, vi x3), (4, vi x4), (5, vi x5), (6, vi x6), (14, vi x14), (16, vi x16), (17, vi x17)]) rfl ?_
  refine zo_iload hY dJ16_sort_2_535 0 rfl ?_
  refine zo_ald hY (by decide) (Or.inl ⟨rfl, dJ16_sort_2_537⟩) (fun _ => rfl) h (fun j1 h => ?_)
  refine zo_iload hY dJ16_sort_2_538 10 rfl ?_
  refine zo_icmp_le hY 546 dJ16_sort_2_540 (by decide) h (fun c2 h => ?_) (fun c2 h => ?_)
  · refine zo_iinc hY (-1) dJ16_sort_2_546 (by decide) (by decide) 8 rfl rfl (ls' := [(14, vi (x14 + (-1))), (15, vi (x15 + (-1))), (0, vo none), (1, vr 35 x1), (2, vi x2), (3, vi x3), (4, vi x4), (5, vi x5), (6, vi x6), (16, vi x16), (17, vi x17)]) rfl ?_
    refine zo_iload hY dJ16_sort_2_549 0 rfl ?_
    refine zo_nmi h (fun y3 h => ?_)
    refine zo_istore hY dJ16_sort_2_551 (by decide) rfl (ls' := [(18, vi y3), (14, vi (x14 + (-1))), (15, vi (x15 + (-1))), (0, vo none), (1, vr 35 x1), (2, vi x2), (3, vi x3), (4, vi x4), (5, vi x5), (6, vi x6), (16, vi x16), (17, vi x17)]) rfl ?_
    refine zo_iinc hY 1 dJ16_sort_2_553 (by decide) (by decide) 2 rfl rfl (ls' := [(15, vi (x15 + (-1) + 1)), (18, vi y3), (14, vi (x14 + (-1))), (0, vo none), (1, vr 35 x1), (2, vi x2), (3, vi x3), (4, vi x4), (5, vi x5), (6, vi x6), (16, vi x16), (17, vi x17)]) rfl ?_
    refine zo_iload hY dJ16_sort_2_556 0 rfl ?_
    refine zo_nmi h (fun y4 h => ?_)
    refine zo_istore hY dJ16_sort_2_558 (by decide) rfl (ls' := [(19, vi y4), (15, vi (x15 + (-1) + 1)), (18, vi y3), (14, vi (x14 + (-1))), (0, vo none), (1, vr 35 x1), (2, vi x2), (3, vi x3), (4, vi x4), (5, vi x5), (6, vi x6), (16, vi x16), (17, vi x17)]) rfl ?_
    refine zo_sub [4, 5, 6, 7, 8, 9, 10, 3, 1, 11, 12, 0] rfl ?_
    exact ct_J16_sort_2_b_560 hY hJ hCon hr N K0 hK0 N x1 x2 x3 x4 x5 x6 (x14 + (-1)) (x15 + (-1) + 1) x16 x17 y4 Ω _ h
  · refine zo_goto hY 531 dJ16_sort_2_543 (by decide) ?_
    refine zo_sub [1, 2, 3, 4, 5, 6, 7, 8, 0, 9, 10] rfl ?_
    exact hK531 x1 x2 x3 x4 x5 x6 x14 (x15 + (-1)) x16 x17 Ω _ h
def fn_J16_sort_2_b_531 (N : Nat) (K0 : Nat → Int32 → Int32 → Int32 → zo_O → Option zo_R) : Nat → Nat → Int32 → Int32 → Int32 → Int32 → Int32 → Int32 → Int32 → Int32 → Int32 → zo_O → Option zo_R
  | 0, _, _, _, _, _, _, _, _, _, _, _ => none
  | n + 1, x1, x2, x3, x4, x5, x6, x14, x15, x16, x17, Ω => bd_J16_sort_2_b_531 N K0 (fn_J16_sort_2_b_531 N K0 n) x1 x2 x3 x4 x5 x6 x14 x15 x16 x17 Ω
theorem ct_J16_sort_2_b_531 {Y : zo_Y} (hY : zo_Gd Y cJ16_sort_2 21 RJ16 1) (hJ : zo_JC (zo_J Y)) (hCon : ∀ Ω, zo_J Y Ω → zo_Con Ω) (hr : zo_rt Y (Option.none : Option Jvm.ClassFile.FieldType)) (N : Nat) (K0 : Nat → Int32 → Int32 → Int32 → zo_O → Option zo_R) (hK0 : ∀ (x1 : Nat) (x2 : Int32) (x3 : Int32) (x4 : Int32) (Ω : zo_O) (res : zo_R), K0 x1 x2 x3 x4 Ω = some res → TW Y res Ω 0 [(0, vo none), (1, vr 35 x1), (2, vi x2), (3, vi x3), (4, vi x4)] []) : ∀ (n : Nat) (x1 : Nat) (x2 : Int32) (x3 : Int32) (x4 : Int32) (x5 : Int32) (x6 : Int32) (x14 : Int32) (x15 : Int32) (x16 : Int32) (x17 : Int32) (Ω : zo_O) (res : zo_R), fn_J16_sort_2_b_531 N K0 n x1 x2 x3 x4 x5 x6 x14 x15 x16 x17 Ω = some res → TW Y res Ω 531 [(0, vo none), (1, vr 35 x1), (2, vi x2), (3, vi x3), (4, vi x4), (5, vi x5), (6, vi x6), (14, vi x14), (15, vi x15), (16, vi x16), (17, vi x17)] [] := by
  intro n
  induction n with
  | zero => intro x1 x2 x3 x4 x5 x6 x14 x15 x16 x17 Ω res h; exact nomatch (show (none : Option zo_R) = some res from h)
  | succ n ih => intro x1 x2 x3 x4 x5 x6 x14 x15 x16 x17 Ω res h; exact cb_J16_sort_2_b_531 hY hJ hCon hr N K0 (fn_J16_sort_2_b_531 N K0 n) hK0 ih x1 x2 x3 x4 x5 x6 x14 x15 x16 x17 Ω res h
def bd_J16_sort_2_b_516 (N : Nat) (K0 : Nat → Int32 → Int32 → Int32 → zo_O → Option zo_R) (K516 : Nat → Int32 → Int32 → Int32 → Int32 → Int32 → Int32 → Int32 → Int32 → Int32 → zo_O → Option zo_R) (x1 : Nat) (x2 : Int32) (x3 : Int32) (x4 : Int32) (x5 : Int32) (x6 : Int32) (x14 : Int32) (x15 : Int32) (x16 : Int32) (x17 : Int32) (Ω : zo_O) : Option zo_R :=
  ix (x14 + 1) (gL Ω 35 x1) fun j1 =>
  if x16 ≤ gI Ω 35 x1 j1 then (
    fn_J16_sort_2_b_531 N K0 N x1 x2 x3 x4 x5 x6 (x14 + 1) x15 x16 x17 Ω
    ) else
  K516 x1 x2 x3 x4 x5 x6 (x14 + 1) x15 x16 x17 Ω
theorem cb_J16_sort_2_b_516 {Y : zo_Y} (hY : zo_Gd Y cJ16_sort_2 21 RJ16 1) (hJ : zo_JC (zo_J Y)) (hCon : ∀ Ω, zo_J Y Ω → zo_Con Ω) (hr : zo_rt Y (Option.none : Option Jvm.ClassFile.FieldType)) (N : Nat) (K0 : Nat → Int32 → Int32 → Int32 → zo_O → Option zo_R) (K516 : Nat → Int32 → Int32 → Int32 → Int32 → Int32 → Int32 → Int32 → Int32 → Int32 → zo_O → Option zo_R) (hK0 : ∀ (x1 : Nat) (x2 : Int32) (x3 : Int32) (x4 : Int32) (Ω : zo_O) (res : zo_R), K0 x1 x2 x3 x4 Ω = some res → TW Y res Ω 0 [(0, vo none), (1, vr 35 x1), (2, vi x2), (3, vi x3), (4, vi x4)] []) (hK516 : ∀ (x1 : Nat) (x2 : Int32) (x3 : Int32) (x4 : Int32) (x5 : Int32) (x6 : Int32) (x14 : Int32) (x15 : Int32) (x16 : Int32) (x17 : Int32) (Ω : zo_O) (res : zo_R), K516 x1 x2 x3 x4 x5 x6 x14 x15 x16 x17 Ω = some res → TW Y res Ω 516 [(0, vo none), (1, vr 35 x1), (2, vi x2), (3, vi x3), (4, vi x4), (5, vi x5), (6, vi x6), (14, vi x14), (15, vi x15), (16, vi x16), (17, vi x17)] []) (x1 : Nat) (x2 : Int32) (x3 : Int32) (x4 : Int32) (x5 : Int32) (x6 : Int32) (x14 : Int32) (x15 : Int32) (x16 : Int32) (x17 : Int32) (Ω : zo_O) (res : zo_R) (h : bd_J16_sort_2_b_516 N K0 K516 x1 x2 x3 x4 x5 x6 x14 x15 x16 x17 Ω = some res) : TW Y res Ω 516 [(0, vo none), (1, vr 35 x1), (2, vi x2), (3, vi x3), (4, vi x4), (5, vi x5), (6, vi x6), (14, vi x14), (15, vi x15), (16, vi x16), (17, vi x17)] [] := by
  unfold bd_J16_sort_2_b_516 at h
  refine zo_aload_n hY dJ16_sort_2_516 rfl 1 rfl ?_
  refine zo_iinc hY 1 dJ16_sort_2_517 (by decide) (by decide) 7 rfl rfl (ls' := [(14, vi (x14 + 1)), (0, vo none), (1, vr 35 x1), (2, vi x2), (3, vi x3), (4, vi x4), (5, vi x5), (6, vi x6), (15, vi x15), (16, vi x16), (17, vi x17)]) rfl ?_
  refine zo_iload hY dJ16_sort_2_520 0 rfl ?_
  refine zo_ald hY (by decide) (Or.inl ⟨rfl, dJ16_sort_2_522⟩) (fun _ => rfl) h (fun j1 h => ?_)
  refine zo_iload hY dJ16_sort_2_523 9 rfl ?_
  refine zo_icmp_ge hY 531 dJ16_sort_2_525 (by decide) h (fun c2 h => ?_) (fun c2 h => ?_)
  · refine zo_sub [1, 2, 3, 4, 5, 6, 7, 0, 8, 9, 10] rfl ?_
    exact ct_J16_sort_2_b_531 hY hJ hCon hr N K0 hK0 N x1 x2 x3 x4 x5 x6 (x14 + 1) x15 x16 x17 Ω _ h
  · refine zo_goto hY 516 dJ16_sort_2_528 (by decide) ?_
    refine zo_sub [1, 2, 3, 4, 5, 6, 7, 0, 8, 9, 10] rfl ?_
    exact hK516 x1 x2 x3 x4 x5 x6 (x14 + 1) x15 x16 x17 Ω _ h
def fn_J16_sort_2_b_516 (N : Nat) (K0 : Nat → Int32 → Int32 → Int32 → zo_O → Option zo_R) : Nat → Nat → Int32 → Int32 → Int32 → Int32 → Int32 → Int32 → Int32 → Int32 → Int32 → zo_O → Option zo_R
  | 0, _, _, _, _, _, _, _, _, _, _, _ => none
  | n + 1, x1, x2, x3, x4, x5, x6, x14, x15, x16, x17, Ω => bd_J16_sort_2_b_516 N K0 (fn_J16_sort_2_b_516 N K0 n) x1 x2 x3 x4 x5 x6 x14 x15 x16 x17 Ω
theorem ct_J16_sort_2_b_516 {Y : zo_Y} (hY : zo_Gd Y cJ16_sort_2 21 RJ16 1) (hJ : zo_JC (zo_J Y)) (hCon : ∀ Ω, zo_J Y Ω → zo_Con Ω) (hr : zo_rt Y (Option.none : Option Jvm.ClassFile.FieldType)) (N : Nat) (K0 : Nat → Int32 → Int32 → Int32 → zo_O → Option zo_R) (hK0 : ∀ (x1 : Nat) (x2 : Int32) (x3 : Int32) (x4 : Int32) (Ω : zo_O) (res : zo_R), K0 x1 x2 x3 x4 Ω = some res → TW Y res Ω 0 [(0, vo none), (1, vr 35 x1), (2, vi x2), (3, vi x3), (4, vi x4)] []) : ∀ (n : Nat) (x1 : Nat) (x2 : Int32) (x3 : Int32) (x4 : Int32) (x5 : Int32) (x6 : Int32) (x14 : Int32) (x15 : Int32) (x16 : Int32) (x17 : Int32) (Ω : zo_O) (res : zo_R), fn_J16_sort_2_b_516 N K0 n x1 x2 x3 x4 x5 x6 x14 x15 x16 x17 Ω = some res → TW Y res Ω 516 [(0, vo none), (1, vr 35 x1), (2, vi x2), (3, vi x3), (4, vi x4), (5, vi x5), (6, vi x6), (14, vi x14), (15, vi x15), (16, vi x16), (17, vi x17)] [] := by
  intro n
  induction n with
  | zero => intro x1 x2 x3 x4 x5 x6 x14 x15 x16 x17 Ω res h; exact nomatch (show (none : Option zo_R) = some res from h)
  | succ n ih => intro x1 x2 x3 x4 x5 x6 x14 x15 x16 x17 Ω res h; exact cb_J16_sort_2_b_516 hY hJ hCon hr N K0 (fn_J16_sort_2_b_516 N K0 n) hK0 ih x1 x2 x3 x4 x5 x6 x14 x15 x16 x17 Ω res h
def fn_J16_sort_2_b_886 (N : Nat) (K0 : Nat → Int32 → Int32 → Int32 → zo_O → Option zo_R) (K797 : Nat → Int32 → Int32 → Int32 → Int32 → Int32 → Int32 → Int32 → Int32 → zo_O → Option zo_R) (x1 : Nat) (x2 : Int32) (x3 : Int32) (x4 : Int32) (x6 : Int32) (x14 : Int32) (x15 : Int32) (x16 : Int32) (x17 : Int32) (Ω : zo_O) : Option zo_R :=
  K797 x1 x2 x3 x4 x6 x14 x15 x16 x17 Ω
theorem ct_J16_sort_2_b_886 {Y : zo_Y} (hY : zo_Gd Y cJ16_sort_2 21 RJ16 1) (hJ : zo_JC (zo_J Y)) (hCon : ∀ Ω, zo_J Y Ω → zo_Con Ω) (hr : zo_rt Y (Option.none : Option Jvm.ClassFile.FieldType)) (N : Nat) (K0 : Nat → Int32 → Int32 → Int32 → zo_O → Option zo_R) (K797 : Nat → Int32 → Int32 → Int32 → Int32 → Int32 → Int32 → Int32 → Int32 → zo_O → Option zo_R) (hK0 : ∀ (x1 : Nat) (x2 : Int32) (x3 : Int32) (x4 : Int32) (Ω : zo_O) (res : zo_R), K0 x1 x2 x3 x4 Ω = some res → TW Y res Ω 0 [(0, vo none), (1, vr 35 x1), (2, vi x2), (3, vi x3), (4, vi x4)] []) (hK797 : ∀ (x1 : Nat) (x2 : Int32) (x3 : Int32) (x4 : Int32) (x6 : Int32) (x14 : Int32) (x15 : Int32) (x16 : Int32) (x17 : Int32) (Ω : zo_O) (res : zo_R), K797 x1 x2 x3 x4 x6 x14 x15 x16 x17 Ω = some res → TW Y res Ω 797 [(0, vo none), (1, vr 35 x1), (2, vi x2), (3, vi x3), (4, vi x4), (6, vi x6), (14, vi x14), (15, vi x15), (16, vi x16), (17, vi x17)] []) (x1 : Nat) (x2 : Int32) (x3 : Int32) (x4 : Int32) (x6 : Int32) (x14 : Int32) (x15 : Int32) (x16 : Int32) (x17 : Int32) (Ω : zo_O) (res : zo_R) (h : fn_J16_sort_2_b_886 N K0 K797 x1 x2 x3 x4 x6 x14 x15 x16 x17 Ω = some res) : TW Y res Ω 886 [(0, vo none), (1, vr 35 x1), (2, vi x2), (3, vi x3), (4, vi x4), (6, vi x6), (14, vi x14), (15, vi x15), (16, vi x16), (17, vi x17)] [] := by
  unfold fn_J16_sort_2_b_886 at h
  refine zo_goto hY 797 dJ16_sort_2_886 (by decide) ?_
  exact hK797 x1 x2 x3 x4 x6 x14 x15 x16 x17 Ω _ h
def fn_J16_sort_2_b_868 (N : Nat) (K0 : Nat → Int32 → Int32 → Int32 → zo_O → Option zo_R) (K797 : Nat → Int32 → Int32 → Int32 → Int32 → Int32 → Int32 → Int32 → Int32 → zo_O → Option zo_R) (x1 : Nat) (x2 : Int32) (x3 : Int32) (x4 : Int32) (x6 : Int32) (x14 : Int32) (x15 : Int32) (x16 : Int32) (x17 : Int32) (x18 : Int32) (Ω : zo_O) : Option zo_R :=
  ix x14 (gL Ω 35 x1) fun j1 => lt (sI Ω 35 x1 j1 x18) fun Ω2 =>
  fn_J16_sort_2_b_886 N K0 K797 x1 x2 x3 x4 x6 x14 x15 x16 x17 Ω2
theorem ct_J16_sort_2_b_868 {Y : zo_Y} (hY : zo_Gd Y cJ16_sort_2 21 RJ16 1) (hJ : zo_JC (zo_J Y)) (hCon : ∀ Ω, zo_J Y Ω → zo_Con Ω) (hr : zo_rt Y (Option.none : Option Jvm.ClassFile.FieldType)) (N : Nat) (K0 : Nat → Int32 → Int32 → Int32 → zo_O → Option zo_R) (K797 : Nat → Int32 → Int32 → Int32 → Int32 → Int32 → Int32 → Int32 → Int32 → zo_O → Option zo_R) (hK0 : ∀ (x1 : Nat) (x2 : Int32) (x3 : Int32) (x4 : Int32) (Ω : zo_O) (res : zo_R), K0 x1 x2 x3 x4 Ω = some res → TW Y res Ω 0 [(0, vo none), (1, vr 35 x1), (2, vi x2), (3, vi x3), (4, vi x4)] []) (hK797 : ∀ (x1 : Nat) (x2 : Int32) (x3 : Int32) (x4 : Int32) (x6 : Int32) (x14 : Int32) (x15 : Int32) (x16 : Int32) (x17 : Int32) (Ω : zo_O) (res : zo_R), K797 x1 x2 x3 x4 x6 x14 x15 x16 x17 Ω = some res → TW Y res Ω 797 [(0, vo none), (1, vr 35 x1), (2, vi x2), (3, vi x3), (4, vi x4), (6, vi x6), (14, vi x14), (15, vi x15), (16, vi x16), (17, vi x17)] []) (x1 : Nat) (x2 : Int32) (x3 : Int32) (x4 : Int32) (x6 : Int32) (x14 : Int32) (x15 : Int32) (x16 : Int32) (x17 : Int32) (x18 : Int32) (Ω : zo_O) (res : zo_R) (h : fn_J16_sort_2_b_868 N K0 K797 x1 x2 x3 x4 x6 x14 x15 x16 x17 x18 Ω = some res) : TW Y res Ω 868 [(0, vo none), (1, vr 35 x1), (2, vi x2), (3, vi x3), (4, vi x4), (6, vi x6), (14, vi x14), (15, vi x15), (16, vi x16), (17, vi x17), (18, vi x18)] [] := by
  unfold fn_J16_sort_2_b_868 at h
  refine zo_aload_n hY dJ16_sort_2_868 rfl 1 rfl ?_
  refine zo_iload hY dJ16_sort_2_869 6 rfl ?_
  refine zo_iload hY dJ16_sort_2_871 10 rfl ?_
  refine zo_ast hY hJ (by decide) (Or.inl ⟨rfl, rfl, dJ16_sort_2_873⟩) (fun _ => rfl) h (fun j1 Ω2 h => ?_)
  refine zo_goto hY 886 dJ16_sort_2_874 (by decide) ?_
  refine zo_sub [0, 1, 2, 3, 4, 5, 6, 7, 8, 9] rfl ?_
  exact ct_J16_sort_2_b_886 hY hJ hCon hr N K0 K797 hK0 hK797 x1 x2 x3 x4 x6 x14 x15 x16 x17 Ω2 _ h
def bd_J16_sort_2_b_833 (N : Nat) (K0 : Nat → Int32 → Int32 → Int32 → zo_O → Option zo_R) (K797 : Nat → Int32 → Int32 → Int32 → Int32 → Int32 → Int32 → Int32 → Int32 → zo_O → Option zo_R) (K833 : Nat → Int32 → Int32 → Int32 → Int32 → Int32 → Int32 → Int32 → Int32 → Int32 → zo_O → Option zo_R) (x1 : Nat) (x2 : Int32) (x3 : Int32) (x4 : Int32) (x6 : Int32) (x14 : Int32) (x15 : Int32) (x16 : Int32) (x17 : Int32) (x18 : Int32) (Ω : zo_O) : Option zo_R :=
  ix (x14 + 1) (gL Ω 35 x1) fun j1 =>
  if x16 ≤ gI Ω 35 x1 j1 then (
    ix (x14 + 1) (gL Ω 35 x1) fun j3 =>
    if gI Ω 35 x1 j3 ≤ x16 then (
      fn_J16_sort_2_b_868 N K0 K797 x1 x2 x3 x4 x6 (x14 + 1) x15 x16 x17 x18 Ω
      ) else
    ix (x14 + 1) (gL Ω 35 x1) fun j5 =>
    ix (x15 + (-1)) (gL Ω 35 x1) fun j6 => lt (sI Ω 35 x1 j6 (gI Ω 35 x1 j5)) fun Ω7 =>
    fn_J16_sort_2_b_868 N K0 K797 x1 x2 x3 x4 x6 (x14 + 1) (x15 + (-1)) x16 x17 x18 Ω7
    ) else
  K833 x1 x2 x3 x4 x6 (x14 + 1) x15 x16 x17 x18 Ω
theorem cb_J16_sort_2_b_833 {Y : zo_Y} (hY : zo_Gd Y cJ16_sort_2 21 RJ16 1) (hJ : zo_JC (zo_J Y)) (hCon : ∀ Ω, zo_J Y Ω → zo_Con Ω) (hr : zo_rt Y (Option.none : Option Jvm.ClassFile.FieldType)) (N : Nat) (K0 : Nat → Int32 → Int32 → Int32 → zo_O → Option zo_R) (K797 : Nat → Int32 → Int32 → Int32 → Int32 → Int32 → Int32 → Int32 → Int32 → zo_O → Option zo_R) (K833 : Nat → Int32 → Int32 → Int32 → Int32 → Int32 → Int32 → Int32 → Int32 → Int32 → zo_O → Option zo_R) (hK0 : ∀ (x1 : Nat) (x2 : Int32) (x3 : Int32) (x4 : Int32) (Ω : zo_O) (res : zo_R), K0 x1 x2 x3 x4 Ω = some res → TW Y res Ω 0 [(0, vo none), (1, vr 35 x1), (2, vi x2), (3, vi x3), (4, vi x4)] []) (hK797 : ∀ (x1 : Nat) (x2 : Int32) (x3 : Int32) (x4 : Int32) (x6 : Int32) (x14 : Int32) (x15 : Int32) (x16 : Int32) (x17 : Int32) (Ω : zo_O) (res : zo_R), K797 x1 x2 x3 x4 x6 x14 x15 x16 x17 Ω = some res → TW Y res Ω 797 [(0, vo none), (1, vr 35 x1), (2, vi x2), (3, vi x3), (4, vi x4), (6, vi x6), (14, vi x14), (15, vi x15), (16, vi x16), (17, vi x17)] []) (hK833 : ∀ (x1 : Nat) (x2 : Int32) (x3 : Int32) (x4 : Int32) (x6 : Int32) (x14 : Int32) (x15 : Int32) (x16 : Int32) (x17 : Int32) (x18 : Int32) (Ω : zo_O) (res : zo_R), K833 x1 x2 x3 x4 x6 x14 x15 x16 x17 x18 Ω = some res → TW Y res Ω 833 [(0, vo none), (1, vr 35 x1), (2, vi x2), (3, vi x3), (4, vi x4), (6, vi x6), (14, vi x14), (15, vi x15), (16, vi x16), (17, vi x17), (18, vi x18)] []) (x1 : Nat) (x2 : Int32) (x3 : Int32) (x4 : Int32) (x6 : Int32) (x14 : Int32) (x15 : Int32) (x16 : Int32) (x17 : Int32) (x18 : Int32) (Ω : zo_O) (res : zo_R) (h : bd_J16_sort_2_b_833 N K0 K797 K833 x1 x2 x3 x4 x6 x14 x15 x16 x17 x18 Ω = some res) : TW Y res Ω 833 [(0, vo none), (1, vr 35 x1), (2, vi x2), (3, vi x3), (4, vi x4), (6, vi x6), (14, vi x14), (15, vi x15), (16, vi x16), (17, vi x17), (18, vi x18)] [] := by
  unfold bd_J16_sort_2_b_833 at h
  refine zo_aload_n hY dJ16_sort_2_833 rfl 1 rfl ?_
  refine zo_iinc hY 1 dJ16_sort_2_834 (by decide) (by decide) 6 rfl rfl (ls' := [(14, vi (x14 + 1)), (0, vo none), (1, vr 35 x1), (2, vi x2), (3, vi x3), (4, vi x4), (6, vi x6), (15, vi x15), (16, vi x16), (17, vi x17), (18, vi x18)]) rfl ?_
  refine zo_iload hY dJ16_sort_2_837 0 rfl ?_
  refine zo_ald hY (by decide) (Or.inl ⟨rfl, dJ16_sort_2_839⟩) (fun _ => rfl) h (fun j1 h => ?_)
  refine zo_iload hY dJ16_sort_2_840 8 rfl ?_
  refine zo_icmp_ge hY 848 dJ16_sort_2_842 (by decide) h (fun c2 h => ?_) (fun c2 h => ?_)
  · refine zo_aload_n hY dJ16_sort_2_848 rfl 2 rfl ?_
    refine zo_iload hY dJ16_sort_2_849 0 rfl ?_
    refine zo_ald hY (by decide) (Or.inl ⟨rfl, dJ16_sort_2_851⟩) (fun _ => rfl) h (fun j3 h => ?_)
    refine zo_iload hY dJ16_sort_2_852 8 rfl ?_
    refine zo_icmp_le hY 868 dJ16_sort_2_854 (by decide) h (fun c4 h => ?_) (fun c4 h => ?_)
    · refine zo_sub [1, 2, 3, 4, 5, 6, 0, 7, 8, 9, 10] rfl ?_
      exact ct_J16_sort_2_b_868 hY hJ hCon hr N K0 K797 hK0 hK797 x1 x2 x3 x4 x6 (x14 + 1) x15 x16 x17 x18 Ω _ h
    · refine zo_aload_n hY dJ16_sort_2_857 rfl 2 rfl ?_
      refine zo_iinc hY (-1) dJ16_sort_2_858 (by decide) (by decide) 7 rfl rfl (ls' := [(15, vi (x15 + (-1))), (14, vi (x14 + 1)), (0, vo none), (1, vr 35 x1), (2, vi x2), (3, vi x3), (4, vi x4), (6, vi x6), (16, vi x16), (17, vi x17), (18, vi x18)]) rfl ?_
      refine zo_iload hY dJ16_sort_2_861 0 rfl ?_
      refine zo_aload_n hY dJ16_sort_2_863 rfl 3 rfl ?_
      refine zo_iload hY dJ16_sort_2_864 1 rfl ?_
      refine zo_ald hY (by decide) (Or.inl ⟨rfl, dJ16_sort_2_866⟩) (fun _ => rfl) h (fun j5 h => ?_)
      refine zo_ast hY hJ (by decide) (Or.inl ⟨rfl, rfl, dJ16_sort_2_867⟩) (fun _ => rfl) h (fun j6 Ω7 h => ?_)
      refine zo_sub [2, 3, 4, 5, 6, 7, 1, 0, 8, 9, 10] rfl ?_
      exact ct_J16_sort_2_b_868 hY hJ hCon hr N K0 K797 hK0 hK797 x1 x2 x3 x4 x6 (x14 + 1) (x15 + (-1)) x16 x17 x18 Ω7 _ h
  · refine zo_goto hY 833 dJ16_sort_2_845 (by decide) ?_
    refine zo_sub [1, 2, 3, 4, 5, 6, 0, 7, 8, 9, 10] rfl ?_
    exact hK833 x1 x2 x3 x4 x6 (x14 + 1) x15 x16 x17 x18 Ω _ h
def fn_J16_sort_2_b_833 (N : Nat) (K0 : Nat → Int32 → Int32 → Int32 → zo_O → Option zo_R) (K797 : Nat → Int32 → Int32 → Int32 → Int32 → Int32 → Int32 → Int32 → Int32 → zo_O → Option zo_R) : Nat → Nat → Int32 → Int32 → Int32 → Int32 → Int32 → Int32 → Int32 → Int32 → Int32 → zo_O → Option zo_R
  | 0, _, _, _, _, _, _, _, _, _, _, _ => none
  | n + 1, x1, x2, x3, x4, x6, x14, x15, x16, x17, x18, Ω => bd_J16_sort_2_b_833 N K0 K797 (fn_J16_sort_2_b_833 N K0 K797 n) x1 x2 x3 x4 x6 x14 x15 x16 x17 x18 Ω
theorem ct_J16_sort_2_b_833 {Y : zo_Y} (hY : zo_Gd Y cJ16_sort_2 21 RJ16 1) (hJ : zo_JC (zo_J Y)) (hCon : ∀ Ω, zo_J Y Ω → zo_Con Ω) (hr : zo_rt Y (Option.none : Option Jvm.ClassFile.FieldType)) (N : Nat) (K0 : Nat → Int32 → Int32 → Int32 → zo_O → Option zo_R) (K797 : Nat → Int32 → Int32 → Int32 → Int32 → Int32 → Int32 → Int32 → Int32 → zo_O → Option zo_R) (hK0 : ∀ (x1 : Nat) (x2 : Int32) (x3 : Int32) (x4 : Int32) (Ω : zo_O) (res : zo_R), K0 x1 x2 x3 x4 Ω = some res → TW Y res Ω 0 [(0, vo none), (1, vr 35 x1), (2, vi x2), (3, vi x3), (4, vi x4)] []) (hK797 : ∀ (x1 : Nat) (x2 : Int32) (x3 : Int32) (x4 : Int32) (x6 : Int32) (x14 : Int32) (x15 : Int32) (x16 : Int32) (x17 : Int32) (Ω : zo_O) (res : zo_R), K797 x1 x2 x3 x4 x6 x14 x15 x16 x17 Ω = some res → TW Y res Ω 797 [(0, vo none), (1, vr 35 x1), (2, vi x2), (3, vi x3), (4, vi x4), (6, vi x6), (14, vi x14), (15, vi x15), (16, vi x16), (17, vi x17)] []) : ∀ (n : Nat) (x1 : Nat) (x2 : Int32) (x3 : Int32) (x4 : Int32) (x6 : Int32) (x14 : Int32) (x15 : Int32) (x16 : Int32) (x17 : Int32) (x18 : Int32) (Ω : zo_O) (res : zo_R), fn_J16_sort_2_b_833 N K0 K797 n x1 x2 x3 x4 x6 x14 x15 x16 x17 x18 Ω = some res → TW Y res Ω 833 [(0, vo none), (1, vr 35 x1), (2, vi x2), (3, vi x3), (4, vi x4), (6, vi x6), (14, vi x14), (15, vi x15), (16, vi x16), (17, vi x17), (18, vi x18)] [] := by
  intro n
  induction n with
  | zero => intro x1 x2 x3 x4 x6 x14 x15 x16 x17 x18 Ω res h; exact nomatch (show (none : Option zo_R) = some res from h)
  | succ n ih => intro x1 x2 x3 x4 x6 x14 x15 x16 x17 x18 Ω res h; exact cb_J16_sort_2_b_833 hY hJ hCon hr N K0 K797 (fn_J16_sort_2_b_833 N K0 K797 n) hK0 hK797 ih x1 x2 x3 x4 x6 x14 x15 x16 x17 x18 Ω res h
def fn_J16_sort_2_b_928 (N : Nat) (K0 : Nat → Int32 → Int32 → Int32 → zo_O → Option zo_R) (x1 : Nat) (x2 : Int32) (x3 : Int32) (x4 : Int32) (x14 : Int32) (x15 : Int32) (Ω : zo_O) : Option zo_R :=
  none
theorem ct_J16_sort_2_b_928 {Y : zo_Y} (hY : zo_Gd Y cJ16_sort_2 21 RJ16 1) (hJ : zo_JC (zo_J Y)) (hCon : ∀ Ω, zo_J Y Ω → zo_Con Ω) (hr : zo_rt Y (Option.none : Option Jvm.ClassFile.FieldType)) (N : Nat) (K0 : Nat → Int32 → Int32 → Int32 → zo_O → Option zo_R) (hK0 : ∀ (x1 : Nat) (x2 : Int32) (x3 : Int32) (x4 : Int32) (Ω : zo_O) (res : zo_R), K0 x1 x2 x3 x4 Ω = some res → TW Y res Ω 0 [(0, vo none), (1, vr 35 x1), (2, vi x2), (3, vi x3), (4, vi x4)] []) (x1 : Nat) (x2 : Int32) (x3 : Int32) (x4 : Int32) (x14 : Int32) (x15 : Int32) (Ω : zo_O) (res : zo_R) (h : fn_J16_sort_2_b_928 N K0 x1 x2 x3 x4 x14 x15 Ω = some res) : TW Y res Ω 928 [(0, vo none), (1, vr 35 x1), (2, vi x2), (3, vi x3), (4, vi x4), (14, vi x14), (15, vi x15)] [] := by
  unfold fn_J16_sort_2_b_928 at h
  refine zo_aload_n hY dJ16_sort_2_928 rfl 0 rfl ?_
  refine zo_aload_n hY dJ16_sort_2_929 rfl 1 rfl ?_
  refine zo_iload_n hY dJ16_sort_2_930 rfl 2 rfl ?_
  refine zo_iconst hY 1 (by decide) dJ16_sort_2_931 ?_
  refine zo_ior hY dJ16_sort_2_932 ?_
  refine zo_iload hY dJ16_sort_2_933 6 rfl ?_
  refine zo_iload hY dJ16_sort_2_935 4 rfl ?_
  cases h
def bd_J16_sort_2_b_797 (N : Nat) (K0 : Nat → Int32 → Int32 → Int32 → zo_O → Option zo_R) (K797 : Nat → Int32 → Int32 → Int32 → Int32 → Int32 → Int32 → Int32 → Int32 → zo_O → Option zo_R) (x1 : Nat) (x2 : Int32) (x3 : Int32) (x4 : Int32) (x6 : Int32) (x14 : Int32) (x15 : Int32) (x16 : Int32) (x17 : Int32) (Ω : zo_O) : Option zo_R :=
  if x17 + (-1) ≤ x14 then (
    ix x14 (gL Ω 35 x1) fun j2 =>
    ix x3 (gL Ω 35 x1) fun j3 => lt (sI Ω 35 x1 j3 (gI Ω 35 x1 j2)) fun Ω4 =>
    ix x14 (gL Ω4 35 x1) fun j5 => lt (sI Ω4 35 x1 j5 x16) fun Ω6 =>
    if x6 ≤ 4096 then (
      fn_J16_sort_2_b_928 N K0 x1 x2 x3 x4 x14 x15 Ω6
      ) else
    fn_J16_sort_2_b_928 N K0 x1 x2 x3 x4 x14 x15 Ω6
    ) else
  ix (x17 + (-1)) (gL Ω 35 x1) fun j8 =>
  li (gI Ω 35 x1 j8) fun y9 =>
  if y9 = x16 then (
    fn_J16_sort_2_b_886 N K0 K797 x1 x2 x3 x4 x6 x14 x15 x16 (x17 + (-1)) Ω
    ) else
  ix (x17 + (-1)) (gL Ω 35 x1) fun j11 => lt (sI Ω 35 x1 j11 x16) fun Ω12 =>
  if x16 ≤ y9 then (
    ix (x15 + (-1)) (gL Ω12 35 x1) fun j14 => lt (sI Ω12 35 x1 j14 y9) fun Ω15 =>
    fn_J16_sort_2_b_886 N K0 K797 x1 x2 x3 x4 x6 x14 (x15 + (-1)) x16 (x17 + (-1)) Ω15
    ) else
  fn_J16_sort_2_b_833 N K0 K797 N x1 x2 x3 x4 x6 x14 x15 x16 (x17 + (-1)) y9 Ω12
theorem cb_J16_sort_2_b_797 {Y : zo_Y} (hY : zo_Gd Y cJ16_sort_2 21 RJ16 1) (hJ : zo_JC (zo_J Y)) (hCon : ∀ Ω, zo_J Y Ω → zo_Con Ω) (hr : zo_rt Y (Option.none : Option Jvm.ClassFile.FieldType)) (N : Nat) (K0 : Nat → Int32 → Int32 → Int32 → zo_O → Option zo_R) (K797 : Nat → Int32 → Int32 → Int32 → Int32 → Int32 → Int32 → Int32 → Int32 → zo_O → Option zo_R) (hK0 : ∀ (x1 : Nat) (x2 : Int32) (x3 : Int32) (x4 : Int32) (Ω : zo_O) (res : zo_R), K0 x1 x2 x3 x4 Ω = some res → TW Y res Ω 0 [(0, vo none), (1, vr 35 x1), (2, vi x2), (3, vi x3), (4, vi x4)] []) (hK797 : ∀ (x1 : Nat) (x2 : Int32) (x3 : Int32) (x4 : Int32) (x6 : Int32) (x14 : Int32) (x15 : Int32) (x16 : Int32) (x17 : Int32) (Ω : zo_O) (res : zo_R), K797 x1 x2 x3 x4 x6 x14 x15 x16 x17 Ω = some res → TW Y res Ω 797 [(0, vo none), (1, vr 35 x1), (2, vi x2), (3, vi x3), (4, vi x4), (6, vi x6), (14, vi x14), (15, vi x15), (16, vi x16), (17, vi x17)] []) (x1 : Nat) (x2 : Int32) (x3 : Int32) (x4 : Int32) (x6 : Int32) (x14 : Int32) (x15 : Int32) (x16 : Int32) (x17 : Int32) (Ω : zo_O) (res : zo_R) (h : bd_J16_sort_2_b_797 N K0 K797 x1 x2 x3 x4 x6 x14 x15 x16 x17 Ω = some res) : TW Y res Ω 797 [(0, vo none), (1, vr 35 x1), (2, vi x2), (3, vi x3), (4, vi x4), (6, vi x6), (14, vi x14), (15, vi x15), (16, vi x16), (17, vi x17)] [] := by
  unfold bd_J16_sort_2_b_797 at h
  refine zo_iinc hY (-1) dJ16_sort_2_797 (by decide) (by decide) 9 rfl rfl (ls' := [(17, vi (x17 + (-1))), (0, vo none), (1, vr 35 x1), (2, vi x2), (3, vi x3), (4, vi x4), (6, vi x6), (14, vi x14), (15, vi x15), (16, vi x16)]) rfl ?_
  refine zo_iload hY dJ16_sort_2_800 0 rfl ?_
  refine zo_iload hY dJ16_sort_2_802 7 rfl ?_
  refine zo_icmp_le hY 889 dJ16_sort_2_804 (by decide) h (fun c1 h => ?_) (fun c1 h => ?_)
  · refine zo_aload_n hY dJ16_sort_2_889 rfl 2 rfl ?_
    refine zo_iload_n hY dJ16_sort_2_890 rfl 4 rfl ?_
    refine zo_aload_n hY dJ16_sort_2_891 rfl 2 rfl ?_
    refine zo_iload hY dJ16_sort_2_892 7 rfl ?_
    refine zo_ald hY (by decide) (Or.inl ⟨rfl, dJ16_sort_2_894⟩) (fun _ => rfl) h (fun j2 h => ?_)
    refine zo_ast hY hJ (by decide) (Or.inl ⟨rfl, rfl, dJ16_sort_2_895⟩) (fun _ => rfl) h (fun j3 Ω4 h => ?_)
    refine zo_aload_n hY dJ16_sort_2_896 rfl 2 rfl ?_
    refine zo_iload hY dJ16_sort_2_897 7 rfl ?_
    refine zo_iload hY dJ16_sort_2_899 9 rfl ?_
    refine zo_ast hY hJ (by decide) (Or.inl ⟨rfl, rfl, dJ16_sort_2_901⟩) (fun _ => rfl) h (fun j5 Ω6 h => ?_)
    refine zo_iload hY dJ16_sort_2_902 6 rfl ?_
    refine zo_sipush hY 4096 (by decide) dJ16_sort_2_904 ?_
    refine zo_icmp_le hY 928 dJ16_sort_2_907 (by decide) h (fun c7 h => ?_) (fun c7 h => ?_)
    · refine zo_sub [1, 2, 3, 4, 5, 7, 8] rfl ?_
      exact ct_J16_sort_2_b_928 hY hJ hCon hr N K0 hK0 x1 x2 x3 x4 x14 x15 Ω6 _ h
    · refine zo_aload_n hY dJ16_sort_2_910 rfl 1 rfl ?_
      refine zo_ifnull0 hY 928 dJ16_sort_2_911 (by decide) ?_
      refine zo_sub [1, 2, 3, 4, 5, 7, 8] rfl ?_
      exact ct_J16_sort_2_b_928 hY hJ hCon hr N K0 hK0 x1 x2 x3 x4 x14 x15 Ω6 _ h
  · refine zo_aload_n hY dJ16_sort_2_807 rfl 2 rfl ?_
    refine zo_iload hY dJ16_sort_2_808 0 rfl ?_
    refine zo_ald hY (by decide) (Or.inl ⟨rfl, dJ16_sort_2_810⟩) (fun _ => rfl) h (fun j8 h => ?_)
    refine zo_nmi h (fun y9 h => ?_)
    refine zo_istore hY dJ16_sort_2_811 (by decide) rfl (ls' := [(18, vi y9), (17, vi (x17 + (-1))), (0, vo none), (1, vr 35 x1), (2, vi x2), (3, vi x3), (4, vi x4), (6, vi x6), (14, vi x14), (15, vi x15), (16, vi x16)]) rfl ?_
    refine zo_iload hY dJ16_sort_2_813 0 rfl ?_
    refine zo_iload hY dJ16_sort_2_815 10 rfl ?_
    refine zo_icmp_eq hY 886 dJ16_sort_2_817 (by decide) h (fun c10 h => ?_) (fun c10 h => ?_)
    · refine zo_sub [2, 3, 4, 5, 6, 7, 8, 9, 10, 1] rfl ?_
      exact ct_J16_sort_2_b_886 hY hJ hCon hr N K0 K797 hK0 hK797 x1 x2 x3 x4 x6 x14 x15 x16 (x17 + (-1)) Ω _ h
    · refine zo_aload_n hY dJ16_sort_2_820 rfl 3 rfl ?_
      refine zo_iload hY dJ16_sort_2_821 1 rfl ?_
      refine zo_iload hY dJ16_sort_2_823 10 rfl ?_
      refine zo_ast hY hJ (by decide) (Or.inl ⟨rfl, rfl, dJ16_sort_2_825⟩) (fun _ => rfl) h (fun j11 Ω12 h => ?_)
      refine zo_iload hY dJ16_sort_2_826 0 rfl ?_
      refine zo_iload hY dJ16_sort_2_828 10 rfl ?_
      refine zo_icmp_ge hY 877 dJ16_sort_2_830 (by decide) h (fun c13 h => ?_) (fun c13 h => ?_)
      · refine zo_aload_n hY dJ16_sort_2_877 rfl 3 rfl ?_
        refine zo_iinc hY (-1) dJ16_sort_2_878 (by decide) (by decide) 9 rfl rfl (ls' := [(15, vi (x15 + (-1))), (18, vi y9), (17, vi (x17 + (-1))), (0, vo none), (1, vr 35 x1), (2, vi x2), (3, vi x3), (4, vi x4), (6, vi x6), (14, vi x14), (16, vi x16)]) rfl ?_
        refine zo_iload hY dJ16_sort_2_881 0 rfl ?_
        refine zo_iload hY dJ16_sort_2_883 1 rfl ?_
        refine zo_ast hY hJ (by decide) (Or.inl ⟨rfl, rfl, dJ16_sort_2_885⟩) (fun _ => rfl) h (fun j14 Ω15 h => ?_)
        refine zo_sub [3, 4, 5, 6, 7, 8, 9, 0, 10, 2] rfl ?_
        exact ct_J16_sort_2_b_886 hY hJ hCon hr N K0 K797 hK0 hK797 x1 x2 x3 x4 x6 x14 (x15 + (-1)) x16 (x17 + (-1)) Ω15 _ h
      · refine zo_sub [2, 3, 4, 5, 6, 7, 8, 9, 10, 1, 0] rfl ?_
        exact ct_J16_sort_2_b_833 hY hJ hCon hr N K0 K797 hK0 hK797 N x1 x2 x3 x4 x6 x14 x15 x16 (x17 + (-1)) y9 Ω12 _ h
def fn_J16_sort_2_b_797 (N : Nat) (K0 : Nat → Int32 → Int32 → Int32 → zo_O → Option zo_R) : Nat → Nat → Int32 → Int32 → Int32 → Int32 → Int32 → Int32 → Int32 → Int32 → zo_O → Option zo_R
  | 0, _, _, _, _, _, _, _, _, _, _ => none
  | n + 1, x1, x2, x3, x4, x6, x14, x15, x16, x17, Ω => bd_J16_sort_2_b_797 N K0 (fn_J16_sort_2_b_797 N K0 n) x1 x2 x3 x4 x6 x14 x15 x16 x17 Ω
theorem ct_J16_sort_2_b_797 {Y : zo_Y} (hY : zo_Gd Y cJ16_sort_2 21 RJ16 1) (hJ : zo_JC (zo_J Y)) (hCon : ∀ Ω, zo_J Y Ω → zo_Con Ω) (hr : zo_rt Y (Option.none : Option Jvm.ClassFile.FieldType)) (N : Nat) (K0 : Nat → Int32 → Int32 → Int32 → zo_O → Option zo_R) (hK0 : ∀ (x1 : Nat) (x2 : Int32) (x3 : Int32) (x4 : Int32) (Ω : zo_O) (res : zo_R), K0 x1 x2 x3 x4 Ω = some res → TW Y res Ω 0 [(0, vo none), (1, vr 35 x1), (2, vi x2), (3, vi x3), (4, vi x4)] []) : ∀ (n : Nat) (x1 : Nat) (x2 : Int32) (x3 : Int32) (x4 : Int32) (x6 : Int32) (x14 : Int32) (x15 : Int32) (x16 : Int32) (x17 : Int32) (Ω : zo_O) (res : zo_R), fn_J16_sort_2_b_797 N K0 n x1 x2 x3 x4 x6 x14 x15 x16 x17 Ω = some res → TW Y res Ω 797 [(0, vo none), (1, vr 35 x1), (2, vi x2), (3, vi x3), (4, vi x4), (6, vi x6), (14, vi x14), (15, vi x15), (16, vi x16), (17, vi x17)] [] := by
  intro n
  induction n with
  | zero => intro x1 x2 x3 x4 x6 x14 x15 x16 x17 Ω res h; exact nomatch (show (none : Option zo_R) = some res from h)
  | succ n ih => intro x1 x2 x3 x4 x6 x14 x15 x16 x17 Ω res h; exact cb_J16_sort_2_b_797 hY hJ hCon hr N K0 (fn_J16_sort_2_b_797 N K0 n) hK0 ih x1 x2 x3 x4 x6 x14 x15 x16 x17 Ω res h
def fn_J16_sort_2_b_776 (N : Nat) (K0 : Nat → Int32 → Int32 → Int32 → zo_O → Option zo_R) (x1 : Nat) (x2 : Int32) (x3 : Int32) (x4 : Int32) (x6 : Int32) (x10 : Int32) (x14 : Int32) (x15 : Int32) (Ω : zo_O) : Option zo_R :=
  ix x10 (gL Ω 35 x1) fun j1 =>
  li (gI Ω 35 x1 j1) fun y2 =>
  ix x14 (gL Ω 35 x1) fun j3 =>
  ix x10 (gL Ω 35 x1) fun j4 => lt (sI Ω 35 x1 j4 (gI Ω 35 x1 j3)) fun Ω5 =>
  li (x15 + 1) fun y6 =>
  fn_J16_sort_2_b_797 N K0 N x1 x2 x3 x4 x6 x14 (x15 + 1) y2 y6 Ω5
theorem ct_J16_sort_2_b_776 {Y : zo_Y} (hY : zo_Gd Y cJ16_sort_2 21 RJ16 1) (hJ : zo_JC (zo_J Y)) (hCon : ∀ Ω, zo_J Y Ω → zo_Con Ω) (hr : zo_rt Y (Option.none : Option Jvm.ClassFile.FieldType)) (N : Nat) (K0 : Nat → Int32 → Int32 → Int32 → zo_O → Option zo_R) (hK0 : ∀ (x1 : Nat) (x2 : Int32) (x3 : Int32) (x4 : Int32) (Ω : zo_O) (res : zo_R), K0 x1 x2 x3 x4 Ω = some res → TW Y res Ω 0 [(0, vo none), (1, vr 35 x1), (2, vi x2), (3, vi x3), (4, vi x4)] []) (x1 : Nat) (x2 : Int32) (x3 : Int32) (x4 : Int32) (x6 : Int32) (x10 : Int32) (x14 : Int32) (x15 : Int32) (Ω : zo_O) (res : zo_R) (h : fn_J16_sort_2_b_776 N K0 x1 x2 x3 x4 x6 x10 x14 x15 Ω = some res) : TW Y res Ω 776 [(0, vo none), (1, vr 35 x1), (2, vi x2), (3, vi x3), (4, vi x4), (6, vi x6), (10, vi x10), (14, vi x14), (15, vi x15)] [] := by
  unfold fn_J16_sort_2_b_776 at h
  refine zo_aload_n hY dJ16_sort_2_776 rfl 1 rfl ?_
  refine zo_iload hY dJ16_sort_2_777 6 rfl ?_
  refine zo_ald hY (by decide) (Or.inl ⟨rfl, dJ16_sort_2_779⟩) (fun _ => rfl) h (fun j1 h => ?_)
  refine zo_nmi h (fun y2 h => ?_)
  refine zo_istore hY dJ16_sort_2_780 (by decide) rfl (ls' := [(16, vi y2), (0, vo none), (1, vr 35 x1), (2, vi x2), (3, vi x3), (4, vi x4), (6, vi x6), (10, vi x10), (14, vi x14), (15, vi x15)]) rfl ?_
  refine zo_aload_n hY dJ16_sort_2_782 rfl 2 rfl ?_
  refine zo_iload hY dJ16_sort_2_783 7 rfl ?_
  refine zo_aload_n hY dJ16_sort_2_785 rfl 2 rfl ?_
  refine zo_iload hY dJ16_sort_2_786 8 rfl ?_
  refine zo_ald hY (by decide) (Or.inl ⟨rfl, dJ16_sort_2_788⟩) (fun _ => rfl) h (fun j3 h => ?_)
  refine zo_ast hY hJ (by decide) (Or.inl ⟨rfl, rfl, dJ16_sort_2_789⟩) (fun _ => rfl) h (fun j4 Ω5 h => ?_)
  refine zo_iinc hY 1 dJ16_sort_2_790 (by decide) (by decide) 9 rfl rfl (ls' := [(15, vi (x15 + 1)), (16, vi y2), (0, vo none), (1, vr 35 x1), (2, vi x2), (3, vi x3), (4, vi x4), (6, vi x6), (10, vi x10), (14, vi x14)]) rfl ?_
  refine zo_iload hY dJ16_sort_2_793 0 rfl ?_
  refine zo_nmi h (fun y6 h => ?_)
  refine zo_istore hY dJ16_sort_2_795 (by decide) rfl (ls' := [(17, vi y6), (15, vi (x15 + 1)), (16, vi y2), (0, vo none), (1, vr 35 x1), (2, vi x2), (3, vi x3), (4, vi x4), (6, vi x6), (10, vi x10), (14, vi x14)]) rfl ?_
  refine zo_sub [3, 4, 5, 6, 7, 8, 10, 1, 2, 0] rfl ?_
  exact ct_J16_sort_2_b_797 hY hJ hCon hr N K0 hK0 N x1 x2 x3 x4 x6 x14 (x15 + 1) y2 y6 Ω5 _ h
def fn_J16_sort_2_b_437 (N : Nat) (K0 : Nat → Int32 → Int32 → Int32 → zo_O → Option zo_R) (x1 : Nat) (x2 : Int32) (x3 : Int32) (x4 : Int32) (x5 : Int32) (x6 : Int32) (x8 : Int32) (x9 : Int32) (x10 : Int32) (x11 : Int32) (x12 : Int32) (Ω : zo_O) : Option zo_R :=
  ix x8 (gL Ω 35 x1) fun j1 =>
  ix x11 (gL Ω 35 x1) fun j2 =>
  if gI Ω 35 x1 j2 ≤ gI Ω 35 x1 j1 then (
    fn_J16_sort_2_b_776 N K0 x1 x2 x3 x4 x6 x10 x3 x5 Ω
    ) else
  ix x11 (gL Ω 35 x1) fun j4 =>
  ix x10 (gL Ω 35 x1) fun j5 =>
  if gI Ω 35 x1 j5 ≤ gI Ω 35 x1 j4 then (
    fn_J16_sort_2_b_776 N K0 x1 x2 x3 x4 x6 x10 x3 x5 Ω
    ) else
  ix x10 (gL Ω 35 x1) fun j7 =>
  ix x12 (gL Ω 35 x1) fun j8 =>
  if gI Ω 35 x1 j8 ≤ gI Ω 35 x1 j7 then (
    fn_J16_sort_2_b_776 N K0 x1 x2 x3 x4 x6 x10 x3 x5 Ω
    ) else
  ix x12 (gL Ω 35 x1) fun j10 =>
  ix x9 (gL Ω 35 x1) fun j11 =>
  if gI Ω 35 x1 j11 ≤ gI Ω 35 x1 j10 then (
    fn_J16_sort_2_b_776 N K0 x1 x2 x3 x4 x6 x10 x3 x5 Ω
    ) else
  ix x8 (gL Ω 35 x1) fun j13 =>
  li (gI Ω 35 x1 j13) fun y14 =>
  ix x9 (gL Ω 35 x1) fun j15 =>
  li (gI Ω 35 x1 j15) fun y16 =>
  ix x3 (gL Ω 35 x1) fun j17 =>
  ix x8 (gL Ω 35 x1) fun j18 => lt (sI Ω 35 x1 j18 (gI Ω 35 x1 j17)) fun Ω19 =>
  ix x5 (gL Ω19 35 x1) fun j20 =>
  ix x9 (gL Ω19 35 x1) fun j21 => lt (sI Ω19 35 x1 j21 (gI Ω19 35 x1 j20)) fun Ω22 =>
  fn_J16_sort_2_b_516 N K0 N x1 x2 x3 x4 x5 x6 x3 x5 y14 y16 Ω22
theorem ct_J16_sort_2_b_437 {Y : zo_Y} (hY : zo_Gd Y cJ16_sort_2 21 RJ16 1) (hJ : zo_JC (zo_J Y)) (hCon : ∀ Ω, zo_J Y Ω → zo_Con Ω) (hr : zo_rt Y (Option.none : Option Jvm.ClassFile.FieldType)) (N : Nat) (K0 : Nat → Int32 → Int32 → Int32 → zo_O → Option zo_R) (hK0 : ∀ (x1 : Nat) (x2 : Int32) (x3 : Int32) (x4 : Int32) (Ω : zo_O) (res : zo_R), K0 x1 x2 x3 x4 Ω = some res → TW Y res Ω 0 [(0, vo none), (1, vr 35 x1), (2, vi x2), (3, vi x3), (4, vi x4)] []) (x1 : Nat) (x2 : Int32) (x3 : Int32) (x4 : Int32) (x5 : Int32) (x6 : Int32) (x8 : Int32) (x9 : Int32) (x10 : Int32) (x11 : Int32) (x12 : Int32) (Ω : zo_O) (res : zo_R) (h : fn_J16_sort_2_b_437 N K0 x1 x2 x3 x4 x5 x6 x8 x9 x10 x11 x12 Ω = some res) : TW Y res Ω 437 [(0, vo none), (1, vr 35 x1), (2, vi x2), (3, vi x3), (4, vi x4), (5, vi x5), (6, vi x6), (8, vi x8), (9, vi x9), (10, vi x10), (11, vi x11), (12, vi x12)] [] := by
  unfold fn_J16_sort_2_b_437 at h
  refine zo_iload_n hY dJ16_sort_2_437 rfl 3 rfl ?_
  refine zo_istore hY dJ16_sort_2_438 (by decide) rfl (ls' := [(14, vi x3), (0, vo none), (1, vr 35 x1), (2, vi x2), (3, vi x3), (4, vi x4), (5, vi x5), (6, vi x6), (8, vi x8), (9, vi x9), (10, vi x10), (11, vi x11), (12, vi x12)]) rfl ?_
  refine zo_iload hY dJ16_sort_2_440 6 rfl ?_
  refine zo_istore hY dJ16_sort_2_442 (by decide) rfl (ls' := [(15, vi x5), (14, vi x3), (0, vo none), (1, vr 35 x1), (2, vi x2), (3, vi x3), (4, vi x4), (5, vi x5), (6, vi x6), (8, vi x8), (9, vi x9), (10, vi x10), (11, vi x11), (12, vi x12)]) rfl ?_
  refine zo_aload_n hY dJ16_sort_2_444 rfl 3 rfl ?_
  refine zo_iload hY dJ16_sort_2_445 9 rfl ?_
  refine zo_ald hY (by decide) (Or.inl ⟨rfl, dJ16_sort_2_447⟩) (fun _ => rfl) h (fun j1 h => ?_)
  refine zo_aload_n hY dJ16_sort_2_448 rfl 3 rfl ?_
  refine zo_iload hY dJ16_sort_2_449 12 rfl ?_
  refine zo_ald hY (by decide) (Or.inl ⟨rfl, dJ16_sort_2_451⟩) (fun _ => rfl) h (fun j2 h => ?_)
  refine zo_icmp_ge hY 776 dJ16_sort_2_452 (by decide) h (fun c3 h => ?_) (fun c3 h => ?_)
  · refine zo_sub [2, 3, 4, 5, 6, 8, 11, 1, 0] rfl ?_
    exact ct_J16_sort_2_b_776 hY hJ hCon hr N K0 hK0 x1 x2 x3 x4 x6 x10 x3 x5 Ω _ h
  · refine zo_aload_n hY dJ16_sort_2_455 rfl 3 rfl ?_
    refine zo_iload hY dJ16_sort_2_456 12 rfl ?_
    refine zo_ald hY (by decide) (Or.inl ⟨rfl, dJ16_sort_2_458⟩) (fun _ => rfl) h (fun j4 h => ?_)
    refine zo_aload_n hY dJ16_sort_2_459 rfl 3 rfl ?_
    refine zo_iload hY dJ16_sort_2_460 11 rfl ?_
    refine zo_ald hY (by decide) (Or.inl ⟨rfl, dJ16_sort_2_462⟩) (fun _ => rfl) h (fun j5 h => ?_)
    refine zo_icmp_ge hY 776 dJ16_sort_2_463 (by decide) h (fun c6 h => ?_) (fun c6 h => ?_)
    · refine zo_sub [2, 3, 4, 5, 6, 8, 11, 1, 0] rfl ?_
      exact ct_J16_sort_2_b_776 hY hJ hCon hr N K0 hK0 x1 x2 x3 x4 x6 x10 x3 x5 Ω _ h
    · refine zo_aload_n hY dJ16_sort_2_466 rfl 3 rfl ?_
      refine zo_iload hY dJ16_sort_2_467 11 rfl ?_
      refine zo_ald hY (by decide) (Or.inl ⟨rfl, dJ16_sort_2_469⟩) (fun _ => rfl) h (fun j7 h => ?_)
      refine zo_aload_n hY dJ16_sort_2_470 rfl 3 rfl ?_
      refine zo_iload hY dJ16_sort_2_471 13 rfl ?_
      refine zo_ald hY (by decide) (Or.inl ⟨rfl, dJ16_sort_2_473⟩) (fun _ => rfl) h (fun j8 h => ?_)
      refine zo_icmp_ge hY 776 dJ16_sort_2_474 (by decide) h (fun c9 h => ?_) (fun c9 h => ?_)
      · refine zo_sub [2, 3, 4, 5, 6, 8, 11, 1, 0] rfl ?_
        exact ct_J16_sort_2_b_776 hY hJ hCon hr N K0 hK0 x1 x2 x3 x4 x6 x10 x3 x5 Ω _ h
      · refine zo_aload_n hY dJ16_sort_2_477 rfl 3 rfl ?_
        refine zo_iload hY dJ16_sort_2_478 13 rfl ?_
        refine zo_ald hY (by decide) (Or.inl ⟨rfl, dJ16_sort_2_480⟩) (fun _ => rfl) h (fun j10 h => ?_)
        refine zo_aload_n hY dJ16_sort_2_481 rfl 3 rfl ?_
        refine zo_iload hY dJ16_sort_2_482 10 rfl ?_
        refine zo_ald hY (by decide) (Or.inl ⟨rfl, dJ16_sort_2_484⟩) (fun _ => rfl) h (fun j11 h => ?_)
        refine zo_icmp_ge hY 776 dJ16_sort_2_485 (by decide) h (fun c12 h => ?_) (fun c12 h => ?_)
        · refine zo_sub [2, 3, 4, 5, 6, 8, 11, 1, 0] rfl ?_
          exact ct_J16_sort_2_b_776 hY hJ hCon hr N K0 hK0 x1 x2 x3 x4 x6 x10 x3 x5 Ω _ h
        · refine zo_aload_n hY dJ16_sort_2_488 rfl 3 rfl ?_
          refine zo_iload hY dJ16_sort_2_489 9 rfl ?_
          refine zo_ald hY (by decide) (Or.inl ⟨rfl, dJ16_sort_2_491⟩) (fun _ => rfl) h (fun j13 h => ?_)
          refine zo_nmi h (fun y14 h => ?_)
          refine zo_istore hY dJ16_sort_2_492 (by decide) rfl (ls' := [(16, vi y14), (15, vi x5), (14, vi x3), (0, vo none), (1, vr 35 x1), (2, vi x2), (3, vi x3), (4, vi x4), (5, vi x5), (6, vi x6), (8, vi x8), (9, vi x9), (10, vi x10), (11, vi x11), (12, vi x12)]) rfl ?_
          refine zo_aload_n hY dJ16_sort_2_494 rfl 4 rfl ?_
          refine zo_iload hY dJ16_sort_2_495 11 rfl ?_
          refine zo_ald hY (by decide) (Or.inl ⟨rfl, dJ16_sort_2_497⟩) (fun _ => rfl) h (fun j15 h => ?_)
          refine zo_nmi h (fun y16 h => ?_)
          refine zo_istore hY dJ16_sort_2_498 (by decide) rfl (ls' := [(17, vi y16), (16, vi y14), (15, vi x5), (14, vi x3), (0, vo none), (1, vr 35 x1), (2, vi x2), (3, vi x3), (4, vi x4), (5, vi x5), (6, vi x6), (8, vi x8), (9, vi x9), (10, vi x10), (11, vi x11), (12, vi x12)]) rfl ?_
          refine zo_aload_n hY dJ16_sort_2_500 rfl 5 rfl ?_
          refine zo_iload hY dJ16_sort_2_501 11 rfl ?_
          refine zo_aload_n hY dJ16_sort_2_503 rfl 5 rfl ?_
          refine zo_iload hY dJ16_sort_2_504 3 rfl ?_
          refine zo_ald hY (by decide) (Or.inl ⟨rfl, dJ16_sort_2_506⟩) (fun _ => rfl) h (fun j17 h => ?_)
          refine zo_ast hY hJ (by decide) (Or.inl ⟨rfl, rfl, dJ16_sort_2_507⟩) (fun _ => rfl) h (fun j18 Ω19 h => ?_)
          refine zo_aload_n hY dJ16_sort_2_508 rfl 5 rfl ?_
          refine zo_iload hY dJ16_sort_2_509 12 rfl ?_
          refine zo_aload_n hY dJ16_sort_2_511 rfl 5 rfl ?_
          refine zo_iload hY dJ16_sort_2_512 2 rfl ?_
          refine zo_ald hY (by decide) (Or.inl ⟨rfl, dJ16_sort_2_514⟩) (fun _ => rfl) h (fun j20 h => ?_)
          refine zo_ast hY hJ (by decide) (Or.inl ⟨rfl, rfl, dJ16_sort_2_515⟩) (fun _ => rfl) h (fun j21 Ω22 h => ?_)
          refine zo_sub [4, 5, 6, 7, 8, 9, 10, 3, 2, 1, 0] rfl ?_
          exact ct_J16_sort_2_b_516 hY hJ hCon hr N K0 hK0 N x1 x2 x3 x4 x5 x6 x3 x5 y14 y16 Ω22 _ h
def fn_J16_sort_2_b_320 (N : Nat) (K0 : Nat → Int32 → Int32 → Int32 → zo_O → Option zo_R) (x1 : Nat) (x2 : Int32) (x3 : Int32) (x4 : Int32) (x5 : Int32) (x6 : Int32) (x8 : Int32) (x9 : Int32) (x10 : Int32) (x11 : Int32) (x12 : Int32) (x13 : Int32) (Ω : zo_O) : Option zo_R :=
  ix x11 (gL Ω 35 x1) fun j1 =>
  if gI Ω 35 x1 j1 ≤ x13 then (
    ix x12 (gL Ω 35 x1) fun j3 =>
    if x13 ≤ gI Ω 35 x1 j3 then (
      fn_J16_sort_2_b_437 N K0 x1 x2 x3 x4 x5 x6 x8 x9 x10 x11 x12 Ω
      ) else
    ix x9 (gL Ω 35 x1) fun j5 =>
    if x13 ≤ gI Ω 35 x1 j5 then (
      ix x12 (gL Ω 35 x1) fun j7 =>
      ix x10 (gL Ω 35 x1) fun j8 => lt (sI Ω 35 x1 j8 (gI Ω 35 x1 j7)) fun Ω9 =>
      ix x12 (gL Ω9 35 x1) fun j10 => lt (sI Ω9 35 x1 j10 x13) fun Ω11 =>
      fn_J16_sort_2_b_437 N K0 x1 x2 x3 x4 x5 x6 x8 x9 x10 x11 x12 Ω11
      ) else
    ix x12 (gL Ω 35 x1) fun j12 =>
    ix x10 (gL Ω 35 x1) fun j13 => lt (sI Ω 35 x1 j13 (gI Ω 35 x1 j12)) fun Ω14 =>
    ix x9 (gL Ω14 35 x1) fun j15 =>
    ix x12 (gL Ω14 35 x1) fun j16 => lt (sI Ω14 35 x1 j16 (gI Ω14 35 x1 j15)) fun Ω17 =>
    ix x9 (gL Ω17 35 x1) fun j18 => lt (sI Ω17 35 x1 j18 x13) fun Ω19 =>
    fn_J16_sort_2_b_437 N K0 x1 x2 x3 x4 x5 x6 x8 x9 x10 x11 x12 Ω19
    ) else
  ix x8 (gL Ω 35 x1) fun j20 =>
  if gI Ω 35 x1 j20 ≤ x13 then (
    ix x11 (gL Ω 35 x1) fun j22 =>
    ix x10 (gL Ω 35 x1) fun j23 => lt (sI Ω 35 x1 j23 (gI Ω 35 x1 j22)) fun Ω24 =>
    ix x11 (gL Ω24 35 x1) fun j25 => lt (sI Ω24 35 x1 j25 x13) fun Ω26 =>
    fn_J16_sort_2_b_437 N K0 x1 x2 x3 x4 x5 x6 x8 x9 x10 x11 x12 Ω26
    ) else
  ix x11 (gL Ω 35 x1) fun j27 =>
  ix x10 (gL Ω 35 x1) fun j28 => lt (sI Ω 35 x1 j28 (gI Ω 35 x1 j27)) fun Ω29 =>
  ix x8 (gL Ω29 35 x1) fun j30 =>
  ix x11 (gL Ω29 35 x1) fun j31 => lt (sI Ω29 35 x1 j31 (gI Ω29 35 x1 j30)) fun Ω32 =>
  ix x8 (gL Ω32 35 x1) fun j33 => lt (sI Ω32 35 x1 j33 x13) fun Ω34 =>
  fn_J16_sort_2_b_437 N K0 x1 x2 x3 x4 x5 x6 x8 x9 x10 x11 x12 Ω34
theorem ct_J16_sort_2_b_320 {Y : zo_Y} (hY : zo_Gd Y cJ16_sort_2 21 RJ16 1) (hJ : zo_JC (zo_J Y)) (hCon : ∀ Ω, zo_J Y Ω → zo_Con Ω) (hr : zo_rt Y (Option.none : Option Jvm.ClassFile.FieldType)) (N : Nat) (K0 : Nat → Int32 → Int32 → Int32 → zo_O → Option zo_R) (hK0 : ∀ (x1 : Nat) (x2 : Int32) (x3 : Int32) (x4 : Int32) (Ω : zo_O) (res : zo_R), K0 x1 x2 x3 x4 Ω = some res → TW Y res Ω 0 [(0, vo none), (1, vr 35 x1), (2, vi x2), (3, vi x3), (4, vi x4)] []) (x1 : Nat) (x2 : Int32) (x3 : Int32) (x4 : Int32) (x5 : Int32) (x6 : Int32) (x8 : Int32) (x9 : Int32) (x10 : Int32) (x11 : Int32) (x12 : Int32) (x13 : Int32) (Ω : zo_O) (res : zo_R) (h : fn_J16_sort_2_b_320 N K0 x1 x2 x3 x4 x5 x6 x8 x9 x10 x11 x12 x13 Ω = some res) : TW Y res Ω 320 [(0, vo none), (1, vr 35 x1), (2, vi x2), (3, vi x3), (4, vi x4), (5, vi x5), (6, vi x6), (8, vi x8), (9, vi x9), (10, vi x10), (11, vi x11), (12, vi x12), (13, vi x13)] [] := by
  unfold fn_J16_sort_2_b_320 at h
  refine zo_iload hY dJ16_sort_2_320 12 rfl ?_
  refine zo_aload_n hY dJ16_sort_2_322 rfl 1 rfl ?_
  refine zo_iload hY dJ16_sort_2_323 10 rfl ?_
  refine zo_ald hY (by decide) (Or.inl ⟨rfl, dJ16_sort_2_325⟩) (fun _ => rfl) h (fun j1 h => ?_)
  refine zo_icmp_ge hY 380 dJ16_sort_2_326 (by decide) h (fun c2 h => ?_) (fun c2 h => ?_)
  · refine zo_iload hY dJ16_sort_2_380 12 rfl ?_
    refine zo_aload_n hY dJ16_sort_2_382 rfl 1 rfl ?_
    refine zo_iload hY dJ16_sort_2_383 11 rfl ?_
    refine zo_ald hY (by decide) (Or.inl ⟨rfl, dJ16_sort_2_385⟩) (fun _ => rfl) h (fun j3 h => ?_)
    refine zo_icmp_le hY 437 dJ16_sort_2_386 (by decide) h (fun c4 h => ?_) (fun c4 h => ?_)
    · refine zo_sub [0, 1, 2, 3, 4, 5, 6, 7, 8, 9, 10, 11] rfl ?_
      exact ct_J16_sort_2_b_437 hY hJ hCon hr N K0 hK0 x1 x2 x3 x4 x5 x6 x8 x9 x10 x11 x12 Ω _ h
    · refine zo_iload hY dJ16_sort_2_389 12 rfl ?_
      refine zo_aload_n hY dJ16_sort_2_391 rfl 1 rfl ?_
      refine zo_iload hY dJ16_sort_2_392 8 rfl ?_
      refine zo_ald hY (by decide) (Or.inl ⟨rfl, dJ16_sort_2_394⟩) (fun _ => rfl) h (fun j5 h => ?_)
      refine zo_icmp_le hY 423 dJ16_sort_2_395 (by decide) h (fun c6 h => ?_) (fun c6 h => ?_)
      · refine zo_aload_n hY dJ16_sort_2_423 rfl 1 rfl ?_
        refine zo_iload hY dJ16_sort_2_424 9 rfl ?_
        refine zo_aload_n hY dJ16_sort_2_426 rfl 1 rfl ?_
        refine zo_iload hY dJ16_sort_2_427 11 rfl ?_
        refine zo_ald hY (by decide) (Or.inl ⟨rfl, dJ16_sort_2_429⟩) (fun _ => rfl) h (fun j7 h => ?_)
        refine zo_ast hY hJ (by decide) (Or.inl ⟨rfl, rfl, dJ16_sort_2_430⟩) (fun _ => rfl) h (fun j8 Ω9 h => ?_)
        refine zo_aload_n hY dJ16_sort_2_431 rfl 1 rfl ?_
        refine zo_iload hY dJ16_sort_2_432 11 rfl ?_
        refine zo_iload hY dJ16_sort_2_434 12 rfl ?_
        refine zo_ast hY hJ (by decide) (Or.inl ⟨rfl, rfl, dJ16_sort_2_436⟩) (fun _ => rfl) h (fun j10 Ω11 h => ?_)
        refine zo_sub [0, 1, 2, 3, 4, 5, 6, 7, 8, 9, 10, 11] rfl ?_
        exact ct_J16_sort_2_b_437 hY hJ hCon hr N K0 hK0 x1 x2 x3 x4 x5 x6 x8 x9 x10 x11 x12 Ω11 _ h
      · refine zo_aload_n hY dJ16_sort_2_398 rfl 1 rfl ?_
        refine zo_iload hY dJ16_sort_2_399 9 rfl ?_
        refine zo_aload_n hY dJ16_sort_2_401 rfl 1 rfl ?_
        refine zo_iload hY dJ16_sort_2_402 11 rfl ?_
        refine zo_ald hY (by decide) (Or.inl ⟨rfl, dJ16_sort_2_404⟩) (fun _ => rfl) h (fun j12 h => ?_)
        refine zo_ast hY hJ (by decide) (Or.inl ⟨rfl, rfl, dJ16_sort_2_405⟩) (fun _ => rfl) h (fun j13 Ω14 h => ?_)
        refine zo_aload_n hY dJ16_sort_2_406 rfl 1 rfl ?_
        refine zo_iload hY dJ16_sort_2_407 11 rfl ?_
        refine zo_aload_n hY dJ16_sort_2_409 rfl 1 rfl ?_
        refine zo_iload hY dJ16_sort_2_410 8 rfl ?_
        refine zo_ald hY (by decide) (Or.inl ⟨rfl, dJ16_sort_2_412⟩) (fun _ => rfl) h (fun j15 h => ?_)
        refine zo_ast hY hJ (by decide) (Or.inl ⟨rfl, rfl, dJ16_sort_2_413⟩) (fun _ => rfl) h (fun j16 Ω17 h => ?_)
        refine zo_aload_n hY dJ16_sort_2_414 rfl 1 rfl ?_
        refine zo_iload hY dJ16_sort_2_415 8 rfl ?_
        refine zo_iload hY dJ16_sort_2_417 12 rfl ?_
        refine zo_ast hY hJ (by decide) (Or.inl ⟨rfl, rfl, dJ16_sort_2_419⟩) (fun _ => rfl) h (fun j18 Ω19 h => ?_)
        refine zo_goto hY 437 dJ16_sort_2_420 (by decide) ?_
        refine zo_sub [0, 1, 2, 3, 4, 5, 6, 7, 8, 9, 10, 11] rfl ?_
        exact ct_J16_sort_2_b_437 hY hJ hCon hr N K0 hK0 x1 x2 x3 x4 x5 x6 x8 x9 x10 x11 x12 Ω19 _ h
  · refine zo_iload hY dJ16_sort_2_329 12 rfl ?_
    refine zo_aload_n hY dJ16_sort_2_331 rfl 1 rfl ?_
    refine zo_iload hY dJ16_sort_2_332 7 rfl ?_
    refine zo_ald hY (by decide) (Or.inl ⟨rfl, dJ16_sort_2_334⟩) (fun _ => rfl) h (fun j20 h => ?_)
    refine zo_icmp_ge hY 363 dJ16_sort_2_335 (by decide) h (fun c21 h => ?_) (fun c21 h => ?_)
    · refine zo_aload_n hY dJ16_sort_2_363 rfl 1 rfl ?_
      refine zo_iload hY dJ16_sort_2_364 9 rfl ?_
      refine zo_aload_n hY dJ16_sort_2_366 rfl 1 rfl ?_
      refine zo_iload hY dJ16_sort_2_367 10 rfl ?_
      refine zo_ald hY (by decide) (Or.inl ⟨rfl, dJ16_sort_2_369⟩) (fun _ => rfl) h (fun j22 h => ?_)
      refine zo_ast hY hJ (by decide) (Or.inl ⟨rfl, rfl, dJ16_sort_2_370⟩) (fun _ => rfl) h (fun j23 Ω24 h => ?_)
      refine zo_aload_n hY dJ16_sort_2_371 rfl 1 rfl ?_
      refine zo_iload hY dJ16_sort_2_372 10 rfl ?_
      refine zo_iload hY dJ16_sort_2_374 12 rfl ?_
      refine zo_ast hY hJ (by decide) (Or.inl ⟨rfl, rfl, dJ16_sort_2_376⟩) (fun _ => rfl) h (fun j25 Ω26 h => ?_)
      refine zo_goto hY 437 dJ16_sort_2_377 (by decide) ?_
      refine zo_sub [0, 1, 2, 3, 4, 5, 6, 7, 8, 9, 10, 11] rfl ?_
      exact ct_J16_sort_2_b_437 hY hJ hCon hr N K0 hK0 x1 x2 x3 x4 x5 x6 x8 x9 x10 x11 x12 Ω26 _ h
    · refine zo_aload_n hY dJ16_sort_2_338 rfl 1 rfl ?_
      refine zo_iload hY dJ16_sort_2_339 9 rfl ?_
      refine zo_aload_n hY dJ16_sort_2_341 rfl 1 rfl ?_
      refine zo_iload hY dJ16_sort_2_342 10 rfl ?_
      refine zo_ald hY (by decide) (Or.inl ⟨rfl, dJ16_sort_2_344⟩) (fun _ => rfl) h (fun j27 h => ?_)
      refine zo_ast hY hJ (by decide) (Or.inl ⟨rfl, rfl, dJ16_sort_2_345⟩) (fun _ => rfl) h (fun j28 Ω29 h => ?_)
      refine zo_aload_n hY dJ16_sort_2_346 rfl 1 rfl ?_
      refine zo_iload hY dJ16_sort_2_347 10 rfl ?_
      refine zo_aload_n hY dJ16_sort_2_349 rfl 1 rfl ?_
      refine zo_iload hY dJ16_sort_2_350 7 rfl ?_
      refine zo_ald hY (by decide) (Or.inl ⟨rfl, dJ16_sort_2_352⟩) (fun _ => rfl) h (fun j30 h => ?_)
      refine zo_ast hY hJ (by decide) (Or.inl ⟨rfl, rfl, dJ16_sort_2_353⟩) (fun _ => rfl) h (fun j31 Ω32 h => ?_)
      refine zo_aload_n hY dJ16_sort_2_354 rfl 1 rfl ?_
      refine zo_iload hY dJ16_sort_2_355 7 rfl ?_
      refine zo_iload hY dJ16_sort_2_357 12 rfl ?_
      refine zo_ast hY hJ (by decide) (Or.inl ⟨rfl, rfl, dJ16_sort_2_359⟩) (fun _ => rfl) h (fun j33 Ω34 h => ?_)
      refine zo_goto hY 437 dJ16_sort_2_360 (by decide) ?_
      refine zo_sub [0, 1, 2, 3, 4, 5, 6, 7, 8, 9, 10, 11] rfl ?_
      exact ct_J16_sort_2_b_437 hY hJ hCon hr N K0 hK0 x1 x2 x3 x4 x5 x6 x8 x9 x10 x11 x12 Ω34 _ h
def fn_J16_sort_2_b_289 (N : Nat) (K0 : Nat → Int32 → Int32 → Int32 → zo_O → Option zo_R) (x1 : Nat) (x2 : Int32) (x3 : Int32) (x4 : Int32) (x5 : Int32) (x6 : Int32) (x8 : Int32) (x9 : Int32) (x10 : Int32) (x11 : Int32) (x12 : Int32) (x13 : Int32) (Ω : zo_O) : Option zo_R :=
  ix x12 (gL Ω 35 x1) fun j1 =>
  ix x11 (gL Ω 35 x1) fun j2 =>
  if gI Ω 35 x1 j2 ≤ gI Ω 35 x1 j1 then (
    fn_J16_sort_2_b_320 N K0 x1 x2 x3 x4 x5 x6 x8 x9 x10 x11 x12 x13 Ω
    ) else
  ix x12 (gL Ω 35 x1) fun j4 =>
  li (gI Ω 35 x1 j4) fun y5 =>
  ix x11 (gL Ω 35 x1) fun j6 =>
  ix x12 (gL Ω 35 x1) fun j7 => lt (sI Ω 35 x1 j7 (gI Ω 35 x1 j6)) fun Ω8 =>
  ix x11 (gL Ω8 35 x1) fun j9 => lt (sI Ω8 35 x1 j9 y5) fun Ω10 =>
  fn_J16_sort_2_b_320 N K0 x1 x2 x3 x4 x5 x6 x8 x9 x10 x11 x12 x13 Ω10
theorem ct_J16_sort_2_b_289 {Y : zo_Y} (hY : zo_Gd Y cJ16_sort_2 21 RJ16 1) (hJ : zo_JC (zo_J Y)) (hCon : ∀ Ω, zo_J Y Ω → zo_Con Ω) (hr : zo_rt Y (Option.none : Option Jvm.ClassFile.FieldType)) (N : Nat) (K0 : Nat → Int32 → Int32 → Int32 → zo_O → Option zo_R) (hK0 : ∀ (x1 : Nat) (x2 : Int32) (x3 : Int32) (x4 : Int32) (Ω : zo_O) (res : zo_R), K0 x1 x2 x3 x4 Ω = some res → TW Y res Ω 0 [(0, vo none), (1, vr 35 x1), (2, vi x2), (3, vi x3), (4, vi x4)] []) (x1 : Nat) (x2 : Int32) (x3 : Int32) (x4 : Int32) (x5 : Int32) (x6 : Int32) (x8 : Int32) (x9 : Int32) (x10 : Int32) (x11 : Int32) (x12 : Int32) (x13 : Int32) (Ω : zo_O) (res : zo_R) (h : fn_J16_sort_2_b_289 N K0 x1 x2 x3 x4 x5 x6 x8 x9 x10 x11 x12 x13 Ω = some res) : TW Y res Ω 289 [(0, vo none), (1, vr 35 x1), (2, vi x2), (3, vi x3), (4, vi x4), (5, vi x5), (6, vi x6), (8, vi x8), (9, vi x9), (10, vi x10), (11, vi x11), (12, vi x12), (13, vi x13)] [] := by
  unfold fn_J16_sort_2_b_289 at h
  refine zo_aload_n hY dJ16_sort_2_289 rfl 1 rfl ?_
  refine zo_iload hY dJ16_sort_2_290 11 rfl ?_
  refine zo_ald hY (by decide) (Or.inl ⟨rfl, dJ16_sort_2_292⟩) (fun _ => rfl) h (fun j1 h => ?_)
  refine zo_aload_n hY dJ16_sort_2_293 rfl 1 rfl ?_
  refine zo_iload hY dJ16_sort_2_294 10 rfl ?_
  refine zo_ald hY (by decide) (Or.inl ⟨rfl, dJ16_sort_2_296⟩) (fun _ => rfl) h (fun j2 h => ?_)
  refine zo_icmp_ge hY 320 dJ16_sort_2_297 (by decide) h (fun c3 h => ?_) (fun c3 h => ?_)
  · exact ct_J16_sort_2_b_320 hY hJ hCon hr N K0 hK0 x1 x2 x3 x4 x5 x6 x8 x9 x10 x11 x12 x13 Ω _ h
  · refine zo_aload_n hY dJ16_sort_2_300 rfl 1 rfl ?_
    refine zo_iload hY dJ16_sort_2_301 11 rfl ?_
    refine zo_ald hY (by decide) (Or.inl ⟨rfl, dJ16_sort_2_303⟩) (fun _ => rfl) h (fun j4 h => ?_)
    refine zo_nmi h (fun y5 h => ?_)
    refine zo_istore hY dJ16_sort_2_304 (by decide) rfl (ls' := [(14, vi y5), (0, vo none), (1, vr 35 x1), (2, vi x2), (3, vi x3), (4, vi x4), (5, vi x5), (6, vi x6), (8, vi x8), (9, vi x9), (10, vi x10), (11, vi x11), (12, vi x12), (13, vi x13)]) rfl ?_
    refine zo_aload_n hY dJ16_sort_2_306 rfl 2 rfl ?_
    refine zo_iload hY dJ16_sort_2_307 12 rfl ?_
    refine zo_aload_n hY dJ16_sort_2_309 rfl 2 rfl ?_
    refine zo_iload hY dJ16_sort_2_310 11 rfl ?_
    refine zo_ald hY (by decide) (Or.inl ⟨rfl, dJ16_sort_2_312⟩) (fun _ => rfl) h (fun j6 h => ?_)
    refine zo_ast hY hJ (by decide) (Or.inl ⟨rfl, rfl, dJ16_sort_2_313⟩) (fun _ => rfl) h (fun j7 Ω8 h => ?_)
    refine zo_aload_n hY dJ16_sort_2_314 rfl 2 rfl ?_
    refine zo_iload hY dJ16_sort_2_315 11 rfl ?_
    refine zo_iload hY dJ16_sort_2_317 0 rfl ?_
    refine zo_ast hY hJ (by decide) (Or.inl ⟨rfl, rfl, dJ16_sort_2_319⟩) (fun _ => rfl) h (fun j9 Ω10 h => ?_)
    refine zo_sub [1, 2, 3, 4, 5, 6, 7, 8, 9, 10, 11, 12, 13] rfl ?_
    exact ct_J16_sort_2_b_320 hY hJ hCon hr N K0 hK0 x1 x2 x3 x4 x5 x6 x8 x9 x10 x11 x12 x13 Ω10 _ h
def fn_J16_sort_2_b_258 (N : Nat) (K0 : Nat → Int32 → Int32 → Int32 → zo_O → Option zo_R) (x1 : Nat) (x2 : Int32) (x3 : Int32) (x4 : Int32) (x5 : Int32) (x6 : Int32) (x8 : Int32) (x9 : Int32) (x10 : Int32) (x11 : Int32) (x12 : Int32) (x13 : Int32) (Ω : zo_O) : Option zo_R :=
  ix x11 (gL Ω 35 x1) fun j1 =>
  ix x8 (gL Ω 35 x1) fun j2 =>
  if gI Ω 35 x1 j2 ≤ gI Ω 35 x1 j1 then (
    fn_J16_sort_2_b_289 N K0 x1 x2 x3 x4 x5 x6 x8 x9 x10 x11 x12 x13 Ω
    ) else
  ix x11 (gL Ω 35 x1) fun j4 =>
  li (gI Ω 35 x1 j4) fun y5 =>
  ix x8 (gL Ω 35 x1) fun j6 =>
  ix x11 (gL Ω 35 x1) fun j7 => lt (sI Ω 35 x1 j7 (gI Ω 35 x1 j6)) fun Ω8 =>
  ix x8 (gL Ω8 35 x1) fun j9 => lt (sI Ω8 35 x1 j9 y5) fun Ω10 =>
  fn_J16_sort_2_b_289 N K0 x1 x2 x3 x4 x5 x6 x8 x9 x10 x11 x12 x13 Ω10
theorem ct_J16_sort_2_b_258 {Y : zo_Y} (hY : zo_Gd Y cJ16_sort_2 21 RJ16 1) (hJ : zo_JC (zo_J Y)) (hCon : ∀ Ω, zo_J Y Ω → zo_Con Ω) (hr : zo_rt Y (Option.none : Option Jvm.ClassFile.FieldType)) (N : Nat) (K0 : Nat → Int32 → Int32 → Int32 → zo_O → Option zo_R) (hK0 : ∀ (x1 : Nat) (x2 : Int32) (x3 : Int32) (x4 : Int32) (Ω : zo_O) (res : zo_R), K0 x1 x2 x3 x4 Ω = some res → TW Y res Ω 0 [(0, vo none), (1, vr 35 x1), (2, vi x2), (3, vi x3), (4, vi x4)] []) (x1 : Nat) (x2 : Int32) (x3 : Int32) (x4 : Int32) (x5 : Int32) (x6 : Int32) (x8 : Int32) (x9 : Int32) (x10 : Int32) (x11 : Int32) (x12 : Int32) (x13 : Int32) (Ω : zo_O) (res : zo_R) (h : fn_J16_sort_2_b_258 N K0 x1 x2 x3 x4 x5 x6 x8 x9 x10 x11 x12 x13 Ω = some res) : TW Y res Ω 258 [(0, vo none), (1, vr 35 x1), (2, vi x2), (3, vi x3), (4, vi x4), (5, vi x5), (6, vi x6), (8, vi x8), (9, vi x9), (10, vi x10), (11, vi x11), (12, vi x12), (13, vi x13)] [] := by
  unfold fn_J16_sort_2_b_258 at h
  refine zo_aload_n hY dJ16_sort_2_258 rfl 1 rfl ?_
  refine zo_iload hY dJ16_sort_2_259 10 rfl ?_
  refine zo_ald hY (by decide) (Or.inl ⟨rfl, dJ16_sort_2_261⟩) (fun _ => rfl) h (fun j1 h => ?_)
  refine zo_aload_n hY dJ16_sort_2_262 rfl 1 rfl ?_
  refine zo_iload hY dJ16_sort_2_263 7 rfl ?_
  refine zo_ald hY (by decide) (Or.inl ⟨rfl, dJ16_sort_2_265⟩) (fun _ => rfl) h (fun j2 h => ?_)
  refine zo_icmp_ge hY 289 dJ16_sort_2_266 (by decide) h (fun c3 h => ?_) (fun c3 h => ?_)
  · exact ct_J16_sort_2_b_289 hY hJ hCon hr N K0 hK0 x1 x2 x3 x4 x5 x6 x8 x9 x10 x11 x12 x13 Ω _ h
  · refine zo_aload_n hY dJ16_sort_2_269 rfl 1 rfl ?_
    refine zo_iload hY dJ16_sort_2_270 10 rfl ?_
    refine zo_ald hY (by decide) (Or.inl ⟨rfl, dJ16_sort_2_272⟩) (fun _ => rfl) h (fun j4 h => ?_)
    refine zo_nmi h (fun y5 h => ?_)
    refine zo_istore hY dJ16_sort_2_273 (by decide) rfl (ls' := [(14, vi y5), (0, vo none), (1, vr 35 x1), (2, vi x2), (3, vi x3), (4, vi x4), (5, vi x5), (6, vi x6), (8, vi x8), (9, vi x9), (10, vi x10), (11, vi x11), (12, vi x12), (13, vi x13)]) rfl ?_
    refine zo_aload_n hY dJ16_sort_2_275 rfl 2 rfl ?_
    refine zo_iload hY dJ16_sort_2_276 11 rfl ?_
    refine zo_aload_n hY dJ16_sort_2_278 rfl 2 rfl ?_
    refine zo_iload hY dJ16_sort_2_279 8 rfl ?_
    refine zo_ald hY (by decide) (Or.inl ⟨rfl, dJ16_sort_2_281⟩) (fun _ => rfl) h (fun j6 h => ?_)
    refine zo_ast hY hJ (by decide) (Or.inl ⟨rfl, rfl, dJ16_sort_2_282⟩) (fun _ => rfl) h (fun j7 Ω8 h => ?_)
    refine zo_aload_n hY dJ16_sort_2_283 rfl 2 rfl ?_
    refine zo_iload hY dJ16_sort_2_284 8 rfl ?_
    refine zo_iload hY dJ16_sort_2_286 0 rfl ?_
    refine zo_ast hY hJ (by decide) (Or.inl ⟨rfl, rfl, dJ16_sort_2_288⟩) (fun _ => rfl) h (fun j9 Ω10 h => ?_)
    refine zo_sub [1, 2, 3, 4, 5, 6, 7, 8, 9, 10, 11, 12, 13] rfl ?_
    exact ct_J16_sort_2_b_289 hY hJ hCon hr N K0 hK0 x1 x2 x3 x4 x5 x6 x8 x9 x10 x11 x12 x13 Ω10 _ h
def fn_J16_sort_2_b_227 (N : Nat) (K0 : Nat → Int32 → Int32 → Int32 → zo_O → Option zo_R) (x1 : Nat) (x2 : Int32) (x3 : Int32) (x4 : Int32) (x5 : Int32) (x6 : Int32) (x8 : Int32) (x9 : Int32) (x10 : Int32) (x11 : Int32) (x12 : Int32) (x13 : Int32) (Ω : zo_O) : Option zo_R :=
  ix x9 (gL Ω 35 x1) fun j1 =>
  ix x12 (gL Ω 35 x1) fun j2 =>
  if gI Ω 35 x1 j2 ≤ gI Ω 35 x1 j1 then (
    fn_J16_sort_2_b_258 N K0 x1 x2 x3 x4 x5 x6 x8 x9 x10 x11 x12 x13 Ω
    ) else
  ix x9 (gL Ω 35 x1) fun j4 =>
  li (gI Ω 35 x1 j4) fun y5 =>
  ix x12 (gL Ω 35 x1) fun j6 =>
  ix x9 (gL Ω 35 x1) fun j7 => lt (sI Ω 35 x1 j7 (gI Ω 35 x1 j6)) fun Ω8 =>
  ix x12 (gL Ω8 35 x1) fun j9 => lt (sI Ω8 35 x1 j9 y5) fun Ω10 =>
  fn_J16_sort_2_b_258 N K0 x1 x2 x3 x4 x5 x6 x8 x9 x10 x11 x12 x13 Ω10
theorem ct_J16_sort_2_b_227 {Y : zo_Y} (hY : zo_Gd Y cJ16_sort_2 21 RJ16 1) (hJ : zo_JC (zo_J Y)) (hCon : ∀ Ω, zo_J Y Ω → zo_Con Ω) (hr : zo_rt Y (Option.none : Option Jvm.ClassFile.FieldType)) (N : Nat) (K0 : Nat → Int32 → Int32 → Int32 → zo_O → Option zo_R) (hK0 : ∀ (x1 : Nat) (x2 : Int32) (x3 : Int32) (x4 : Int32) (Ω : zo_O) (res : zo_R), K0 x1 x2 x3 x4 Ω = some res → TW Y res Ω 0 [(0, vo none), (1, vr 35 x1), (2, vi x2), (3, vi x3), (4, vi x4)] []) (x1 : Nat) (x2 : Int32) (x3 : Int32) (x4 : Int32) (x5 : Int32) (x6 : Int32) (x8 : Int32) (x9 : Int32) (x10 : Int32) (x11 : Int32) (x12 : Int32) (x13 : Int32) (Ω : zo_O) (res : zo_R) (h : fn_J16_sort_2_b_227 N K0 x1 x2 x3 x4 x5 x6 x8 x9 x10 x11 x12 x13 Ω = some res) : TW Y res Ω 227 [(0, vo none), (1, vr 35 x1), (2, vi x2), (3, vi x3), (4, vi x4), (5, vi x5), (6, vi x6), (8, vi x8), (9, vi x9), (10, vi x10), (11, vi x11), (12, vi x12), (13, vi x13)] [] := by
  unfold fn_J16_sort_2_b_227 at h
  refine zo_aload_n hY dJ16_sort_2_227 rfl 1 rfl ?_
  refine zo_iload hY dJ16_sort_2_228 8 rfl ?_
  refine zo_ald hY (by decide) (Or.inl ⟨rfl, dJ16_sort_2_230⟩) (fun _ => rfl) h (fun j1 h => ?_)
  refine zo_aload_n hY dJ16_sort_2_231 rfl 1 rfl ?_
  refine zo_iload hY dJ16_sort_2_232 11 rfl ?_
  refine zo_ald hY (by decide) (Or.inl ⟨rfl, dJ16_sort_2_234⟩) (fun _ => rfl) h (fun j2 h => ?_)
  refine zo_icmp_ge hY 258 dJ16_sort_2_235 (by decide) h (fun c3 h => ?_) (fun c3 h => ?_)
  · exact ct_J16_sort_2_b_258 hY hJ hCon hr N K0 hK0 x1 x2 x3 x4 x5 x6 x8 x9 x10 x11 x12 x13 Ω _ h
  · refine zo_aload_n hY dJ16_sort_2_238 rfl 1 rfl ?_
    refine zo_iload hY dJ16_sort_2_239 8 rfl ?_
    refine zo_ald hY (by decide) (Or.inl ⟨rfl, dJ16_sort_2_241⟩) (fun _ => rfl) h (fun j4 h => ?_)
    refine zo_nmi h (fun y5 h => ?_)
    refine zo_istore hY dJ16_sort_2_242 (by decide) rfl (ls' := [(14, vi y5), (0, vo none), (1, vr 35 x1), (2, vi x2), (3, vi x3), (4, vi x4), (5, vi x5), (6, vi x6), (8, vi x8), (9, vi x9), (10, vi x10), (11, vi x11), (12, vi x12), (13, vi x13)]) rfl ?_
    refine zo_aload_n hY dJ16_sort_2_244 rfl 2 rfl ?_
    refine zo_iload hY dJ16_sort_2_245 9 rfl ?_
    refine zo_aload_n hY dJ16_sort_2_247 rfl 2 rfl ?_
    refine zo_iload hY dJ16_sort_2_248 12 rfl ?_
    refine zo_ald hY (by decide) (Or.inl ⟨rfl, dJ16_sort_2_250⟩) (fun _ => rfl) h (fun j6 h => ?_)
    refine zo_ast hY hJ (by decide) (Or.inl ⟨rfl, rfl, dJ16_sort_2_251⟩) (fun _ => rfl) h (fun j7 Ω8 h => ?_)
    refine zo_aload_n hY dJ16_sort_2_252 rfl 2 rfl ?_
    refine zo_iload hY dJ16_sort_2_253 12 rfl ?_
    refine zo_iload hY dJ16_sort_2_255 0 rfl ?_
    refine zo_ast hY hJ (by decide) (Or.inl ⟨rfl, rfl, dJ16_sort_2_257⟩) (fun _ => rfl) h (fun j9 Ω10 h => ?_)
    refine zo_sub [1, 2, 3, 4, 5, 6, 7, 8, 9, 10, 11, 12, 13] rfl ?_
    exact ct_J16_sort_2_b_258 hY hJ hCon hr N K0 hK0 x1 x2 x3 x4 x5 x6 x8 x9 x10 x11 x12 x13 Ω10 _ h
def fn_J16_sort_2_b_196 (N : Nat) (K0 : Nat → Int32 → Int32 → Int32 → zo_O → Option zo_R) (x1 : Nat) (x2 : Int32) (x3 : Int32) (x4 : Int32) (x5 : Int32) (x6 : Int32) (x8 : Int32) (x9 : Int32) (x10 : Int32) (x11 : Int32) (x12 : Int32) (x13 : Int32) (Ω : zo_O) : Option zo_R :=
  ix x12 (gL Ω 35 x1) fun j1 =>
  ix x8 (gL Ω 35 x1) fun j2 =>
  if gI Ω 35 x1 j2 ≤ gI Ω 35 x1 j1 then (
    fn_J16_sort_2_b_227 N K0 x1 x2 x3 x4 x5 x6 x8 x9 x10 x11 x12 x13 Ω
    ) else
  ix x12 (gL Ω 35 x1) fun j4 =>
  li (gI Ω 35 x1 j4) fun y5 =>
  ix x8 (gL Ω 35 x1) fun j6 =>
  ix x12 (gL Ω 35 x1) fun j7 => lt (sI Ω 35 x1 j7 (gI Ω 35 x1 j6)) fun Ω8 =>
  ix x8 (gL Ω8 35 x1) fun j9 => lt (sI Ω8 35 x1 j9 y5) fun Ω10 =>
  fn_J16_sort_2_b_227 N K0 x1 x2 x3 x4 x5 x6 x8 x9 x10 x11 x12 x13 Ω10
theorem ct_J16_sort_2_b_196 {Y : zo_Y} (hY : zo_Gd Y cJ16_sort_2 21 RJ16 1) (hJ : zo_JC (zo_J Y)) (hCon : ∀ Ω, zo_J Y Ω → zo_Con Ω) (hr : zo_rt Y (Option.none : Option Jvm.ClassFile.FieldType)) (N : Nat) (K0 : Nat → Int32 → Int32 → Int32 → zo_O → Option zo_R) (hK0 : ∀ (x1 : Nat) (x2 : Int32) (x3 : Int32) (x4 : Int32) (Ω : zo_O) (res : zo_R), K0 x1 x2 x3 x4 Ω = some res → TW Y res Ω 0 [(0, vo none), (1, vr 35 x1), (2, vi x2), (3, vi x3), (4, vi x4)] []) (x1 : Nat) (x2 : Int32) (x3 : Int32) (x4 : Int32) (x5 : Int32) (x6 : Int32) (x8 : Int32) (x9 : Int32) (x10 : Int32) (x11 : Int32) (x12 : Int32) (x13 : Int32) (Ω : zo_O) (res : zo_R) (h : fn_J16_sort_2_b_196 N K0 x1 x2 x3 x4 x5 x6 x8 x9 x10 x11 x12 x13 Ω = some res) : TW Y res Ω 196 [(0, vo none), (1, vr 35 x1), (2, vi x2), (3, vi x3), (4, vi x4), (5, vi x5), (6, vi x6), (8, vi x8), (9, vi x9), (10, vi x10), (11, vi x11), (12, vi x12), (13, vi x13)] [] := by
  unfold fn_J16_sort_2_b_196 at h
  refine zo_aload_n hY dJ16_sort_2_196 rfl 1 rfl ?_
  refine zo_iload hY dJ16_sort_2_197 11 rfl ?_
  refine zo_ald hY (by decide) (Or.inl ⟨rfl, dJ16_sort_2_199⟩) (fun _ => rfl) h (fun j1 h => ?_)
  refine zo_aload_n hY dJ16_sort_2_200 rfl 1 rfl ?_
  refine zo_iload hY dJ16_sort_2_201 7 rfl ?_
  refine zo_ald hY (by decide) (Or.inl ⟨rfl, dJ16_sort_2_203⟩) (fun _ => rfl) h (fun j2 h => ?_)
  refine zo_icmp_ge hY 227 dJ16_sort_2_204 (by decide) h (fun c3 h => ?_) (fun c3 h => ?_)
  · exact ct_J16_sort_2_b_227 hY hJ hCon hr N K0 hK0 x1 x2 x3 x4 x5 x6 x8 x9 x10 x11 x12 x13 Ω _ h
  · refine zo_aload_n hY dJ16_sort_2_207 rfl 1 rfl ?_
    refine zo_iload hY dJ16_sort_2_208 11 rfl ?_
    refine zo_ald hY (by decide) (Or.inl ⟨rfl, dJ16_sort_2_210⟩) (fun _ => rfl) h (fun j4 h => ?_)
    refine zo_nmi h (fun y5 h => ?_)
    refine zo_istore hY dJ16_sort_2_211 (by decide) rfl (ls' := [(14, vi y5), (0, vo none), (1, vr 35 x1), (2, vi x2), (3, vi x3), (4, vi x4), (5, vi x5), (6, vi x6), (8, vi x8), (9, vi x9), (10, vi x10), (11, vi x11), (12, vi x12), (13, vi x13)]) rfl ?_
    refine zo_aload_n hY dJ16_sort_2_213 rfl 2 rfl ?_
    refine zo_iload hY dJ16_sort_2_214 12 rfl ?_
    refine zo_aload_n hY dJ16_sort_2_216 rfl 2 rfl ?_
    refine zo_iload hY dJ16_sort_2_217 8 rfl ?_
    refine zo_ald hY (by decide) (Or.inl ⟨rfl, dJ16_sort_2_219⟩) (fun _ => rfl) h (fun j6 h => ?_)
    refine zo_ast hY hJ (by decide) (Or.inl ⟨rfl, rfl, dJ16_sort_2_220⟩) (fun _ => rfl) h (fun j7 Ω8 h => ?_)
    refine zo_aload_n hY dJ16_sort_2_221 rfl 2 rfl ?_
    refine zo_iload hY dJ16_sort_2_222 8 rfl ?_
    refine zo_iload hY dJ16_sort_2_224 0 rfl ?_
    refine zo_ast hY hJ (by decide) (Or.inl ⟨rfl, rfl, dJ16_sort_2_226⟩) (fun _ => rfl) h (fun j9 Ω10 h => ?_)
    refine zo_sub [1, 2, 3, 4, 5, 6, 7, 8, 9, 10, 11, 12, 13] rfl ?_
    exact ct_J16_sort_2_b_227 hY hJ hCon hr N K0 hK0 x1 x2 x3 x4 x5 x6 x8 x9 x10 x11 x12 x13 Ω10 _ h
def fn_J16_sort_2_b_91 (N : Nat) (K0 : Nat → Int32 → Int32 → Int32 → zo_O → Option zo_R) (x1 : Nat) (x2 : Int32) (x3 : Int32) (x4 : Int32) (x5 : Int32) (x6 : Int32) (Ω : zo_O) : Option zo_R :=
  if x2 + 6 ≤ 384 then (
    li (((x6 >>> ((3 : Int32) &&& 31)) * 3) + 3) fun y2 =>
    li (x3 + y2) fun y3 =>
    li (x5 - y2) fun y4 =>
    li (((y3 + y4).toUInt32 >>> ((1 : Int32).toUInt32 &&& Int32.toUInt32 31)).toInt32) fun y5 =>
    li (((y3 + y5).toUInt32 >>> ((1 : Int32).toUInt32 &&& Int32.toUInt32 31)).toInt32) fun y6 =>
    li (((y5 + y4).toUInt32 >>> ((1 : Int32).toUInt32 &&& Int32.toUInt32 31)).toInt32) fun y7 =>
    ix y5 (gL Ω 35 x1) fun j8 =>
    li (gI Ω 35 x1 j8) fun y9 =>
    ix y4 (gL Ω 35 x1) fun j10 =>
    ix y6 (gL Ω 35 x1) fun j11 =>
    if gI Ω 35 x1 j11 ≤ gI Ω 35 x1 j10 then (
      fn_J16_sort_2_b_196 N K0 x1 (x2 + 6) x3 x4 x5 x6 y3 y4 y5 y6 y7 y9 Ω
      ) else
    ix y4 (gL Ω 35 x1) fun j13 =>
    li (gI Ω 35 x1 j13) fun y14 =>
    ix y6 (gL Ω 35 x1) fun j15 =>
    ix y4 (gL Ω 35 x1) fun j16 => lt (sI Ω 35 x1 j16 (gI Ω 35 x1 j15)) fun Ω17 =>
    ix y6 (gL Ω17 35 x1) fun j18 => lt (sI Ω17 35 x1 j18 y14) fun Ω19 =>
    fn_J16_sort_2_b_196 N K0 x1 (x2 + 6) x3 x4 x5 x6 y3 y4 y5 y6 y7 y9 Ω19
    ) else
  none
theorem ct_J16_sort_2_b_91 {Y : zo_Y} (hY : zo_Gd Y cJ16_sort_2 21 RJ16 1) (hJ : zo_JC (zo_J Y)) (hCon : ∀ Ω, zo_J Y Ω → zo_Con Ω) (hr : zo_rt Y (Option.none : Option Jvm.ClassFile.FieldType)) (N : Nat) (K0 : Nat → Int32 → Int32 → Int32 → zo_O → Option zo_R) (hK0 : ∀ (x1 : Nat) (x2 : Int32) (x3 : Int32) (x4 : Int32) (Ω : zo_O) (res : zo_R), K0 x1 x2 x3 x4 Ω = some res → TW Y res Ω 0 [(0, vo none), (1, vr 35 x1), (2, vi x2), (3, vi x3), (4, vi x4)] []) (x1 : Nat) (x2 : Int32) (x3 : Int32) (x4 : Int32) (x5 : Int32) (x6 : Int32) (Ω : zo_O) (res : zo_R) (h : fn_J16_sort_2_b_91 N K0 x1 x2 x3 x4 x5 x6 Ω = some res) : TW Y res Ω 91 [(0, vo none), (1, vr 35 x1), (2, vi x2), (3, vi x3), (4, vi x4), (5, vi x5), (6, vi x6)] [] := by
  unfold fn_J16_sort_2_b_91 at h
  refine zo_iinc hY 6 dJ16_sort_2_91 (by decide) (by decide) 2 rfl rfl (ls' := [(2, vi (x2 + 6)), (0, vo none), (1, vr 35 x1), (3, vi x3), (4, vi x4), (5, vi x5), (6, vi x6)]) rfl ?_
  refine zo_iload_n hY dJ16_sort_2_94 rfl 0 rfl ?_
  refine zo_sipush hY 384 (by decide) dJ16_sort_2_95 ?_
  refine zo_icmp_le hY 109 dJ16_sort_2_98 (by decide) h (fun c1 h => ?_) (fun c1 h => ?_)
  · refine zo_iload hY dJ16_sort_2_109 6 rfl ?_
    refine zo_iconst hY 3 (by decide) dJ16_sort_2_111 ?_
    refine zo_ishr hY dJ16_sort_2_112 ?_
    refine zo_iconst hY 3 (by decide) dJ16_sort_2_113 ?_
    refine zo_imul hY dJ16_sort_2_114 ?_
    refine zo_iconst hY 3 (by decide) dJ16_sort_2_115 ?_
    refine zo_iadd hY dJ16_sort_2_116 ?_
    refine zo_nmi h (fun y2 h => ?_)
    refine zo_istore hY dJ16_sort_2_117 (by decide) rfl (ls' := [(7, vi y2), (2, vi (x2 + 6)), (0, vo none), (1, vr 35 x1), (3, vi x3), (4, vi x4), (5, vi x5), (6, vi x6)]) rfl ?_
    refine zo_iload_n hY dJ16_sort_2_119 rfl 4 rfl ?_
    refine zo_iload hY dJ16_sort_2_120 0 rfl ?_
    refine zo_iadd hY dJ16_sort_2_122 ?_
    refine zo_nmi h (fun y3 h => ?_)
    refine zo_istore hY dJ16_sort_2_123 (by decide) rfl (ls' := [(8, vi y3), (7, vi y2), (2, vi (x2 + 6)), (0, vo none), (1, vr 35 x1), (3, vi x3), (4, vi x4), (5, vi x5), (6, vi x6)]) rfl ?_
    refine zo_iload hY dJ16_sort_2_125 7 rfl ?_
    refine zo_iload hY dJ16_sort_2_127 1 rfl ?_
    refine zo_isub hY dJ16_sort_2_129 ?_
    refine zo_nmi h (fun y4 h => ?_)
    refine zo_istore hY dJ16_sort_2_130 (by decide) rfl (ls' := [(9, vi y4), (8, vi y3), (7, vi y2), (2, vi (x2 + 6)), (0, vo none), (1, vr 35 x1), (3, vi x3), (4, vi x4), (5, vi x5), (6, vi x6)]) rfl ?_
    refine zo_iload hY dJ16_sort_2_132 1 rfl ?_
    refine zo_iload hY dJ16_sort_2_134 0 rfl ?_
    refine zo_iadd hY dJ16_sort_2_136 ?_
    refine zo_iconst hY 1 (by decide) dJ16_sort_2_137 ?_
    refine zo_iushr hY dJ16_sort_2_138 ?_
    refine zo_nmi h (fun y5 h => ?_)
    refine zo_istore hY dJ16_sort_2_139 (by decide) rfl (ls' := [(10, vi y5), (9, vi y4), (8, vi y3), (7, vi y2), (2, vi (x2 + 6)), (0, vo none), (1, vr 35 x1), (3, vi x3), (4, vi x4), (5, vi x5), (6, vi x6)]) rfl ?_
    refine zo_iload hY dJ16_sort_2_141 2 rfl ?_
    refine zo_iload hY dJ16_sort_2_143 0 rfl ?_
    refine zo_iadd hY dJ16_sort_2_145 ?_
    refine zo_iconst hY 1 (by decide) dJ16_sort_2_146 ?_
    refine zo_iushr hY dJ16_sort_2_147 ?_
    refine zo_nmi h (fun y6 h => ?_)
    refine zo_istore hY dJ16_sort_2_148 (by decide) rfl (ls' := [(11, vi y6), (10, vi y5), (9, vi y4), (8, vi y3), (7, vi y2), (2, vi (x2 + 6)), (0, vo none), (1, vr 35 x1), (3, vi x3), (4, vi x4), (5, vi x5), (6, vi x6)]) rfl ?_
    refine zo_iload hY dJ16_sort_2_150 1 rfl ?_
    refine zo_iload hY dJ16_sort_2_152 2 rfl ?_
    refine zo_iadd hY dJ16_sort_2_154 ?_
    refine zo_iconst hY 1 (by decide) dJ16_sort_2_155 ?_
    refine zo_iushr hY dJ16_sort_2_156 ?_
    refine zo_nmi h (fun y7 h => ?_)
    refine zo_istore hY dJ16_sort_2_157 (by decide) rfl (ls' := [(12, vi y7), (11, vi y6), (10, vi y5), (9, vi y4), (8, vi y3), (7, vi y2), (2, vi (x2 + 6)), (0, vo none), (1, vr 35 x1), (3, vi x3), (4, vi x4), (5, vi x5), (6, vi x6)]) rfl ?_
    refine zo_aload_n hY dJ16_sort_2_159 rfl 8 rfl ?_
    refine zo_iload hY dJ16_sort_2_160 2 rfl ?_
    refine zo_ald hY (by decide) (Or.inl ⟨rfl, dJ16_sort_2_162⟩) (fun _ => rfl) h (fun j8 h => ?_)
    refine zo_nmi h (fun y9 h => ?_)
    refine zo_istore hY dJ16_sort_2_163 (by decide) rfl (ls' := [(13, vi y9), (12, vi y7), (11, vi y6), (10, vi y5), (9, vi y4), (8, vi y3), (7, vi y2), (2, vi (x2 + 6)), (0, vo none), (1, vr 35 x1), (3, vi x3), (4, vi x4), (5, vi x5), (6, vi x6)]) rfl ?_
    refine zo_aload_n hY dJ16_sort_2_165 rfl 9 rfl ?_
    refine zo_iload hY dJ16_sort_2_166 4 rfl ?_
    refine zo_ald hY (by decide) (Or.inl ⟨rfl, dJ16_sort_2_168⟩) (fun _ => rfl) h (fun j10 h => ?_)
    refine zo_aload_n hY dJ16_sort_2_169 rfl 9 rfl ?_
    refine zo_iload hY dJ16_sort_2_170 2 rfl ?_
    refine zo_ald hY (by decide) (Or.inl ⟨rfl, dJ16_sort_2_172⟩) (fun _ => rfl) h (fun j11 h => ?_)
    refine zo_icmp_ge hY 196 dJ16_sort_2_173 (by decide) h (fun c12 h => ?_) (fun c12 h => ?_)
    · refine zo_sub [8, 9, 7, 10, 11, 12, 13, 5, 4, 3, 2, 1, 0] rfl ?_
      exact ct_J16_sort_2_b_196 hY hJ hCon hr N K0 hK0 x1 (x2 + 6) x3 x4 x5 x6 y3 y4 y5 y6 y7 y9 Ω _ h
    · refine zo_aload_n hY dJ16_sort_2_176 rfl 9 rfl ?_
      refine zo_iload hY dJ16_sort_2_177 4 rfl ?_
      refine zo_ald hY (by decide) (Or.inl ⟨rfl, dJ16_sort_2_179⟩) (fun _ => rfl) h (fun j13 h => ?_)
      refine zo_nmi h (fun y14 h => ?_)
      refine zo_istore hY dJ16_sort_2_180 (by decide) rfl (ls' := [(14, vi y14), (13, vi y9), (12, vi y7), (11, vi y6), (10, vi y5), (9, vi y4), (8, vi y3), (7, vi y2), (2, vi (x2 + 6)), (0, vo none), (1, vr 35 x1), (3, vi x3), (4, vi x4), (5, vi x5), (6, vi x6)]) rfl ?_
      refine zo_aload_n hY dJ16_sort_2_182 rfl 10 rfl ?_
      refine zo_iload hY dJ16_sort_2_183 5 rfl ?_
      refine zo_aload_n hY dJ16_sort_2_185 rfl 10 rfl ?_
      refine zo_iload hY dJ16_sort_2_186 3 rfl ?_
      refine zo_ald hY (by decide) (Or.inl ⟨rfl, dJ16_sort_2_188⟩) (fun _ => rfl) h (fun j15 h => ?_)
      refine zo_ast hY hJ (by decide) (Or.inl ⟨rfl, rfl, dJ16_sort_2_189⟩) (fun _ => rfl) h (fun j16 Ω17 h => ?_)
      refine zo_aload_n hY dJ16_sort_2_190 rfl 10 rfl ?_
      refine zo_iload hY dJ16_sort_2_191 3 rfl ?_
      refine zo_iload hY dJ16_sort_2_193 0 rfl ?_
      refine zo_ast hY hJ (by decide) (Or.inl ⟨rfl, rfl, dJ16_sort_2_195⟩) (fun _ => rfl) h (fun j18 Ω19 h => ?_)
      refine zo_sub [9, 10, 8, 11, 12, 13, 14, 6, 5, 4, 3, 2, 1] rfl ?_
      exact ct_J16_sort_2_b_196 hY hJ hCon hr N K0 hK0 x1 (x2 + 6) x3 x4 x5 x6 y3 y4 y5 y6 y7 y9 Ω19 _ h
  · refine zo_aload_n hY dJ16_sort_2_101 rfl 2 rfl ?_
    refine zo_iload_n hY dJ16_sort_2_102 rfl 3 rfl ?_
    refine zo_iload hY dJ16_sort_2_103 4 rfl ?_
    cases h
def fn_J16_sort_2_b_79 (N : Nat) (K0 : Nat → Int32 → Int32 → Int32 → zo_O → Option zo_R) (x1 : Nat) (x2 : Int32) (x3 : Int32) (x4 : Int32) (x5 : Int32) (x6 : Int32) (Ω : zo_O) : Option zo_R :=
  ci (fn_J16_tryMergeRuns N x1 x3 x6 Ω) fun r2 Ω1 =>
  if r2 = 0 then (
    fn_J16_sort_2_b_91 N K0 x1 x2 x3 x4 x5 x6 Ω1
    ) else
  rV Ω1
theorem ct_J16_sort_2_b_79 {Y : zo_Y} (hY : zo_Gd Y cJ16_sort_2 21 RJ16 1) (hJ : zo_JC (zo_J Y)) (hCon : ∀ Ω, zo_J Y Ω → zo_Con Ω) (hr : zo_rt Y (Option.none : Option Jvm.ClassFile.FieldType)) (N : Nat) (K0 : Nat → Int32 → Int32 → Int32 → zo_O → Option zo_R) (hK0 : ∀ (x1 : Nat) (x2 : Int32) (x3 : Int32) (x4 : Int32) (Ω : zo_O) (res : zo_R), K0 x1 x2 x3 x4 Ω = some res → TW Y res Ω 0 [(0, vo none), (1, vr 35 x1), (2, vi x2), (3, vi x3), (4, vi x4)] []) (x1 : Nat) (x2 : Int32) (x3 : Int32) (x4 : Int32) (x5 : Int32) (x6 : Int32) (Ω : zo_O) (res : zo_R) (h : fn_J16_sort_2_b_79 N K0 x1 x2 x3 x4 x5 x6 Ω = some res) : TW Y res Ω 79 [(0, vo none), (1, vr 35 x1), (2, vi x2), (3, vi x3), (4, vi x4), (5, vi x5), (6, vi x6)] [] := by
  unfold fn_J16_sort_2_b_79 at h
  refine zo_aload_n hY dJ16_sort_2_79 rfl 0 rfl ?_
  refine zo_aload_n hY dJ16_sort_2_80 rfl 1 rfl ?_
  refine zo_iload_n hY dJ16_sort_2_81 rfl 3 rfl ?_
  refine zo_iload hY dJ16_sort_2_82 6 rfl ?_
  refine zo_callS hY (fun q hq => mt_J16_tryMergeRuns hJ hCon N x1 x3 x6 Ω q hq) (by decide) (by decide) cn_J16_tryMergeRuns rfl q1177 q1178 q117 q1179 (Nat.le_of_ble_eq_true rfl) dJ16_sort_2_84 rfl h (ci_k (fun r2 Ω1 res h => ?_))
  refine zo_if_eq hY 91 dJ16_sort_2_87 (by decide) h (fun c3 h => ?_) (fun c3 h => ?_)
  · exact ct_J16_sort_2_b_91 hY hJ hCon hr N K0 hK0 x1 x2 x3 x4 x5 x6 Ω1 _ h
  · exact zo_vret hY hr dJ16_sort_2_90 h
def fn_J16_sort_2_b_46 (N : Nat) (K0 : Nat → Int32 → Int32 → Int32 → zo_O → Option zo_R) (x1 : Nat) (x2 : Int32) (x3 : Int32) (x4 : Int32) (x5 : Int32) (x6 : Int32) (Ω : zo_O) : Option zo_R :=
  if 44 ≤ x6 then (
    if x2 = 0 then (
      fn_J16_sort_2_b_79 N K0 x1 x2 x3 x4 x5 x6 Ω
      ) else
    if x6 ≤ 4096 then (
      fn_J16_sort_2_b_91 N K0 x1 x2 x3 x4 x5 x6 Ω
      ) else
    if x2 &&& 1 ≤ 0 then (
      fn_J16_sort_2_b_91 N K0 x1 x2 x3 x4 x5 x6 Ω
      ) else
    fn_J16_sort_2_b_79 N K0 x1 x2 x3 x4 x5 x6 Ω
    ) else
  cv (fn_J16_insertionSort N x1 x3 x4 Ω) fun Ω5 =>
  rV Ω5
theorem ct_J16_sort_2_b_46 {Y : zo_Y} (hY : zo_Gd Y cJ16_sort_2 21 RJ16 1) (hJ : zo_JC (zo_J Y)) (hCon : ∀ Ω, zo_J Y Ω → zo_Con Ω) (hr : zo_rt Y (Option.none : Option Jvm.ClassFile.FieldType)) (N : Nat) (K0 : Nat → Int32 → Int32 → Int32 → zo_O → Option zo_R) (hK0 : ∀ (x1 : Nat) (x2 : Int32) (x3 : Int32) (x4 : Int32) (Ω : zo_O) (res : zo_R), K0 x1 x2 x3 x4 Ω = some res → TW Y res Ω 0 [(0, vo none), (1, vr 35 x1), (2, vi x2), (3, vi x3), (4, vi x4)] []) (x1 : Nat) (x2 : Int32) (x3 : Int32) (x4 : Int32) (x5 : Int32) (x6 : Int32) (Ω : zo_O) (res : zo_R) (h : fn_J16_sort_2_b_46 N K0 x1 x2 x3 x4 x5 x6 Ω = some res) : TW Y res Ω 46 [(0, vo none), (1, vr 35 x1), (2, vi x2), (3, vi x3), (4, vi x4), (5, vi x5), (6, vi x6)] [] := by
  unfold fn_J16_sort_2_b_46 at h
  refine zo_iload hY dJ16_sort_2_46 6 rfl ?_
  refine zo_bipush hY 44 (by decide) dJ16_sort_2_48 ?_
  refine zo_icmp_ge hY 61 dJ16_sort_2_50 (by decide) h (fun c1 h => ?_) (fun c1 h => ?_)
  · refine zo_iload_n hY dJ16_sort_2_61 rfl 2 rfl ?_
    refine zo_if_eq hY 79 dJ16_sort_2_62 (by decide) h (fun c2 h => ?_) (fun c2 h => ?_)
    · exact ct_J16_sort_2_b_79 hY hJ hCon hr N K0 hK0 x1 x2 x3 x4 x5 x6 Ω _ h
    · refine zo_iload hY dJ16_sort_2_65 6 rfl ?_
      refine zo_sipush hY 4096 (by decide) dJ16_sort_2_67 ?_
      refine zo_icmp_le hY 91 dJ16_sort_2_70 (by decide) h (fun c3 h => ?_) (fun c3 h => ?_)
      · exact ct_J16_sort_2_b_91 hY hJ hCon hr N K0 hK0 x1 x2 x3 x4 x5 x6 Ω _ h
      · refine zo_iload_n hY dJ16_sort_2_73 rfl 2 rfl ?_
        refine zo_iconst hY 1 (by decide) dJ16_sort_2_74 ?_
        refine zo_iand hY dJ16_sort_2_75 ?_
        refine zo_if_le hY 91 dJ16_sort_2_76 (by decide) h (fun c4 h => ?_) (fun c4 h => ?_)
        · exact ct_J16_sort_2_b_91 hY hJ hCon hr N K0 hK0 x1 x2 x3 x4 x5 x6 Ω _ h
        · exact ct_J16_sort_2_b_79 hY hJ hCon hr N K0 hK0 x1 x2 x3 x4 x5 x6 Ω _ h
  · refine zo_aload_n hY dJ16_sort_2_53 rfl 1 rfl ?_
    refine zo_iload_n hY dJ16_sort_2_54 rfl 3 rfl ?_
    refine zo_iload hY dJ16_sort_2_55 4 rfl ?_
    refine zo_callS hY (fun q hq => mt_J16_insertionSort hJ hCon N x1 x3 x4 Ω q hq) (by decide) (by decide) cn_J16_insertionSort rfl q1174 q1175 q117 q1176 (Nat.le_of_ble_eq_true rfl) dJ16_sort_2_57 rfl h (cv_k (fun Ω5 res h => ?_))
    exact zo_vret hY hr dJ16_sort_2_60 h
def bd_J16_sort_2_b_0 (N : Nat)  (K0 : Nat → Int32 → Int32 → Int32 → zo_O → Option zo_R) (x1 : Nat) (x2 : Int32) (x3 : Int32) (x4 : Int32) (Ω : zo_O) : Option zo_R :=
  li (x4 - 1) fun y1 =>
  li (x4 - x3) fun y2 =>
  if 65 + x2 ≤ y2 then (
    fn_J16_sort_2_b_46 N K0 x1 x2 x3 x4 y1 y2 Ω
    ) else
  if x2 &&& 1 ≤ 0 then (
    fn_J16_sort_2_b_46 N K0 x1 x2 x3 x4 y1 y2 Ω
    ) else
  cv (fn_J16_mixedInsertionSort N x1 x3 (x4 - (3 * ((y2 >>> ((5 : Int32) &&& 31)) <<< ((3 : Int32) &&& 31)))) x4 Ω) fun Ω5 =>
  rV Ω5
theorem cb_J16_sort_2_b_0 {Y : zo_Y} (hY : zo_Gd Y cJ16_sort_2 21 RJ16 1) (hJ : zo_JC (zo_J Y)) (hCon : ∀ Ω, zo_J Y Ω → zo_Con Ω) (hr : zo_rt Y (Option.none : Option Jvm.ClassFile.FieldType)) (N : Nat)  (K0 : Nat → Int32 → Int32 → Int32 → zo_O → Option zo_R)  (hK0 : ∀ (x1 : Nat) (x2 : Int32) (x3 : Int32) (x4 : Int32) (Ω : zo_O) (res : zo_R), K0 x1 x2 x3 x4 Ω = some res → TW Y res Ω 0 [(0, vo none), (1, vr 35 x1), (2, vi x2), (3, vi x3), (4, vi x4)] []) (x1 : Nat) (x2 : Int32) (x3 : Int32) (x4 : Int32) (Ω : zo_O) (res : zo_R) (h : bd_J16_sort_2_b_0 N  K0 x1 x2 x3 x4 Ω = some res) : TW Y res Ω 0 [(0, vo none), (1, vr 35 x1), (2, vi x2), (3, vi x3), (4, vi x4)] [] := by
  unfold bd_J16_sort_2_b_0 at h
  refine zo_iload hY dJ16_sort_2_0 4 rfl ?_
  refine zo_iconst hY 1 (by decide) dJ16_sort_2_2 ?_
  refine zo_isub hY dJ16_sort_2_3 ?_
  refine zo_nmi h (fun y1 h => ?_)
  refine zo_istore hY dJ16_sort_2_4 (by decide) rfl (ls' := [(5, vi y1), (0, vo none), (1, vr 35 x1), (2, vi x2), (3, vi x3), (4, vi x4)]) rfl ?_
  refine zo_iload hY dJ16_sort_2_6 5 rfl ?_
  refine zo_iload_n hY dJ16_sort_2_8 rfl 4 rfl ?_
  refine zo_isub hY dJ16_sort_2_9 ?_
  refine zo_nmi h (fun y2 h => ?_)
  refine zo_istore hY dJ16_sort_2_10 (by decide) rfl (ls' := [(6, vi y2), (5, vi y1), (0, vo none), (1, vr 35 x1), (2, vi x2), (3, vi x3), (4, vi x4)]) rfl ?_
  refine zo_iload hY dJ16_sort_2_12 0 rfl ?_
  refine zo_bipush hY 65 (by decide) dJ16_sort_2_14 ?_
  refine zo_iload_n hY dJ16_sort_2_16 rfl 4 rfl ?_
  refine zo_iadd hY dJ16_sort_2_17 ?_
  refine zo_icmp_ge hY 46 dJ16_sort_2_18 (by decide) h (fun c3 h => ?_) (fun c3 h => ?_)
  · refine zo_sub [2, 3, 4, 5, 6, 1, 0] rfl ?_
    exact ct_J16_sort_2_b_46 hY hJ hCon hr N K0 hK0 x1 x2 x3 x4 y1 y2 Ω _ h
  · refine zo_iload_n hY dJ16_sort_2_21 rfl 4 rfl ?_
    refine zo_iconst hY 1 (by decide) dJ16_sort_2_22 ?_
    refine zo_iand hY dJ16_sort_2_23 ?_
    refine zo_if_le hY 46 dJ16_sort_2_24 (by decide) h (fun c4 h => ?_) (fun c4 h => ?_)
    · refine zo_sub [2, 3, 4, 5, 6, 1, 0] rfl ?_
      exact ct_J16_sort_2_b_46 hY hJ hCon hr N K0 hK0 x1 x2 x3 x4 y1 y2 Ω _ h
    · refine zo_aload_n hY dJ16_sort_2_27 rfl 3 rfl ?_
      refine zo_iload_n hY dJ16_sort_2_28 rfl 5 rfl ?_
      refine zo_iload hY dJ16_sort_2_29 6 rfl ?_
      refine zo_iconst hY 3 (by decide) dJ16_sort_2_31 ?_
      refine zo_iload hY dJ16_sort_2_32 0 rfl ?_
      refine zo_iconst hY 5 (by decide) dJ16_sort_2_34 ?_
      refine zo_ishr hY dJ16_sort_2_35 ?_
      refine zo_iconst hY 3 (by decide) dJ16_sort_2_36 ?_
      refine zo_ishl hY dJ16_sort_2_37 ?_
      refine zo_imul hY dJ16_sort_2_38 ?_
      refine zo_isub hY dJ16_sort_2_39 ?_
      refine zo_iload hY dJ16_sort_2_40 6 rfl ?_
      refine zo_callS hY (fun q hq => mt_J16_mixedInsertionSort hJ hCon N x1 x3 (x4 - (3 * ((y2 >>> ((5 : Int32) &&& 31)) <<< ((3 : Int32) &&& 31)))) x4 Ω q hq) (by decide) (by decide) cn_J16_mixedInsertionSort rfl q1171 q1172 q117 q1173 (Nat.le_of_ble_eq_true rfl) dJ16_sort_2_42 rfl h (cv_k (fun Ω5 res h => ?_))
      exact zo_vret hY hr dJ16_sort_2_45 h
def fn_J16_sort_2_b_0 (N : Nat)  : Nat → Nat → Int32 → Int32 → Int32 → zo_O → Option zo_R
  | 0, _, _, _, _, _ => none
  | n + 1, x1, x2, x3, x4, Ω => bd_J16_sort_2_b_0 N  (fn_J16_sort_2_b_0 N  n) x1 x2 x3 x4 Ω
theorem ct_J16_sort_2_b_0 {Y : zo_Y} (hY : zo_Gd Y cJ16_sort_2 21 RJ16 1) (hJ : zo_JC (zo_J Y)) (hCon : ∀ Ω, zo_J Y Ω → zo_Con Ω) (hr : zo_rt Y (Option.none : Option Jvm.ClassFile.FieldType)) (N : Nat)   : ∀ (n : Nat) (x1 : Nat) (x2 : Int32) (x3 : Int32) (x4 : Int32) (Ω : zo_O) (res : zo_R), fn_J16_sort_2_b_0 N  n x1 x2 x3 x4 Ω = some res → TW Y res Ω 0 [(0, vo none), (1, vr 35 x1), (2, vi x2), (3, vi x3), (4, vi x4)] [] := by
  intro n
  induction n with
  | zero => intro x1 x2 x3 x4 Ω res h; exact nomatch (show (none : Option zo_R) = some res from h)
  | succ n ih => intro x1 x2 x3 x4 Ω res h; exact cb_J16_sort_2_b_0 hY hJ hCon hr N  (fn_J16_sort_2_b_0 N  n)  ih x1 x2 x3 x4 Ω res h
def fn_J16_sort_2_b (N : Nat) (x1 : Nat) (x2 : Int32) (x3 : Int32) (x4 : Int32) (Ω : zo_O) : Option zo_R :=
  fn_J16_sort_2_b_0 N N x1 x2 x3 x4 Ω
theorem mt_J16_sort_2_b {G : zo_G} {J : zo_O → Prop} (hJ : zo_JC J) (hCon : ∀ Ω, J Ω → zo_Con Ω) (N : Nat) (x1 : Nat) (x2 : Int32) (x3 : Int32) (x4 : Int32) (Ω : zo_O) (res : zo_R) (h : fn_J16_sort_2_b N x1 x2 x3 x4 Ω = some res) : zo_MT G J yJ16_sort_2 cJ16_sort_2 21 (Option.none : Option Jvm.ClassFile.FieldType) 1 [vo none, vr 35 x1, vi x2, vi x3, vi x4] Ω res := by
  refine zo_enter (by decide) rfl (Nat.le_of_ble_eq_true rfl) (fun Y hY eJ hr hmn => ?_)
  subst eJ
  show TW Y res Ω 0 [(0, vo none), (1, vr 35 x1), (2, vi x2), (3, vi x3), (4, vi x4)] []
  unfold fn_J16_sort_2_b at h
  exact ct_J16_sort_2_b_0 hY hJ hCon hr N N x1 x2 x3 x4 Ω _ h
def fn_J16_sort_2_674 (N : Nat) (K0 : Nat → Int32 → Int32 → Int32 → zo_O → Option zo_R) (K560 : Nat → Int32 → Int32 → Int32 → Int32 → Int32 → Int32 → Int32 → Int32 → Int32 → Int32 → zo_O → Option zo_R) (x1 : Nat) (x2 : Int32) (x3 : Int32) (x4 : Int32) (x5 : Int32) (x6 : Int32) (x14 : Int32) (x15 : Int32) (x16 : Int32) (x17 : Int32) (x19 : Int32) (Ω : zo_O) : Option zo_R :=
  K560 x1 x2 x3 x4 x5 x6 x14 x15 x16 x17 x19 Ω
theorem ct_J16_sort_2_674 {Y : zo_Y} (hY : zo_Gd Y cJ16_sort_2 21 RJ16 2) (hJ : zo_JC (zo_J Y)) (hCon : ∀ Ω, zo_J Y Ω → zo_Con Ω) (hr : zo_rt Y (Option.none : Option Jvm.ClassFile.FieldType)) (N : Nat) (K0 : Nat → Int32 → Int32 → Int32 → zo_O → Option zo_R) (K560 : Nat → Int32 → Int32 → Int32 → Int32 → Int32 → Int32 → Int32 → Int32 → Int32 → Int32 → zo_O → Option zo_R) (hK0 : ∀ (x1 : Nat) (x2 : Int32) (x3 : Int32) (x4 : Int32) (Ω : zo_O) (res : zo_R), K0 x1 x2 x3 x4 Ω = some res → TW Y res Ω 0 [(0, vo none), (1, vr 35 x1), (2, vi x2), (3, vi x3), (4, vi x4)] []) (hK560 : ∀ (x1 : Nat) (x2 : Int32) (x3 : Int32) (x4 : Int32) (x5 : Int32) (x6 : Int32) (x14 : Int32) (x15 : Int32) (x16 : Int32) (x17 : Int32) (x19 : Int32) (Ω : zo_O) (res : zo_R), K560 x1 x2 x3 x4 x5 x6 x14 x15 x16 x17 x19 Ω = some res → TW Y res Ω 560 [(0, vo none), (1, vr 35 x1), (2, vi x2), (3, vi x3), (4, vi x4), (5, vi x5), (6, vi x6), (14, vi x14), (15, vi x15), (16, vi x16), (17, vi x17), (19, vi x19)] []) (x1 : Nat) (x2 : Int32) (x3 : Int32) (x4 : Int32) (x5 : Int32) (x6 : Int32) (x14 : Int32) (x15 : Int32) (x16 : Int32) (x17 : Int32) (x19 : Int32) (Ω : zo_O) (res : zo_R) (h : fn_J16_sort_2_674 N K0 K560 x1 x2 x3 x4 x5 x6 x14 x15 x16 x17 x19 Ω = some res) : TW Y res Ω 674 [(0, vo none), (1, vr 35 x1), (2, vi x2), (3, vi x3), (4, vi x4), (5, vi x5), (6, vi x6), (14, vi x14), (15, vi x15), (16, vi x16), (17, vi x17), (19, vi x19)] [] := by
  unfold fn_J16_sort_2_674 at h
  refine zo_goto hY 560 dJ16_sort_2_674 (by decide) ?_
  exact hK560 x1 x2 x3 x4 x5 x6 x14 x15 x16 x17 x19 Ω _ h
def fn_J16_sort_2_641 (N : Nat) (K0 : Nat → Int32 → Int32 → Int32 → zo_O → Option zo_R) (K560 : Nat → Int32 → Int32 → Int32 → Int32 → Int32 → Int32 → Int32 → Int32 → Int32 → Int32 → zo_O → Option zo_R) (x1 : Nat) (x2 : Int32) (x3 : Int32) (x4 : Int32) (x5 : Int32) (x6 : Int32) (x14 : Int32) (x15 : Int32) (x16 : Int32) (x17 : Int32) (x19 : Int32) (x20 : Int32) (Ω : zo_O) : Option zo_R :=
  ix x14 (gL Ω 35 x1) fun j1 => lt (sI Ω 35 x1 j1 x20) fun Ω2 =>
  fn_J16_sort_2_674 N K0 K560 x1 x2 x3 x4 x5 x6 x14 x15 x16 x17 x19 Ω2
theorem ct_J16_sort_2_641 {Y : zo_Y} (hY : zo_Gd Y cJ16_sort_2 21 RJ16 2) (hJ : zo_JC (zo_J Y)) (hCon : ∀ Ω, zo_J Y Ω → zo_Con Ω) (hr : zo_rt Y (Option.none : Option Jvm.ClassFile.FieldType)) (N : Nat) (K0 : Nat → Int32 → Int32 → Int32 → zo_O → Option zo_R) (K560 : Nat → Int32 → Int32 → Int32 → Int32 → Int32 → Int32 → Int32 → Int32 → Int32 → Int32 → zo_O → Option zo_R) (hK0 : ∀ (x1 : Nat) (x2 : Int32) (x3 : Int32) (x4 : Int32) (Ω : zo_O) (res : zo_R), K0 x1 x2 x3 x4 Ω = some res → TW Y res Ω 0 [(0, vo none), (1, vr 35 x1), (2, vi x2), (3, vi x3), (4, vi x4)] []) (hK560 : ∀ (x1 : Nat) (x2 : Int32) (x3 : Int32) (x4 : Int32) (x5 : Int32) (x6 : Int32) (x14 : Int32) (x15 : Int32) (x16 : Int32) (x17 : Int32) (x19 : Int32) (Ω : zo_O) (res : zo_R), K560 x1 x2 x3 x4 x5 x6 x14 x15 x16 x17 x19 Ω = some res → TW Y res Ω 560 [(0, vo none), (1, vr 35 x1), (2, vi x2), (3, vi x3), (4, vi x4), (5, vi x5), (6, vi x6), (14, vi x14), (15, vi x15), (16, vi x16), (17, vi x17), (19, vi x19)] []) (x1 : Nat) (x2 : Int32) (x3 : Int32) (x4 : Int32) (x5 : Int32) (x6 : Int32) (x14 : Int32) (x15 : Int32) (x16 : Int32) (x17 : Int32) (x19 : Int32) (x20 : Int32) (Ω : zo_O) (res : zo_R) (h : fn_J16_sort_2_641 N K0 K560 x1 x2 x3 x4 x5 x6 x14 x15 x16 x17 x19 x20 Ω = some res) : TW Y res Ω 641 [(0, vo none), (1, vr 35 x1), (2, vi x2), (3, vi x3), (4, vi x4), (5, vi x5), (6, vi x6), (14, vi x14), (15, vi x15), (16, vi x16), (17, vi x17), (19, vi x19), (20, vi x20)] [] := by
  unfold fn_J16_sort_2_641 at h
  refine zo_aload_n hY dJ16_sort_2_641 rfl 1 rfl ?_
  refine zo_iload hY dJ16_sort_2_642 7 rfl ?_
  refine zo_iload hY dJ16_sort_2_644 12 rfl ?_
  refine zo_ast hY hJ (by decide) (Or.inl ⟨rfl, rfl, dJ16_sort_2_646⟩) (fun _ => rfl) h (fun j1 Ω2 h => ?_)
  refine zo_goto hY 674 dJ16_sort_2_647 (by decide) ?_
  refine zo_sub [0, 1, 2, 3, 4, 5, 6, 7, 8, 9, 10, 11] rfl ?_
  exact ct_J16_sort_2_674 hY hJ hCon hr N K0 K560 hK0 hK560 x1 x2 x3 x4 x5 x6 x14 x15 x16 x17 x19 Ω2 _ h
def bd_J16_sort_2_583 (N : Nat) (K0 : Nat → Int32 → Int32 → Int32 → zo_O → Option zo_R) (K560 : Nat → Int32 → Int32 → Int32 → Int32 → Int32 → Int32 → Int32 → Int32 → Int32 → Int32 → zo_O → Option zo_R) (K583 : Nat → Int32 → Int32 → Int32 → Int32 → Int32 → Int32 → Int32 → Int32 → Int32 → Int32 → Int32 → zo_O → Option zo_R) (x1 : Nat) (x2 : Int32) (x3 : Int32) (x4 : Int32) (x5 : Int32) (x6 : Int32) (x14 : Int32) (x15 : Int32) (x16 : Int32) (x17 : Int32) (x19 : Int32) (x20 : Int32) (Ω : zo_O) : Option zo_R :=
  if x19 ≤ x14 then (
    fn_J16_sort_2_674 N K0 K560 x1 x2 x3 x4 x5 x6 x14 x15 x16 x17 x19 Ω
    ) else
  ix (x14 + 1) (gL Ω 35 x1) fun j2 =>
  if gI Ω 35 x1 j2 < x16 then (
    K583 x1 x2 x3 x4 x5 x6 (x14 + 1) x15 x16 x17 x19 x20 Ω
    ) else
  ix (x14 + 1) (gL Ω 35 x1) fun j4 =>
  if gI Ω 35 x1 j4 ≤ x17 then (
    ix (x14 + 1) (gL Ω 35 x1) fun j6 =>
    ix x19 (gL Ω 35 x1) fun j7 => lt (sI Ω 35 x1 j7 (gI Ω 35 x1 j6)) fun Ω8 =>
    fn_J16_sort_2_641 N K0 K560 x1 x2 x3 x4 x5 x6 (x14 + 1) x15 x16 x17 x19 x20 Ω8
    ) else
  ix (x15 + (-1)) (gL Ω 35 x1) fun j9 =>
  ix x19 (gL Ω 35 x1) fun j10 => lt (sI Ω 35 x1 j10 (gI Ω 35 x1 j9)) fun Ω11 =>
  ix (x14 + 1) (gL Ω11 35 x1) fun j12 =>
  ix (x15 + (-1)) (gL Ω11 35 x1) fun j13 => lt (sI Ω11 35 x1 j13 (gI Ω11 35 x1 j12)) fun Ω14 =>
  fn_J16_sort_2_641 N K0 K560 x1 x2 x3 x4 x5 x6 (x14 + 1) (x15 + (-1)) x16 x17 x19 x20 Ω14
theorem cb_J16_sort_2_583 {Y : zo_Y} (hY : zo_Gd Y cJ16_sort_2 21 RJ16 2) (hJ : zo_JC (zo_J Y)) (hCon : ∀ Ω, zo_J Y Ω → zo_Con Ω) (hr : zo_rt Y (Option.none : Option Jvm.ClassFile.FieldType)) (N : Nat) (K0 : Nat → Int32 → Int32 → Int32 → zo_O → Option zo_R) (K560 : Nat → Int32 → Int32 → Int32 → Int32 → Int32 → Int32 → Int32 → Int32 → Int32 → Int32 → zo_O → Option zo_R) (K583 : Nat → Int32 → Int32 → Int32 → Int32 → Int32 → Int32 → Int32 → Int32 → Int32 → Int32 → Int32 → zo_O → Option zo_R) (hK0 : ∀ (x1 : Nat) (x2 : Int32) (x3 : Int32) (x4 : Int32) (Ω : zo_O) (res : zo_R), K0 x1 x2 x3 x4 Ω = some res → TW Y res Ω 0 [(0, vo none), (1, vr 35 x1), (2, vi x2), (3, vi x3), (4, vi x4)] []) (hK560 : ∀ (x1 : Nat) (x2 : Int32) (x3 : Int32) (x4 : Int32) (x5 : Int32) (x6 : Int32) (x14 : Int32) (x15 : Int32) (x16 : Int32) (x17 : Int32) (x19 : Int32) (Ω : zo_O) (res : zo_R), K560 x1 x2 x3 x4 x5 x6 x14 x15 x16 x17 x19 Ω = some res → TW Y res Ω 560 [(0, vo none), (1, vr 35 x1), (2, vi x2), (3, vi x3), (4, vi x4), (5, vi x5), (6, vi x6), (14, vi x14), (15, vi x15), (16, vi x16), (17, vi x17), (19, vi x19)] []) (hK583 : ∀ (x1 : Nat) (x2 : Int32) (x3 : Int32) (x4 : Int32) (x5 : Int32) (x6 : Int32) (x14 : Int32) (x15 : Int32) (x16 : Int32) (x17 : Int32) (x19 : Int32) (x20 : Int32) (Ω : zo_O) (res : zo_R), K583 x1 x2 x3 x4 x5 x6 x14 x15 x16 x17 x19 x20 Ω = some res → TW Y res Ω 583 [(0, vo none), (1, vr 35 x1), (2, vi x2), (3, vi x3), (4, vi x4), (5, vi x5), (6, vi x6), (14, vi x14), (15, vi x15), (16, vi x16), (17, vi x17), (19, vi x19), (20, vi x20)] []) (x1 : Nat) (x2 : Int32) (x3 : Int32) (x4 : Int32) (x5 : Int32) (x6 : Int32) (x14 : Int32) (x15 : Int32) (x16 : Int32) (x17 : Int32) (x19 : Int32) (x20 : Int32) (Ω : zo_O) (res : zo_R) (h : bd_J16_sort_2_583 N K0 K560 K583 x1 x2 x3 x4 x5 x6 x14 x15 x16 x17 x19 x20 Ω = some res) : TW Y res Ω 583 [(0, vo none), (1, vr 35 x1), (2, vi x2), (3, vi x3), (4, vi x4), (5, vi x5), (6, vi x6), (14, vi x14), (15, vi x15), (16, vi x16), (17, vi x17), (19, vi x19), (20, vi x20)] [] := by
  unfold bd_J16_sort_2_583 at h
  refine zo_iload hY dJ16_sort_2_583 7 rfl ?_
  refine zo_iload hY dJ16_sort_2_585 11 rfl ?_
  refine zo_icmp_ge hY 674 dJ16_sort_2_587 (by decide) h (fun c1 h => ?_) (fun c1 h => ?_)
  · refine zo_sub [0, 1, 2, 3, 4, 5, 6, 7, 8, 9, 10, 11] rfl ?_
    exact ct_J16_sort_2_674 hY hJ hCon hr N K0 K560 hK0 hK560 x1 x2 x3 x4 x5 x6 x14 x15 x16 x17 x19 Ω _ h
  · refine zo_aload_n hY dJ16_sort_2_590 rfl 1 rfl ?_
    refine zo_iinc hY 1 dJ16_sort_2_591 (by decide) (by decide) 7 rfl rfl (ls' := [(14, vi (x14 + 1)), (0, vo none), (1, vr 35 x1), (2, vi x2), (3, vi x3), (4, vi x4), (5, vi x5), (6, vi x6), (15, vi x15), (16, vi x16), (17, vi x17), (19, vi x19), (20, vi x20)]) rfl ?_
    refine zo_iload hY dJ16_sort_2_594 0 rfl ?_
    refine zo_ald hY (by decide) (Or.inl ⟨rfl, dJ16_sort_2_596⟩) (fun _ => rfl) h (fun j2 h => ?_)
    refine zo_iload hY dJ16_sort_2_597 9 rfl ?_
    refine zo_icmp_lt hY 583 dJ16_sort_2_599 (by decide) h (fun c3 h => ?_) (fun c3 h => ?_)
    · refine zo_sub [1, 2, 3, 4, 5, 6, 7, 0, 8, 9, 10, 11, 12] rfl ?_
      exact hK583 x1 x2 x3 x4 x5 x6 (x14 + 1) x15 x16 x17 x19 x20 Ω _ h
    · refine zo_aload_n hY dJ16_sort_2_602 rfl 2 rfl ?_
      refine zo_iload hY dJ16_sort_2_603 0 rfl ?_
      refine zo_ald hY (by decide) (Or.inl ⟨rfl, dJ16_sort_2_605⟩) (fun _ => rfl) h (fun j4 h => ?_)
      refine zo_iload hY dJ16_sort_2_606 10 rfl ?_
      refine zo_icmp_le hY 633 dJ16_sort_2_608 (by decide) h (fun c5 h => ?_) (fun c5 h => ?_)
      · refine zo_aload_n hY dJ16_sort_2_633 rfl 2 rfl ?_
        refine zo_iload hY dJ16_sort_2_634 11 rfl ?_
        refine zo_aload_n hY dJ16_sort_2_636 rfl 2 rfl ?_
        refine zo_iload hY dJ16_sort_2_637 0 rfl ?_
        refine zo_ald hY (by decide) (Or.inl ⟨rfl, dJ16_sort_2_639⟩) (fun _ => rfl) h (fun j6 h => ?_)
        refine zo_ast hY hJ (by decide) (Or.inl ⟨rfl, rfl, dJ16_sort_2_640⟩) (fun _ => rfl) h (fun j7 Ω8 h => ?_)
        refine zo_sub [1, 2, 3, 4, 5, 6, 7, 0, 8, 9, 10, 11, 12] rfl ?_
        exact ct_J16_sort_2_641 hY hJ hCon hr N K0 K560 hK0 hK560 x1 x2 x3 x4 x5 x6 (x14 + 1) x15 x16 x17 x19 x20 Ω8 _ h
      · refine zo_aload_n hY dJ16_sort_2_611 rfl 2 rfl ?_
        refine zo_iload hY dJ16_sort_2_612 11 rfl ?_
        refine zo_aload_n hY dJ16_sort_2_614 rfl 2 rfl ?_
        refine zo_iinc hY (-1) dJ16_sort_2_615 (by decide) (by decide) 8 rfl rfl (ls' := [(15, vi (x15 + (-1))), (14, vi (x14 + 1)), (0, vo none), (1, vr 35 x1), (2, vi x2), (3, vi x3), (4, vi x4), (5, vi x5), (6, vi x6), (16, vi x16), (17, vi x17), (19, vi x19), (20, vi x20)]) rfl ?_
        refine zo_iload hY dJ16_sort_2_618 0 rfl ?_
        refine zo_ald hY (by decide) (Or.inl ⟨rfl, dJ16_sort_2_620⟩) (fun _ => rfl) h (fun j9 h => ?_)
        refine zo_ast hY hJ (by decide) (Or.inl ⟨rfl, rfl, dJ16_sort_2_621⟩) (fun _ => rfl) h (fun j10 Ω11 h => ?_)
        refine zo_aload_n hY dJ16_sort_2_622 rfl 3 rfl ?_
        refine zo_iload hY dJ16_sort_2_623 0 rfl ?_
        refine zo_aload_n hY dJ16_sort_2_625 rfl 3 rfl ?_
        refine zo_iload hY dJ16_sort_2_626 1 rfl ?_
        refine zo_ald hY (by decide) (Or.inl ⟨rfl, dJ16_sort_2_628⟩) (fun _ => rfl) h (fun j12 h => ?_)
        refine zo_ast hY hJ (by decide) (Or.inl ⟨rfl, rfl, dJ16_sort_2_629⟩) (fun _ => rfl) h (fun j13 Ω14 h => ?_)
        refine zo_goto hY 641 dJ16_sort_2_630 (by decide) ?_
        refine zo_sub [2, 3, 4, 5, 6, 7, 8, 1, 0, 9, 10, 11, 12] rfl ?_
        exact ct_J16_sort_2_641 hY hJ hCon hr N K0 K560 hK0 hK560 x1 x2 x3 x4 x5 x6 (x14 + 1) (x15 + (-1)) x16 x17 x19 x20 Ω14 _ h
def fn_J16_sort_2_583 (N : Nat) (K0 : Nat → Int32 → Int32 → Int32 → zo_O → Option zo_R) (K560 : Nat → Int32 → Int32 → Int32 → Int32 → Int32 → Int32 → Int32 → Int32 → Int32 → Int32 → zo_O → Option zo_R) : Nat → Nat → Int32 → Int32 → Int32 → Int32 → Int32 → Int32 → Int32 → Int32 → Int32 → Int32 → Int32 → zo_O → Option zo_R
  | 0, _, _, _, _, _, _, _, _, _, _, _, _, _ => none
  | n + 1, x1, x2, x3, x4, x5, x6, x14, x15, x16, x17, x19, x20, Ω => bd_J16_sort_2_583 N K0 K560 (fn_J16_sort_2_583 N K0 K560 n) x1 x2 x3 x4 x5 x6 x14 x15 x16 x17 x19 x20 Ω
theorem ct_J16_sort_2_583 {Y : zo_Y} (hY : zo_Gd Y cJ16_sort_2 21 RJ16 2) (hJ : zo_JC (zo_J Y)) (hCon : ∀ Ω, zo_J Y Ω → zo_Con Ω) (hr : zo_rt Y (Option.none : Option Jvm.ClassFile.FieldType)) (N : Nat) (K0 : Nat → Int32 → Int32 → Int32 → zo_O → Option zo_R) (K560 : Nat → Int32 → Int32 → Int32 → Int32 → Int32 → Int32 → Int32 → Int32 → Int32 → Int32 → zo_O → Option zo_R) (hK0 : ∀ (x1 : Nat) (x2 : Int32) (x3 : Int32) (x4 : Int32) (Ω : zo_O) (res : zo_R), K0 x1 x2 x3 x4 Ω = some res → TW Y res Ω 0 [(0, vo none), (1, vr 35 x1), (2, vi x2), (3, vi x3), (4, vi x4)] []) (hK560 : ∀ (x1 : Nat) (x2 : Int32) (x3 : Int32) (x4 : Int32) (x5 : Int32) (x6 : Int32) (x14 : Int32) (x15 : Int32) (x16 : Int32) (x17 : Int32) (x19 : Int32) (Ω : zo_O) (res : zo_R), K560 x1 x2 x3 x4 x5 x6 x14 x15 x16 x17 x19 Ω = some res → TW Y res Ω 560 [(0, vo none), (1, vr 35 x1), (2, vi x2), (3, vi x3), (4, vi x4), (5, vi x5), (6, vi x6), (14, vi x14), (15, vi x15), (16, vi x16), (17, vi x17), (19, vi x19)] []) : ∀ (n : Nat) (x1 : Nat) (x2 : Int32) (x3 : Int32) (x4 : Int32) (x5 : Int32) (x6 : Int32) (x14 : Int32) (x15 : Int32) (x16 : Int32) (x17 : Int32) (x19 : Int32) (x20 : Int32) (Ω : zo_O) (res : zo_R), fn_J16_sort_2_583 N K0 K560 n x1 x2 x3 x4 x5 x6 x14 x15 x16 x17 x19 x20 Ω = some res → TW Y res Ω 583 [(0, vo none), (1, vr 35 x1), (2, vi x2), (3, vi x3), (4, vi x4), (5, vi x5), (6, vi x6), (14, vi x14), (15, vi x15), (16, vi x16), (17, vi x17), (19, vi x19), (20, vi x20)] [] := by
  intro n
  induction n with
  | zero => intro x1 x2 x3 x4 x5 x6 x14 x15 x16 x17 x19 x20 Ω res h; exact nomatch (show (none : Option zo_R) = some res from h)
  | succ n ih => intro x1 x2 x3 x4 x5 x6 x14 x15 x16 x17 x19 x20 Ω res h; exact cb_J16_sort_2_583 hY hJ hCon hr N K0 K560 (fn_J16_sort_2_583 N K0 K560 n) hK0 hK560 ih x1 x2 x3 x4 x5 x6 x14 x15 x16 x17 x19 x20 Ω res h
def fn_J16_sort_2_940 (N : Nat) (K0 : Nat → Int32 → Int32 → Int32 → zo_O → Option zo_R) (x1 : Nat) (x2 : Int32) (x3 : Int32) (x14 : Int32) (Ω : zo_O) : Option zo_R :=
  K0 x1 x2 x3 x14 Ω
theorem ct_J16_sort_2_940 {Y : zo_Y} (hY : zo_Gd Y cJ16_sort_2 21 RJ16 2) (hJ : zo_JC (zo_J Y)) (hCon : ∀ Ω, zo_J Y Ω → zo_Con Ω) (hr : zo_rt Y (Option.none : Option Jvm.ClassFile.FieldType)) (N : Nat) (K0 : Nat → Int32 → Int32 → Int32 → zo_O → Option zo_R) (hK0 : ∀ (x1 : Nat) (x2 : Int32) (x3 : Int32) (x4 : Int32) (Ω : zo_O) (res : zo_R), K0 x1 x2 x3 x4 Ω = some res → TW Y res Ω 0 [(0, vo none), (1, vr 35 x1), (2, vi x2), (3, vi x3), (4, vi x4)] []) (x1 : Nat) (x2 : Int32) (x3 : Int32) (x14 : Int32) (Ω : zo_O) (res : zo_R) (h : fn_J16_sort_2_940 N K0 x1 x2 x3 x14 Ω = some res) : TW Y res Ω 940 [(0, vo none), (1, vr 35 x1), (2, vi x2), (3, vi x3), (14, vi x14)] [] := by
  unfold fn_J16_sort_2_940 at h
  refine zo_iload hY dJ16_sort_2_940 4 rfl ?_
  refine zo_istore hY dJ16_sort_2_942 (by decide) rfl (ls' := [(4, vi x14), (0, vo none), (1, vr 35 x1), (2, vi x2), (3, vi x3), (14, vi x14)]) rfl ?_
  refine zo_goto hY 0 dJ16_sort_2_944 (by decide) ?_
  refine zo_sub [1, 2, 3, 4, 0] rfl ?_
  exact hK0 x1 x2 x3 x14 Ω _ h
def fn_J16_sort_2_773 (N : Nat) (K0 : Nat → Int32 → Int32 → Int32 → zo_O → Option zo_R) (x1 : Nat) (x2 : Int32) (x3 : Int32) (x14 : Int32) (Ω : zo_O) : Option zo_R :=
  fn_J16_sort_2_940 N K0 x1 x2 x3 x14 Ω
theorem ct_J16_sort_2_773 {Y : zo_Y} (hY : zo_Gd Y cJ16_sort_2 21 RJ16 2) (hJ : zo_JC (zo_J Y)) (hCon : ∀ Ω, zo_J Y Ω → zo_Con Ω) (hr : zo_rt Y (Option.none : Option Jvm.ClassFile.FieldType)) (N : Nat) (K0 : Nat → Int32 → Int32 → Int32 → zo_O → Option zo_R) (hK0 : ∀ (x1 : Nat) (x2 : Int32) (x3 : Int32) (x4 : Int32) (Ω : zo_O) (res : zo_R), K0 x1 x2 x3 x4 Ω = some res → TW Y res Ω 0 [(0, vo none), (1, vr 35 x1), (2, vi x2), (3, vi x3), (4, vi x4)] []) (x1 : Nat) (x2 : Int32) (x3 : Int32) (x14 : Int32) (Ω : zo_O) (res : zo_R) (h : fn_J16_sort_2_773 N K0 x1 x2 x3 x14 Ω = some res) : TW Y res Ω 773 [(0, vo none), (1, vr 35 x1), (2, vi x2), (3, vi x3), (14, vi x14)] [] := by
  unfold fn_J16_sort_2_773 at h
  refine zo_goto hY 940 dJ16_sort_2_773 (by decide) ?_
  exact ct_J16_sort_2_940 hY hJ hCon hr N K0 hK0 x1 x2 x3 x14 Ω _ h
def fn_J16_sort_2_745 (N : Nat) (K0 : Nat → Int32 → Int32 → Int32 → zo_O → Option zo_R) (x1 : Nat) (x2 : Int32) (x3 : Int32) (x4 : Int32) (x14 : Int32) (x15 : Int32) (Ω : zo_O) : Option zo_R :=
  cv (fn_J16_sort_2_b N x1 (x2 ||| 1) (x14 + 1) x15 Ω) fun Ω1 =>
  cv (fn_J16_sort_2_b N x1 (x2 ||| 1) (x15 + 1) x4 Ω1) fun Ω2 =>
  fn_J16_sort_2_773 N K0 x1 x2 x3 x14 Ω2
theorem ct_J16_sort_2_745 {Y : zo_Y} (hY : zo_Gd Y cJ16_sort_2 21 RJ16 2) (hJ : zo_JC (zo_J Y)) (hCon : ∀ Ω, zo_J Y Ω → zo_Con Ω) (hr : zo_rt Y (Option.none : Option Jvm.ClassFile.FieldType)) (N : Nat) (K0 : Nat → Int32 → Int32 → Int32 → zo_O → Option zo_R) (hK0 : ∀ (x1 : Nat) (x2 : Int32) (x3 : Int32) (x4 : Int32) (Ω : zo_O) (res : zo_R), K0 x1 x2 x3 x4 Ω = some res → TW Y res Ω 0 [(0, vo none), (1, vr 35 x1), (2, vi x2), (3, vi x3), (4, vi x4)] []) (x1 : Nat) (x2 : Int32) (x3 : Int32) (x4 : Int32) (x14 : Int32) (x15 : Int32) (Ω : zo_O) (res : zo_R) (h : fn_J16_sort_2_745 N K0 x1 x2 x3 x4 x14 x15 Ω = some res) : TW Y res Ω 745 [(0, vo none), (1, vr 35 x1), (2, vi x2), (3, vi x3), (4, vi x4), (14, vi x14), (15, vi x15)] [] := by
  unfold fn_J16_sort_2_745 at h
  refine zo_aload_n hY dJ16_sort_2_745 rfl 0 rfl ?_
  refine zo_aload_n hY dJ16_sort_2_746 rfl 1 rfl ?_
  refine zo_iload_n hY dJ16_sort_2_747 rfl 2 rfl ?_
  refine zo_iconst hY 1 (by decide) dJ16_sort_2_748 ?_
  refine zo_ior hY dJ16_sort_2_749 ?_
  refine zo_iload hY dJ16_sort_2_750 5 rfl ?_
  refine zo_iconst hY 1 (by decide) dJ16_sort_2_752 ?_
  refine zo_iadd hY dJ16_sort_2_753 ?_
  refine zo_iload hY dJ16_sort_2_754 6 rfl ?_
  refine zo_callS hY (fun q hq => mt_J16_sort_2_b hJ hCon N x1 (x2 ||| 1) (x14 + 1) x15 Ω q hq) (by decide) (by decide) cn_J16_sort_2 rfl q1168 q1169 q117 q1170 (Nat.le_of_ble_eq_true rfl) dJ16_sort_2_756 rfl h (cv_k (fun Ω1 res h => ?_))
  refine zo_aload_n hY dJ16_sort_2_759 rfl 0 rfl ?_
  refine zo_aload_n hY dJ16_sort_2_760 rfl 1 rfl ?_
  refine zo_iload_n hY dJ16_sort_2_761 rfl 2 rfl ?_
  refine zo_iconst hY 1 (by decide) dJ16_sort_2_762 ?_
  refine zo_ior hY dJ16_sort_2_763 ?_
  refine zo_iload hY dJ16_sort_2_764 6 rfl ?_
  refine zo_iconst hY 1 (by decide) dJ16_sort_2_766 ?_
  refine zo_iadd hY dJ16_sort_2_767 ?_
  refine zo_iload hY dJ16_sort_2_768 4 rfl ?_
  refine zo_callS hY (fun q hq => mt_J16_sort_2_b hJ hCon N x1 (x2 ||| 1) (x15 + 1) x4 Ω1 q hq) (by decide) (by decide) cn_J16_sort_2 rfl q1168 q1169 q117 q1170 (Nat.le_of_ble_eq_true rfl) dJ16_sort_2_770 rfl h (cv_k (fun Ω2 res h => ?_))
  refine zo_sub [0, 1, 2, 3, 5] rfl ?_
  exact ct_J16_sort_2_773 hY hJ hCon hr N K0 hK0 x1 x2 x3 x14 Ω2 _ h
def bd_J16_sort_2_560 (N : Nat) (K0 : Nat → Int32 → Int32 → Int32 → zo_O → Option zo_R) (K560 : Nat → Int32 → Int32 → Int32 → Int32 → Int32 → Int32 → Int32 → Int32 → Int32 → Int32 → zo_O → Option zo_R) (x1 : Nat) (x2 : Int32) (x3 : Int32) (x4 : Int32) (x5 : Int32) (x6 : Int32) (x14 : Int32) (x15 : Int32) (x16 : Int32) (x17 : Int32) (x19 : Int32) (Ω : zo_O) : Option zo_R :=
  if x19 + (-1) ≤ x14 then (
    ix x14 (gL Ω 35 x1) fun j2 =>
    ix x3 (gL Ω 35 x1) fun j3 => lt (sI Ω 35 x1 j3 (gI Ω 35 x1 j2)) fun Ω4 =>
    ix x14 (gL Ω4 35 x1) fun j5 => lt (sI Ω4 35 x1 j5 x16) fun Ω6 =>
    ix x15 (gL Ω6 35 x1) fun j7 =>
    ix x5 (gL Ω6 35 x1) fun j8 => lt (sI Ω6 35 x1 j8 (gI Ω6 35 x1 j7)) fun Ω9 =>
    ix x15 (gL Ω9 35 x1) fun j10 => lt (sI Ω9 35 x1 j10 x17) fun Ω11 =>
    if x6 ≤ 4096 then (
      fn_J16_sort_2_745 N K0 x1 x2 x3 x4 x14 x15 Ω11
      ) else
    fn_J16_sort_2_745 N K0 x1 x2 x3 x4 x14 x15 Ω11
    ) else
  ix (x19 + (-1)) (gL Ω 35 x1) fun j13 =>
  li (gI Ω 35 x1 j13) fun y14 =>
  if x16 ≤ y14 then (
    if y14 ≤ x17 then (
      fn_J16_sort_2_674 N K0 K560 x1 x2 x3 x4 x5 x6 x14 x15 x16 x17 (x19 + (-1)) Ω
      ) else
    ix (x15 + (-1)) (gL Ω 35 x1) fun j17 =>
    ix (x19 + (-1)) (gL Ω 35 x1) fun j18 => lt (sI Ω 35 x1 j18 (gI Ω 35 x1 j17)) fun Ω19 =>
    ix (x15 + (-1)) (gL Ω19 35 x1) fun j20 => lt (sI Ω19 35 x1 j20 y14) fun Ω21 =>
    fn_J16_sort_2_674 N K0 K560 x1 x2 x3 x4 x5 x6 x14 (x15 + (-1)) x16 x17 (x19 + (-1)) Ω21
    ) else
  fn_J16_sort_2_583 N K0 K560 N x1 x2 x3 x4 x5 x6 x14 x15 x16 x17 (x19 + (-1)) y14 Ω
theorem cb_J16_sort_2_560 {Y : zo_Y} (hY : zo_Gd Y cJ16_sort_2 21 RJ16 2) (hJ : zo_JC (zo_J Y)) (hCon : ∀ Ω, zo_J Y Ω → zo_Con Ω) (hr : zo_rt Y (Option.none : Option Jvm.ClassFile.FieldType)) (N : Nat) (K0 : Nat → Int32 → Int32 → Int32 → zo_O → Option zo_R) (K560 : Nat → Int32 → Int32 → Int32 → Int32 → Int32 → Int32 → Int32 → Int32 → Int32 → Int32 → zo_O → Option zo_R) (hK0 : ∀ (x1 : Nat) (x2 : Int32) (x3 : Int32) (x4 : Int32) (Ω : zo_O) (res : zo_R), K0 x1 x2 x3 x4 Ω = some res → TW Y res Ω 0 [(0, vo none), (1, vr 35 x1), (2, vi x2), (3, vi x3), (4, vi x4)] []) (hK560 : ∀ (x1 : Nat) (x2 : Int32) (x3 : Int32) (x4 : Int32) (x5 : Int32) (x6 : Int32) (x14 : Int32) (x15 : Int32) (x16 : Int32) (x17 : Int32) (x19 : Int32) (Ω : zo_O) (res : zo_R), K560 x1 x2 x3 x4 x5 x6 x14 x15 x16 x17 x19 Ω = some res → TW Y res Ω 560 [(0, vo none), (1, vr 35 x1), (2, vi x2), (3, vi x3), (4, vi x4), (5, vi x5), (6, vi x6), (14, vi x14), (15, vi x15), (16, vi x16), (17, vi x17), (19, vi x19)] []) (x1 : Nat) (x2 : Int32) (x3 : Int32) (x4 : Int32) (x5 : Int32) (x6 : Int32) (x14 : Int32) (x15 : Int32) (x16 : Int32) (x17 : Int32) (x19 : Int32) (Ω : zo_O) (res : zo_R) (h : bd_J16_sort_2_560 N K0 K560 x1 x2 x3 x4 x5 x6 x14 x15 x16 x17 x19 Ω = some res) : TW Y res Ω 560 [(0, vo none), (1, vr 35 x1), (2, vi x2), (3, vi x3), (4, vi x4), (5, vi x5), (6, vi x6), (14, vi x14), (15, vi x15), (16, vi x16), (17, vi x17), (19, vi x19)] [] := by
  unfold bd_J16_sort_2_560 at h
  refine zo_iinc hY (-1) dJ16_sort_2_560 (by decide) (by decide) 11 rfl rfl (ls' := [(19, vi (x19 + (-1))), (0, vo none), (1, vr 35 x1), (2, vi x2), (3, vi x3), (4, vi x4), (5, vi x5), (6, vi x6), (14, vi x14), (15, vi x15), (16, vi x16), (17, vi x17)]) rfl ?_
  refine zo_iload hY dJ16_sort_2_563 0 rfl ?_
  refine zo_iload hY dJ16_sort_2_565 8 rfl ?_
  refine zo_icmp_le hY 677 dJ16_sort_2_567 (by decide) h (fun c1 h => ?_) (fun c1 h => ?_)
  · refine zo_aload_n hY dJ16_sort_2_677 rfl 2 rfl ?_
    refine zo_iload_n hY dJ16_sort_2_678 rfl 4 rfl ?_
    refine zo_aload_n hY dJ16_sort_2_679 rfl 2 rfl ?_
    refine zo_iload hY dJ16_sort_2_680 8 rfl ?_
    refine zo_ald hY (by decide) (Or.inl ⟨rfl, dJ16_sort_2_682⟩) (fun _ => rfl) h (fun j2 h => ?_)
    refine zo_ast hY hJ (by decide) (Or.inl ⟨rfl, rfl, dJ16_sort_2_683⟩) (fun _ => rfl) h (fun j3 Ω4 h => ?_)
    refine zo_aload_n hY dJ16_sort_2_684 rfl 2 rfl ?_
    refine zo_iload hY dJ16_sort_2_685 8 rfl ?_
    refine zo_iload hY dJ16_sort_2_687 10 rfl ?_
    refine zo_ast hY hJ (by decide) (Or.inl ⟨rfl, rfl, dJ16_sort_2_689⟩) (fun _ => rfl) h (fun j5 Ω6 h => ?_)
    refine zo_aload_n hY dJ16_sort_2_690 rfl 2 rfl ?_
    refine zo_iload hY dJ16_sort_2_691 6 rfl ?_
    refine zo_aload_n hY dJ16_sort_2_693 rfl 2 rfl ?_
    refine zo_iload hY dJ16_sort_2_694 9 rfl ?_
    refine zo_ald hY (by decide) (Or.inl ⟨rfl, dJ16_sort_2_696⟩) (fun _ => rfl) h (fun j7 h => ?_)
    refine zo_ast hY hJ (by decide) (Or.inl ⟨rfl, rfl, dJ16_sort_2_697⟩) (fun _ => rfl) h (fun j8 Ω9 h => ?_)
    refine zo_aload_n hY dJ16_sort_2_698 rfl 2 rfl ?_
    refine zo_iload hY dJ16_sort_2_699 9 rfl ?_
    refine zo_iload hY dJ16_sort_2_701 11 rfl ?_
    refine zo_ast hY hJ (by decide) (Or.inl ⟨rfl, rfl, dJ16_sort_2_703⟩) (fun _ => rfl) h (fun j10 Ω11 h => ?_)
    refine zo_iload hY dJ16_sort_2_704 7 rfl ?_
    refine zo_sipush hY 4096 (by decide) dJ16_sort_2_706 ?_
    refine zo_icmp_le hY 745 dJ16_sort_2_709 (by decide) h (fun c12 h => ?_) (fun c12 h => ?_)
    · refine zo_sub [1, 2, 3, 4, 5, 8, 9] rfl ?_
      exact ct_J16_sort_2_745 hY hJ hCon hr N K0 hK0 x1 x2 x3 x4 x14 x15 Ω11 _ h
    · refine zo_aload_n hY dJ16_sort_2_712 rfl 1 rfl ?_
      refine zo_ifnull0 hY 745 dJ16_sort_2_713 (by decide) ?_
      refine zo_sub [1, 2, 3, 4, 5, 8, 9] rfl ?_
      exact ct_J16_sort_2_745 hY hJ hCon hr N K0 hK0 x1 x2 x3 x4 x14 x15 Ω11 _ h
  · refine zo_aload_n hY dJ16_sort_2_570 rfl 2 rfl ?_
    refine zo_iload hY dJ16_sort_2_571 0 rfl ?_
    refine zo_ald hY (by decide) (Or.inl ⟨rfl, dJ16_sort_2_573⟩) (fun _ => rfl) h (fun j13 h => ?_)
    refine zo_nmi h (fun y14 h => ?_)
    refine zo_istore hY dJ16_sort_2_574 (by decide) rfl (ls' := [(20, vi y14), (19, vi (x19 + (-1))), (0, vo none), (1, vr 35 x1), (2, vi x2), (3, vi x3), (4, vi x4), (5, vi x5), (6, vi x6), (14, vi x14), (15, vi x15), (16, vi x16), (17, vi x17)]) rfl ?_
    refine zo_iload hY dJ16_sort_2_576 0 rfl ?_
    refine zo_iload hY dJ16_sort_2_578 11 rfl ?_
    refine zo_icmp_ge hY 650 dJ16_sort_2_580 (by decide) h (fun c15 h => ?_) (fun c15 h => ?_)
    · refine zo_iload hY dJ16_sort_2_650 0 rfl ?_
      refine zo_iload hY dJ16_sort_2_652 12 rfl ?_
      refine zo_icmp_le hY 674 dJ16_sort_2_654 (by decide) h (fun c16 h => ?_) (fun c16 h => ?_)
      · refine zo_sub [2, 3, 4, 5, 6, 7, 8, 9, 10, 11, 12, 1] rfl ?_
        exact ct_J16_sort_2_674 hY hJ hCon hr N K0 K560 hK0 hK560 x1 x2 x3 x4 x5 x6 x14 x15 x16 x17 (x19 + (-1)) Ω _ h
      · refine zo_aload_n hY dJ16_sort_2_657 rfl 3 rfl ?_
        refine zo_iload hY dJ16_sort_2_658 1 rfl ?_
        refine zo_aload_n hY dJ16_sort_2_660 rfl 3 rfl ?_
        refine zo_iinc hY (-1) dJ16_sort_2_661 (by decide) (by decide) 10 rfl rfl (ls' := [(15, vi (x15 + (-1))), (20, vi y14), (19, vi (x19 + (-1))), (0, vo none), (1, vr 35 x1), (2, vi x2), (3, vi x3), (4, vi x4), (5, vi x5), (6, vi x6), (14, vi x14), (16, vi x16), (17, vi x17)]) rfl ?_
        refine zo_iload hY dJ16_sort_2_664 0 rfl ?_
        refine zo_ald hY (by decide) (Or.inl ⟨rfl, dJ16_sort_2_666⟩) (fun _ => rfl) h (fun j17 h => ?_)
        refine zo_ast hY hJ (by decide) (Or.inl ⟨rfl, rfl, dJ16_sort_2_667⟩) (fun _ => rfl) h (fun j18 Ω19 h => ?_)
        refine zo_aload_n hY dJ16_sort_2_668 rfl 4 rfl ?_
        refine zo_iload hY dJ16_sort_2_669 0 rfl ?_
        refine zo_iload hY dJ16_sort_2_671 1 rfl ?_
        refine zo_ast hY hJ (by decide) (Or.inl ⟨rfl, rfl, dJ16_sort_2_673⟩) (fun _ => rfl) h (fun j20 Ω21 h => ?_)
        refine zo_sub [3, 4, 5, 6, 7, 8, 9, 10, 0, 11, 12, 2] rfl ?_
        exact ct_J16_sort_2_674 hY hJ hCon hr N K0 K560 hK0 hK560 x1 x2 x3 x4 x5 x6 x14 (x15 + (-1)) x16 x17 (x19 + (-1)) Ω21 _ h
    · refine zo_sub [2, 3, 4, 5, 6, 7, 8, 9, 10, 11, 12, 1, 0] rfl ?_
      exact ct_J16_sort_2_583 hY hJ hCon hr N K0 K560 hK0 hK560 N x1 x2 x3 x4 x5 x6 x14 x15 x16 x17 (x19 + (-1)) y14 Ω _ h
def fn_J16_sort_2_560 (N : Nat) (K0 : Nat → Int32 → Int32 → Int32 → zo_O → Option zo_R) : Nat → Nat → Int32 → Int32 → Int32 → Int32 → Int32 → Int32 → Int32 → Int32 → Int32 → Int32 → zo_O → Option zo_R
  | 0, _, _, _, _, _, _, _, _, _, _, _, _ => none
  | n + 1, x1, x2, x3, x4, x5, x6, x14, x15, x16, x17, x19, Ω => bd_J16_sort_2_560 N K0 (fn_J16_sort_2_560 N K0 n) x1 x2 x3 x4 x5 x6 x14 x15 x16 x17 x19 Ω
theorem ct_J16_sort_2_560 {Y : zo_Y} (hY : zo_Gd Y cJ16_sort_2 21 RJ16 2) (hJ : zo_JC (zo_J Y)) (hCon : ∀ Ω, zo_J Y Ω → zo_Con Ω) (hr : zo_rt Y (Option.none : Option Jvm.ClassFile.FieldType)) (N : Nat) (K0 : Nat → Int32 → Int32 → Int32 → zo_O → Option zo_R) (hK0 : ∀ (x1 : Nat) (x2 : Int32) (x3 : Int32) (x4 : Int32) (Ω : zo_O) (res : zo_R), K0 x1 x2 x3 x4 Ω = some res → TW Y res Ω 0 [(0, vo none), (1, vr 35 x1), (2, vi x2), (3, vi x3), (4, vi x4)] []) : ∀ (n : Nat) (x1 : Nat) (x2 : Int32) (x3 : Int32) (x4 : Int32) (x5 : Int32) (x6 : Int32) (x14 : Int32) (x15 : Int32) (x16 : Int32) (x17 : Int32) (x19 : Int32) (Ω : zo_O) (res : zo_R), fn_J16_sort_2_560 N K0 n x1 x2 x3 x4 x5 x6 x14 x15 x16 x17 x19 Ω = some res → TW Y res Ω 560 [(0, vo none), (1, vr 35 x1), (2, vi x2), (3, vi x3), (4, vi x4), (5, vi x5), (6, vi x6), (14, vi x14), (15, vi x15), (16, vi x16), (17, vi x17), (19, vi x19)] [] := by
  intro n
  induction n with
  | zero => intro x1 x2 x3 x4 x5 x6 x14 x15 x16 x17 x19 Ω res h; exact nomatch (show (none : Option zo_R) = some res from h)
  | succ n ih => intro x1 x2 x3 x4 x5 x6 x14 x15 x16 x17 x19 Ω res h; exact cb_J16_sort_2_560 hY hJ hCon hr N K0 (fn_J16_sort_2_560 N K0 n) hK0 ih x1 x2 x3 x4 x5 x6 x14 x15 x16 x17 x19 Ω res h
def bd_J16_sort_2_531 (N : Nat) (K0 : Nat → Int32 → Int32 → Int32 → zo_O → Option zo_R) (K531 : Nat → Int32 → Int32 → Int32 → Int32 → Int32 → Int32 → Int32 → Int32 → Int32 → zo_O → Option zo_R) (x1 : Nat) (x2 : Int32) (x3 : Int32) (x4 : Int32) (x5 : Int32) (x6 : Int32) (x14 : Int32) (x15 : Int32) (x16 : Int32) (x17 : Int32) (Ω : zo_O) : Option zo_R :=
  ix (x15 + (-1)) (gL Ω 35 x1) fun j1 =>
  if gI Ω 35 x1 j1 ≤ x17 then (
    li (x14 + (-1)) fun y3 =>
    li (x15 + (-1) + 1) fun y4 =>
    fn_J16_sort_2_560 N K0 N x1 x2 x3 x4 x5 x6 (x14 + (-1)) (x15 + (-1) + 1) x16 x17 y4 Ω
    ) else
  K531 x1 x2 x3 x4 x5 x6 x14 (x15 + (-1)) x16 x17 Ω
theorem cb_J16_sort_2_531 {Y : zo_Y} (hY : zo_Gd Y cJ16_sort_2 21 RJ16 2) (hJ : zo_JC (zo_J Y)) (hCon : ∀ Ω, zo_J Y Ω → zo_Con Ω) (hr : zo_rt Y (Option.none : Option Jvm.ClassFile.FieldType)) (N : Nat) (K0 : Nat → Int32 → Int32 → Int32 → zo_O → Option zo_R) (K531 : Nat → Int32 → Int32 → Int32 → Int32 → Int32 → Int32 → Int32 → Int32 → Int32 → zo_O → Option zo_R) (hK0 : ∀ (x1 : Nat) (x2 : Int32) (x3 : Int32) (x4 : Int32) (Ω : zo_O) (res : zo_R), K0 x1 x2 x3 x4 Ω = some res → TW Y res Ω 0 [(0, vo none), (1, vr 35 x1), (2, vi x2), (3, vi x3), (4, vi x4)] []) (hK531 : ∀ (x1 : Nat) (x2 : Int32) (x3 : Int32) (x4 : Int32) (x5 : Int32) (x6 : Int32) (x14 : Int32) (x15 : Int32) (x16 : Int32) (x17 : Int32) (Ω : zo_O) (res : zo_R), K531 x1 x2 x3 x4 x5 x6 x14 x15 x16 x17 Ω = some res → TW Y res Ω 531 [(0, vo none), (1, vr 35 x1), (2, vi x2), (3, vi x3), (4, vi x4), (5, vi x5), (6, vi x6), (14, vi x14), (15, vi x15), (16, vi x16), (17, vi x17)] []) (x1 : Nat) (x2 : Int32) (x3 : Int32) (x4 : Int32) (x5 : Int32) (x6 : Int32) (x14 : Int32) (x15 : Int32) (x16 : Int32) (x17 : Int32) (Ω : zo_O) (res : zo_R) (h : bd_J16_sort_2_531 N K0 K531 x1 x2 x3 x4 x5 x6 x14 x15 x16 x17 Ω = some res) : TW Y res Ω 531 [(0, vo none), (1, vr 35 x1), (2, vi x2), (3, vi x3), (4, vi x4), (5, vi x5), (6, vi x6), (14, vi x14), (15, vi x15), (16, vi x16), (17, vi x17)] [] := by
  unfold bd_J16_sort_2_531 at h
  refine zo_aload_n hY dJ16_sort_2_531 rfl 1 rfl ?_
  refine zo_iinc hY (-1) dJ16_sort_2_532 (by decide) (by decide) 8 rfl rfl (ls' := [(15, vi (x15 + (-1))), (0, vo none), (1, vr 35 x1), (2, vi x2), (3, vi x3), (4, vi x4), (5, vi x5), (6, vi x6), (14, vi x14), (16, vi x16), (17, vi x17)]) rfl ?_
  refine zo_iload hY dJ16_sort_2_535 0 rfl ?_
  refine zo_ald hY (by decide) (Or.inl ⟨rfl, dJ16_sort_2_537⟩) (fun _ => rfl) h (fun j1 h => ?_)
  refine zo_iload hY dJ16_sort_2_538 10 rfl ?_
  refine zo_icmp_le hY 546 dJ16_sort_2_540 (by decide) h (fun c2 h => ?_) (fun c2 h => ?_)
  · refine zo_iinc hY (-1) dJ16_sort_2_546 (by decide) (by decide) 8 rfl rfl (ls' := [(14, vi (x14 + (-1))), (15, vi (x15 + (-1))), (0, vo none), (1, vr 35 x1), (2, vi x2), (3, vi x3), (4, vi x4), (5, vi x5), (6, vi x6), (16, vi x16), (17, vi x17)]) rfl ?_
    refine zo_iload hY dJ16_sort_2_549 0 rfl ?_
    refine zo_nmi h (fun y3 h => ?_)
    refine zo_istore hY dJ16_sort_2_551 (by decide) rfl (ls' := [(18, vi y3), (14, vi (x14 + (-1))), (15, vi (x15 + (-1))), (0, vo none), (1, vr 35 x1), (2, vi x2), (3, vi x3), (4, vi x4), (5, vi x5), (6, vi x6), (16, vi x16), (17, vi x17)]) rfl ?_
    refine zo_iinc hY 1 dJ16_sort_2_553 (by decide) (by decide) 2 rfl rfl (ls' := [(15, vi (x15 + (-1) + 1)), (18, vi y3), (14, vi (x14 + (-1))), (0, vo none), (1, vr 35 x1), (2, vi x2), (3, vi x3), (4, vi x4), (5, vi x5), (6, vi x6), (16, vi x16), (17, vi x17)]) rfl ?_
    refine zo_iload hY dJ16_sort_2_556 0 rfl ?_
    refine zo_nmi h (fun y4 h => ?_)
    refine zo_istore hY dJ16_sort_2_558 (by decide) rfl (ls' := [(19, vi y4), (15, vi (x15 + (-1) + 1)), (18, vi y3), (14, vi (x14 + (-1))), (0, vo none), (1, vr 35 x1), (2, vi x2), (3, vi x3), (4, vi x4), (5, vi x5), (6, vi x6), (16, vi x16), (17, vi x17)]) rfl ?_
    refine zo_sub [4, 5, 6, 7, 8, 9, 10, 3, 1, 11, 12, 0] rfl ?_
    exact ct_J16_sort_2_560 hY hJ hCon hr N K0 hK0 N x1 x2 x3 x4 x5 x6 (x14 + (-1)) (x15 + (-1) + 1) x16 x17 y4 Ω _ h
  · refine zo_goto hY 531 dJ16_sort_2_543 (by decide) ?_
    refine zo_sub [1, 2, 3, 4, 5, 6, 7, 8, 0, 9, 10] rfl ?_
    exact hK531 x1 x2 x3 x4 x5 x6 x14 (x15 + (-1)) x16 x17 Ω _ h
def fn_J16_sort_2_531 (N : Nat) (K0 : Nat → Int32 → Int32 → Int32 → zo_O → Option zo_R) : Nat → Nat → Int32 → Int32 → Int32 → Int32 → Int32 → Int32 → Int32 → Int32 → Int32 → zo_O → Option zo_R
  | 0, _, _, _, _, _, _, _, _, _, _, _ => none
  | n + 1, x1, x2, x3, x4, x5, x6, x14, x15, x16, x17, Ω => bd_J16_sort_2_531 N K0 (fn_J16_sort_2_531 N K0 n) x1 x2 x3 x4 x5 x6 x14 x15 x16 x17 Ω
theorem ct_J16_sort_2_531 {Y : zo_Y} (hY : zo_Gd Y cJ16_sort_2 21 RJ16 2) (hJ : zo_JC (zo_J Y)) (hCon : ∀ Ω, zo_J Y Ω → zo_Con Ω) (hr : zo_rt Y (Option.none : Option Jvm.ClassFile.FieldType)) (N : Nat) (K0 : Nat → Int32 → Int32 → Int32 → zo_O → Option zo_R) (hK0 : ∀ (x1 : Nat) (x2 : Int32) (x3 : Int32) (x4 : Int32) (Ω : zo_O) (res : zo_R), K0 x1 x2 x3 x4 Ω = some res → TW Y res Ω 0 [(0, vo none), (1, vr 35 x1), (2, vi x2), (3, vi x3), (4, vi x4)] []) : ∀ (n : Nat) (x1 : Nat) (x2 : Int32) (x3 : Int32) (x4 : Int32) (x5 : Int32) (x6 : Int32) (x14 : Int32) (x15 : Int32) (x16 : Int32) (x17 : Int32) (Ω : zo_O) (res : zo_R), fn_J16_sort_2_531 N K0 n x1 x2 x3 x4 x5 x6 x14 x15 x16 x17 Ω = some res → TW Y res Ω 531 [(0, vo none), (1, vr 35 x1), (2, vi x2), (3, vi x3), (4, vi x4), (5, vi x5), (6, vi x6), (14, vi x14), (15, vi x15), (16, vi x16), (17, vi x17)] [] := by
  intro n
  induction n with
  | zero => intro x1 x2 x3 x4 x5 x6 x14 x15 x16 x17 Ω res h; exact nomatch (show (none : Option zo_R) = some res from h)
  | succ n ih => intro x1 x2 x3 x4 x5 x6 x14 x15 x16 x17 Ω res h; exact cb_J16_sort_2_531 hY hJ hCon hr N K0 (fn_J16_sort_2_531 N K0 n) hK0 ih x1 x2 x3 x4 x5 x6 x14 x15 x16 x17 Ω res h
def bd_J16_sort_2_516 (N : Nat) (K0 : Nat → Int32 → Int32 → Int32 → zo_O → Option zo_R) (K516 : Nat → Int32 → Int32 → Int32 → Int32 → Int32 → Int32 → Int32 → Int32 → Int32 → zo_O → Option zo_R) (x1 : Nat) (x2 : Int32) (x3 : Int32) (x4 : Int32) (x5 : Int32) (x6 : Int32) (x14 : Int32) (x15 : Int32) (x16 : Int32) (x17 : Int32) (Ω : zo_O) : Option zo_R :=
  ix (x14 + 1) (gL Ω 35 x1) fun j1 =>
  if x16 ≤ gI Ω 35 x1 j1 then (
    fn_J16_sort_2_531 N K0 N x1 x2 x3 x4 x5 x6 (x14 + 1) x15 x16 x17 Ω
    ) else
  K516 x1 x2 x3 x4 x5 x6 (x14 + 1) x15 x16 x17 Ω
theorem cb_J16_sort_2_516 {Y : zo_Y} (hY : zo_Gd Y cJ16_sort_2 21 RJ16 2) (hJ : zo_JC (zo_J Y)) (hCon : ∀ Ω, zo_J Y Ω → zo_Con Ω) (hr : zo_rt Y (Option.none : Option Jvm.ClassFile.FieldType)) (N : Nat) (K0 : Nat → Int32 → Int32 → Int32 → zo_O → Option zo_R) (K516 : Nat → Int32 → Int32 → Int32 → Int32 → Int32 → Int32 → Int32 → Int32 → Int32 → zo_O → Option zo_R) (hK0 : ∀ (x1 : Nat) (x2 : Int32) (x3 : Int32) (x4 : Int32) (Ω : zo_O) (res : zo_R), K0 x1 x2 x3 x4 Ω = some res → TW Y res Ω 0 [(0, vo none), (1, vr 35 x1), (2, vi x2), (3, vi x3), (4, vi x4)] []) (hK516 : ∀ (x1 : Nat) (x2 : Int32) (x3 : Int32) (x4 : Int32) (x5 : Int32) (x6 : Int32) (x14 : Int32) (x15 : Int32) (x16 : Int32) (x17 : Int32) (Ω : zo_O) (res : zo_R), K516 x1 x2 x3 x4 x5 x6 x14 x15 x16 x17 Ω = some res → TW Y res Ω 516 [(0, vo none), (1, vr 35 x1), (2, vi x2), (3, vi x3), (4, vi x4), (5, vi x5), (6, vi x6), (14, vi x14), (15, vi x15), (16, vi x16), (17, vi x17)] []) (x1 : Nat) (x2 : Int32) (x3 : Int32) (x4 : Int32) (x5 : Int32) (x6 : Int32) (x14 : Int32) (x15 : Int32) (x16 : Int32) (x17 : Int32) (Ω : zo_O) (res : zo_R) (h : bd_J16_sort_2_516 N K0 K516 x1 x2 x3 x4 x5 x6 x14 x15 x16 x17 Ω = some res) : TW Y res Ω 516 [(0, vo none), (1, vr 35 x1), (2, vi x2), (3, vi x3), (4, vi x4), (5, vi x5), (6, vi x6), (14, vi x14), (15, vi x15), (16, vi x16), (17, vi x17)] [] := by
  unfold bd_J16_sort_2_516 at h
  refine zo_aload_n hY dJ16_sort_2_516 rfl 1 rfl ?_
  refine zo_iinc hY 1 dJ16_sort_2_517 (by decide) (by decide) 7 rfl rfl (ls' := [(14, vi (x14 + 1)), (0, vo none), (1, vr 35 x1), (2, vi x2), (3, vi x3), (4, vi x4), (5, vi x5), (6, vi x6), (15, vi x15), (16, vi x16), (17, vi x17)]) rfl ?_
  refine zo_iload hY dJ16_sort_2_520 0 rfl ?_
  refine zo_ald hY (by decide) (Or.inl ⟨rfl, dJ16_sort_2_522⟩) (fun _ => rfl) h (fun j1 h => ?_)
  refine zo_iload hY dJ16_sort_2_523 9 rfl ?_
  refine zo_icmp_ge hY 531 dJ16_sort_2_525 (by decide) h (fun c2 h => ?_) (fun c2 h => ?_)
  · refine zo_sub [1, 2, 3, 4, 5, 6, 7, 0, 8, 9, 10] rfl ?_
    exact ct_J16_sort_2_531 hY hJ hCon hr N K0 hK0 N x1 x2 x3 x4 x5 x6 (x14 + 1) x15 x16 x17 Ω _ h
  · refine zo_goto hY 516 dJ16_sort_2_528 (by decide) ?_
    refine zo_sub [1, 2, 3, 4, 5, 6, 7, 0, 8, 9, 10] rfl ?_
    exact hK516 x1 x2 x3 x4 x5 x6 (x14 + 1) x15 x16 x17 Ω _ h
def fn_J16_sort_2_516 (N : Nat) (K0 : Nat → Int32 → Int32 → Int32 → zo_O → Option zo_R) : Nat → Nat → Int32 → Int32 → Int32 → Int32 → Int32 → Int32 → Int32 → Int32 → Int32 → zo_O → Option zo_R
  | 0, _, _, _, _, _, _, _, _, _, _, _ => none
  | n + 1, x1, x2, x3, x4, x5, x6, x14, x15, x16, x17, Ω => bd_J16_sort_2_516 N K0 (fn_J16_sort_2_516 N K0 n) x1 x2 x3 x4 x5 x6 x14 x15 x16 x17 Ω
theorem ct_J16_sort_2_516 {Y : zo_Y} (hY : zo_Gd Y cJ16_sort_2 21 RJ16 2) (hJ : zo_JC (zo_J Y)) (hCon : ∀ Ω, zo_J Y Ω → zo_Con Ω) (hr : zo_rt Y (Option.none : Option Jvm.ClassFile.FieldType)) (N : Nat) (K0 : Nat → Int32 → Int32 → Int32 → zo_O → Option zo_R) (hK0 : ∀ (x1 : Nat) (x2 : Int32) (x3 : Int32) (x4 : Int32) (Ω : zo_O) (res : zo_R), K0 x1 x2 x3 x4 Ω = some res → TW Y res Ω 0 [(0, vo none), (1, vr 35 x1), (2, vi x2), (3, vi x3), (4, vi x4)] []) : ∀ (n : Nat) (x1 : Nat) (x2 : Int32) (x3 : Int32) (x4 : Int32) (x5 : Int32) (x6 : Int32) (x14 : Int32) (x15 : Int32) (x16 : Int32) (x17 : Int32) (Ω : zo_O) (res : zo_R), fn_J16_sort_2_516 N K0 n x1 x2 x3 x4 x5 x6 x14 x15 x16 x17 Ω = some res → TW Y res Ω 516 [(0, vo none), (1, vr 35 x1), (2, vi x2), (3, vi x3), (4, vi x4), (5, vi x5), (6, vi x6), (14, vi x14), (15, vi x15), (16, vi x16), (17, vi x17)] [] := by
  intro n
  induction n with
  | zero => intro x1 x2 x3 x4 x5 x6 x14 x15 x16 x17 Ω res h; exact nomatch (show (none : Option zo_R) = some res from h)
  | succ n ih => intro x1 x2 x3 x4 x5 x6 x14 x15 x16 x17 Ω res h; exact cb_J16_sort_2_516 hY hJ hCon hr N K0 (fn_J16_sort_2_516 N K0 n) hK0 ih x1 x2 x3 x4 x5 x6 x14 x15 x16 x17 Ω res h
def fn_J16_sort_2_886 (N : Nat) (K0 : Nat → Int32 → Int32 → Int32 → zo_O → Option zo_R) (K797 : Nat → Int32 → Int32 → Int32 → Int32 → Int32 → Int32 → Int32 → Int32 → zo_O → Option zo_R) (x1 : Nat) (x2 : Int32) (x3 : Int32) (x4 : Int32) (x6 : Int32) (x14 : Int32) (x15 : Int32) (x16 : Int32) (x17 : Int32) (Ω : zo_O) : Option zo_R :=
  K797 x1 x2 x3 x4 x6 x14 x15 x16 x17 Ω
theorem ct_J16_sort_2_886 {Y : zo_Y} (hY : zo_Gd Y cJ16_sort_2 21 RJ16 2) (hJ : zo_JC (zo_J Y)) (hCon : ∀ Ω, zo_J Y Ω → zo_Con Ω) (hr : zo_rt Y (Option.none : Option Jvm.ClassFile.FieldType)) (N : Nat) (K0 : Nat → Int32 → Int32 → Int32 → zo_O → Option zo_R) (K797 : Nat → Int32 → Int32 → Int32 → Int32 → Int32 → Int32 → Int32 → Int32 → zo_O → Option zo_R) (hK0 : ∀ (x1 : Nat) (x2 : Int32) (x3 : Int32) (x4 : Int32) (Ω : zo_O) (res : zo_R), K0 x1 x2 x3 x4 Ω = some res → TW Y res Ω 0 [(0, vo none), (1, vr 35 x1), (2, vi x2), (3, vi x3), (4, vi x4)] []) (hK797 : ∀ (x1 : Nat) (x2 : Int32) (x3 : Int32) (x4 : Int32) (x6 : Int32) (x14 : Int32) (x15 : Int32) (x16 : Int32) (x17 : Int32) (Ω : zo_O) (res : zo_R), K797 x1 x2 x3 x4 x6 x14 x15 x16 x17 Ω = some res → TW Y res Ω 797 [(0, vo none), (1, vr 35 x1), (2, vi x2), (3, vi x3), (4, vi x4), (6, vi x6), (14, vi x14), (15, vi x15), (16, vi x16), (17, vi x17)] []) (x1 : Nat) (x2 : Int32) (x3 : Int32) (x4 : Int32) (x6 : Int32) (x14 : Int32) (x15 : Int32) (x16 : Int32) (x17 : Int32) (Ω : zo_O) (res : zo_R) (h : fn_J16_sort_2_886 N K0 K797 x1 x2 x3 x4 x6 x14 x15 x16 x17 Ω = some res) : TW Y res Ω 886 [(0, vo none), (1, vr 35 x1), (2, vi x2), (3, vi x3), (4, vi x4), (6, vi x6), (14, vi x14), (15, vi x15), (16, vi x16), (17, vi x17)] [] := by
  unfold fn_J16_sort_2_886 at h
  refine zo_goto hY 797 dJ16_sort_2_886 (by decide) ?_
  exact hK797 x1 x2 x3 x4 x6 x14 x15 x16 x17 Ω _ h
def fn_J16_sort_2_868 (N : Nat) (K0 : Nat → Int32 → Int32 → Int32 → zo_O → Option zo_R) (K797 : Nat → Int32 → Int32 → Int32 → Int32 → Int32 → Int32 → Int32 → Int32 → zo_O → Option zo_R) (x1 : Nat) (x2 : Int32) (x3 : Int32) (x4 : Int32) (x6 : Int32) (x14 : Int32) (x15 : Int32) (x16 : Int32) (x17 : Int32) (x18 : Int32) (Ω : zo_O) : Option zo_R :=
  ix x14 (gL Ω 35 x1) fun j1 => lt (sI Ω 35 x1 j1 x18) fun Ω2 =>
  fn_J16_sort_2_886 N K0 K797 x1 x2 x3 x4 x6 x14 x15 x16 x17 Ω2
theorem ct_J16_sort_2_868 {Y : zo_Y} (hY : zo_Gd Y cJ16_sort_2 21 RJ16 2) (hJ : zo_JC (zo_J Y)) (hCon : ∀ Ω, zo_J Y Ω → zo_Con Ω) (hr : zo_rt Y (Option.none : Option Jvm.ClassFile.FieldType)) (N : Nat) (K0 : Nat → Int32 → Int32 → Int32 → zo_O → Option zo_R) (K797 : Nat → Int32 → Int32 → Int32 → Int32 → Int32 → Int32 → Int32 → Int32 → zo_O → Option zo_R) (hK0 : ∀ (x1 : Nat) (x2 : Int32) (x3 : Int32) (x4 : Int32) (Ω : zo_O) (res : zo_R), K0 x1 x2 x3 x4 Ω = some res → TW Y res Ω 0 [(0, vo none), (1, vr 35 x1), (2, vi x2), (3, vi x3), (4, vi x4)] []) (hK797 : ∀ (x1 : Nat) (x2 : Int32) (x3 : Int32) (x4 : Int32) (x6 : Int32) (x14 : Int32) (x15 : Int32) (x16 : Int32) (x17 : Int32) (Ω : zo_O) (res : zo_R), K797 x1 x2 x3 x4 x6 x14 x15 x16 x17 Ω = some res → TW Y res Ω 797 [(0, vo none), (1, vr 35 x1), (2, vi x2), (3, vi x3), (4, vi x4), (6, vi x6), (14, vi x14), (15, vi x15), (16, vi x16), (17, vi x17)] []) (x1 : Nat) (x2 : Int32) (x3 : Int32) (x4 : Int32) (x6 : Int32) (x14 : Int32) (x15 : Int32) (x16 : Int32) (x17 : Int32) (x18 : Int32) (Ω : zo_O) (res : zo_R) (h : fn_J16_sort_2_868 N K0 K797 x1 x2 x3 x4 x6 x14 x15 x16 x17 x18 Ω = some res) : TW Y res Ω 868 [(0, vo none), (1, vr 35 x1), (2, vi x2), (3, vi x3), (4, vi x4), (6, vi x6), (14, vi x14), (15, vi x15), (16, vi x16), (17, vi x17), (18, vi x18)] [] := by
  unfold fn_J16_sort_2_868 at h
  refine zo_aload_n hY dJ16_sort_2_868 rfl 1 rfl ?_
  refine zo_iload hY dJ16_sort_2_869 6 rfl ?_
  refine zo_iload hY dJ16_sort_2_871 10 rfl ?_
  refine zo_ast hY hJ (by decide) (Or.inl ⟨rfl, rfl, dJ16_sort_2_873⟩) (fun _ => rfl) h (fun j1 Ω2 h => ?_)
  refine zo_goto hY 886 dJ16_sort_2_874 (by decide) ?_
  refine zo_sub [0, 1, 2, 3, 4, 5, 6, 7, 8, 9] rfl ?_
  exact ct_J16_sort_2_886 hY hJ hCon hr N K0 K797 hK0 hK797 x1 x2 x3 x4 x6 x14 x15 x16 x17 Ω2 _ h
def bd_J16_sort_2_833 (N : Nat) (K0 : Nat → Int32 → Int32 → Int32 → zo_O → Option zo_R) (K797 : Nat → Int32 → Int32 → Int32 → Int32 → Int32 → Int32 → Int32 → Int32 → zo_O → Option zo_R) (K833 : Nat → Int32 → Int32 → Int32 → Int32 → Int32 → Int32 → Int32 → Int32 → Int32 → zo_O → Option zo_R) (x1 : Nat) (x2 : Int32) (x3 : Int32) (x4 : Int32) (x6 : Int32) (x14 : Int32) (x15 : Int32) (x16 : Int32) (x17 : Int32) (x18 : Int32) (Ω : zo_O) : Option zo_R :=
  ix (x14 + 1) (gL Ω 35 x1) fun j1 =>
  if x16 ≤ gI Ω 35 x1 j1 then (
    ix (x14 + 1) (gL Ω 35 x1) fun j3 =>
    if gI Ω 35 x1 j3 ≤ x16 then (
      fn_J16_sort_2_868 N K0 K797 x1 x2 x3 x4 x6 (x14 + 1) x15 x16 x17 x18 Ω
      ) else
    ix (x14 + 1) (gL Ω 35 x1) fun j5 =>
    ix (x15 + (-1)) (gL Ω 35 x1) fun j6 => lt (sI Ω 35 x1 j6 (gI Ω 35 x1 j5)) fun Ω7 =>
    fn_J16_sort_2_868 N K0 K797 x1 x2 x3 x4 x6 (x14 + 1) (x15 + (-1)) x16 x17 x18 Ω7
    ) else
  K833 x1 x2 x3 x4 x6 (x14 + 1) x15 x16 x17 x18 Ω
theorem cb_J16_sort_2_833 {Y : zo_Y} (hY : zo_Gd Y cJ16_sort_2 21 RJ16 2) (hJ : zo_JC (zo_J Y)) (hCon : ∀ Ω, zo_J Y Ω → zo_Con Ω) (hr : zo_rt Y (Option.none : Option Jvm.ClassFile.FieldType)) (N : Nat) (K0 : Nat → Int32 → Int32 → Int32 → zo_O → Option zo_R) (K797 : Nat → Int32 → Int32 → Int32 → Int32 → Int32 → Int32 → Int32 → Int32 → zo_O → Option zo_R) (K833 : Nat → Int32 → Int32 → Int32 → Int32 → Int32 → Int32 → Int32 → Int32 → Int32 → zo_O → Option zo_R) (hK0 : ∀ (x1 : Nat) (x2 : Int32) (x3 : Int32) (x4 : Int32) (Ω : zo_O) (res : zo_R), K0 x1 x2 x3 x4 Ω = some res → TW Y res Ω 0 [(0, vo none), (1, vr 35 x1), (2, vi x2), (3, vi x3), (4, vi x4)] []) (hK797 : ∀ (x1 : Nat) (x2 : Int32) (x3 : Int32) (x4 : Int32) (x6 : Int32) (x14 : Int32) (x15 : Int32) (x16 : Int32) (x17 : Int32) (Ω : zo_O) (res : zo_R), K797 x1 x2 x3 x4 x6 x14 x15 x16 x17 Ω = some res → TW Y res Ω 797 [(0, vo none), (1, vr 35 x1), (2, vi x2), (3, vi x3), (4, vi x4), (6, vi x6), (14, vi x14), (15, vi x15), (16, vi x16), (17, vi x17)] []) (hK833 : ∀ (x1 : Nat) (x2 : Int32) (x3 : Int32) (x4 : Int32) (x6 : Int32) (x14 : Int32) (x15 : Int32) (x16 : Int32) (x17 : Int32) (x18 : Int32) (Ω : zo_O) (res : zo_R), K833 x1 x2 x3 x4 x6 x14 x15 x16 x17 x18 Ω = some res → TW Y res Ω 833 [(0, vo none), (1, vr 35 x1), (2, vi x2), (3, vi x3), (4, vi x4), (6, vi x6), (14, vi x14), (15, vi x15), (16, vi x16), (17, vi x17), (18, vi x18)] []) (x1 : Nat) (x2 : Int32) (x3 : Int32) (x4 : Int32) (x6 : Int32) (x14 : Int32) (x15 : Int32) (x16 : Int32) (x17 : Int32) (x18 : Int32) (Ω : zo_O) (res : zo_R) (h : bd_J16_sort_2_833 N K0 K797 K833 x1 x2 x3 x4 x6 x14 x15 x16 x17 x18 Ω = some res) : TW Y res Ω 833 [(0, vo none), (1, vr 35 x1), (2, vi x2), (3, vi x3), (4, vi x4), (6, vi x6), (14, vi x14), (15, vi x15), (16, vi x16), (17, vi x17), (18, vi x18)] [] := by
  unfold bd_J16_sort_2_833 at h
  refine zo_aload_n hY dJ16_sort_2_833 rfl 1 rfl ?_
  refine zo_iinc hY 1 dJ16_sort_2_834 (by decide) (by decide) 6 rfl rfl (ls' := [(14, vi (x14 + 1)), (0, vo none), (1, vr 35 x1), (2, vi x2), (3, vi x3), (4, vi x4), (6, vi x6), (15, vi x15), (16, vi x16), (17, vi x17), (18, vi x18)]) rfl ?_
  refine zo_iload hY dJ16_sort_2_837 0 rfl ?_
  refine zo_ald hY (by decide) (Or.inl ⟨rfl, dJ16_sort_2_839⟩) (fun _ => rfl) h (fun j1 h => ?_)
  refine zo_iload hY dJ16_sort_2_840 8 rfl ?_
  refine zo_icmp_ge hY 848 dJ16_sort_2_842 (by decide) h (fun c2 h => ?_) (fun c2 h => ?_)
  · refine zo_aload_n hY dJ16_sort_2_848 rfl 2 rfl ?_
    refine zo_iload hY dJ16_sort_2_849 0 rfl ?_
    refine zo_ald hY (by decide) (Or.inl ⟨rfl, dJ16_sort_2_851⟩) (fun _ => rfl) h (fun j3 h => ?_)
    refine zo_iload hY dJ16_sort_2_852 8 rfl ?_
    refine zo_icmp_le hY 868 dJ16_sort_2_854 (by decide) h (fun c4 h => ?_) (fun c4 h => ?_)
    · refine zo_sub [1, 2, 3, 4, 5, 6, 0, 7, 8, 9, 10] rfl ?_
      exact ct_J16_sort_2_868 hY hJ hCon hr N K0 K797 hK0 hK797 x1 x2 x3 x4 x6 (x14 + 1) x15 x16 x17 x18 Ω _ h
    · refine zo_aload_n hY dJ16_sort_2_857 rfl 2 rfl ?_
      refine zo_iinc hY (-1) dJ16_sort_2_858 (by decide) (by decide) 7 rfl rfl (ls' := [(15, vi (x15 + (-1))), (14, vi (x14 + 1)), (0, vo none), (1, vr 35 x1), (2, vi x2), (3, vi x3), (4, vi x4), (6, vi x6), (16, vi x16), (17, vi x17), (18, vi x18)]) rfl ?_
      refine zo_iload hY dJ16_sort_2_861 0 rfl ?_
      refine zo_aload_n hY dJ16_sort_2_863 rfl 3 rfl ?_
      refine zo_iload hY dJ16_sort_2_864 1 rfl ?_
      refine zo_ald hY (by decide) (Or.inl ⟨rfl, dJ16_sort_2_866⟩) (fun _ => rfl) h (fun j5 h => ?_)
      refine zo_ast hY hJ (by decide) (Or.inl ⟨rfl, rfl, dJ16_sort_2_867⟩) (fun _ => rfl) h (fun j6 Ω7 h => ?_)
      refine zo_sub [2, 3, 4, 5, 6, 7, 1, 0, 8, 9, 10] rfl ?_
      exact ct_J16_sort_2_868 hY hJ hCon hr N K0 K797 hK0 hK797 x1 x2 x3 x4 x6 (x14 + 1) (x15 + (-1)) x16 x17 x18 Ω7 _ h
  · refine zo_goto hY 833 dJ16_sort_2_845 (by decide) ?_
    refine zo_sub [1, 2, 3, 4, 5, 6, 0, 7, 8, 9, 10] rfl ?_
    exact hK833 x1 x2 x3 x4 x6 (x14 + 1) x15 x16 x17 x18 Ω _ h
def fn_J16_sort_2_833 (N : Nat) (K0 : Nat → Int32 → Int32 → Int32 → zo_O → Option zo_R) (K797 : Nat → Int32 → Int32 → Int32 → Int32 → Int32 → Int32 → Int32 → Int32 → zo_O → Option zo_R) : Nat → Nat → Int32 → Int32 → Int32 → Int32 → Int32 → Int32 → Int32 → Int32 → Int32 → zo_O → Option zo_R
  | 0, _, _, _, _, _, _, _, _, _, _, _ => none
  | n + 1, x1, x2, x3, x4, x6, x14, x15, x16, x17, x18, Ω => bd_J16_sort_2_833 N K0 K797 (fn_J16_sort_2_833 N K0 K797 n) x1 x2 x3 x4 x6 x14 x15 x16 x17 x18 Ω
theorem ct_J16_sort_2_833 {Y : zo_Y} (hY : zo_Gd Y cJ16_sort_2 21 RJ16 2) (hJ : zo_JC (zo_J Y)) (hCon : ∀ Ω, zo_J Y Ω → zo_Con Ω) (hr : zo_rt Y (Option.none : Option Jvm.ClassFile.FieldType)) (N : Nat) (K0 : Nat → Int32 → Int32 → Int32 → zo_O → Option zo_R) (K797 : Nat → Int32 → Int32 → Int32 → Int32 → Int32 → Int32 → Int32 → Int32 → zo_O → Option zo_R) (hK0 : ∀ (x1 : Nat) (x2 : Int32) (x3 : Int32) (x4 : Int32) (Ω : zo_O) (res : zo_R), K0 x1 x2 x3 x4 Ω = some res → TW Y res Ω 0 [(0, vo none), (1, vr 35 x1), (2, vi x2), (3, vi x3), (4, vi x4)] []) (hK797 : ∀ (x1 : Nat) (x2 : Int32) (x3 : Int32) (x4 : Int32) (x6 : Int32) (x14 : Int32) (x15 : Int32) (x16 : Int32) (x17 : Int32) (Ω : zo_O) (res : zo_R), K797 x1 x2 x3 x4 x6 x14 x15 x16 x17 Ω = some res → TW Y res Ω 797 [(0, vo none), (1, vr 35 x1), (2, vi x2), (3, vi x3), (4, vi x4), (6, vi x6), (14, vi x14), (15, vi x15), (16, vi x16), (17, vi x17)] []) : ∀ (n : Nat) (x1 : Nat) (x2 : Int32) (x3 : Int32) (x4 : Int32) (x6 : Int32) (x14 : Int32) (x15 : Int32) (x16 : Int32) (x17 : Int32) (x18 : Int32) (Ω : zo_O) (res : zo_R), fn_J16_sort_2_833 N K0 K797 n x1 x2 x3 x4 x6 x14 x15 x16 x17 x18 Ω = some res → TW Y res Ω 833 [(0, vo none), (1, vr 35 x1), (2, vi x2), (3, vi x3), (4, vi x4), (6, vi x6), (14, vi x14), (15, vi x15), (16, vi x16), (17, vi x17), (18, vi x18)] [] := by
  intro n
  induction n with
  | zero => intro x1 x2 x3 x4 x6 x14 x15 x16 x17 x18 Ω res h; exact nomatch (show (none : Option zo_R) = some res from h)
  | succ n ih => intro x1 x2 x3 x4 x6 x14 x15 x16 x17 x18 Ω res h; exact cb_J16_sort_2_833 hY hJ hCon hr N K0 K797 (fn_J16_sort_2_833 N K0 K797 n) hK0 hK797 ih x1 x2 x3 x4 x6 x14 x15 x16 x17 x18 Ω res h
def fn_J16_sort_2_928 (N : Nat) (K0 : Nat → Int32 → Int32 → Int32 → zo_O → Option zo_R) (x1 : Nat) (x2 : Int32) (x3 : Int32) (x4 : Int32) (x14 : Int32) (x15 : Int32) (Ω : zo_O) : Option zo_R :=
  cv (fn_J16_sort_2_b N x1 (x2 ||| 1) x15 x4 Ω) fun Ω1 =>
  fn_J16_sort_2_940 N K0 x1 x2 x3 x14 Ω1
theorem ct_J16_sort_2_928 {Y : zo_Y} (hY : zo_Gd Y cJ16_sort_2 21 RJ16 2) (hJ : zo_JC (zo_J Y)) (hCon : ∀ Ω, zo_J Y Ω → zo_Con Ω) (hr : zo_rt Y (Option.none : Option Jvm.ClassFile.FieldType)) (N : Nat) (K0 : Nat → Int32 → Int32 → Int32 → zo_O → Option zo_R) (hK0 : ∀ (x1 : Nat) (x2 : Int32) (x3 : Int32) (x4 : Int32) (Ω : zo_O) (res : zo_R), K0 x1 x2 x3 x4 Ω = some res → TW Y res Ω 0 [(0, vo none), (1, vr 35 x1), (2, vi x2), (3, vi x3), (4, vi x4)] []) (x1 : Nat) (x2 : Int32) (x3 : Int32) (x4 : Int32) (x14 : Int32) (x15 : Int32) (Ω : zo_O) (res : zo_R) (h : fn_J16_sort_2_928 N K0 x1 x2 x3 x4 x14 x15 Ω = some res) : TW Y res Ω 928 [(0, vo none), (1, vr 35 x1), (2, vi x2), (3, vi x3), (4, vi x4), (14, vi x14), (15, vi x15)] [] := by
  unfold fn_J16_sort_2_928 at h
  refine zo_aload_n hY dJ16_sort_2_928 rfl 0 rfl ?_
  refine zo_aload_n hY dJ16_sort_2_929 rfl 1 rfl ?_
  refine zo_iload_n hY dJ16_sort_2_930 rfl 2 rfl ?_
  refine zo_iconst hY 1 (by decide) dJ16_sort_2_931 ?_
  refine zo_ior hY dJ16_sort_2_932 ?_
  refine zo_iload hY dJ16_sort_2_933 6 rfl ?_
  refine zo_iload hY dJ16_sort_2_935 4 rfl ?_
  refine zo_callS hY (fun q hq => mt_J16_sort_2_b hJ hCon N x1 (x2 ||| 1) x15 x4 Ω q hq) (by decide) (by decide) cn_J16_sort_2 rfl q1168 q1169 q117 q1170 (Nat.le_of_ble_eq_true rfl) dJ16_sort_2_937 rfl h (cv_k (fun Ω1 res h => ?_))
  refine zo_sub [0, 1, 2, 3, 5] rfl ?_
  exact ct_J16_sort_2_940 hY hJ hCon hr N K0 hK0 x1 x2 x3 x14 Ω1 _ h
def bd_J16_sort_2_797 (N : Nat) (K0 : Nat → Int32 → Int32 → Int32 → zo_O → Option zo_R) (K797 : Nat → Int32 → Int32 → Int32 → Int32 → Int32 → Int32 → Int32 → Int32 → zo_O → Option zo_R) (x1 : Nat) (x2 : Int32) (x3 : Int32) (x4 : Int32) (x6 : Int32) (x14 : Int32) (x15 : Int32) (x16 : Int32) (x17 : Int32) (Ω : zo_O) : Option zo_R :=
  if x17 + (-1) ≤ x14 then (
    ix x14 (gL Ω 35 x1) fun j2 =>
    ix x3 (gL Ω 35 x1) fun j3 => lt (sI Ω 35 x1 j3 (gI Ω 35 x1 j2)) fun Ω4 =>
    ix x14 (gL Ω4 35 x1) fun j5 => lt (sI Ω4 35 x1 j5 x16) fun Ω6 =>
    if x6 ≤ 4096 then (
      fn_J16_sort_2_928 N K0 x1 x2 x3 x4 x14 x15 Ω6
      ) else
    fn_J16_sort_2_928 N K0 x1 x2 x3 x4 x14 x15 Ω6
    ) else
  ix (x17 + (-1)) (gL Ω 35 x1) fun j8 =>
  li (gI Ω 35 x1 j8) fun y9 =>
  if y9 = x16 then (
    fn_J16_sort_2_886 N K0 K797 x1 x2 x3 x4 x6 x14 x15 x16 (x17 + (-1)) Ω
    ) else
  ix (x17 + (-1)) (gL Ω 35 x1) fun j11 => lt (sI Ω 35 x1 j11 x16) fun Ω12 =>
  if x16 ≤ y9 then (
    ix (x15 + (-1)) (gL Ω12 35 x1) fun j14 => lt (sI Ω12 35 x1 j14 y9) fun Ω15 =>
    fn_J16_sort_2_886 N K0 K797 x1 x2 x3 x4 x6 x14 (x15 + (-1)) x16 (x17 + (-1)) Ω15
    ) else
  fn_J16_sort_2_833 N K0 K797 N x1 x2 x3 x4 x6 x14 x15 x16 (x17 + (-1)) y9 Ω12
theorem cb_J16_sort_2_797 {Y : zo_Y} (hY : zo_Gd Y cJ16_sort_2 21 RJ16 2) (hJ : zo_JC (zo_J Y)) (hCon : ∀ Ω, zo_J Y Ω → zo_Con Ω) (hr : zo_rt Y (Option.none : Option Jvm.ClassFile.FieldType)) (N : Nat) (K0 : Nat → Int32 → Int32 → Int32 → zo_O → Option zo_R) (K797 : Nat → Int32 → Int32 → Int32 → Int32 → Int32 → Int32 → Int32 → Int32 → zo_O → Option zo_R) (hK0 : ∀ (x1 : Nat) (x2 : Int32) (x3 : Int32) (x4 : Int32) (Ω : zo_O) (res : zo_R), K0 x1 x2 x3 x4 Ω = some res → TW Y res Ω 0 [(0, vo none), (1, vr 35 x1), (2, vi x2), (3, vi x3), (4, vi x4)] []) (hK797 : ∀ (x1 : Nat) (x2 : Int32) (x3 : Int32) (x4 : Int32) (x6 : Int32) (x14 : Int32) (x15 : Int32) (x16 : Int32) (x17 : Int32) (Ω : zo_O) (res : zo_R), K797 x1 x2 x3 x4 x6 x14 x15 x16 x17 Ω = some res → TW Y res Ω 797 [(0, vo none), (1, vr 35 x1), (2, vi x2), (3, vi x3), (4, vi x4), (6, vi x6), (14, vi x14), (15, vi x15), (16, vi x16), (17, vi x17)] []) (x1 : Nat) (x2 : Int32) (x3 : Int32) (x4 : Int32) (x6 : Int32) (x14 : Int32) (x15 : Int32) (x16 : Int32) (x17 : Int32) (Ω : zo_O) (res : zo_R) (h : bd_J16_sort_2_797 N K0 K797 x1 x2 x3 x4 x6 x14 x15 x16 x17 Ω = some res) : TW Y res Ω 797 [(0, vo none), (1, vr 35 x1), (2, vi x2), (3, vi x3), (4, vi x4), (6, vi x6), (14, vi x14), (15, vi x15), (16, vi x16), (17, vi x17)] [] := by
  unfold bd_J16_sort_2_797 at h
  refine zo_iinc hY (-1) dJ16_sort_2_797 (by decide) (by decide) 9 rfl rfl (ls' := [(17, vi (x17 + (-1))), (0, vo none), (1, vr 35 x1), (2, vi x2), (3, vi x3), (4, vi x4), (6, vi x6), (14, vi x14), (15, vi x15), (16, vi x16)]) rfl ?_
  refine zo_iload hY dJ16_sort_2_800 0 rfl ?_
  refine zo_iload hY dJ16_sort_2_802 7 rfl ?_
  refine zo_icmp_le hY 889 dJ16_sort_2_804 (by decide) h (fun c1 h => ?_) (fun c1 h => ?_)
  · refine zo_aload_n hY dJ16_sort_2_889 rfl 2 rfl ?_
    refine zo_iload_n hY dJ16_sort_2_890 rfl 4 rfl ?_
    refine zo_aload_n hY dJ16_sort_2_891 rfl 2 rfl ?_
    refine zo_iload hY dJ16_sort_2_892 7 rfl ?_
    refine zo_ald hY (by decide) (Or.inl ⟨rfl, dJ16_sort_2_894⟩) (fun _ => rfl) h (fun j2 h => ?_)
    refine zo_ast hY hJ (by decide) (Or.inl ⟨rfl, rfl, dJ16_sort_2_895⟩) (fun _ => rfl) h (fun j3 Ω4 h => ?_)
    refine zo_aload_n hY dJ16_sort_2_896 rfl 2 rfl ?_
    refine zo_iload hY dJ16_sort_2_897 7 rfl ?_
    refine zo_iload hY dJ16_sort_2_899 9 rfl ?_
    refine zo_ast hY hJ (by decide) (Or.inl ⟨rfl, rfl, dJ16_sort_2_901⟩) (fun _ => rfl) h (fun j5 Ω6 h => ?_)
    refine zo_iload hY dJ16_sort_2_902 6 rfl ?_
    refine zo_sipush hY 4096 (by decide) dJ16_sort_2_904 ?_
    refine zo_icmp_le hY 928 dJ16_sort_2_907 (by decide) h (fun c7 h => ?_) (fun c7 h => ?_)
    · refine zo_sub [1, 2, 3, 4, 5, 7, 8] rfl ?_
      exact ct_J16_sort_2_928 hY hJ hCon hr N K0 hK0 x1 x2 x3 x4 x14 x15 Ω6 _ h
    · refine zo_aload_n hY dJ16_sort_2_910 rfl 1 rfl ?_
      refine zo_ifnull0 hY 928 dJ16_sort_2_911 (by decide) ?_
      refine zo_sub [1, 2, 3, 4, 5, 7, 8] rfl ?_
      exact ct_J16_sort_2_928 hY hJ hCon hr N K0 hK0 x1 x2 x3 x4 x14 x15 Ω6 _ h
  · refine zo_aload_n hY dJ16_sort_2_807 rfl 2 rfl ?_
    refine zo_iload hY dJ16_sort_2_808 0 rfl ?_
    refine zo_ald hY (by decide) (Or.inl ⟨rfl, dJ16_sort_2_810⟩) (fun _ => rfl) h (fun j8 h => ?_)
    refine zo_nmi h (fun y9 h => ?_)
    refine zo_istore hY dJ16_sort_2_811 (by decide) rfl (ls' := [(18, vi y9), (17, vi (x17 + (-1))), (0, vo none), (1, vr 35 x1), (2, vi x2), (3, vi x3), (4, vi x4), (6, vi x6), (14, vi x14), (15, vi x15), (16, vi x16)]) rfl ?_
    refine zo_iload hY dJ16_sort_2_813 0 rfl ?_
    refine zo_iload hY dJ16_sort_2_815 10 rfl ?_
    refine zo_icmp_eq hY 886 dJ16_sort_2_817 (by decide) h (fun c10 h => ?_) (fun c10 h => ?_)
    · refine zo_sub [2, 3, 4, 5, 6, 7, 8, 9, 10, 1] rfl ?_
      exact ct_J16_sort_2_886 hY hJ hCon hr N K0 K797 hK0 hK797 x1 x2 x3 x4 x6 x14 x15 x16 (x17 + (-1)) Ω _ h
    · refine zo_aload_n hY dJ16_sort_2_820 rfl 3 rfl ?_
      refine zo_iload hY dJ16_sort_2_821 1 rfl ?_
      refine zo_iload hY dJ16_sort_2_823 10 rfl ?_
      refine zo_ast hY hJ (by decide) (Or.inl ⟨rfl, rfl, dJ16_sort_2_825⟩) (fun _ => rfl) h (fun j11 Ω12 h => ?_)
      refine zo_iload hY dJ16_sort_2_826 0 rfl ?_
      refine zo_iload hY dJ16_sort_2_828 10 rfl ?_
      refine zo_icmp_ge hY 877 dJ16_sort_2_830 (by decide) h (fun c13 h => ?_) (fun c13 h => ?_)
      · refine zo_aload_n hY dJ16_sort_2_877 rfl 3 rfl ?_
        refine zo_iinc hY (-1) dJ16_sort_2_878 (by decide) (by decide) 9 rfl rfl (ls' := [(15, vi (x15 + (-1))), (18, vi y9), (17, vi (x17 + (-1))), (0, vo none), (1, vr 35 x1), (2, vi x2), (3, vi x3), (4, vi x4), (6, vi x6), (14, vi x14), (16, vi x16)]) rfl ?_
        refine zo_iload hY dJ16_sort_2_881 0 rfl ?_
        refine zo_iload hY dJ16_sort_2_883 1 rfl ?_
        refine zo_ast hY hJ (by decide) (Or.inl ⟨rfl, rfl, dJ16_sort_2_885⟩) (fun _ => rfl) h (fun j14 Ω15 h => ?_)
        refine zo_sub [3, 4, 5, 6, 7, 8, 9, 0, 10, 2] rfl ?_
        exact ct_J16_sort_2_886 hY hJ hCon hr N K0 K797 hK0 hK797 x1 x2 x3 x4 x6 x14 (x15 + (-1)) x16 (x17 + (-1)) Ω15 _ h
      · refine zo_sub [2, 3, 4, 5, 6, 7, 8, 9, 10, 1, 0] rfl ?_
        exact ct_J16_sort_2_833 hY hJ hCon hr N K0 K797 hK0 hK797 N x1 x2 x3 x4 x6 x14 x15 x16 (x17 + (-1)) y9 Ω12 _ h
def fn_J16_sort_2_797 (N : Nat) (K0 : Nat → Int32 → Int32 → Int32 → zo_O → Option zo_R) : Nat → Nat → Int32 → Int32 → Int32 → Int32 → Int32 → Int32 → Int32 → Int32 → zo_O → Option zo_R
  | 0, _, _, _, _, _, _, _, _, _, _ => none
  | n + 1, x1, x2, x3, x4, x6, x14, x15, x16, x17, Ω => bd_J16_sort_2_797 N K0 (fn_J16_sort_2_797 N K0 n) x1 x2 x3 x4 x6 x14 x15 x16 x17 Ω
theorem ct_J16_sort_2_797 {Y : zo_Y} (hY : zo_Gd Y cJ16_sort_2 21 RJ16 2) (hJ : zo_JC (zo_J Y)) (hCon : ∀ Ω, zo_J Y Ω → zo_Con Ω) (hr : zo_rt Y (Option.none : Option Jvm.ClassFile.FieldType)) (N : Nat) (K0 : Nat → Int32 → Int32 → Int32 → zo_O → Option zo_R) (hK0 : ∀ (x1 : Nat) (x2 : Int32) (x3 : Int32) (x4 : Int32) (Ω : zo_O) (res : zo_R), K0 x1 x2 x3 x4 Ω = some res → TW Y res Ω 0 [(0, vo none), (1, vr 35 x1), (2, vi x2), (3, vi x3), (4, vi x4)] []) : ∀ (n : Nat) (x1 : Nat) (x2 : Int32) (x3 : Int32) (x4 : Int32) (x6 : Int32) (x14 : Int32) (x15 : Int32) (x16 : Int32) (x17 : Int32) (Ω : zo_O) (res : zo_R), fn_J16_sort_2_797 N K0 n x1 x2 x3 x4 x6 x14 x15 x16 x17 Ω = some res → TW Y res Ω 797 [(0, vo none), (1, vr 35 x1), (2, vi x2), (3, vi x3), (4, vi x4), (6, vi x6), (14, vi x14), (15, vi x15), (16, vi x16), (17, vi x17)] [] := by
  intro n
  induction n with
  | zero => intro x1 x2 x3 x4 x6 x14 x15 x16 x17 Ω res h; exact nomatch (show (none : Option zo_R) = some res from h)
  | succ n ih => intro x1 x2 x3 x4 x6 x14 x15 x16 x17 Ω res h; exact cb_J16_sort_2_797 hY hJ hCon hr N K0 (fn_J16_sort_2_797 N K0 n) hK0 ih x1 x2 x3 x4 x6 x14 x15 x16 x17 Ω res h
def fn_J16_sort_2_776 (N : Nat) (K0 : Nat → Int32 → Int32 → Int32 → zo_O → Option zo_R) (x1 : Nat) (x2 : Int32) (x3 : Int32) (x4 : Int32) (x6 : Int32) (x10 : Int32) (x14 : Int32) (x15 : Int32) (Ω : zo_O) : Option zo_R :=
  ix x10 (gL Ω 35 x1) fun j1 =>
  li (gI Ω 35 x1 j1) fun y2 =>
  ix x14 (gL Ω 35 x1) fun j3 =>
  ix x10 (gL Ω 35 x1) fun j4 => lt (sI Ω 35 x1 j4 (gI Ω 35 x1 j3)) fun Ω5 =>
  li (x15 + 1) fun y6 =>
  fn_J16_sort_2_797 N K0 N x1 x2 x3 x4 x6 x14 (x15 + 1) y2 y6 Ω5
theorem ct_J16_sort_2_776 {Y : zo_Y} (hY : zo_Gd Y cJ16_sort_2 21 RJ16 2) (hJ : zo_JC (zo_J Y)) (hCon : ∀ Ω, zo_J Y Ω → zo_Con Ω) (hr : zo_rt Y (Option.none : Option Jvm.ClassFile.FieldType)) (N : Nat) (K0 : Nat → Int32 → Int32 → Int32 → zo_O → Option zo_R) (hK0 : ∀ (x1 : Nat) (x2 : Int32) (x3 : Int32) (x4 : Int32) (Ω : zo_O) (res : zo_R), K0 x1 x2 x3 x4 Ω = some res → TW Y res Ω 0 [(0, vo none), (1, vr 35 x1), (2, vi x2), (3, vi x3), (4, vi x4)] []) (x1 : Nat) (x2 : Int32) (x3 : Int32) (x4 : Int32) (x6 : Int32) (x10 : Int32) (x14 : Int32) (x15 : Int32) (Ω : zo_O) (res : zo_R) (h : fn_J16_sort_2_776 N K0 x1 x2 x3 x4 x6 x10 x14 x15 Ω = some res) : TW Y res Ω 776 [(0, vo none), (1, vr 35 x1), (2, vi x2), (3, vi x3), (4, vi x4), (6, vi x6), (10, vi x10), (14, vi x14), (15, vi x15)] [] := by
  unfold fn_J16_sort_2_776 at h
  refine zo_aload_n hY dJ16_sort_2_776 rfl 1 rfl ?_
  refine zo_iload hY dJ16_sort_2_777 6 rfl ?_
  refine zo_ald hY (by decide) (Or.inl ⟨rfl, dJ16_sort_2_779⟩) (fun _ => rfl) h (fun j1 h => ?_)
  refine zo_nmi h (fun y2 h => ?_)
  refine zo_istore hY dJ16_sort_2_780 (by decide) rfl (ls' := [(16, vi y2), (0, vo none), (1, vr 35 x1), (2, vi x2), (3, vi x3), (4, vi x4), (6, vi x6), (10, vi x10), (14, vi x14), (15, vi x15)]) rfl ?_
  refine zo_aload_n hY dJ16_sort_2_782 rfl 2 rfl ?_
  refine zo_iload hY dJ16_sort_2_783 7 rfl ?_
  refine zo_aload_n hY dJ16_sort_2_785 rfl 2 rfl ?_
  refine zo_iload hY dJ16_sort_2_786 8 rfl ?_
  refine zo_ald hY (by decide) (Or.inl ⟨rfl, dJ16_sort_2_788⟩) (fun _ => rfl) h (fun j3 h => ?_)
  refine zo_ast hY hJ (by decide) (Or.inl ⟨rfl, rfl, dJ16_sort_2_789⟩) (fun _ => rfl) h (fun j4 Ω5 h => ?_)
  refine zo_iinc hY 1 dJ16_sort_2_790 (by decide) (by decide) 9 rfl rfl (ls' := [(15, vi (x15 + 1)), (16, vi y2), (0, vo none), (1, vr 35 x1), (2, vi x2), (3, vi x3), (4, vi x4), (6, vi x6), (10, vi x10), (14, vi x14)]) rfl ?_
  refine zo_iload hY dJ16_sort_2_793 0 rfl ?_
  refine zo_nmi h (fun y6 h => ?_)
  refine zo_istore hY dJ16_sort_2_795 (by decide) rfl (ls' := [(17, vi y6), (15, vi (x15 + 1)), (16, vi y2), (0, vo none), (1, vr 35 x1), (2, vi x2), (3, vi x3), (4, vi x4), (6, vi x6), (10, vi x10), (14, vi x14)]) rfl ?_
  refine zo_sub [3, 4, 5, 6, 7, 8, 10, 1, 2, 0] rfl ?_
  exact ct_J16_sort_2_797 hY hJ hCon hr N K0 hK0 N x1 x2 x3 x4 x6 x14 (x15 + 1) y2 y6 Ω5 _ h
def fn_J16_sort_2_437 (N : Nat) (K0 : Nat → Int32 → Int32 → Int32 → zo_O → Option zo_R) (x1 : Nat) (x2 : Int32) (x3 : Int32) (x4 : Int32) (x5 : Int32) (x6 : Int32) (x8 : Int32) (x9 : Int32) (x10 : Int32) (x11 : Int32) (x12 : Int32) (Ω : zo_O) : Option zo_R :=
  ix x8 (gL Ω 35 x1) fun j1 =>
  ix x11 (gL Ω 35 x1) fun j2 =>
  if gI Ω 35 x1 j2 ≤ gI Ω 35 x1 j1 then (
    fn_J16_sort_2_776 N K0 x1 x2 x3 x4 x6 x10 x3 x5 Ω
    ) else
  ix x11 (gL Ω 35 x1) fun j4 =>
  ix x10 (gL Ω 35 x1) fun j5 =>
  if gI Ω 35 x1 j5 ≤ gI Ω 35 x1 j4 then (
    fn_J16_sort_2_776 N K0 x1 x2 x3 x4 x6 x10 x3 x5 Ω
    ) else
  ix x10 (gL Ω 35 x1) fun j7 =>
  ix x12 (gL Ω 35 x1) fun j8 =>
  if gI Ω 35 x1 j8 ≤ gI Ω 35 x1 j7 then (
    fn_J16_sort_2_776 N K0 x1 x2 x3 x4 x6 x10 x3 x5 Ω
    ) else
  ix x12 (gL Ω 35 x1) fun j10 =>
  ix x9 (gL Ω 35 x1) fun j11 =>
  if gI Ω 35 x1 j11 ≤ gI Ω 35 x1 j10 then (
    fn_J16_sort_2_776 N K0 x1 x2 x3 x4 x6 x10 x3 x5 Ω
    ) else
  ix x8 (gL Ω 35 x1) fun j13 =>
  li (gI Ω 35 x1 j13) fun y14 =>
  ix x9 (gL Ω 35 x1) fun j15 =>
  li (gI Ω 35 x1 j15) fun y16 =>
  ix x3 (gL Ω 35 x1) fun j17 =>
  ix x8 (gL Ω 35 x1) fun j18 => lt (sI Ω 35 x1 j18 (gI Ω 35 x1 j17)) fun Ω19 =>
  ix x5 (gL Ω19 35 x1) fun j20 =>
  ix x9 (gL Ω19 35 x1) fun j21 => lt (sI Ω19 35 x1 j21 (gI Ω19 35 x1 j20)) fun Ω22 =>
  fn_J16_sort_2_516 N K0 N x1 x2 x3 x4 x5 x6 x3 x5 y14 y16 Ω22
theorem ct_J16_sort_2_437 {Y : zo_Y} (hY : zo_Gd Y cJ16_sort_2 21 RJ16 2) (hJ : zo_JC (zo_J Y)) (hCon : ∀ Ω, zo_J Y Ω → zo_Con Ω) (hr : zo_rt Y (Option.none : Option Jvm.ClassFile.FieldType)) (N : Nat) (K0 : Nat → Int32 → Int32 → Int32 → zo_O → Option zo_R) (hK0 : ∀ (x1 : Nat) (x2 : Int32) (x3 : Int32) (x4 : Int32) (Ω : zo_O) (res : zo_R), K0 x1 x2 x3 x4 Ω = some res → TW Y res Ω 0 [(0, vo none), (1, vr 35 x1), (2, vi x2), (3, vi x3), (4, vi x4)] []) (x1 : Nat) (x2 : Int32) (x3 : Int32) (x4 : Int32) (x5 : Int32) (x6 : Int32) (x8 : Int32) (x9 : Int32) (x10 : Int32) (x11 : Int32) (x12 : Int32) (Ω : zo_O) (res : zo_R) (h : fn_J16_sort_2_437 N K0 x1 x2 x3 x4 x5 x6 x8 x9 x10 x11 x12 Ω = some res) : TW Y res Ω 437 [(0, vo none), (1, vr 35 x1), (2, vi x2), (3, vi x3), (4, vi x4), (5, vi x5), (6, vi x6), (8, vi x8), (9, vi x9), (10, vi x10), (11, vi x11), (12, vi x12)] [] := by
  unfold fn_J16_sort_2_437 at h
  refine zo_iload_n hY dJ16_sort_2_437 rfl 3 rfl ?_
  refine zo_istore hY dJ16_sort_2_438 (by decide) rfl (ls' := [(14, vi x3), (0, vo none), (1, vr 35 x1), (2, vi x2), (3, vi x3), (4, vi x4), (5, vi x5), (6, vi x6), (8, vi x8), (9, vi x9), (10, vi x10), (11, vi x11), (12, vi x12)]) rfl ?_
  refine zo_iload hY dJ16_sort_2_440 6 rfl ?_
  refine zo_istore hY dJ16_sort_2_442 (by decide) rfl (ls' := [(15, vi x5), (14, vi x3), (0, vo none), (1, vr 35 x1), (2, vi x2), (3, vi x3), (4, vi x4), (5, vi x5), (6, vi x6), (8, vi x8), (9, vi x9), (10, vi x10), (11, vi x11), (12, vi x12)]) rfl ?_
  refine zo_aload_n hY dJ16_sort_2_444 rfl 3 rfl ?_
  refine zo_iload hY dJ16_sort_2_445 9 rfl ?_
  refine zo_ald hY (by decide) (Or.inl ⟨rfl, dJ16_sort_2_447⟩) (fun _ => rfl) h (fun j1 h => ?_)
  refine zo_aload_n hY dJ16_sort_2_448 rfl 3 rfl ?_
  refine zo_iload hY dJ16_sort_2_449 12 rfl ?_
  refine zo_ald hY (by decide) (Or.inl ⟨rfl, dJ16_sort_2_451⟩) (fun _ => rfl) h (fun j2 h => ?_)
  refine zo_icmp_ge hY 776 dJ16_sort_2_452 (by decide) h (fun c3 h => ?_) (fun c3 h => ?_)
  · refine zo_sub [2, 3, 4, 5, 6, 8, 11, 1, 0] rfl ?_
    exact ct_J16_sort_2_776 hY hJ hCon hr N K0 hK0 x1 x2 x3 x4 x6 x10 x3 x5 Ω _ h
  · refine zo_aload_n hY dJ16_sort_2_455 rfl 3 rfl ?_
    refine zo_iload hY dJ16_sort_2_456 12 rfl ?_
    refine zo_ald hY (by decide) (Or.inl ⟨rfl, dJ16_sort_2_458⟩) (fun _ => rfl) h (fun j4 h => ?_)
    refine zo_aload_n hY dJ16_sort_2_459 rfl 3 rfl ?_
    refine zo_iload hY dJ16_sort_2_460 11 rfl ?_
    refine zo_ald hY (by decide) (Or.inl ⟨rfl, dJ16_sort_2_462⟩) (fun _ => rfl) h (fun j5 h => ?_)
    refine zo_icmp_ge hY 776 dJ16_sort_2_463 (by decide) h (fun c6 h => ?_) (fun c6 h => ?_)
    · refine zo_sub [2, 3, 4, 5, 6, 8, 11, 1, 0] rfl ?_
      exact ct_J16_sort_2_776 hY hJ hCon hr N K0 hK0 x1 x2 x3 x4 x6 x10 x3 x5 Ω _ h
    · refine zo_aload_n hY dJ16_sort_2_466 rfl 3 rfl ?_
      refine zo_iload hY dJ16_sort_2_467 11 rfl ?_
      refine zo_ald hY (by decide) (Or.inl ⟨rfl, dJ16_sort_2_469⟩) (fun _ => rfl) h (fun j7 h => ?_)
      refine zo_aload_n hY dJ16_sort_2_470 rfl 3 rfl ?_
      refine zo_iload hY dJ16_sort_2_471 13 rfl ?_
      refine zo_ald hY (by decide) (Or.inl ⟨rfl, dJ16_sort_2_473⟩) (fun _ => rfl) h (fun j8 h => ?_)
      refine zo_icmp_ge hY 776 dJ16_sort_2_474 (by decide) h (fun c9 h => ?_) (fun c9 h => ?_)
      · refine zo_sub [2, 3, 4, 5, 6, 8, 11, 1, 0] rfl ?_
        exact ct_J16_sort_2_776 hY hJ hCon hr N K0 hK0 x1 x2 x3 x4 x6 x10 x3 x5 Ω _ h
      · refine zo_aload_n hY dJ16_sort_2_477 rfl 3 rfl ?_
        refine zo_iload hY dJ16_sort_2_478 13 rfl ?_
        refine zo_ald hY (by decide) (Or.inl ⟨rfl, dJ16_sort_2_480⟩) (fun _ => rfl) h (fun j10 h => ?_)
        refine zo_aload_n hY dJ16_sort_2_481 rfl 3 rfl ?_
        refine zo_iload hY dJ16_sort_2_482 10 rfl ?_
        refine zo_ald hY (by decide) (Or.inl ⟨rfl, dJ16_sort_2_484⟩) (fun _ => rfl) h (fun j11 h => ?_)
        refine zo_icmp_ge hY 776 dJ16_sort_2_485 (by decide) h (fun c12 h => ?_) (fun c12 h => ?_)
        · refine zo_sub [2, 3, 4, 5, 6, 8, 11, 1, 0] rfl ?_
          exact ct_J16_sort_2_776 hY hJ hCon hr N K0 hK0 x1 x2 x3 x4 x6 x10 x3 x5 Ω _ h
        · refine zo_aload_n hY dJ16_sort_2_488 rfl 3 rfl ?_
          refine zo_iload hY dJ16_sort_2_489 9 rfl ?_
          refine zo_ald hY (by decide) (Or.inl ⟨rfl, dJ16_sort_2_491⟩) (fun _ => rfl) h (fun j13 h => ?_)
          refine zo_nmi h (fun y14 h => ?_)
          refine zo_istore hY dJ16_sort_2_492 (by decide) rfl (ls' := [(16, vi y14), (15, vi x5), (14, vi x3), (0, vo none), (1, vr 35 x1), (2, vi x2), (3, vi x3), (4, vi x4), (5, vi x5), (6, vi x6), (8, vi x8), (9, vi x9), (10, vi x10), (11, vi x11), (12, vi x12)]) rfl ?_
          refine zo_aload_n hY dJ16_sort_2_494 rfl 4 rfl ?_
          refine zo_iload hY dJ16_sort_2_495 11 rfl ?_
          refine zo_ald hY (by decide) (Or.inl ⟨rfl, dJ16_sort_2_497⟩) (fun _ => rfl) h (fun j15 h => ?_)
          refine zo_nmi h (fun y16 h => ?_)
          refine zo_istore hY dJ16_sort_2_498 (by decide) rfl (ls' := [(17, vi y16), (16, vi y14), (15, vi x5), (14, vi x3), (0, vo none), (1, vr 35 x1), (2, vi x2), (3, vi x3), (4, vi x4), (5, vi x5), (6, vi x6), (8, vi x8), (9, vi x9), (10, vi x10), (11, vi x11), (12, vi x12)]) rfl ?_
          refine zo_aload_n hY dJ16_sort_2_500 rfl 5 rfl ?_
          refine zo_iload hY dJ16_sort_2_501 11 rfl ?_
          refine zo_aload_n hY dJ16_sort_2_503 rfl 5 rfl ?_
          refine zo_iload hY dJ16_sort_2_504 3 rfl ?_
          refine zo_ald hY (by decide) (Or.inl ⟨rfl, dJ16_sort_2_506⟩) (fun _ => rfl) h (fun j17 h => ?_)
          refine zo_ast hY hJ (by decide) (Or.inl ⟨rfl, rfl, dJ16_sort_2_507⟩) (fun _ => rfl) h (fun j18 Ω19 h => ?_)
          refine zo_aload_n hY dJ16_sort_2_508 rfl 5 rfl ?_
          refine zo_iload hY dJ16_sort_2_509 12 rfl ?_
          refine zo_aload_n hY dJ16_sort_2_511 rfl 5 rfl ?_
          refine zo_iload hY dJ16_sort_2_512 2 rfl ?_
          refine zo_ald hY (by decide) (Or.inl ⟨rfl, dJ16_sort_2_514⟩) (fun _ => rfl) h (fun j20 h => ?_)
          refine zo_ast hY hJ (by decide) (Or.inl ⟨rfl, rfl, dJ16_sort_2_515⟩) (fun _ => rfl) h (fun j21 Ω22 h => ?_)
          refine zo_sub [4, 5, 6, 7, 8, 9, 10, 3, 2, 1, 0] rfl ?_
          exact ct_J16_sort_2_516 hY hJ hCon hr N K0 hK0 N x1 x2 x3 x4 x5 x6 x3 x5 y14 y16 Ω22 _ h
def fn_J16_sort_2_320 (N : Nat) (K0 : Nat → Int32 → Int32 → Int32 → zo_O → Option zo_R) (x1 : Nat) (x2 : Int32) (x3 : Int32) (x4 : Int32) (x5 : Int32) (x6 : Int32) (x8 : Int32) (x9 : Int32) (x10 : Int32) (x11 : Int32) (x12 : Int32) (x13 : Int32) (Ω : zo_O) : Option zo_R :=
  ix x11 (gL Ω 35 x1) fun j1 =>
  if gI Ω 35 x1 j1 ≤ x13 then (
    ix x12 (gL Ω 35 x1) fun j3 =>
    if x13 ≤ gI Ω 35 x1 j3 then (
      fn_J16_sort_2_437 N K0 x1 x2 x3 x4 x5 x6 x8 x9 x10 x11 x12 Ω
      ) else
    ix x9 (gL Ω 35 x1) fun j5 =>
    if x13 ≤ gI Ω 35 x1 j5 then (
      ix x12 (gL Ω 35 x1) fun j7 =>
      ix x10 (gL Ω 35 x1) fun j8 => lt (sI Ω 35 x1 j8 (gI Ω 35 x1 j7)) fun Ω9 =>
      ix x12 (gL Ω9 35 x1) fun j10 => lt (sI Ω9 35 x1 j10 x13) fun Ω11 =>
      fn_J16_sort_2_437 N K0 x1 x2 x3 x4 x5 x6 x8 x9 x10 x11 x12 Ω11
      ) else
    ix x12 (gL Ω 35 x1) fun j12 =>
    ix x10 (gL Ω 35 x1) fun j13 => lt (sI Ω 35 x1 j13 (gI Ω 35 x1 j12)) fun Ω14 =>
    ix x9 (gL Ω14 35 x1) fun j15 =>
    ix x12 (gL Ω14 35 x1) fun j16 => lt (sI Ω14 35 x1 j16 (gI Ω14 35 x1 j15)) fun Ω17 =>
    ix x9 (gL Ω17 35 x1) fun j18 => lt (sI Ω17 35 x1 j18 x13) fun Ω19 =>
    fn_J16_sort_2_437 N K0 x1 x2 x3 x4 x5 x6 x8 x9 x10 x11 x12 Ω19
    ) else
  ix x8 (gL Ω 35 x1) fun j20 =>
  if gI Ω 35 x1 j20 ≤ x13 then (
    ix x11 (gL Ω 35 x1) fun j22 =>
    ix x10 (gL Ω 35 x1) fun j23 => lt (sI Ω 35 x1 j23 (gI Ω 35 x1 j22)) fun Ω24 =>
    ix x11 (gL Ω24 35 x1) fun j25 => lt (sI Ω24 35 x1 j25 x13) fun Ω26 =>
    fn_J16_sort_2_437 N K0 x1 x2 x3 x4 x5 x6 x8 x9 x10 x11 x12 Ω26
    ) else
  ix x11 (gL Ω 35 x1) fun j27 =>
  ix x10 (gL Ω 35 x1) fun j28 => lt (sI Ω 35 x1 j28 (gI Ω 35 x1 j27)) fun Ω29 =>
  ix x8 (gL Ω29 35 x1) fun j30 =>
  ix x11 (gL Ω29 35 x1) fun j31 => lt (sI Ω29 35 x1 j31 (gI Ω29 35 x1 j30)) fun Ω32 =>
  ix x8 (gL Ω32 35 x1) fun j33 => lt (sI Ω32 35 x1 j33 x13) fun Ω34 =>
  fn_J16_sort_2_437 N K0 x1 x2 x3 x4 x5 x6 x8 x9 x10 x11 x12 Ω34
theorem ct_J16_sort_2_320 {Y : zo_Y} (hY : zo_Gd Y cJ16_sort_2 21 RJ16 2) (hJ : zo_JC (zo_J Y)) (hCon : ∀ Ω, zo_J Y Ω → zo_Con Ω) (hr : zo_rt Y (Option.none : Option Jvm.ClassFile.FieldType)) (N : Nat) (K0 : Nat → Int32 → Int32 → Int32 → zo_O → Option zo_R) (hK0 : ∀ (x1 : Nat) (x2 : Int32) (x3 : Int32) (x4 : Int32) (Ω : zo_O) (res : zo_R), K0 x1 x2 x3 x4 Ω = some res → TW Y res Ω 0 [(0, vo none), (1, vr 35 x1), (2, vi x2), (3, vi x3), (4, vi x4)] []) (x1 : Nat) (x2 : Int32) (x3 : Int32) (x4 : Int32) (x5 : Int32) (x6 : Int32) (x8 : Int32) (x9 : Int32) (x10 : Int32) (x11 : Int32) (x12 : Int32) (x13 : Int32) (Ω : zo_O) (res : zo_R) (h : fn_J16_sort_2_320 N K0 x1 x2 x3 x4 x5 x6 x8 x9 x10 x11 x12 x13 Ω = some res) : TW Y res Ω 320 [(0, vo none), (1, vr 35 x1), (2, vi x2), (3, vi x3), (4, vi x4), (5, vi x5), (6, vi x6), (8, vi x8), (9, vi x9), (10, vi x10), (11, vi x11), (12, vi x12), (13, vi x13)] [] := by
  unfold fn_J16_sort_2_320 at h
  refine zo_iload hY dJ16_sort_2_320 12 rfl ?_
  refine zo_aload_n hY dJ16_sort_2_322 rfl 1 rfl ?_
  refine zo_iload hY dJ16_sort_2_323 10 rfl ?_
  refine zo_ald hY (by decide) (Or.inl ⟨rfl, dJ16_sort_2_325⟩) (fun _ => rfl) h (fun j1 h => ?_)
  refine zo_icmp_ge hY 380 dJ16_sort_2_326 (by decide) h (fun c2 h => ?_) (fun c2 h => ?_)
  · refine zo_iload hY dJ16_sort_2_380 12 rfl ?_
    refine zo_aload_n hY dJ16_sort_2_382 rfl 1 rfl ?_
    refine zo_iload hY dJ16_sort_2_383 11 rfl ?_
    refine zo_ald hY (by decide) (Or.inl ⟨rfl, dJ16_sort_2_385⟩) (fun _ => rfl) h (fun j3 h => ?_)
    refine zo_icmp_le hY 437 dJ16_sort_2_386 (by decide) h (fun c4 h => ?_) (fun c4 h => ?_)
    · refine zo_sub [0, 1, 2, 3, 4, 5, 6, 7, 8, 9, 10, 11] rfl ?_
      exact ct_J16_sort_2_437 hY hJ hCon hr N K0 hK0 x1 x2 x3 x4 x5 x6 x8 x9 x10 x11 x12 Ω _ h
    · refine zo_iload hY dJ16_sort_2_389 12 rfl ?_
      refine zo_aload_n hY dJ16_sort_2_391 rfl 1 rfl ?_
      refine zo_iload hY dJ16_sort_2_392 8 rfl ?_
      refine zo_ald hY (by decide) (Or.inl ⟨rfl, dJ16_sort_2_394⟩) (fun _ => rfl) h (fun j5 h => ?_)
      refine zo_icmp_le hY 423 dJ16_sort_2_395 (by decide) h (fun c6 h => ?_) (fun c6 h => ?_)
      · refine zo_aload_n hY dJ16_sort_2_423 rfl 1 rfl ?_
        refine zo_iload hY dJ16_sort_2_424 9 rfl ?_
        refine zo_aload_n hY dJ16_sort_2_426 rfl 1 rfl ?_
        refine zo_iload hY dJ16_sort_2_427 11 rfl ?_
        refine zo_ald hY (by decide) (Or.inl ⟨rfl, dJ16_sort_2_429⟩) (fun _ => rfl) h (fun j7 h => ?_)
        refine zo_ast hY hJ (by decide) (Or.inl ⟨rfl, rfl, dJ16_sort_2_430⟩) (fun _ => rfl) h (fun j8 Ω9 h => ?_)
        refine zo_aload_n hY dJ16_sort_2_431 rfl 1 rfl ?_
        refine zo_iload hY dJ16_sort_2_432 11 rfl ?_
        refine zo_iload hY dJ16_sort_2_434 12 rfl ?_
        refine zo_ast hY hJ (by decide) (Or.inl ⟨rfl, rfl, dJ16_sort_2_436⟩) (fun _ => rfl) h (fun j10 Ω11 h => ?_)
        refine zo_sub [0, 1, 2, 3, 4, 5, 6, 7, 8, 9, 10, 11] rfl ?_
        exact ct_J16_sort_2_437 hY hJ hCon hr N K0 hK0 x1 x2 x3 x4 x5 x6 x8 x9 x10 x11 x12 Ω11 _ h
      · refine zo_aload_n hY dJ16_sort_2_398 rfl 1 rfl ?_
        refine zo_iload hY dJ16_sort_2_399 9 rfl ?_
        refine zo_aload_n hY dJ16_sort_2_401 rfl 1 rfl ?_
        refine zo_iload hY dJ16_sort_2_402 11 rfl ?_
        refine zo_ald hY (by decide) (Or.inl ⟨rfl, dJ16_sort_2_404⟩) (fun _ => rfl) h (fun j12 h => ?_)
        refine zo_ast hY hJ (by decide) (Or.inl ⟨rfl, rfl, dJ16_sort_2_405⟩) (fun _ => rfl) h (fun j13 Ω14 h => ?_)
        refine zo_aload_n hY dJ16_sort_2_406 rfl 1 rfl ?_
        refine zo_iload hY dJ16_sort_2_407 11 rfl ?_
        refine zo_aload_n hY dJ16_sort_2_409 rfl 1 rfl ?_
        refine zo_iload hY dJ16_sort_2_410 8 rfl ?_
        refine zo_ald hY (by decide) (Or.inl ⟨rfl, dJ16_sort_2_412⟩) (fun _ => rfl) h (fun j15 h => ?_)
        refine zo_ast hY hJ (by decide) (Or.inl ⟨rfl, rfl, dJ16_sort_2_413⟩) (fun _ => rfl) h (fun j16 Ω17 h => ?_)
        refine zo_aload_n hY dJ16_sort_2_414 rfl 1 rfl ?_
        refine zo_iload hY dJ16_sort_2_415 8 rfl ?_
        refine zo_iload hY dJ16_sort_2_417 12 rfl ?_
        refine zo_ast hY hJ (by decide) (Or.inl ⟨rfl, rfl, dJ16_sort_2_419⟩) (fun _ => rfl) h (fun j18 Ω19 h => ?_)
        refine zo_goto hY 437 dJ16_sort_2_420 (by decide) ?_
        refine zo_sub [0, 1, 2, 3, 4, 5, 6, 7, 8, 9, 10, 11] rfl ?_
        exact ct_J16_sort_2_437 hY hJ hCon hr N K0 hK0 x1 x2 x3 x4 x5 x6 x8 x9 x10 x11 x12 Ω19 _ h
  · refine zo_iload hY dJ16_sort_2_329 12 rfl ?_
    refine zo_aload_n hY dJ16_sort_2_331 rfl 1 rfl ?_
    refine zo_iload hY dJ16_sort_2_332 7 rfl ?_
    refine zo_ald hY (by decide) (Or.inl ⟨rfl, dJ16_sort_2_334⟩) (fun _ => rfl) h (fun j20 h => ?_)
    refine zo_icmp_ge hY 363 dJ16_sort_2_335 (by decide) h (fun c21 h => ?_) (fun c21 h => ?_)
    · refine zo_aload_n hY dJ16_sort_2_363 rfl 1 rfl ?_
      refine zo_iload hY dJ16_sort_2_364 9 rfl ?_
      refine zo_aload_n hY dJ16_sort_2_366 rfl 1 rfl ?_
      refine zo_iload hY dJ16_sort_2_367 10 rfl ?_
      refine zo_ald hY (by decide) (Or.inl ⟨rfl, dJ16_sort_2_369⟩) (fun _ => rfl) h (fun j22 h => ?_)
      refine zo_ast hY hJ (by decide) (Or.inl ⟨rfl, rfl, dJ16_sort_2_370⟩) (fun _ => rfl) h (fun j23 Ω24 h => ?_)
      refine zo_aload_n hY dJ16_sort_2_371 rfl 1 rfl ?_
      refine zo_iload hY dJ16_sort_2_372 10 rfl ?_
      refine zo_iload hY dJ16_sort_2_374 12 rfl ?_
      refine zo_ast hY hJ (by decide) (Or.inl ⟨rfl, rfl, dJ16_sort_2_376⟩) (fun _ => rfl) h (fun j25 Ω26 h => ?_)
      refine zo_goto hY 437 dJ16_sort_2_377 (by decide) ?_
      refine zo_sub [0, 1, 2, 3, 4, 5, 6, 7, 8, 9, 10, 11] rfl ?_
      exact ct_J16_sort_2_437 hY hJ hCon hr N K0 hK0 x1 x2 x3 x4 x5 x6 x8 x9 x10 x11 x12 Ω26 _ h
    · refine zo_aload_n hY dJ16_sort_2_338 rfl 1 rfl ?_
      refine zo_iload hY dJ16_sort_2_339 9 rfl ?_
      refine zo_aload_n hY dJ16_sort_2_341 rfl 1 rfl ?_
      refine zo_iload hY dJ16_sort_2_342 10 rfl ?_
      refine zo_ald hY (by decide) (Or.inl ⟨rfl, dJ16_sort_2_344⟩) (fun _ => rfl) h (fun j27 h => ?_)
      refine zo_ast hY hJ (by decide) (Or.inl ⟨rfl, rfl, dJ16_sort_2_345⟩) (fun _ => rfl) h (fun j28 Ω29 h => ?_)
      refine zo_aload_n hY dJ16_sort_2_346 rfl 1 rfl ?_
      refine zo_iload hY dJ16_sort_2_347 10 rfl ?_
      refine zo_aload_n hY dJ16_sort_2_349 rfl 1 rfl ?_
      refine zo_iload hY dJ16_sort_2_350 7 rfl ?_
      refine zo_ald hY (by decide) (Or.inl ⟨rfl, dJ16_sort_2_352⟩) (fun _ => rfl) h (fun j30 h => ?_)
      refine zo_ast hY hJ (by decide) (Or.inl ⟨rfl, rfl, dJ16_sort_2_353⟩) (fun _ => rfl) h (fun j31 Ω32 h => ?_)
      refine zo_aload_n hY dJ16_sort_2_354 rfl 1 rfl ?_
      refine zo_iload hY dJ16_sort_2_355 7 rfl ?_
      refine zo_iload hY dJ16_sort_2_357 12 rfl ?_
      refine zo_ast hY hJ (by decide) (Or.inl ⟨rfl, rfl, dJ16_sort_2_359⟩) (fun _ => rfl) h (fun j33 Ω34 h => ?_)
      refine zo_goto hY 437 dJ16_sort_2_360 (by decide) ?_
      refine zo_sub [0, 1, 2, 3, 4, 5, 6, 7, 8, 9, 10, 11] rfl ?_
      exact ct_J16_sort_2_437 hY hJ hCon hr N K0 hK0 x1 x2 x3 x4 x5 x6 x8 x9 x10 x11 x12 Ω34 _ h
def fn_J16_sort_2_289 (N : Nat) (K0 : Nat → Int32 → Int32 → Int32 → zo_O → Option zo_R) (x1 : Nat) (x2 : Int32) (x3 : Int32) (x4 : Int32) (x5 : Int32) (x6 : Int32) (x8 : Int32) (x9 : Int32) (x10 : Int32) (x11 : Int32) (x12 : Int32) (x13 : Int32) (Ω : zo_O) : Option zo_R :=
  ix x12 (gL Ω 35 x1) fun j1 =>
  ix x11 (gL Ω 35 x1) fun j2 =>
  if gI Ω 35 x1 j2 ≤ gI Ω 35 x1 j1 then (
    fn_J16_sort_2_320 N K0 x1 x2 x3 x4 x5 x6 x8 x9 x10 x11 x12 x13 Ω
    ) else
  ix x12 (gL Ω 35 x1) fun j4 =>
  li (gI Ω 35 x1 j4) fun y5 =>
  ix x11 (gL Ω 35 x1) fun j6 =>
  ix x12 (gL Ω 35 x1) fun j7 => lt (sI Ω 35 x1 j7 (gI Ω 35 x1 j6)) fun Ω8 =>
  ix x11 (gL Ω8 35 x1) fun j9 => lt (sI Ω8 35 x1 j9 y5) fun Ω10 =>
  fn_J16_sort_2_320 N K0 x1 x2 x3 x4 x5 x6 x8 x9 x10 x11 x12 x13 Ω10
theorem ct_J16_sort_2_289 {Y : zo_Y} (hY : zo_Gd Y cJ16_sort_2 21 RJ16 2) (hJ : zo_JC (zo_J Y)) (hCon : ∀ Ω, zo_J Y Ω → zo_Con Ω) (hr : zo_rt Y (Option.none : Option Jvm.ClassFile.FieldType)) (N : Nat) (K0 : Nat → Int32 → Int32 → Int32 → zo_O → Option zo_R) (hK0 : ∀ (x1 : Nat) (x2 : Int32) (x3 : Int32) (x4 : Int32) (Ω : zo_O) (res : zo_R), K0 x1 x2 x3 x4 Ω = some res → TW Y res Ω 0 [(0, vo none), (1, vr 35 x1), (2, vi x2), (3, vi x3), (4, vi x4)] []) (x1 : Nat) (x2 : Int32) (x3 : Int32) (x4 : Int32) (x5 : Int32) (x6 : Int32) (x8 : Int32) (x9 : Int32) (x10 : Int32) (x11 : Int32) (x12 : Int32) (x13 : Int32) (Ω : zo_O) (res : zo_R) (h : fn_J16_sort_2_289 N K0 x1 x2 x3 x4 x5 x6 x8 x9 x10 x11 x12 x13 Ω = some res) : TW Y res Ω 289 [(0, vo none), (1, vr 35 x1), (2, vi x2), (3, vi x3), (4, vi x4), (5, vi x5), (6, vi x6), (8, vi x8), (9, vi x9), (10, vi x10), (11, vi x11), (12, vi x12), (13, vi x13)] [] := by
  unfold fn_J16_sort_2_289 at h
  refine zo_aload_n hY dJ16_sort_2_289 rfl 1 rfl ?_
  refine zo_iload hY dJ16_sort_2_290 11 rfl ?_
  refine zo_ald hY (by decide) (Or.inl ⟨rfl, dJ16_sort_2_292⟩) (fun _ => rfl) h (fun j1 h => ?_)
  refine zo_aload_n hY dJ16_sort_2_293 rfl 1 rfl ?_
  refine zo_iload hY dJ16_sort_2_294 10 rfl ?_
  refine zo_ald hY (by decide) (Or.inl ⟨rfl, dJ16_sort_2_296⟩) (fun _ => rfl) h (fun j2 h => ?_)
  refine zo_icmp_ge hY 320 dJ16_sort_2_297 (by decide) h (fun c3 h => ?_) (fun c3 h => ?_)
  · exact ct_J16_sort_2_320 hY hJ hCon hr N K0 hK0 x1 x2 x3 x4 x5 x6 x8 x9 x10 x11 x12 x13 Ω _ h
  · refine zo_aload_n hY dJ16_sort_2_300 rfl 1 rfl ?_
    refine zo_iload hY dJ16_sort_2_301 11 rfl ?_
    refine zo_ald hY (by decide) (Or.inl ⟨rfl, dJ16_sort_2_303⟩) (fun _ => rfl) h (fun j4 h => ?_)
    refine zo_nmi h (fun y5 h => ?_)
    refine zo_istore hY dJ16_sort_2_304 (by decide) rfl (ls' := [(14, vi y5), (0, vo none), (1, vr 35 x1), (2, vi x2), (3, vi x3), (4, vi x4), (5, vi x5), (6, vi x6), (8, vi x8), (9, vi x9), (10, vi x10), (11, vi x11), (12, vi x12), (13, vi x13)]) rfl ?_
    refine zo_aload_n hY dJ16_sort_2_306 rfl 2 rfl ?_
    refine zo_iload hY dJ16_sort_2_307 12 rfl ?_
    refine zo_aload_n hY dJ16_sort_2_309 rfl 2 rfl ?_
    refine zo_iload hY dJ16_sort_2_310 11 rfl ?_
    refine zo_ald hY (by decide) (Or.inl ⟨rfl, dJ16_sort_2_312⟩) (fun _ => rfl) h (fun j6 h => ?_)
    refine zo_ast hY hJ (by decide) (Or.inl ⟨rfl, rfl, dJ16_sort_2_313⟩) (fun _ => rfl) h (fun j7 Ω8 h => ?_)
    refine zo_aload_n hY dJ16_sort_2_314 rfl 2 rfl ?_
    refine zo_iload hY dJ16_sort_2_315 11 rfl ?_
    refine zo_iload hY dJ16_sort_2_317 0 rfl ?_
    refine zo_ast hY hJ (by decide) (Or.inl ⟨rfl, rfl, dJ16_sort_2_319⟩) (fun _ => rfl) h (fun j9 Ω10 h => ?_)
    refine zo_sub [1, 2, 3, 4, 5, 6, 7, 8, 9, 10, 11, 12, 13] rfl ?_
    exact ct_J16_sort_2_320 hY hJ hCon hr N K0 hK0 x1 x2 x3 x4 x5 x6 x8 x9 x10 x11 x12 x13 Ω10 _ h
def fn_J16_sort_2_258 (N : Nat) (K0 : Nat → Int32 → Int32 → Int32 → zo_O → Option zo_R) (x1 : Nat) (x2 : Int32) (x3 : Int32) (x4 : Int32) (x5 : Int32) (x6 : Int32) (x8 : Int32) (x9 : Int32) (x10 : Int32) (x11 : Int32) (x12 : Int32) (x13 : Int32) (Ω : zo_O) : Option zo_R :=
  ix x11 (gL Ω 35 x1) fun j1 =>
  ix x8 (gL Ω 35 x1) fun j2 =>
  if gI Ω 35 x1 j2 ≤ gI Ω 35 x1 j1 then (
    fn_J16_sort_2_289 N K0 x1 x2 x3 x4 x5 x6 x8 x9 x10 x11 x12 x13 Ω
    ) else
  ix x11 (gL Ω 35 x1) fun j4 =>
  li (gI Ω 35 x1 j4) fun y5 =>
  ix x8 (gL Ω 35 x1) fun j6 =>
  ix x11 (gL Ω 35 x1) fun j7 => lt (sI Ω 35 x1 j7 (gI Ω 35 x1 j6)) fun Ω8 =>
  ix x8 (gL Ω8 35 x1) fun j9 => lt (sI Ω8 35 x1 j9 y5) fun Ω10 =>
  fn_J16_sort_2_289 N K0 x1 x2 x3 x4 x5 x6 x8 x9 x10 x11 x12 x13 Ω10
theorem ct_J16_sort_2_258 {Y : zo_Y} (hY : zo_Gd Y cJ16_sort_2 21 RJ16 2) (hJ : zo_JC (zo_J Y)) (hCon : ∀ Ω, zo_J Y Ω → zo_Con Ω) (hr : zo_rt Y (Option.none : Option Jvm.ClassFile.FieldType)) (N : Nat) (K0 : Nat → Int32 → Int32 → Int32 → zo_O → Option zo_R) (hK0 : ∀ (x1 : Nat) (x2 : Int32) (x3 : Int32) (x4 : Int32) (Ω : zo_O) (res : zo_R), K0 x1 x2 x3 x4 Ω = some res → TW Y res Ω 0 [(0, vo none), (1, vr 35 x1), (2, vi x2), (3, vi x3), (4, vi x4)] []) (x1 : Nat) (x2 : Int32) (x3 : Int32) (x4 : Int32) (x5 : Int32) (x6 : Int32) (x8 : Int32) (x9 : Int32) (x10 : Int32) (x11 : Int32) (x12 : Int32) (x13 : Int32) (Ω : zo_O) (res : zo_R) (h : fn_J16_sort_2_258 N K0 x1 x2 x3 x4 x5 x6 x8 x9 x10 x11 x12 x13 Ω = some res) : TW Y res Ω 258 [(0, vo none), (1, vr 35 x1), (2, vi x2), (3, vi x3), (4, vi x4), (5, vi x5), (6, vi x6), (8, vi x8), (9, vi x9), (10, vi x10), (11, vi x11), (12, vi x12), (13, vi x13)] [] := by
  unfold fn_J16_sort_2_258 at h
  refine zo_aload_n hY dJ16_sort_2_258 rfl 1 rfl ?_
  refine zo_iload hY dJ16_sort_2_259 10 rfl ?_
  refine zo_ald hY (by decide) (Or.inl ⟨rfl, dJ16_sort_2_261⟩) (fun _ => rfl) h (fun j1 h => ?_)
  refine zo_aload_n hY dJ16_sort_2_262 rfl 1 rfl ?_
  refine zo_iload hY dJ16_sort_2_263 7 rfl ?_
  refine zo_ald hY (by decide) (Or.inl ⟨rfl, dJ16_sort_2_265⟩) (fun _ => rfl) h (fun j2 h => ?_)
  refine zo_icmp_ge hY 289 dJ16_sort_2_266 (by decide) h (fun c3 h => ?_) (fun c3 h => ?_)
  · exact ct_J16_sort_2_289 hY hJ hCon hr N K0 hK0 x1 x2 x3 x4 x5 x6 x8 x9 x10 x11 x12 x13 Ω _ h
  · refine zo_aload_n hY dJ16_sort_2_269 rfl 1 rfl ?_
    refine zo_iload hY dJ16_sort_2_270 10 rfl ?_
    refine zo_ald hY (by decide) (Or.inl ⟨rfl, dJ16_sort_2_272⟩) (fun _ => rfl) h (fun j4 h => ?_)
    refine zo_nmi h (fun y5 h => ?_)
    refine zo_istore hY dJ16_sort_2_273 (by decide) rfl (ls' := [(14, vi y5), (0, vo none), (1, vr 35 x1), (2, vi x2), (3, vi x3), (4, vi x4), (5, vi x5), (6, vi x6), (8, vi x8), (9, vi x9), (10, vi x10), (11, vi x11), (12, vi x12), (13, vi x13)]) rfl ?_
    refine zo_aload_n hY dJ16_sort_2_275 rfl 2 rfl ?_
    refine zo_iload hY dJ16_sort_2_276 11 rfl ?_
    refine zo_aload_n hY dJ16_sort_2_278 rfl 2 rfl ?_
    refine zo_iload hY dJ16_sort_2_279 8 rfl ?_
    refine zo_ald hY (by decide) (Or.inl ⟨rfl, dJ16_sort_2_281⟩) (fun _ => rfl) h (fun j6 h => ?_)
    refine zo_ast hY hJ (by decide) (Or.inl ⟨rfl, rfl, dJ16_sort_2_282⟩) (fun _ => rfl) h (fun j7 Ω8 h => ?_)
    refine zo_aload_n hY dJ16_sort_2_283 rfl 2 rfl ?_
    refine zo_iload hY dJ16_sort_2_284 8 rfl ?_
    refine zo_iload hY dJ16_sort_2_286 0 rfl ?_
    refine zo_ast hY hJ (by decide) (Or.inl ⟨rfl, rfl, dJ16_sort_2_288⟩) (fun _ => rfl) h (fun j9 Ω10 h => ?_)
    refine zo_sub [1, 2, 3, 4, 5, 6, 7, 8, 9, 10, 11, 12, 13] rfl ?_
    exact ct_J16_sort_2_289 hY hJ hCon hr N K0 hK0 x1 x2 x3 x4 x5 x6 x8 x9 x10 x11 x12 x13 Ω10 _ h
def fn_J16_sort_2_227 (N : Nat) (K0 : Nat → Int32 → Int32 → Int32 → zo_O → Option zo_R) (x1 : Nat) (x2 : Int32) (x3 : Int32) (x4 : Int32) (x5 : Int32) (x6 : Int32) (x8 : Int32) (x9 : Int32) (x10 : Int32) (x11 : Int32) (x12 : Int32) (x13 : Int32) (Ω : zo_O) : Option zo_R :=
  ix x9 (gL Ω 35 x1) fun j1 =>
  ix x12 (gL Ω 35 x1) fun j2 =>
  if gI Ω 35 x1 j2 ≤ gI Ω 35 x1 j1 then (
    fn_J16_sort_2_258 N K0 x1 x2 x3 x4 x5 x6 x8 x9 x10 x11 x12 x13 Ω
    ) else
  ix x9 (gL Ω 35 x1) fun j4 =>
  li (gI Ω 35 x1 j4) fun y5 =>
  ix x12 (gL Ω 35 x1) fun j6 =>
  ix x9 (gL Ω 35 x1) fun j7 => lt (sI Ω 35 x1 j7 (gI Ω 35 x1 j6)) fun Ω8 =>
  ix x12 (gL Ω8 35 x1) fun j9 => lt (sI Ω8 35 x1 j9 y5) fun Ω10 =>
  fn_J16_sort_2_258 N K0 x1 x2 x3 x4 x5 x6 x8 x9 x10 x11 x12 x13 Ω10
theorem ct_J16_sort_2_227 {Y : zo_Y} (hY : zo_Gd Y cJ16_sort_2 21 RJ16 2) (hJ : zo_JC (zo_J Y)) (hCon : ∀ Ω, zo_J Y Ω → zo_Con Ω) (hr : zo_rt Y (Option.none : Option Jvm.ClassFile.FieldType)) (N : Nat) (K0 : Nat → Int32 → Int32 → Int32 → zo_O → Option zo_R) (hK0 : ∀ (x1 : Nat) (x2 : Int32) (x3 : Int32) (x4 : Int32) (Ω : zo_O) (res : zo_R), K0 x1 x2 x3 x4 Ω = some res → TW Y res Ω 0 [(0, vo none), (1, vr 35 x1), (2, vi x2), (3, vi x3), (4, vi x4)] []) (x1 : Nat) (x2 : Int32) (x3 : Int32) (x4 : Int32) (x5 : Int32) (x6 : Int32) (x8 : Int32) (x9 : Int32) (x10 : Int32) (x11 : Int32) (x12 : Int32) (x13 : Int32) (Ω : zo_O) (res : zo_R) (h : fn_J16_sort_2_227 N K0 x1 x2 x3 x4 x5 x6 x8 x9 x10 x11 x12 x13 Ω = some res) : TW Y res Ω 227 [(0, vo none), (1, vr 35 x1), (2, vi x2), (3, vi x3), (4, vi x4), (5, vi x5), (6, vi x6), (8, vi x8), (9, vi x9), (10, vi x10), (11, vi x11), (12, vi x12), (13, vi x13)] [] := by
  unfold fn_J16_sort_2_227 at h
  refine zo_aload_n hY dJ16_sort_2_227 rfl 1 rfl ?_
  refine zo_iload hY dJ16_sort_2_228 8 rfl ?_
  refine zo_ald hY (by decide) (Or.inl ⟨rfl, dJ16_sort_2_230⟩) (fun _ => rfl) h (fun j1 h => ?_)
  refine zo_aload_n hY dJ16_sort_2_231 rfl 1 rfl ?_
  refine zo_iload hY dJ16_sort_2_232 11 rfl ?_
  refine zo_ald hY (by decide) (Or.inl ⟨rfl, dJ16_sort_2_234⟩) (fun _ => rfl) h (fun j2 h => ?_)
  refine zo_icmp_ge hY 258 dJ16_sort_2_235 (by decide) h (fun c3 h => ?_) (fun c3 h => ?_)
  · exact ct_J16_sort_2_258 hY hJ hCon hr N K0 hK0 x1 x2 x3 x4 x5 x6 x8 x9 x10 x11 x12 x13 Ω _ h
  · refine zo_aload_n hY dJ16_sort_2_238 rfl 1 rfl ?_
    refine zo_iload hY dJ16_sort_2_239 8 rfl ?_
    refine zo_ald hY (by decide) (Or.inl ⟨rfl, dJ16_sort_2_241⟩) (fun _ => rfl) h (fun j4 h => ?_)
    refine zo_nmi h (fun y5 h => ?_)
    refine zo_istore hY dJ16_sort_2_242 (by decide) rfl (ls' := [(14, vi y5), (0, vo none), (1, vr 35 x1), (2, vi x2), (3, vi x3), (4, vi x4), (5, vi x5), (6, vi x6), (8, vi x8), (9, vi x9), (10, vi x10), (11, vi x11), (12, vi x12), (13, vi x13)]) rfl ?_
    refine zo_aload_n hY dJ16_sort_2_244 rfl 2 rfl ?_
    refine zo_iload hY dJ16_sort_2_245 9 rfl ?_
    refine zo_aload_n hY dJ16_sort_2_247 rfl 2 rfl ?_
    refine zo_iload hY dJ16_sort_2_248 12 rfl ?_
    refine zo_ald hY (by decide) (Or.inl ⟨rfl, dJ16_sort_2_250⟩) (fun _ => rfl) h (fun j6 h => ?_)
    refine zo_ast hY hJ (by decide) (Or.inl ⟨rfl, rfl, dJ16_sort_2_251⟩) (fun _ => rfl) h (fun j7 Ω8 h => ?_)
    refine zo_aload_n hY dJ16_sort_2_252 rfl 2 rfl ?_
    refine zo_iload hY dJ16_sort_2_253 12 rfl ?_
    refine zo_iload hY dJ16_sort_2_255 0 rfl ?_
    refine zo_ast hY hJ (by decide) (Or.inl ⟨rfl, rfl, dJ16_sort_2_257⟩) (fun _ => rfl) h (fun j9 Ω10 h => ?_)
    refine zo_sub [1, 2, 3, 4, 5, 6, 7, 8, 9, 10, 11, 12, 13] rfl ?_
    exact ct_J16_sort_2_258 hY hJ hCon hr N K0 hK0 x1 x2 x3 x4 x5 x6 x8 x9 x10 x11 x12 x13 Ω10 _ h
def fn_J16_sort_2_196 (N : Nat) (K0 : Nat → Int32 → Int32 → Int32 → zo_O → Option zo_R) (x1 : Nat) (x2 : Int32) (x3 : Int32) (x4 : Int32) (x5 : Int32) (x6 : Int32) (x8 : Int32) (x9 : Int32) (x10 : Int32) (x11 : Int32) (x12 : Int32) (x13 : Int32) (Ω : zo_O) : Option zo_R :=
  ix x12 (gL Ω 35 x1) fun j1 =>
  ix x8 (gL Ω 35 x1) fun j2 =>
  if gI Ω 35 x1 j2 ≤ gI Ω 35 x1 j1 then (
    fn_J16_sort_2_227 N K0 x1 x2 x3 x4 x5 x6 x8 x9 x10 x11 x12 x13 Ω
    ) else
  ix x12 (gL Ω 35 x1) fun j4 =>
  li (gI Ω 35 x1 j4) fun y5 =>
  ix x8 (gL Ω 35 x1) fun j6 =>
  ix x12 (gL Ω 35 x1) fun j7 => lt (sI Ω 35 x1 j7 (gI Ω 35 x1 j6)) fun Ω8 =>
  ix x8 (gL Ω8 35 x1) fun j9 => lt (sI Ω8 35 x1 j9 y5) fun Ω10 =>
  fn_J16_sort_2_227 N K0 x1 x2 x3 x4 x5 x6 x8 x9 x10 x11 x12 x13 Ω10
theorem ct_J16_sort_2_196 {Y : zo_Y} (hY : zo_Gd Y cJ16_sort_2 21 RJ16 2) (hJ : zo_JC (zo_J Y)) (hCon : ∀ Ω, zo_J Y Ω → zo_Con Ω) (hr : zo_rt Y (Option.none : Option Jvm.ClassFile.FieldType)) (N : Nat) (K0 : Nat → Int32 → Int32 → Int32 → zo_O → Option zo_R) (hK0 : ∀ (x1 : Nat) (x2 : Int32) (x3 : Int32) (x4 : Int32) (Ω : zo_O) (res : zo_R), K0 x1 x2 x3 x4 Ω = some res → TW Y res Ω 0 [(0, vo none), (1, vr 35 x1), (2, vi x2), (3, vi x3), (4, vi x4)] []) (x1 : Nat) (x2 : Int32) (x3 : Int32) (x4 : Int32) (x5 : Int32) (x6 : Int32) (x8 : Int32) (x9 : Int32) (x10 : Int32) (x11 : Int32) (x12 : Int32) (x13 : Int32) (Ω : zo_O) (res : zo_R) (h : fn_J16_sort_2_196 N K0 x1 x2 x3 x4 x5 x6 x8 x9 x10 x11 x12 x13 Ω = some res) : TW Y res Ω 196 [(0, vo none), (1, vr 35 x1), (2, vi x2), (3, vi x3), (4, vi x4), (5, vi x5), (6, vi x6), (8, vi x8), (9, vi x9), (10, vi x10), (11, vi x11), (12, vi x12), (13, vi x13)] [] := by
  unfold fn_J16_sort_2_196 at h
  refine zo_aload_n hY dJ16_sort_2_196 rfl 1 rfl ?_
  refine zo_iload hY dJ16_sort_2_197 11 rfl ?_
  refine zo_ald hY (by decide) (Or.inl ⟨rfl, dJ16_sort_2_199⟩) (fun _ => rfl) h (fun j1 h => ?_)
  refine zo_aload_n hY dJ16_sort_2_200 rfl 1 rfl ?_
  refine zo_iload hY dJ16_sort_2_201 7 rfl ?_
  refine zo_ald hY (by decide) (Or.inl ⟨rfl, dJ16_sort_2_203⟩) (fun _ => rfl) h (fun j2 h => ?_)
  refine zo_icmp_ge hY 227 dJ16_sort_2_204 (by decide) h (fun c3 h => ?_) (fun c3 h => ?_)
  · exact ct_J16_sort_2_227 hY hJ hCon hr N K0 hK0 x1 x2 x3 x4 x5 x6 x8 x9 x10 x11 x12 x13 Ω _ h
  · refine zo_aload_n hY dJ16_sort_2_207 rfl 1 rfl ?_
    refine zo_iload hY dJ16_sort_2_208 11 rfl ?_
    refine zo_ald hY (by decide) (Or.inl ⟨rfl, dJ16_sort_2_210⟩) (fun _ => rfl) h (fun j4 h => ?_)
    refine zo_nmi h (fun y5 h => ?_)
    refine zo_istore hY dJ16_sort_2_211 (by decide) rfl (ls' := [(14, vi y5), (0, vo none), (1, vr 35 x1), (2, vi x2), (3, vi x3), (4, vi x4), (5, vi x5), (6, vi x6), (8, vi x8), (9, vi x9), (10, vi x10), (11, vi x11), (12, vi x12), (13, vi x13)]) rfl ?_
    refine zo_aload_n hY dJ16_sort_2_213 rfl 2 rfl ?_
    refine zo_iload hY dJ16_sort_2_214 12 rfl ?_
    refine zo_aload_n hY dJ16_sort_2_216 rfl 2 rfl ?_
    refine zo_iload hY dJ16_sort_2_217 8 rfl ?_
    refine zo_ald hY (by decide) (Or.inl ⟨rfl, dJ16_sort_2_219⟩) (fun _ => rfl) h (fun j6 h => ?_)
    refine zo_ast hY hJ (by decide) (Or.inl ⟨rfl, rfl, dJ16_sort_2_220⟩) (fun _ => rfl) h (fun j7 Ω8 h => ?_)
    refine zo_aload_n hY dJ16_sort_2_221 rfl 2 rfl ?_
    refine zo_iload hY dJ16_sort_2_222 8 rfl ?_
    refine zo_iload hY dJ16_sort_2_224 0 rfl ?_
    refine zo_ast hY hJ (by decide) (Or.inl ⟨rfl, rfl, dJ16_sort_2_226⟩) (fun _ => rfl) h (fun j9 Ω10 h => ?_)
    refine zo_sub [1, 2, 3, 4, 5, 6, 7, 8, 9, 10, 11, 12, 13] rfl ?_
    exact ct_J16_sort_2_227 hY hJ hCon hr N K0 hK0 x1 x2 x3 x4 x5 x6 x8 x9 x10 x11 x12 x13 Ω10 _ h
def fn_J16_sort_2_91 (N : Nat) (K0 : Nat → Int32 → Int32 → Int32 → zo_O → Option zo_R) (x1 : Nat) (x2 : Int32) (x3 : Int32) (x4 : Int32) (x5 : Int32) (x6 : Int32) (Ω : zo_O) : Option zo_R :=
  if x2 + 6 ≤ 384 then (
    li (((x6 >>> ((3 : Int32) &&& 31)) * 3) + 3) fun y2 =>
    li (x3 + y2) fun y3 =>
    li (x5 - y2) fun y4 =>
    li (((y3 + y4).toUInt32 >>> ((1 : Int32).toUInt32 &&& Int32.toUInt32 31)).toInt32) fun y5 =>
    li (((y3 + y5).toUInt32 >>> ((1 : Int32).toUInt32 &&& Int32.toUInt32 31)).toInt32) fun y6 =>
    li (((y5 + y4).toUInt32 >>> ((1 : Int32).toUInt32 &&& Int32.toUInt32 31)).toInt32) fun y7 =>
    ix y5 (gL Ω 35 x1) fun j8 =>
    li (gI Ω 35 x1 j8) fun y9 =>
    ix y4 (gL Ω 35 x1) fun j10 =>
    ix y6 (gL Ω 35 x1) fun j11 =>
    if gI Ω 35 x1 j11 ≤ gI Ω 35 x1 j10 then (
      fn_J16_sort_2_196 N K0 x1 (x2 + 6) x3 x4 x5 x6 y3 y4 y5 y6 y7 y9 Ω
      ) else
    ix y4 (gL Ω 35 x1) fun j13 =>
    li (gI Ω 35 x1 j13) fun y14 =>
    ix y6 (gL Ω 35 x1) fun j15 =>
    ix y4 (gL Ω 35 x1) fun j16 => lt (sI Ω 35 x1 j16 (gI Ω 35 x1 j15)) fun Ω17 =>
    ix y6 (gL Ω17 35 x1) fun j18 => lt (sI Ω17 35 x1 j18 y14) fun Ω19 =>
    fn_J16_sort_2_196 N K0 x1 (x2 + 6) x3 x4 x5 x6 y3 y4 y5 y6 y7 y9 Ω19
    ) else
  none
theorem ct_J16_sort_2_91 {Y : zo_Y} (hY : zo_Gd Y cJ16_sort_2 21 RJ16 2) (hJ : zo_JC (zo_J Y)) (hCon : ∀ Ω, zo_J Y Ω → zo_Con Ω) (hr : zo_rt Y (Option.none : Option Jvm.ClassFile.FieldType)) (N : Nat) (K0 : Nat → Int32 → Int32 → Int32 → zo_O → Option zo_R) (hK0 : ∀ (x1 : Nat) (x2 : Int32) (x3 : Int32) (x4 : Int32) (Ω : zo_O) (res : zo_R), K0 x1 x2 x3 x4 Ω = some res → TW Y res Ω 0 [(0, vo none), (1, vr 35 x1), (2, vi x2), (3, vi x3), (4, vi x4)] []) (x1 : Nat) (x2 : Int32) (x3 : Int32) (x4 : Int32) (x5 : Int32) (x6 : Int32) (Ω : zo_O) (res : zo_R) (h : fn_J16_sort_2_91 N K0 x1 x2 x3 x4 x5 x6 Ω = some res) : TW Y res Ω 91 [(0, vo none), (1, vr 35 x1), (2, vi x2), (3, vi x3), (4, vi x4), (5, vi x5), (6, vi x6)] [] := by
  unfold fn_J16_sort_2_91 at h
  refine zo_iinc hY 6 dJ16_sort_2_91 (by decide) (by decide) 2 rfl rfl (ls' := [(2, vi (x2 + 6)), (0, vo none), (1, vr 35 x1), (3, vi x3), (4, vi x4), (5, vi x5), (6, vi x6)]) rfl ?_
  refine zo_iload_n hY dJ16_sort_2_94 rfl 0 rfl ?_
  refine zo_sipush hY 384 (by decide) dJ16_sort_2_95 ?_
  refine zo_icmp_le hY 109 dJ16_sort_2_98 (by decide) h (fun c1 h => ?_) (fun c1 h => ?_)
  · refine zo_iload hY dJ16_sort_2_109 6 rfl ?_
    refine zo_iconst hY 3 (by decide) dJ16_sort_2_111 ?_
    refine zo_ishr hY dJ16_sort_2_112 ?_
    refine zo_iconst hY 3 (by decide) dJ16_sort_2_113 ?_
    refine zo_imul hY dJ16_sort_2_114 ?_
    refine zo_iconst hY 3 (by decide) dJ16_sort_2_115 ?_
    refine zo_iadd hY dJ16_sort_2_116 ?_
    refine zo_nmi h (fun y2 h => ?_)
    refine zo_istore hY dJ16_sort_2_117 (by decide) rfl (ls' := [(7, vi y2), (2, vi (x2 + 6)), (0, vo none), (1, vr 35 x1), (3, vi x3), (4, vi x4), (5, vi x5), (6, vi x6)]) rfl ?_
    refine zo_iload_n hY dJ16_sort_2_119 rfl 4 rfl ?_
    refine zo_iload hY dJ16_sort_2_120 0 rfl ?_
    refine zo_iadd hY dJ16_sort_2_122 ?_
    refine zo_nmi h (fun y3 h => ?_)
    refine zo_istore hY dJ16_sort_2_123 (by decide) rfl (ls' := [(8, vi y3), (7, vi y2), (2, vi (x2 + 6)), (0, vo none), (1, vr 35 x1), (3, vi x3), (4, vi x4), (5, vi x5), (6, vi x6)]) rfl ?_
    refine zo_iload hY dJ16_sort_2_125 7 rfl ?_
    refine zo_iload hY dJ16_sort_2_127 1 rfl ?_
    refine zo_isub hY dJ16_sort_2_129 ?_
    refine zo_nmi h (fun y4 h => ?_)
    refine zo_istore hY dJ16_sort_2_130 (by decide) rfl (ls' := [(9, vi y4), (8, vi y3), (7, vi y2), (2, vi (x2 + 6)), (0, vo none), (1, vr 35 x1), (3, vi x3), (4, vi x4), (5, vi x5), (6, vi x6)]) rfl ?_
    refine zo_iload hY dJ16_sort_2_132 1 rfl ?_
    refine zo_iload hY dJ16_sort_2_134 0 rfl ?_
    refine zo_iadd hY dJ16_sort_2_136 ?_
    refine zo_iconst hY 1 (by decide) dJ16_sort_2_137 ?_
    refine zo_iushr hY dJ16_sort_2_138 ?_
    refine zo_nmi h (fun y5 h => ?_)
    refine zo_istore hY dJ16_sort_2_139 (by decide) rfl (ls' := [(10, vi y5), (9, vi y4), (8, vi y3), (7, vi y2), (2, vi (x2 + 6)), (0, vo none), (1, vr 35 x1), (3, vi x3), (4, vi x4), (5, vi x5), (6, vi x6)]) rfl ?_
    refine zo_iload hY dJ16_sort_2_141 2 rfl ?_
    refine zo_iload hY dJ16_sort_2_143 0 rfl ?_
    refine zo_iadd hY dJ16_sort_2_145 ?_
    refine zo_iconst hY 1 (by decide) dJ16_sort_2_146 ?_
    refine zo_iushr hY dJ16_sort_2_147 ?_
    refine zo_nmi h (fun y6 h => ?_)
    refine zo_istore hY dJ16_sort_2_148 (by decide) rfl (ls' := [(11, vi y6), (10, vi y5), (9, vi y4), (8, vi y3), (7, vi y2), (2, vi (x2 + 6)), (0, vo none), (1, vr 35 x1), (3, vi x3), (4, vi x4), (5, vi x5), (6, vi x6)]) rfl ?_
    refine zo_iload hY dJ16_sort_2_150 1 rfl ?_
    refine zo_iload hY dJ16_sort_2_152 2 rfl ?_
    refine zo_iadd hY dJ16_sort_2_154 ?_
    refine zo_iconst hY 1 (by decide) dJ16_sort_2_155 ?_
    refine zo_iushr hY dJ16_sort_2_156 ?_
    refine zo_nmi h (fun y7 h => ?_)
    refine zo_istore hY dJ16_sort_2_157 (by decide) rfl (ls' := [(12, vi y7), (11, vi y6), (10, vi y5), (9, vi y4), (8, vi y3), (7, vi y2), (2, vi (x2 + 6)), (0, vo none), (1, vr 35 x1), (3, vi x3), (4, vi x4), (5, vi x5), (6, vi x6)]) rfl ?_
    refine zo_aload_n hY dJ16_sort_2_159 rfl 8 rfl ?_
    refine zo_iload hY dJ16_sort_2_160 2 rfl ?_
    refine zo_ald hY (by decide) (Or.inl ⟨rfl, dJ16_sort_2_162⟩) (fun _ => rfl) h (fun j8 h => ?_)
    refine zo_nmi h (fun y9 h => ?_)
    refine zo_istore hY dJ16_sort_2_163 (by decide) rfl (ls' := [(13, vi y9), (12, vi y7), (11, vi y6), (10, vi y5), (9, vi y4), (8, vi y3), (7, vi y2), (2, vi (x2 + 6)), (0, vo none), (1, vr 35 x1), (3, vi x3), (4, vi x4), (5, vi x5), (6, vi x6)]) rfl ?_
    refine zo_aload_n hY dJ16_sort_2_165 rfl 9 rfl ?_
    refine zo_iload hY dJ16_sort_2_166 4 rfl ?_
    refine zo_ald hY (by decide) (Or.inl ⟨rfl, dJ16_sort_2_168⟩) (fun _ => rfl) h (fun j10 h => ?_)
    refine zo_aload_n hY dJ16_sort_2_169 rfl 9 rfl ?_
    refine zo_iload hY dJ16_sort_2_170 2 rfl ?_
    refine zo_ald hY (by decide) (Or.inl ⟨rfl, dJ16_sort_2_172⟩) (fun _ => rfl) h (fun j11 h => ?_)
    refine zo_icmp_ge hY 196 dJ16_sort_2_173 (by decide) h (fun c12 h => ?_) (fun c12 h => ?_)
    · refine zo_sub [8, 9, 7, 10, 11, 12, 13, 5, 4, 3, 2, 1, 0] rfl ?_
      exact ct_J16_sort_2_196 hY hJ hCon hr N K0 hK0 x1 (x2 + 6) x3 x4 x5 x6 y3 y4 y5 y6 y7 y9 Ω _ h
    · refine zo_aload_n hY dJ16_sort_2_176 rfl 9 rfl ?_
      refine zo_iload hY dJ16_sort_2_177 4 rfl ?_
      refine zo_ald hY (by decide) (Or.inl ⟨rfl, dJ16_sort_2_179⟩) (fun _ => rfl) h (fun j13 h => ?_)
      refine zo_nmi h (fun y14 h => ?_)
      refine zo_istore hY dJ16_sort_2_180 (by decide) rfl (ls' := [(14, vi y14), (13, vi y9), (12, vi y7), (11, vi y6), (10, vi y5), (9, vi y4), (8, vi y3), (7, vi y2), (2, vi (x2 + 6)), (0, vo none), (1, vr 35 x1), (3, vi x3), (4, vi x4), (5, vi x5), (6, vi x6)]) rfl ?_
      refine zo_aload_n hY dJ16_sort_2_182 rfl 10 rfl ?_
      refine zo_iload hY dJ16_sort_2_183 5 rfl ?_
      refine zo_aload_n hY dJ16_sort_2_185 rfl 10 rfl ?_
      refine zo_iload hY dJ16_sort_2_186 3 rfl ?_
      refine zo_ald hY (by decide) (Or.inl ⟨rfl, dJ16_sort_2_188⟩) (fun _ => rfl) h (fun j15 h => ?_)
      refine zo_ast hY hJ (by decide) (Or.inl ⟨rfl, rfl, dJ16_sort_2_189⟩) (fun _ => rfl) h (fun j16 Ω17 h => ?_)
      refine zo_aload_n hY dJ16_sort_2_190 rfl 10 rfl ?_
      refine zo_iload hY dJ16_sort_2_191 3 rfl ?_
      refine zo_iload hY dJ16_sort_2_193 0 rfl ?_
      refine zo_ast hY hJ (by decide) (Or.inl ⟨rfl, rfl, dJ16_sort_2_195⟩) (fun _ => rfl) h (fun j18 Ω19 h => ?_)
      refine zo_sub [9, 10, 8, 11, 12, 13, 14, 6, 5, 4, 3, 2, 1] rfl ?_
      exact ct_J16_sort_2_196 hY hJ hCon hr N K0 hK0 x1 (x2 + 6) x3 x4 x5 x6 y3 y4 y5 y6 y7 y9 Ω19 _ h
  · refine zo_aload_n hY dJ16_sort_2_101 rfl 2 rfl ?_
    refine zo_iload_n hY dJ16_sort_2_102 rfl 3 rfl ?_
    refine zo_iload hY dJ16_sort_2_103 4 rfl ?_
    cases h
def fn_J16_sort_2_79 (N : Nat) (K0 : Nat → Int32 → Int32 → Int32 → zo_O → Option zo_R) (x1 : Nat) (x2 : Int32) (x3 : Int32) (x4 : Int32) (x5 : Int32) (x6 : Int32) (Ω : zo_O) : Option zo_R :=
  ci (fn_J16_tryMergeRuns N x1 x3 x6 Ω) fun r2 Ω1 =>
  if r2 = 0 then (
    fn_J16_sort_2_91 N K0 x1 x2 x3 x4 x5 x6 Ω1
    ) else
  rV Ω1
theorem ct_J16_sort_2_79 {Y : zo_Y} (hY : zo_Gd Y cJ16_sort_2 21 RJ16 2) (hJ : zo_JC (zo_J Y)) (hCon : ∀ Ω, zo_J Y Ω → zo_Con Ω) (hr : zo_rt Y (Option.none : Option Jvm.ClassFile.FieldType)) (N : Nat) (K0 : Nat → Int32 → Int32 → Int32 → zo_O → Option zo_R) (hK0 : ∀ (x1 : Nat) (x2 : Int32) (x3 : Int32) (x4 : Int32) (Ω : zo_O) (res : zo_R), K0 x1 x2 x3 x4 Ω = some res → TW Y res Ω 0 [(0, vo none), (1, vr 35 x1), (2, vi x2), (3, vi x3), (4, vi x4)] []) (x1 : Nat) (x2 : Int32) (x3 : Int32) (x4 : Int32) (x5 : Int32) (x6 : Int32) (Ω : zo_O) (res : zo_R) (h : fn_J16_sort_2_79 N K0 x1 x2 x3 x4 x5 x6 Ω = some res) : TW Y res Ω 79 [(0, vo none), (1, vr 35 x1), (2, vi x2), (3, vi x3), (4, vi x4), (5, vi x5), (6, vi x6)] [] := by
  unfold fn_J16_sort_2_79 at h
  refine zo_aload_n hY dJ16_sort_2_79 rfl 0 rfl ?_
  refine zo_aload_n hY dJ16_sort_2_80 rfl 1 rfl ?_
  refine zo_iload_n hY dJ16_sort_2_81 rfl 3 rfl ?_
  refine zo_iload hY dJ16_sort_2_82 6 rfl ?_
  refine zo_callS hY (fun q hq => mt_J16_tryMergeRuns hJ hCon N x1 x3 x6 Ω q hq) (by decide) (by decide) cn_J16_tryMergeRuns rfl q1177 q1178 q117 q1179 (Nat.le_of_ble_eq_true rfl) dJ16_sort_2_84 rfl h (ci_k (fun r2 Ω1 res h => ?_))
  refine zo_if_eq hY 91 dJ16_sort_2_87 (by decide) h (fun c3 h => ?_) (fun c3 h => ?_)
  · exact ct_J16_sort_2_91 hY hJ hCon hr N K0 hK0 x1 x2 x3 x4 x5 x6 Ω1 _ h
  · exact zo_vret hY hr dJ16_sort_2_90 h
def fn_J16_sort_2_46 (N : Nat) (K0 : Nat → Int32 → Int32 → Int32 → zo_O → Option zo_R) (x1 : Nat) (x2 : Int32) (x3 : Int32) (x4 : Int32) (x5 : Int32) (x6 : Int32) (Ω : zo_O) : Option zo_R :=
  if 44 ≤ x6 then (
    if x2 = 0 then (
      fn_J16_sort_2_79 N K0 x1 x2 x3 x4 x5 x6 Ω
      ) else
    if x6 ≤ 4096 then (
      fn_J16_sort_2_91 N K0 x1 x2 x3 x4 x5 x6 Ω
      ) else
    if x2 &&& 1 ≤ 0 then (
      fn_J16_sort_2_91 N K0 x1 x2 x3 x4 x5 x6 Ω
      ) else
    fn_J16_sort_2_79 N K0 x1 x2 x3 x4 x5 x6 Ω
    ) else
  cv (fn_J16_insertionSort N x1 x3 x4 Ω) fun Ω5 =>
  rV Ω5
theorem ct_J16_sort_2_46 {Y : zo_Y} (hY : zo_Gd Y cJ16_sort_2 21 RJ16 2) (hJ : zo_JC (zo_J Y)) (hCon : ∀ Ω, zo_J Y Ω → zo_Con Ω) (hr : zo_rt Y (Option.none : Option Jvm.ClassFile.FieldType)) (N : Nat) (K0 : Nat → Int32 → Int32 → Int32 → zo_O → Option zo_R) (hK0 : ∀ (x1 : Nat) (x2 : Int32) (x3 : Int32) (x4 : Int32) (Ω : zo_O) (res : zo_R), K0 x1 x2 x3 x4 Ω = some res → TW Y res Ω 0 [(0, vo none), (1, vr 35 x1), (2, vi x2), (3, vi x3), (4, vi x4)] []) (x1 : Nat) (x2 : Int32) (x3 : Int32) (x4 : Int32) (x5 : Int32) (x6 : Int32) (Ω : zo_O) (res : zo_R) (h : fn_J16_sort_2_46 N K0 x1 x2 x3 x4 x5 x6 Ω = some res) : TW Y res Ω 46 [(0, vo none), (1, vr 35 x1), (2, vi x2), (3, vi x3), (4, vi x4), (5, vi x5), (6, vi x6)] [] := by
  unfold fn_J16_sort_2_46 at h
  refine zo_iload hY dJ16_sort_2_46 6 rfl ?_
  refine zo_bipush hY 44 (by decide) dJ16_sort_2_48 ?_
  refine zo_icmp_ge hY 61 dJ16_sort_2_50 (by decide) h (fun c1 h => ?_) (fun c1 h => ?_)
  · refine zo_iload_n hY dJ16_sort_2_61 rfl 2 rfl ?_
    refine zo_if_eq hY 79 dJ16_sort_2_62 (by decide) h (fun c2 h => ?_) (fun c2 h => ?_)
    · exact ct_J16_sort_2_79 hY hJ hCon hr N K0 hK0 x1 x2 x3 x4 x5 x6 Ω _ h
    · refine zo_iload hY dJ16_sort_2_65 6 rfl ?_
      refine zo_sipush hY 4096 (by decide) dJ16_sort_2_67 ?_
      refine zo_icmp_le hY 91 dJ16_sort_2_70 (by decide) h (fun c3 h => ?_) (fun c3 h => ?_)
      · exact ct_J16_sort_2_91 hY hJ hCon hr N K0 hK0 x1 x2 x3 x4 x5 x6 Ω _ h
      · refine zo_iload_n hY dJ16_sort_2_73 rfl 2 rfl ?_
        refine zo_iconst hY 1 (by decide) dJ16_sort_2_74 ?_
        refine zo_iand hY dJ16_sort_2_75 ?_
        refine zo_if_le hY 91 dJ16_sort_2_76 (by decide) h (fun c4 h => ?_) (fun c4 h => ?_)
        · exact ct_J16_sort_2_91 hY hJ hCon hr N K0 hK0 x1 x2 x3 x4 x5 x6 Ω _ h
        · exact ct_J16_sort_2_79 hY hJ hCon hr N K0 hK0 x1 x2 x3 x4 x5 x6 Ω _ h
  · refine zo_aload_n hY dJ16_sort_2_53 rfl 1 rfl ?_
    refine zo_iload_n hY dJ16_sort_2_54 rfl 3 rfl ?_
    refine zo_iload hY dJ16_sort_2_55 4 rfl ?_
    refine zo_callS hY (fun q hq => mt_J16_insertionSort hJ hCon N x1 x3 x4 Ω q hq) (by decide) (by decide) cn_J16_insertionSort rfl q1174 q1175 q117 q1176 (Nat.le_of_ble_eq_true rfl) dJ16_sort_2_57 rfl h (cv_k (fun Ω5 res h => ?_))
    exact zo_vret hY hr dJ16_sort_2_60 h
def bd_J16_sort_2_0 (N : Nat)  (K0 : Nat → Int32 → Int32 → Int32 → zo_O → Option zo_R) (x1 : Nat) (x2 : Int32) (x3 : Int32) (x4 : Int32) (Ω : zo_O) : Option zo_R :=
  li (x4 - 1) fun y1 =>
  li (x4 - x3) fun y2 =>
  if 65 + x2 ≤ y2 then (
    fn_J16_sort_2_46 N K0 x1 x2 x3 x4 y1 y2 Ω
    ) else
  if x2 &&& 1 ≤ 0 then (
    fn_J16_sort_2_46 N K0 x1 x2 x3 x4 y1 y2 Ω
    ) else
  cv (fn_J16_mixedInsertionSort N x1 x3 (x4 - (3 * ((y2 >>> ((5 : Int32) &&& 31)) <<< ((3 : Int32) &&& 31)))) x4 Ω) fun Ω5 =>
  rV Ω5
theorem cb_J16_sort_2_0 {Y : zo_Y} (hY : zo_Gd Y cJ16_sort_2 21 RJ16 2) (hJ : zo_JC (zo_J Y)) (hCon : ∀ Ω, zo_J Y Ω → zo_Con Ω) (hr : zo_rt Y (Option.none : Option Jvm.ClassFile.FieldType)) (N : Nat)  (K0 : Nat → Int32 → Int32 → Int32 → zo_O → Option zo_R)  (hK0 : ∀ (x1 : Nat) (x2 : Int32) (x3 : Int32) (x4 : Int32) (Ω : zo_O) (res : zo_R), K0 x1 x2 x3 x4 Ω = some res → TW Y res Ω 0 [(0, vo none), (1, vr 35 x1), (2, vi x2), (3, vi x3), (4, vi x4)] []) (x1 : Nat) (x2 : Int32) (x3 : Int32) (x4 : Int32) (Ω : zo_O) (res : zo_R) (h : bd_J16_sort_2_0 N  K0 x1 x2 x3 x4 Ω = some res) : TW Y res Ω 0 [(0, vo none), (1, vr 35 x1), (2, vi x2), (3, vi x3), (4, vi x4)] [] := by
  unfold bd_J16_sort_2_0 at h
  refine zo_iload hY dJ16_sort_2_0 4 rfl ?_
  refine zo_iconst hY 1 (by decide) dJ16_sort_2_2 ?_
  refine zo_isub hY dJ16_sort_2_3 ?_
  refine zo_nmi h (fun y1 h => ?_)
  refine zo_istore hY dJ16_sort_2_4 (by decide) rfl (ls' := [(5, vi y1), (0, vo none), (1, vr 35 x1), (2, vi x2), (3, vi x3), (4, vi x4)]) rfl ?_
  refine zo_iload hY dJ16_sort_2_6 5 rfl ?_
  refine zo_iload_n hY dJ16_sort_2_8 rfl 4 rfl ?_
  refine zo_isub hY dJ16_sort_2_9 ?_
  refine zo_nmi h (fun y2 h => ?_)
  refine zo_istore hY dJ16_sort_2_10 (by decide) rfl (ls' := [(6, vi y2), (5, vi y1), (0, vo none), (1, vr 35 x1), (2, vi x2), (3, vi x3), (4, vi x4)]) rfl ?_
  refine zo_iload hY dJ16_sort_2_12 0 rfl ?_
  refine zo_bipush hY 65 (by decide) dJ16_sort_2_14 ?_
  refine zo_iload_n hY dJ16_sort_2_16 rfl 4 rfl ?_
  refine zo_iadd hY dJ16_sort_2_17 ?_
  refine zo_icmp_ge hY 46 dJ16_sort_2_18 (by decide) h (fun c3 h => ?_) (fun c3 h => ?_)
  · refine zo_sub [2, 3, 4, 5, 6, 1, 0] rfl ?_
    exact ct_J16_sort_2_46 hY hJ hCon hr N K0 hK0 x1 x2 x3 x4 y1 y2 Ω _ h
  · refine zo_iload_n hY dJ16_sort_2_21 rfl 4 rfl ?_
    refine zo_iconst hY 1 (by decide) dJ16_sort_2_22 ?_
    refine zo_iand hY dJ16_sort_2_23 ?_
    refine zo_if_le hY 46 dJ16_sort_2_24 (by decide) h (fun c4 h => ?_) (fun c4 h => ?_)
    · refine zo_sub [2, 3, 4, 5, 6, 1, 0] rfl ?_
      exact ct_J16_sort_2_46 hY hJ hCon hr N K0 hK0 x1 x2 x3 x4 y1 y2 Ω _ h
    · refine zo_aload_n hY dJ16_sort_2_27 rfl 3 rfl ?_
      refine zo_iload_n hY dJ16_sort_2_28 rfl 5 rfl ?_
      refine zo_iload hY dJ16_sort_2_29 6 rfl ?_
      refine zo_iconst hY 3 (by decide) dJ16_sort_2_31 ?_
      refine zo_iload hY dJ16_sort_2_32 0 rfl ?_
      refine zo_iconst hY 5 (by decide) dJ16_sort_2_34 ?_
      refine zo_ishr hY dJ16_sort_2_35 ?_
      refine zo_iconst hY 3 (by decide) dJ16_sort_2_36 ?_
      refine zo_ishl hY dJ16_sort_2_37 ?_
      refine zo_imul hY dJ16_sort_2_38 ?_
      refine zo_isub hY dJ16_sort_2_39 ?_
      refine zo_iload hY dJ16_sort_2_40 6 rfl ?_
      refine zo_callS hY (fun q hq => mt_J16_mixedInsertionSort hJ hCon N x1 x3 (x4 - (3 * ((y2 >>> ((5 : Int32) &&& 31)) <<< ((3 : Int32) &&& 31)))) x4 Ω q hq) (by decide) (by decide) cn_J16_mixedInsertionSort rfl q1171 q1172 q117 q1173 (Nat.le_of_ble_eq_true rfl) dJ16_sort_2_42 rfl h (cv_k (fun Ω5 res h => ?_))
      exact zo_vret hY hr dJ16_sort_2_45 h
def fn_J16_sort_2_0 (N : Nat)  : Nat → Nat → Int32 → Int32 → Int32 → zo_O → Option zo_R
  | 0, _, _, _, _, _ => none
  | n + 1, x1, x2, x3, x4, Ω => bd_J16_sort_2_0 N  (fn_J16_sort_2_0 N  n) x1 x2 x3 x4 Ω
theorem ct_J16_sort_2_0 {Y : zo_Y} (hY : zo_Gd Y cJ16_sort_2 21 RJ16 2) (hJ : zo_JC (zo_J Y)) (hCon : ∀ Ω, zo_J Y Ω → zo_Con Ω) (hr : zo_rt Y (Option.none : Option Jvm.ClassFile.FieldType)) (N : Nat)   : ∀ (n : Nat) (x1 : Nat) (x2 : Int32) (x3 : Int32) (x4 : Int32) (Ω : zo_O) (res : zo_R), fn_J16_sort_2_0 N  n x1 x2 x3 x4 Ω = some res → TW Y res Ω 0 [(0, vo none), (1, vr 35 x1), (2, vi x2), (3, vi x3), (4, vi x4)] [] := by
  intro n
  induction n with
  | zero => intro x1 x2 x3 x4 Ω res h; exact nomatch (show (none : Option zo_R) = some res from h)
  | succ n ih => intro x1 x2 x3 x4 Ω res h; exact cb_J16_sort_2_0 hY hJ hCon hr N  (fn_J16_sort_2_0 N  n)  ih x1 x2 x3 x4 Ω res h
def fn_J16_sort_2 (N : Nat) (x1 : Nat) (x2 : Int32) (x3 : Int32) (x4 : Int32) (Ω : zo_O) : Option zo_R :=
  fn_J16_sort_2_0 N N x1 x2 x3 x4 Ω
theorem mt_J16_sort_2 {G : zo_G} {J : zo_O → Prop} (hJ : zo_JC J) (hCon : ∀ Ω, J Ω → zo_Con Ω) (N : Nat) (x1 : Nat) (x2 : Int32) (x3 : Int32) (x4 : Int32) (Ω : zo_O) (res : zo_R) (h : fn_J16_sort_2 N x1 x2 x3 x4 Ω = some res) : zo_MT G J yJ16_sort_2 cJ16_sort_2 21 (Option.none : Option Jvm.ClassFile.FieldType) 2 [vo none, vr 35 x1, vi x2, vi x3, vi x4] Ω res := by
  refine zo_enter (by decide) rfl (Nat.le_of_ble_eq_true rfl) (fun Y hY eJ hr hmn => ?_)
  subst eJ
  show TW Y res Ω 0 [(0, vo none), (1, vr 35 x1), (2, vi x2), (3, vi x3), (4, vi x4)] []
  unfold fn_J16_sort_2 at h
  exact ct_J16_sort_2_0 hY hJ hCon hr N N x1 x2 x3 x4 Ω _ h
theorem dJ16_sort_0 : decode cJ16_sort 0 = .ok (.iload_n 3, 1) := by decide +kernel
theorem dJ16_sort_1 : decode cJ16_sort 1 = .ok (.iload_n 2, 1) := by decide +kernel
theorem dJ16_sort_2 : decode cJ16_sort 2 = .ok (.isub, 1) := by decide +kernel
theorem dJ16_sort_3 : decode cJ16_sort 3 = .ok (.istore 4, 2) := by decide +kernel
theorem dJ16_sort_5 : decode cJ16_sort 5 = .ok (.iload_n 1, 1) := by decide +kernel
theorem dJ16_sort_6 : decode cJ16_sort 6 = .ok (.iconst 1, 1) := by decide +kernel
theorem dJ16_sort_7 : decode cJ16_sort 7 = .ok (.if_icmp .le 61, 3) := by decide +kernel
theorem dJ16_sort_10 : decode cJ16_sort 10 = .ok (.iload 4, 2) := by decide +kernel
theorem dJ16_sort_12 : decode cJ16_sort 12 = .ok (.sipush 4096, 3) := by decide +kernel
theorem dJ16_sort_15 : decode cJ16_sort 15 = .ok (.if_icmp .le 53, 3) := by decide +kernel
theorem dJ16_sort_18 : decode cJ16_sort 18 = .ok (.iload_n 1, 1) := by decide +kernel
theorem dJ16_sort_19 : decode cJ16_sort 19 = .ok (.iload 4, 2) := by decide +kernel
theorem dJ16_sort_21 : decode cJ16_sort 21 = .ok (.bipush 12, 2) := by decide +kernel
theorem dJ16_sort_23 : decode cJ16_sort 23 = .ok (.ishr, 1) := by decide +kernel
theorem dJ16_sort_24 : decode cJ16_sort 24 = .ok (.invokestatic 13, 3) := by decide +kernel
theorem dJ16_sort_27 : decode cJ16_sort 27 = .ok (.istore 5, 2) := by decide +kernel
theorem dJ16_sort_29 : decode cJ16_sort 29 = .ok (.iload 5, 2) := by decide +kernel
theorem dJ16_sort_31 : decode cJ16_sort 31 = .ok (.ifCond .ne 7, 3) := by decide +kernel
theorem dJ16_sort_34 : decode cJ16_sort 34 = .ok (.aconst_null, 1) := by decide +kernel
theorem dJ16_sort_35 : decode cJ16_sort 35 = .ok (.goto 7, 3) := by decide +kernel
theorem dJ16_sort_38 : decode cJ16_sort 38 = .ok (.iload 4, 2) := by decide +kernel
theorem dJ16_sort_40 : decode cJ16_sort 40 = .ok (.newarray .int, 2) := by decide +kernel
theorem dJ16_sort_42 : decode cJ16_sort 42 = .ok (.astore 6, 2) := by decide +kernel
theorem dJ16_sort_44 : decode cJ16_sort 44 = .ok (.new 17, 3) := by decide +kernel
theorem dJ16_sort_47 : decode cJ16_sort 47 = .ok (.dup, 1) := by decide +kernel
theorem dJ16_sort_48 : decode cJ16_sort 48 = .ok (.aconst_null, 1) := by decide +kernel
theorem dJ16_sort_49 : decode cJ16_sort 49 = .ok (.aload_n 0, 1) := by decide +kernel
theorem dJ16_sort_50 : decode cJ16_sort 50 = .ok (.aload 6, 2) := by decide +kernel
theorem dJ16_sort_52 : decode cJ16_sort 52 = .ok (.iload_n 2, 1) := by decide +kernel
theorem dJ16_sort_53 : decode cJ16_sort 53 = .ok (.iload 4, 2) := by decide +kernel
theorem dJ16_sort_55 : decode cJ16_sort 55 = .ok (.iload_n 2, 1) := by decide +kernel
theorem dJ16_sort_56 : decode cJ16_sort 56 = .ok (.iload 5, 2) := by decide +kernel
theorem dJ16_sort_58 : decode cJ16_sort 58 = .ok (.invokespecial 19, 3) := by decide +kernel
theorem dJ16_sort_61 : decode cJ16_sort 61 = .ok (.invokevirtual 22, 3) := by decide +kernel
theorem dJ16_sort_64 : decode cJ16_sort 64 = .ok (.pop, 1) := by decide +kernel
theorem dJ16_sort_65 : decode cJ16_sort 65 = .ok (.goto 11, 3) := by decide +kernel
theorem dJ16_sort_68 : decode cJ16_sort 68 = .ok (.aconst_null, 1) := by decide +kernel
theorem dJ16_sort_69 : decode cJ16_sort 69 = .ok (.aload_n 0, 1) := by decide +kernel
theorem dJ16_sort_70 : decode cJ16_sort 70 = .ok (.iconst 0, 1) := by decide +kernel
theorem dJ16_sort_71 : decode cJ16_sort 71 = .ok (.iload_n 2, 1) := by decide +kernel
theorem dJ16_sort_72 : decode cJ16_sort 72 = .ok (.iload_n 3, 1) := by decide +kernel
theorem dJ16_sort_73 : decode cJ16_sort 73 = .ok (.invokestatic 26, 3) := by decide +kernel
theorem dJ16_sort_76 : decode cJ16_sort 76 = .ok (.return_, 1) := by decide +kernel
def fn_J16_sort_76 (N : Nat)   (Ω : zo_O) : Option zo_R :=
  rV Ω
theorem ct_J16_sort_76 {Y : zo_Y} (hY : zo_Gd Y cJ16_sort 7 RJ16 3) (hJ : zo_JC (zo_J Y)) (hCon : ∀ Ω, zo_J Y Ω → zo_Con Ω) (hr : zo_rt Y (Option.none : Option Jvm.ClassFile.FieldType)) (N : Nat)    (Ω : zo_O) (res : zo_R) (h : fn_J16_sort_76 N   Ω = some res) : TW Y res Ω 76 [] [] := by
  unfold fn_J16_sort_76 at h
  exact zo_vret hY hr dJ16_sort_76 h
def fn_J16_sort_68 (N : Nat)  (x0 : Nat) (x2 : Int32) (x3 : Int32) (Ω : zo_O) : Option zo_R :=
  cv (fn_J16_sort_2 N x0 0 x2 x3 Ω) fun Ω1 =>
  fn_J16_sort_76 N Ω1
theorem ct_J16_sort_68 {Y : zo_Y} (hY : zo_Gd Y cJ16_sort 7 RJ16 3) (hJ : zo_JC (zo_J Y)) (hCon : ∀ Ω, zo_J Y Ω → zo_Con Ω) (hr : zo_rt Y (Option.none : Option Jvm.ClassFile.FieldType)) (N : Nat)   (x0 : Nat) (x2 : Int32) (x3 : Int32) (Ω : zo_O) (res : zo_R) (h : fn_J16_sort_68 N  x0 x2 x3 Ω = some res) : TW Y res Ω 68 [(0, vr 35 x0), (2, vi x2), (3, vi x3)] [] := by
  unfold fn_J16_sort_68 at h
  refine zo_null hY dJ16_sort_68 ?_
  refine zo_aload_n hY dJ16_sort_69 rfl 0 rfl ?_
  refine zo_iconst hY 0 (by decide) dJ16_sort_70 ?_
  refine zo_iload_n hY dJ16_sort_71 rfl 1 rfl ?_
  refine zo_iload_n hY dJ16_sort_72 rfl 2 rfl ?_
  refine zo_callS hY (fun q hq => mt_J16_sort_2 hJ hCon N x0 0 x2 x3 Ω q hq) (by decide) (by decide) cn_J16_sort_2 rfl q1168 q1169 q117 q1170 (Nat.le_of_ble_eq_true rfl) dJ16_sort_73 rfl h (cv_k (fun Ω1 res h => ?_))
  refine zo_sub [] rfl ?_
  exact ct_J16_sort_76 hY hJ hCon hr N Ω1 _ h
def fn_J16_sort (N : Nat) (x0 : Nat) (x1 : Int32) (x2 : Int32) (x3 : Int32) (Ω : zo_O) : Option zo_R :=
  li (x3 - x2) fun y1 =>
  if x1 ≤ 1 then (
    fn_J16_sort_68 N x0 x2 x3 Ω
    ) else
  if y1 ≤ 4096 then (
    fn_J16_sort_68 N x0 x2 x3 Ω
    ) else
  none
theorem mt_J16_sort {G : zo_G} {J : zo_O → Prop} (hJ : zo_JC J) (hCon : ∀ Ω, J Ω → zo_Con Ω) (N : Nat) (x0 : Nat) (x1 : Int32) (x2 : Int32) (x3 : Int32) (Ω : zo_O) (res : zo_R) (h : fn_J16_sort N x0 x1 x2 x3 Ω = some res) : zo_MT G J yJ16_sort cJ16_sort 7 (Option.none : Option Jvm.ClassFile.FieldType) 3 [vr 35 x0, vi x1, vi x2, vi x3] Ω res := by
  refine zo_enter (by decide) rfl (Nat.le_of_ble_eq_true rfl) (fun Y hY eJ hr hmn => ?_)
  subst eJ
  show TW Y res Ω 0 [(0, vr 35 x0), (1, vi x1), (2, vi x2), (3, vi x3)] []
  unfold fn_J16_sort at h
  refine zo_iload_n hY dJ16_sort_0 rfl 3 rfl ?_
  refine zo_iload_n hY dJ16_sort_1 rfl 2 rfl ?_
  refine zo_isub hY dJ16_sort_2 ?_
  refine zo_nmi h (fun y1 h => ?_)
  refine zo_istore hY dJ16_sort_3 (by decide) rfl (ls' := [(4, vi y1), (0, vr 35 x0), (1, vi x1), (2, vi x2), (3, vi x3)]) rfl ?_
  refine zo_iload_n hY dJ16_sort_5 rfl 2 rfl ?_
  refine zo_iconst hY 1 (by decide) dJ16_sort_6 ?_
  refine zo_icmp_le hY 68 dJ16_sort_7 (by decide) h (fun c2 h => ?_) (fun c2 h => ?_)
  · refine zo_sub [1, 3, 4] rfl ?_
    exact ct_J16_sort_68 hY hJ hCon hr N x0 x2 x3 Ω _ h
  · refine zo_iload hY dJ16_sort_10 0 rfl ?_
    refine zo_sipush hY 4096 (by decide) dJ16_sort_12 ?_
    refine zo_icmp_le hY 68 dJ16_sort_15 (by decide) h (fun c3 h => ?_) (fun c3 h => ?_)
    · refine zo_sub [1, 3, 4] rfl ?_
      exact ct_J16_sort_68 hY hJ hCon hr N x0 x2 x3 Ω _ h
    · refine zo_iload_n hY dJ16_sort_18 rfl 2 rfl ?_
      refine zo_iload hY dJ16_sort_19 0 rfl ?_
      refine zo_bipush hY 12 (by decide) dJ16_sort_21 ?_
      refine zo_ishr hY dJ16_sort_23 ?_
      cases h
theorem dJ5_sort_0 : decode cJ5_sort 0 = .ok (.aload_n 0, 1) := by decide +kernel
theorem dJ5_sort_1 : decode cJ5_sort 1 = .ok (.iconst 0, 1) := by decide +kernel
theorem dJ5_sort_2 : decode cJ5_sort 2 = .ok (.iconst 0, 1) := by decide +kernel
theorem dJ5_sort_3 : decode cJ5_sort 3 = .ok (.aload_n 0, 1) := by decide +kernel
theorem dJ5_sort_4 : decode cJ5_sort 4 = .ok (.arraylength, 1) := by decide +kernel
theorem dJ5_sort_5 : decode cJ5_sort 5 = .ok (.invokestatic 7, 3) := by decide +kernel
theorem dJ5_sort_8 : decode cJ5_sort 8 = .ok (.return_, 1) := by decide +kernel
def fn_J5_sort (N : Nat) (x0 : Nat) (Ω : zo_O) : Option zo_R :=
  cv (fn_J16_sort N x0 0 0 (nI ((gL Ω 35 x0))) Ω) fun Ω1 =>
  rV Ω1
theorem mt_J5_sort {G : zo_G} {J : zo_O → Prop} (hJ : zo_JC J) (hCon : ∀ Ω, J Ω → zo_Con Ω) (N : Nat) (x0 : Nat) (Ω : zo_O) (res : zo_R) (h : fn_J5_sort N x0 Ω = some res) : zo_MT G J yJ5_sort cJ5_sort 1 (Option.none : Option Jvm.ClassFile.FieldType) 4 [vr 35 x0] Ω res := by
  refine zo_enter (by decide) rfl (Nat.le_of_ble_eq_true rfl) (fun Y hY eJ hr hmn => ?_)
  subst eJ
  show TW Y res Ω 0 [(0, vr 35 x0)] []
  unfold fn_J5_sort at h
  refine zo_aload_n hY dJ5_sort_0 rfl 0 rfl ?_
  refine zo_iconst hY 0 (by decide) dJ5_sort_1 ?_
  refine zo_iconst hY 0 (by decide) dJ5_sort_2 ?_
  refine zo_aload_n hY dJ5_sort_3 rfl 0 rfl ?_
  refine zo_alen hY (by decide) (by decide) (fun _ => rfl) dJ5_sort_4 ?_
  refine zo_callS hY (fun q hq => mt_J16_sort hJ hCon N x0 0 0 (nI ((gL Ω 35 x0))) Ω q hq) (by decide) (by decide) cn_J16_sort rfl q1165 q1166 q117 q1167 (Nat.le_of_ble_eq_true rfl) dJ5_sort_5 rfl h (cv_k (fun Ω1 res h => ?_))
  exact zo_vret hY hr dJ5_sort_8 h
