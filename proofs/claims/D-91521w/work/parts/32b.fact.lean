/-! facts for the blocks (printed by genblk.py) -/
set_option maxRecDepth 100000
theorem o_83_5242950_5 : putok 83 5242950 5 = true := by decide +kernel
theorem i_83_36 : ins 83 36 = some (.putfield 32, 3) := by decide +kernel
theorem i_83_39 : ins 83 39 = some (.aload_n 0, 1) := by decide +kernel
theorem i_83_40 : ins 83 40 = some (.areturn, 1) := by decide +kernel
theorem r_83 : mret 83 = 6 := by decide +kernel
theorem i_84_0 : ins 84 0 = some (.aload_n 0, 1) := by decide +kernel
theorem i_84_1 : ins 84 1 = some (.aload_n 1, 1) := by decide +kernel
theorem f_84_3 : fld 84 3 = some (6291542, 7, 2) := by decide +kernel
theorem o_84_6291542_7 : putok 84 6291542 7 = true := by decide +kernel
theorem i_84_2 : ins 84 2 = some (.putfield 3, 3) := by decide +kernel
theorem i_84_5 : ins 84 5 = some (.aload_n 0, 1) := by decide +kernel
theorem v_84_9 : inv 84 9 = some (0, 0, 4, 0) := by decide +kernel
theorem i_84_6 : ins 84 6 = some (.invokespecial 9, 3) := by decide +kernel
theorem i_84_9 : ins 84 9 = some (.aload_n 0, 1) := by decide +kernel
theorem i_84_10 : ins 84 10 = some (.bipush 8, 2) := by decide +kernel
theorem s_84_12 : site 84 12 = some 71303297 := by decide +kernel
theorem i_84_12 : ins 84 12 = some (.newarray .int, 2) := by decide +kernel
theorem f_84_15 : fld 84 15 = some (6291542, 0, 2) := by decide +kernel
theorem o_84_6291542_0 : putok 84 6291542 0 = true := by decide +kernel
theorem i_84_14 : ins 84 14 = some (.putfield 15, 3) := by decide +kernel
theorem i_84_17 : ins 84 17 = some (.aload_n 0, 1) := by decide +kernel
theorem i_84_18 : ins 84 18 = some (.bipush 10, 2) := by decide +kernel
theorem s_84_20 : site 84 20 = some 72351905 := by decide +kernel
theorem i_84_20 : ins 84 20 = some (.newarray .int, 2) := by decide +kernel
theorem f_84_19 : fld 84 19 = some (6291542, 1, 2) := by decide +kernel
theorem o_84_6291542_1 : putok 84 6291542 1 = true := by decide +kernel
theorem i_84_22 : ins 84 22 = some (.putfield 19, 3) := by decide +kernel
theorem i_84_25 : ins 84 25 = some (.aload_n 0, 1) := by decide +kernel
theorem i_84_26 : ins 84 26 = some (.bipush 8, 2) := by decide +kernel
theorem s_84_28 : site 84 28 = some 73400449 := by decide +kernel
theorem i_84_28 : ins 84 28 = some (.newarray .int, 2) := by decide +kernel
theorem f_84_22 : fld 84 22 = some (6291542, 2, 2) := by decide +kernel
theorem o_84_6291542_2 : putok 84 6291542 2 = true := by decide +kernel
theorem i_84_30 : ins 84 30 = some (.putfield 22, 3) := by decide +kernel
theorem i_84_33 : ins 84 33 = some (.aload_n 0, 1) := by decide +kernel
theorem kB_9 : (Int8.ofInt (9)).toInt32 = nI 9 := by decide +kernel
theorem i_84_34 : ins 84 34 = some (.bipush 9, 2) := by decide +kernel
theorem kS_1024 : (Int16.ofInt (1024)).toInt32 = nI 1024 := by decide +kernel
theorem i_84_36 : ins 84 36 = some (.sipush 1024, 3) := by decide +kernel
theorem s_84_39 : site2 84 39 = some (25, 74449045, 75513860) := by decide +kernel
theorem i_84_39 : ins 84 39 = some (.multianewarray 25 2, 4) := by decide +kernel
theorem kl_74449045 : klen 74449045 = 9 := by decide +kernel
theorem kl_75513860 : klen 75513860 = 1024 := by decide +kernel
theorem f_84_27 : fld 84 27 = some (6291542, 3, 2) := by decide +kernel
theorem o_84_6291542_3 : putok 84 6291542 3 = true := by decide +kernel
theorem i_84_43 : ins 84 43 = some (.putfield 27, 3) := by decide +kernel
theorem i_84_46 : ins 84 46 = some (.return_, 1) := by decide +kernel
theorem r_84 : mret 84 = 0 := by decide +kernel
theorem i_85_0 : ins 85 0 = some (.aload_n 0, 1) := by decide +kernel
theorem i_85_1 : ins 85 1 = some (.iload 4, 2) := by decide +kernel
theorem f_85_104 : fld 85 104 = some (6291542, 6, 5) := by decide +kernel
theorem o_85_6291542_6 : putok 85 6291542 6 = true := by decide +kernel
theorem i_85_3 : ins 85 3 = some (.putfield 104, 3) := by decide +kernel
theorem i_85_6 : ins 85 6 = some (.aload_n 0, 1) := by decide +kernel
theorem i_85_7 : ins 85 7 = some (.iload_n 1, 1) := by decide +kernel
theorem i_85_8 : ins 85 8 = some (.iload_n 2, 1) := by decide +kernel
theorem i_85_9 : ins 85 9 = some (.iload_n 3, 1) := by decide +kernel
theorem v_85_114 : inv 85 114 = some (86, 3, 1, 6291542) := by decide +kernel
theorem i_85_10 : ins 85 10 = some (.invokevirtual 114, 3) := by decide +kernel
theorem i_85_13 : ins 85 13 = some (.iconst 1, 1) := by decide +kernel
theorem i_85_14 : ins 85 14 = some (.aload_n 0, 1) := by decide +kernel
theorem f_85_34 : fld 85 34 = some (6291542, 5, 0) := by decide +kernel
theorem i_85_15 : ins 85 15 = some (.getfield 34, 3) := by decide +kernel
theorem i_85_18 : ins 85 18 = some (.ishl, 1) := by decide +kernel
theorem i_85_19 : ins 85 19 = some (.istore 5, 2) := by decide +kernel
theorem i_85_21 : ins 85 21 = some (.iconst 0, 1) := by decide +kernel
theorem i_85_22 : ins 85 22 = some (.istore 6, 2) := by decide +kernel
theorem i_85_24 : ins 85 24 = some (.iload 6, 2) := by decide +kernel
theorem i_85_26 : ins 85 26 = some (.iload 5, 2) := by decide +kernel
theorem i_85_28 : ins 85 28 = some (.if_icmp .ge 22, 3) := by decide +kernel
theorem t_28_50 : tg 28 (22) = some 50 := by decide +kernel
theorem i_85_31 : ins 85 31 = some (.aload_n 0, 1) := by decide +kernel
theorem f_85_27 : fld 85 27 = some (6291542, 3, 2) := by decide +kernel
theorem i_85_32 : ins 85 32 = some (.getfield 27, 3) := by decide +kernel
theorem i_85_35 : ins 85 35 = some (.aload_n 0, 1) := by decide +kernel
theorem f_85_30 : fld 85 30 = some (6291542, 4, 0) := by decide +kernel
theorem i_85_36 : ins 85 36 = some (.getfield 30, 3) := by decide +kernel
theorem i_85_39 : ins 85 39 = some (.aaload, 1) := by decide +kernel
theorem i_85_40 : ins 85 40 = some (.iload 6, 2) := by decide +kernel
theorem i_85_42 : ins 85 42 = some (.lconst 0, 1) := by decide +kernel
theorem i_85_43 : ins 85 43 = some (.lastore, 1) := by decide +kernel
theorem i_85_44 : ins 85 44 = some (.iinc 6 1, 3) := by decide +kernel
theorem i_85_47 : ins 85 47 = some (.goto (-23), 3) := by decide +kernel
theorem t_47_24 : tg 47 (-23) = some 24 := by decide +kernel
theorem i_85_50 : ins 85 50 = some (.aload_n 0, 1) := by decide +kernel
theorem i_85_51 : ins 85 51 = some (.getfield 30, 3) := by decide +kernel
theorem i_85_54 : ins 85 54 = some (.iconst 1, 1) := by decide +kernel
theorem i_85_55 : ins 85 55 = some (.isub, 1) := by decide +kernel
theorem i_85_56 : ins 85 56 = some (.istore 6, 2) := by decide +kernel
theorem i_85_58 : ins 85 58 = some (.iload 6, 2) := by decide +kernel
theorem i_85_60 : ins 85 60 = some (.ifCond .lt 115, 3) := by decide +kernel
theorem t_60_175 : tg 60 (115) = some 175 := by decide +kernel
theorem i_85_63 : ins 85 63 = some (.iconst 0, 1) := by decide +kernel
theorem i_85_64 : ins 85 64 = some (.istore 7, 2) := by decide +kernel
theorem i_85_66 : ins 85 66 = some (.iload 7, 2) := by decide +kernel
theorem i_85_68 : ins 85 68 = some (.iload 5, 2) := by decide +kernel
theorem i_85_70 : ins 85 70 = some (.if_icmp .ge 99, 3) := by decide +kernel
theorem t_70_169 : tg 70 (99) = some 169 := by decide +kernel
theorem i_85_73 : ins 85 73 = some (.aload_n 0, 1) := by decide +kernel
theorem i_85_74 : ins 85 74 = some (.getfield 27, 3) := by decide +kernel
theorem i_85_77 : ins 85 77 = some (.iload 6, 2) := by decide +kernel
theorem i_85_79 : ins 85 79 = some (.iconst 1, 1) := by decide +kernel
theorem i_85_80 : ins 85 80 = some (.iadd, 1) := by decide +kernel
theorem i_85_81 : ins 85 81 = some (.aaload, 1) := by decide +kernel
theorem i_85_82 : ins 85 82 = some (.iload 7, 2) := by decide +kernel
theorem i_85_84 : ins 85 84 = some (.laload, 1) := by decide +kernel
theorem i_85_85 : ins 85 85 = some (.lstore 8, 2) := by decide +kernel
theorem i_85_87 : ins 85 87 = some (.iconst 0, 1) := by decide +kernel
theorem i_85_88 : ins 85 88 = some (.istore 10, 2) := by decide +kernel
theorem i_85_90 : ins 85 90 = some (.iload 10, 2) := by decide +kernel
theorem i_85_92 : ins 85 92 = some (.aload_n 0, 1) := by decide +kernel
theorem i_85_93 : ins 85 93 = some (.getfield 34, 3) := by decide +kernel
theorem i_85_96 : ins 85 96 = some (.if_icmp .ge 55, 3) := by decide +kernel
theorem t_96_151 : tg 96 (55) = some 151 := by decide +kernel
theorem i_85_99 : ins 85 99 = some (.aload_n 0, 1) := by decide +kernel
theorem i_85_100 : ins 85 100 = some (.iload 6, 2) := by decide +kernel
theorem i_85_102 : ins 85 102 = some (.iload 10, 2) := by decide +kernel
theorem i_85_104 : ins 85 104 = some (.iload 7, 2) := by decide +kernel
theorem v_85_118 : inv 85 118 = some (87, 3, 1, 6291542) := by decide +kernel
theorem i_85_106 : ins 85 106 = some (.invokevirtual 118, 3) := by decide +kernel
theorem i_85_109 : ins 85 109 = some (.ifCond .eq 36, 3) := by decide +kernel
theorem t_109_145 : tg 109 (36) = some 145 := by decide +kernel
theorem i_85_112 : ins 85 112 = some (.lload 8, 2) := by decide +kernel
theorem i_85_114 : ins 85 114 = some (.aload_n 0, 1) := by decide +kernel
theorem i_85_115 : ins 85 115 = some (.iload 6, 2) := by decide +kernel
theorem i_85_117 : ins 85 117 = some (.iload 10, 2) := by decide +kernel
theorem v_85_122 : inv 85 122 = some (90, 2, 1, 6291542) := by decide +kernel
theorem i_85_119 : ins 85 119 = some (.invokevirtual 122, 3) := by decide +kernel
theorem i_85_122 : ins 85 122 = some (.aload_n 0, 1) := by decide +kernel
theorem i_85_123 : ins 85 123 = some (.getfield 27, 3) := by decide +kernel
theorem i_85_126 : ins 85 126 = some (.iload 6, 2) := by decide +kernel
theorem i_85_128 : ins 85 128 = some (.iconst 1, 1) := by decide +kernel
theorem i_85_129 : ins 85 129 = some (.iadd, 1) := by decide +kernel
theorem i_85_130 : ins 85 130 = some (.aaload, 1) := by decide +kernel
theorem i_85_131 : ins 85 131 = some (.iload 7, 2) := by decide +kernel
theorem i_85_133 : ins 85 133 = some (.iconst 1, 1) := by decide +kernel
theorem i_85_134 : ins 85 134 = some (.iload 10, 2) := by decide +kernel
theorem i_85_136 : ins 85 136 = some (.ishl, 1) := by decide +kernel
theorem i_85_137 : ins 85 137 = some (.ior, 1) := by decide +kernel
theorem i_85_138 : ins 85 138 = some (.laload, 1) := by decide +kernel
theorem i_85_139 : ins 85 139 = some (.ladd, 1) := by decide +kernel
theorem v_85_125 : inv 85 125 = some (249, 2, 0, 0) := by decide +kernel
theorem i_85_140 : ins 85 140 = some (.invokestatic 125, 3) := by decide +kernel
theorem i_85_143 : ins 85 143 = some (.lstore 8, 2) := by decide +kernel
theorem i_85_145 : ins 85 145 = some (.iinc 10 1, 3) := by decide +kernel
theorem i_85_148 : ins 85 148 = some (.goto (-58), 3) := by decide +kernel
theorem t_148_90 : tg 148 (-58) = some 90 := by decide +kernel
theorem i_85_151 : ins 85 151 = some (.aload_n 0, 1) := by decide +kernel
theorem i_85_152 : ins 85 152 = some (.getfield 27, 3) := by decide +kernel
theorem i_85_155 : ins 85 155 = some (.iload 6, 2) := by decide +kernel
theorem i_85_157 : ins 85 157 = some (.aaload, 1) := by decide +kernel
theorem i_85_158 : ins 85 158 = some (.iload 7, 2) := by decide +kernel
theorem i_85_160 : ins 85 160 = some (.lload 8, 2) := by decide +kernel
theorem i_85_162 : ins 85 162 = some (.lastore, 1) := by decide +kernel
theorem i_85_163 : ins 85 163 = some (.iinc 7 1, 3) := by decide +kernel
theorem i_85_166 : ins 85 166 = some (.goto (-100), 3) := by decide +kernel
theorem t_166_66 : tg 166 (-100) = some 66 := by decide +kernel
theorem i_85_169 : ins 85 169 = some (.iinc 6 (-1), 3) := by decide +kernel
theorem i_85_172 : ins 85 172 = some (.goto (-114), 3) := by decide +kernel
theorem t_172_58 : tg 172 (-114) = some 58 := by decide +kernel
theorem i_85_175 : ins 85 175 = some (.iconst 0, 1) := by decide +kernel
theorem i_85_176 : ins 85 176 = some (.istore 6, 2) := by decide +kernel
theorem i_85_178 : ins 85 178 = some (.iconst 0, 1) := by decide +kernel
theorem i_85_179 : ins 85 179 = some (.istore 7, 2) := by decide +kernel
theorem i_85_181 : ins 85 181 = some (.iconst 0, 1) := by decide +kernel
theorem i_85_182 : ins 85 182 = some (.istore 8, 2) := by decide +kernel
theorem i_85_184 : ins 85 184 = some (.iload 8, 2) := by decide +kernel
theorem i_85_186 : ins 85 186 = some (.aload_n 0, 1) := by decide +kernel
theorem i_85_187 : ins 85 187 = some (.getfield 30, 3) := by decide +kernel
theorem i_85_190 : ins 85 190 = some (.if_icmp .ge 139, 3) := by decide +kernel
theorem t_190_329 : tg 190 (139) = some 329 := by decide +kernel
theorem i_85_193 : ins 85 193 = some (.aload_n 0, 1) := by decide +kernel
theorem f_85_22 : fld 85 22 = some (6291542, 2, 2) := by decide +kernel
theorem i_85_194 : ins 85 194 = some (.getfield 22, 3) := by decide +kernel
theorem i_85_197 : ins 85 197 = some (.iload 8, 2) := by decide +kernel
theorem i_85_199 : ins 85 199 = some (.iconst (-1), 1) := by decide +kernel
theorem i_85_200 : ins 85 200 = some (.iastore, 1) := by decide +kernel
theorem i_85_201 : ins 85 201 = some (.iconst 0, 1) := by decide +kernel
theorem i_85_202 : ins 85 202 = some (.istore 9, 2) := by decide +kernel
theorem i_85_204 : ins 85 204 = some (.iload 9, 2) := by decide +kernel
theorem i_85_206 : ins 85 206 = some (.aload_n 0, 1) := by decide +kernel
theorem i_85_207 : ins 85 207 = some (.getfield 34, 3) := by decide +kernel
theorem i_85_210 : ins 85 210 = some (.if_icmp .ge 82, 3) := by decide +kernel
theorem t_210_292 : tg 210 (82) = some 292 := by decide +kernel
theorem i_85_213 : ins 85 213 = some (.aload_n 0, 1) := by decide +kernel
theorem i_85_214 : ins 85 214 = some (.getfield 22, 3) := by decide +kernel
theorem i_85_217 : ins 85 217 = some (.iload 8, 2) := by decide +kernel
theorem i_85_219 : ins 85 219 = some (.iaload, 1) := by decide +kernel
theorem i_85_220 : ins 85 220 = some (.iconst (-1), 1) := by decide +kernel
theorem i_85_221 : ins 85 221 = some (.if_icmp .ne 71, 3) := by decide +kernel
theorem t_221_292 : tg 221 (71) = some 292 := by decide +kernel
theorem i_85_224 : ins 85 224 = some (.aload_n 0, 1) := by decide +kernel
theorem i_85_225 : ins 85 225 = some (.iload 8, 2) := by decide +kernel
theorem i_85_227 : ins 85 227 = some (.iload 9, 2) := by decide +kernel
theorem i_85_229 : ins 85 229 = some (.iload 7, 2) := by decide +kernel
theorem i_85_231 : ins 85 231 = some (.invokevirtual 118, 3) := by decide +kernel
theorem i_85_234 : ins 85 234 = some (.ifCond .eq 52, 3) := by decide +kernel
theorem t_234_286 : tg 234 (52) = some 286 := by decide +kernel
theorem i_85_237 : ins 85 237 = some (.aload_n 0, 1) := by decide +kernel
theorem i_85_238 : ins 85 238 = some (.iload 8, 2) := by decide +kernel
theorem i_85_240 : ins 85 240 = some (.iload 9, 2) := by decide +kernel
theorem i_85_242 : ins 85 242 = some (.invokevirtual 122, 3) := by decide +kernel
theorem i_85_245 : ins 85 245 = some (.aload_n 0, 1) := by decide +kernel
theorem i_85_246 : ins 85 246 = some (.getfield 27, 3) := by decide +kernel
theorem i_85_249 : ins 85 249 = some (.iload 8, 2) := by decide +kernel
theorem i_85_251 : ins 85 251 = some (.iconst 1, 1) := by decide +kernel
theorem i_85_252 : ins 85 252 = some (.iadd, 1) := by decide +kernel
theorem i_85_253 : ins 85 253 = some (.aaload, 1) := by decide +kernel
theorem i_85_254 : ins 85 254 = some (.iload 7, 2) := by decide +kernel
theorem i_85_256 : ins 85 256 = some (.iconst 1, 1) := by decide +kernel
theorem i_85_257 : ins 85 257 = some (.iload 9, 2) := by decide +kernel
theorem i_85_259 : ins 85 259 = some (.ishl, 1) := by decide +kernel
theorem i_85_260 : ins 85 260 = some (.ior, 1) := by decide +kernel
theorem i_85_261 : ins 85 261 = some (.laload, 1) := by decide +kernel
theorem i_85_262 : ins 85 262 = some (.ladd, 1) := by decide +kernel
theorem i_85_263 : ins 85 263 = some (.aload_n 0, 1) := by decide +kernel
theorem i_85_264 : ins 85 264 = some (.getfield 27, 3) := by decide +kernel
theorem i_85_267 : ins 85 267 = some (.iload 8, 2) := by decide +kernel
theorem i_85_269 : ins 85 269 = some (.aaload, 1) := by decide +kernel
theorem i_85_270 : ins 85 270 = some (.iload 7, 2) := by decide +kernel
theorem i_85_272 : ins 85 272 = some (.laload, 1) := by decide +kernel
theorem t_274_286 : tg 274 (12) = some 286 := by decide +kernel
theorem i_85_273 : ins 85 273 = some (.lcmp, 1) := by decide +kernel
theorem i_85_274 : ins 85 274 = some (.ifCond .ne 12, 3) := by decide +kernel
theorem i_85_277 : ins 85 277 = some (.aload_n 0, 1) := by decide +kernel
theorem i_85_278 : ins 85 278 = some (.getfield 22, 3) := by decide +kernel
theorem i_85_281 : ins 85 281 = some (.iload 8, 2) := by decide +kernel
theorem i_85_283 : ins 85 283 = some (.iload 9, 2) := by decide +kernel
theorem i_85_285 : ins 85 285 = some (.iastore, 1) := by decide +kernel
theorem i_85_286 : ins 85 286 = some (.iinc 9 1, 3) := by decide +kernel
theorem i_85_289 : ins 85 289 = some (.goto (-85), 3) := by decide +kernel
theorem t_289_204 : tg 289 (-85) = some 204 := by decide +kernel
theorem i_85_292 : ins 85 292 = some (.aload_n 0, 1) := by decide +kernel
theorem i_85_293 : ins 85 293 = some (.getfield 22, 3) := by decide +kernel
theorem i_85_296 : ins 85 296 = some (.iload 8, 2) := by decide +kernel
theorem i_85_298 : ins 85 298 = some (.iaload, 1) := by decide +kernel
theorem i_85_299 : ins 85 299 = some (.iconst (-1), 1) := by decide +kernel
theorem i_85_300 : ins 85 300 = some (.if_icmp .ne 6, 3) := by decide +kernel
theorem t_300_306 : tg 300 (6) = some 306 := by decide +kernel
theorem i_85_303 : ins 85 303 = some (.goto 20, 3) := by decide +kernel
theorem t_303_323 : tg 303 (20) = some 323 := by decide +kernel
theorem i_85_306 : ins 85 306 = some (.iload 7, 2) := by decide +kernel
theorem i_85_308 : ins 85 308 = some (.iconst 1, 1) := by decide +kernel
theorem i_85_309 : ins 85 309 = some (.aload_n 0, 1) := by decide +kernel
theorem i_85_310 : ins 85 310 = some (.getfield 22, 3) := by decide +kernel
theorem i_85_313 : ins 85 313 = some (.iload 8, 2) := by decide +kernel
theorem i_85_315 : ins 85 315 = some (.iaload, 1) := by decide +kernel
theorem i_85_316 : ins 85 316 = some (.ishl, 1) := by decide +kernel
theorem i_85_317 : ins 85 317 = some (.ior, 1) := by decide +kernel
theorem i_85_318 : ins 85 318 = some (.istore 7, 2) := by decide +kernel
theorem i_85_320 : ins 85 320 = some (.iinc 6 1, 3) := by decide +kernel
theorem i_85_323 : ins 85 323 = some (.iinc 8 1, 3) := by decide +kernel
theorem i_85_326 : ins 85 326 = some (.goto (-142), 3) := by decide +kernel
theorem t_326_184 : tg 326 (-142) = some 184 := by decide +kernel
theorem i_85_329 : ins 85 329 = some (.iload 6, 2) := by decide +kernel
theorem r_85 : mret 85 = 1 := by decide +kernel
theorem i_85_331 : ins 85 331 = some (.ireturn, 1) := by decide +kernel
theorem i_86_0 : ins 86 0 = some (.aload_n 0, 1) := by decide +kernel
theorem i_86_1 : ins 86 1 = some (.iconst 0, 1) := by decide +kernel
theorem f_86_30 : fld 86 30 = some (6291542, 4, 0) := by decide +kernel
theorem o_86_6291542_4 : putok 86 6291542 4 = true := by decide +kernel
theorem i_86_2 : ins 86 2 = some (.putfield 30, 3) := by decide +kernel
theorem i_86_5 : ins 86 5 = some (.aload_n 0, 1) := by decide +kernel
theorem i_86_6 : ins 86 6 = some (.iconst 0, 1) := by decide +kernel
theorem f_86_34 : fld 86 34 = some (6291542, 5, 0) := by decide +kernel
theorem o_86_6291542_5 : putok 86 6291542 5 = true := by decide +kernel
theorem i_86_7 : ins 86 7 = some (.putfield 34, 3) := by decide +kernel
theorem i_86_10 : ins 86 10 = some (.iconst 0, 1) := by decide +kernel
theorem i_86_11 : ins 86 11 = some (.istore 4, 2) := by decide +kernel
theorem i_86_13 : ins 86 13 = some (.iload 4, 2) := by decide +kernel
theorem i_86_15 : ins 86 15 = some (.aload_n 0, 1) := by decide +kernel
theorem f_86_3 : fld 86 3 = some (6291542, 7, 2) := by decide +kernel
theorem i_86_16 : ins 86 16 = some (.getfield 3, 3) := by decide +kernel
theorem f_86_37 : fld 86 37 = some (1048582, 8, 0) := by decide +kernel
theorem i_86_19 : ins 86 19 = some (.getfield 37, 3) := by decide +kernel
theorem i_86_22 : ins 86 22 = some (.if_icmp .ge 127, 3) := by decide +kernel
theorem t_22_149 : tg 22 (127) = some 149 := by decide +kernel
theorem i_86_25 : ins 86 25 = some (.aload_n 0, 1) := by decide +kernel
theorem i_86_26 : ins 86 26 = some (.getfield 30, 3) := by decide +kernel
theorem i_86_29 : ins 86 29 = some (.bipush 8, 2) := by decide +kernel
theorem i_86_31 : ins 86 31 = some (.if_icmp .ge 42, 3) := by decide +kernel
theorem t_31_73 : tg 31 (42) = some 73 := by decide +kernel
theorem i_86_34 : ins 86 34 = some (.aload_n 0, 1) := by decide +kernel
theorem i_86_35 : ins 86 35 = some (.getfield 3, 3) := by decide +kernel
theorem f_86_40 : fld 86 40 = some (1048582, 18, 2) := by decide +kernel
theorem i_86_38 : ins 86 38 = some (.getfield 40, 3) := by decide +kernel
theorem i_86_41 : ins 86 41 = some (.iload 4, 2) := by decide +kernel
theorem i_86_43 : ins 86 43 = some (.iload_n 1, 1) := by decide +kernel
theorem i_86_44 : ins 86 44 = some (.iload_n 2, 1) := by decide +kernel
theorem i_86_45 : ins 86 45 = some (.iload_n 3, 1) := by decide +kernel
theorem v_86_44 : inv 86 44 = some (77, 4, 1, 4194358) := by decide +kernel
theorem i_86_46 : ins 86 46 = some (.invokevirtual 44, 3) := by decide +kernel
theorem i_86_49 : ins 86 49 = some (.ifCond .eq 24, 3) := by decide +kernel
theorem t_49_73 : tg 49 (24) = some 73 := by decide +kernel
theorem i_86_52 : ins 86 52 = some (.aload_n 0, 1) := by decide +kernel
theorem f_86_15 : fld 86 15 = some (6291542, 0, 2) := by decide +kernel
theorem i_86_53 : ins 86 53 = some (.getfield 15, 3) := by decide +kernel
theorem i_86_56 : ins 86 56 = some (.aload_n 0, 1) := by decide +kernel
theorem i_86_57 : ins 86 57 = some (.getfield 30, 3) := by decide +kernel
theorem i_86_60 : ins 86 60 = some (.iload 4, 2) := by decide +kernel
theorem i_86_62 : ins 86 62 = some (.iastore, 1) := by decide +kernel
theorem i_86_63 : ins 86 63 = some (.aload_n 0, 1) := by decide +kernel
theorem i_86_64 : ins 86 64 = some (.dup, 1) := by decide +kernel
theorem i_86_65 : ins 86 65 = some (.getfield 30, 3) := by decide +kernel
theorem i_86_68 : ins 86 68 = some (.iconst 1, 1) := by decide +kernel
theorem i_86_69 : ins 86 69 = some (.iadd, 1) := by decide +kernel
theorem i_86_70 : ins 86 70 = some (.putfield 30, 3) := by decide +kernel
theorem i_86_73 : ins 86 73 = some (.aload_n 0, 1) := by decide +kernel
theorem i_86_74 : ins 86 74 = some (.getfield 34, 3) := by decide +kernel
theorem i_86_77 : ins 86 77 = some (.bipush 10, 2) := by decide +kernel
theorem i_86_79 : ins 86 79 = some (.if_icmp .ge 64, 3) := by decide +kernel
theorem t_79_143 : tg 79 (64) = some 143 := by decide +kernel
theorem i_86_82 : ins 86 82 = some (.aload_n 0, 1) := by decide +kernel
theorem i_86_83 : ins 86 83 = some (.getfield 3, 3) := by decide +kernel
theorem i_86_86 : ins 86 86 = some (.getfield 40, 3) := by decide +kernel
theorem i_86_89 : ins 86 89 = some (.iload 4, 2) := by decide +kernel
theorem i_86_91 : ins 86 91 = some (.iload_n 1, 1) := by decide +kernel
theorem v_86_50 : inv 86 50 = some (73, 2, 1, 4194358) := by decide +kernel
theorem i_86_92 : ins 86 92 = some (.invokevirtual 50, 3) := by decide +kernel
theorem i_86_95 : ins 86 95 = some (.ifCond .eq 48, 3) := by decide +kernel
theorem t_95_143 : tg 95 (48) = some 143 := by decide +kernel
theorem i_86_98 : ins 86 98 = some (.aload_n 0, 1) := by decide +kernel
theorem i_86_99 : ins 86 99 = some (.getfield 3, 3) := by decide +kernel
theorem f_86_54 : fld 86 54 = some (1048582, 6, 2) := by decide +kernel
theorem i_86_102 : ins 86 102 = some (.getfield 54, 3) := by decide +kernel
theorem i_86_105 : ins 86 105 = some (.iload 4, 2) := by decide +kernel
theorem i_86_107 : ins 86 107 = some (.aaload, 1) := by decide +kernel
theorem f_86_58 : fld 86 58 = some (9437318, 2, 0) := by decide +kernel
theorem i_86_108 : ins 86 108 = some (.getfield 58, 3) := by decide +kernel
theorem i_86_111 : ins 86 111 = some (.i2l, 1) := by decide +kernel
theorem i_86_112 : ins 86 112 = some (.iload_n 2, 1) := by decide +kernel
theorem i_86_113 : ins 86 113 = some (.i2l, 1) := by decide +kernel
theorem i_86_114 : ins 86 114 = some (.iload_n 3, 1) := by decide +kernel
theorem i_86_115 : ins 86 115 = some (.i2l, 1) := by decide +kernel
theorem v_86_63 : inv 86 63 = some (2, 3, 0, 0) := by decide +kernel
theorem i_86_116 : ins 86 116 = some (.invokestatic 63, 3) := by decide +kernel
theorem i_86_119 : ins 86 119 = some (.ifCond .eq 24, 3) := by decide +kernel
theorem t_119_143 : tg 119 (24) = some 143 := by decide +kernel
theorem i_86_122 : ins 86 122 = some (.aload_n 0, 1) := by decide +kernel
theorem f_86_19 : fld 86 19 = some (6291542, 1, 2) := by decide +kernel
theorem i_86_123 : ins 86 123 = some (.getfield 19, 3) := by decide +kernel
theorem i_86_126 : ins 86 126 = some (.aload_n 0, 1) := by decide +kernel
theorem i_86_127 : ins 86 127 = some (.getfield 34, 3) := by decide +kernel
theorem i_86_130 : ins 86 130 = some (.iload 4, 2) := by decide +kernel
theorem i_86_132 : ins 86 132 = some (.iastore, 1) := by decide +kernel
theorem i_86_133 : ins 86 133 = some (.aload_n 0, 1) := by decide +kernel
theorem i_86_134 : ins 86 134 = some (.dup, 1) := by decide +kernel
theorem i_86_135 : ins 86 135 = some (.getfield 34, 3) := by decide +kernel
theorem i_86_138 : ins 86 138 = some (.iconst 1, 1) := by decide +kernel
theorem i_86_139 : ins 86 139 = some (.iadd, 1) := by decide +kernel
theorem i_86_140 : ins 86 140 = some (.putfield 34, 3) := by decide +kernel
theorem i_86_143 : ins 86 143 = some (.iinc 4 1, 3) := by decide +kernel
theorem i_86_146 : ins 86 146 = some (.goto (-133), 3) := by decide +kernel
theorem t_146_13 : tg 146 (-133) = some 13 := by decide +kernel
theorem i_86_149 : ins 86 149 = some (.return_, 1) := by decide +kernel
theorem r_86 : mret 86 = 0 := by decide +kernel
theorem i_87_0 : ins 87 0 = some (.iload_n 3, 1) := by decide +kernel
theorem i_87_1 : ins 87 1 = some (.iload_n 2, 1) := by decide +kernel
theorem i_87_2 : ins 87 2 = some (.ishr, 1) := by decide +kernel
theorem i_87_3 : ins 87 3 = some (.iconst 1, 1) := by decide +kernel
theorem i_87_4 : ins 87 4 = some (.iand, 1) := by decide +kernel
theorem i_87_5 : ins 87 5 = some (.ifCond .ne 55, 3) := by decide +kernel
theorem t_5_60 : tg 5 (55) = some 60 := by decide +kernel
theorem i_87_8 : ins 87 8 = some (.aload_n 0, 1) := by decide +kernel
theorem i_87_9 : ins 87 9 = some (.iload_n 1, 1) := by decide +kernel
theorem i_87_10 : ins 87 10 = some (.iload_n 2, 1) := by decide +kernel
theorem v_87_86 : inv 87 86 = some (88, 2, 1, 6291542) := by decide +kernel
theorem i_87_11 : ins 87 11 = some (.invokevirtual 86, 3) := by decide +kernel
theorem i_87_14 : ins 87 14 = some (.aload_n 0, 1) := by decide +kernel
theorem f_87_3 : fld 87 3 = some (6291542, 7, 2) := by decide +kernel
theorem i_87_15 : ins 87 15 = some (.getfield 3, 3) := by decide +kernel
theorem f_87_40 : fld 87 40 = some (1048582, 18, 2) := by decide +kernel
theorem i_87_18 : ins 87 18 = some (.getfield 40, 3) := by decide +kernel
theorem f_87_90 : fld 87 90 = some (4194358, 6, 2) := by decide +kernel
theorem i_87_21 : ins 87 21 = some (.getfield 90, 3) := by decide +kernel
theorem f_87_94 : fld 87 94 = some (3145766, 3, 2) := by decide +kernel
theorem i_87_24 : ins 87 24 = some (.getfield 94, 3) := by decide +kernel
theorem i_87_27 : ins 87 27 = some (.iconst 0, 1) := by decide +kernel
theorem i_87_28 : ins 87 28 = some (.iaload, 1) := by decide +kernel
theorem i_87_29 : ins 87 29 = some (.if_icmp .gt 31, 3) := by decide +kernel
theorem t_29_60 : tg 29 (31) = some 60 := by decide +kernel
theorem i_87_32 : ins 87 32 = some (.aload_n 0, 1) := by decide +kernel
theorem i_87_33 : ins 87 33 = some (.iload_n 1, 1) := by decide +kernel
theorem i_87_34 : ins 87 34 = some (.iload_n 2, 1) := by decide +kernel
theorem v_87_99 : inv 87 99 = some (89, 2, 1, 6291542) := by decide +kernel
theorem i_87_35 : ins 87 35 = some (.invokevirtual 99, 3) := by decide +kernel
theorem i_87_38 : ins 87 38 = some (.aload_n 0, 1) := by decide +kernel
theorem i_87_39 : ins 87 39 = some (.getfield 3, 3) := by decide +kernel
theorem i_87_42 : ins 87 42 = some (.getfield 40, 3) := by decide +kernel
theorem i_87_45 : ins 87 45 = some (.getfield 90, 3) := by decide +kernel
theorem i_87_48 : ins 87 48 = some (.getfield 94, 3) := by decide +kernel
theorem i_87_51 : ins 87 51 = some (.iconst 1, 1) := by decide +kernel
theorem i_87_52 : ins 87 52 = some (.iaload, 1) := by decide +kernel
theorem i_87_53 : ins 87 53 = some (.if_icmp .gt 7, 3) := by decide +kernel
theorem i_87_56 : ins 87 56 = some (.iconst 1, 1) := by decide +kernel
theorem i_87_57 : ins 87 57 = some (.goto 4, 3) := by decide +kernel
theorem i_87_60 : ins 87 60 = some (.iconst 0, 1) := by decide +kernel
theorem r_87 : mret 87 = 2 := by decide +kernel
theorem i_87_61 : ins 87 61 = some (.ireturn, 1) := by decide +kernel
theorem i_88_0 : ins 88 0 = some (.aload_n 0, 1) := by decide +kernel
theorem f_88_3 : fld 88 3 = some (6291542, 7, 2) := by decide +kernel
theorem i_88_1 : ins 88 1 = some (.getfield 3, 3) := by decide +kernel
theorem f_88_67 : fld 88 67 = some (1048582, 2, 2) := by decide +kernel
theorem i_88_4 : ins 88 4 = some (.getfield 67, 3) := by decide +kernel
theorem i_88_7 : ins 88 7 = some (.aload_n 0, 1) := by decide +kernel
theorem i_88_8 : ins 88 8 = some (.getfield 3, 3) := by decide +kernel
theorem f_88_54 : fld 88 54 = some (1048582, 6, 2) := by decide +kernel
theorem i_88_11 : ins 88 11 = some (.getfield 54, 3) := by decide +kernel
theorem i_88_14 : ins 88 14 = some (.aload_n 0, 1) := by decide +kernel
theorem f_88_15 : fld 88 15 = some (6291542, 0, 2) := by decide +kernel
theorem i_88_15 : ins 88 15 = some (.getfield 15, 3) := by decide +kernel
theorem i_88_18 : ins 88 18 = some (.iload_n 1, 1) := by decide +kernel
theorem i_88_19 : ins 88 19 = some (.iaload, 1) := by decide +kernel
theorem i_88_20 : ins 88 20 = some (.aaload, 1) := by decide +kernel
theorem f_88_71 : fld 88 71 = some (9437318, 1, 0) := by decide +kernel
theorem i_88_21 : ins 88 21 = some (.getfield 71, 3) := by decide +kernel
theorem i_88_24 : ins 88 24 = some (.aaload, 1) := by decide +kernel
theorem i_88_25 : ins 88 25 = some (.aload_n 0, 1) := by decide +kernel
theorem i_88_26 : ins 88 26 = some (.getfield 3, 3) := by decide +kernel
theorem i_88_29 : ins 88 29 = some (.getfield 54, 3) := by decide +kernel
theorem i_88_32 : ins 88 32 = some (.aload_n 0, 1) := by decide +kernel
theorem f_88_19 : fld 88 19 = some (6291542, 1, 2) := by decide +kernel
theorem i_88_33 : ins 88 33 = some (.getfield 19, 3) := by decide +kernel
theorem i_88_36 : ins 88 36 = some (.iload_n 2, 1) := by decide +kernel
theorem i_88_37 : ins 88 37 = some (.iaload, 1) := by decide +kernel
theorem i_88_38 : ins 88 38 = some (.aaload, 1) := by decide +kernel
theorem i_88_39 : ins 88 39 = some (.getfield 71, 3) := by decide +kernel
theorem i_88_42 : ins 88 42 = some (.iaload, 1) := by decide +kernel
theorem r_88 : mret 88 = 1 := by decide +kernel
theorem i_88_43 : ins 88 43 = some (.ireturn, 1) := by decide +kernel
theorem i_89_0 : ins 89 0 = some (.aload_n 0, 1) := by decide +kernel
theorem f_89_3 : fld 89 3 = some (6291542, 7, 2) := by decide +kernel
theorem i_89_1 : ins 89 1 = some (.getfield 3, 3) := by decide +kernel
theorem f_89_54 : fld 89 54 = some (1048582, 6, 2) := by decide +kernel
theorem i_89_4 : ins 89 4 = some (.getfield 54, 3) := by decide +kernel
theorem i_89_7 : ins 89 7 = some (.aload_n 0, 1) := by decide +kernel
theorem f_89_15 : fld 89 15 = some (6291542, 0, 2) := by decide +kernel
theorem i_89_8 : ins 89 8 = some (.getfield 15, 3) := by decide +kernel
theorem i_89_11 : ins 89 11 = some (.iload_n 1, 1) := by decide +kernel
theorem i_89_12 : ins 89 12 = some (.iaload, 1) := by decide +kernel
theorem i_89_13 : ins 89 13 = some (.aaload, 1) := by decide +kernel
theorem f_89_58 : fld 89 58 = some (9437318, 2, 0) := by decide +kernel
theorem i_89_14 : ins 89 14 = some (.getfield 58, 3) := by decide +kernel
theorem i_89_17 : ins 89 17 = some (.aload_n 0, 1) := by decide +kernel
theorem i_89_18 : ins 89 18 = some (.getfield 3, 3) := by decide +kernel
theorem i_89_21 : ins 89 21 = some (.getfield 54, 3) := by decide +kernel
theorem i_89_24 : ins 89 24 = some (.aload_n 0, 1) := by decide +kernel
theorem f_89_19 : fld 89 19 = some (6291542, 1, 2) := by decide +kernel
theorem i_89_25 : ins 89 25 = some (.getfield 19, 3) := by decide +kernel
theorem i_89_28 : ins 89 28 = some (.iload_n 2, 1) := by decide +kernel
theorem i_89_29 : ins 89 29 = some (.iaload, 1) := by decide +kernel
theorem i_89_30 : ins 89 30 = some (.aaload, 1) := by decide +kernel
theorem i_89_31 : ins 89 31 = some (.getfield 58, 3) := by decide +kernel
theorem i_89_34 : ins 89 34 = some (.isub, 1) := by decide +kernel
theorem v_89_74 : inv 89 74 = some (251, 1, 0, 0) := by decide +kernel
theorem i_89_35 : ins 89 35 = some (.invokestatic 74, 3) := by decide +kernel
theorem r_89 : mret 89 = 1 := by decide +kernel
theorem i_89_38 : ins 89 38 = some (.ireturn, 1) := by decide +kernel
theorem l_90_102 : ldcv 90 102 = some (vL (10000000000000)) := rfl
theorem i_90_0 : ins 90 0 = some (.ldc2_w 102, 3) := by decide +kernel
theorem i_90_3 : ins 90 3 = some (.aload_n 0, 1) := by decide +kernel
theorem f_90_104 : fld 90 104 = some (6291542, 6, 5) := by decide +kernel
theorem i_90_4 : ins 90 4 = some (.getfield 104, 3) := by decide +kernel
theorem i_90_7 : ins 90 7 = some (.ifCond .eq 25, 3) := by decide +kernel
theorem t_7_32 : tg 7 (25) = some 32 := by decide +kernel
theorem l_90_108 : ldcv 90 108 = some (vL (100000)) := rfl
theorem i_90_10 : ins 90 10 = some (.ldc2_w 108, 3) := by decide +kernel
theorem i_90_13 : ins 90 13 = some (.aload_n 0, 1) := by decide +kernel
theorem i_90_14 : ins 90 14 = some (.iload_n 1, 1) := by decide +kernel
theorem i_90_15 : ins 90 15 = some (.iload_n 2, 1) := by decide +kernel
theorem v_90_86 : inv 90 86 = some (88, 2, 1, 6291542) := by decide +kernel
theorem i_90_16 : ins 90 16 = some (.invokevirtual 86, 3) := by decide +kernel
theorem i_90_19 : ins 90 19 = some (.i2l, 1) := by decide +kernel
theorem i_90_20 : ins 90 20 = some (.lmul, 1) := by decide +kernel
theorem i_90_21 : ins 90 21 = some (.aload_n 0, 1) := by decide +kernel
theorem i_90_22 : ins 90 22 = some (.iload_n 1, 1) := by decide +kernel
theorem i_90_23 : ins 90 23 = some (.iload_n 2, 1) := by decide +kernel
theorem v_90_99 : inv 90 99 = some (89, 2, 1, 6291542) := by decide +kernel
theorem i_90_24 : ins 90 24 = some (.invokevirtual 99, 3) := by decide +kernel
theorem i_90_27 : ins 90 27 = some (.i2l, 1) := by decide +kernel
theorem i_90_28 : ins 90 28 = some (.ladd, 1) := by decide +kernel
theorem i_90_29 : ins 90 29 = some (.goto 9, 3) := by decide +kernel
theorem t_29_38 : tg 29 (9) = some 38 := by decide +kernel
theorem i_90_32 : ins 90 32 = some (.aload_n 0, 1) := by decide +kernel
theorem i_90_33 : ins 90 33 = some (.iload_n 1, 1) := by decide +kernel
theorem i_90_34 : ins 90 34 = some (.iload_n 2, 1) := by decide +kernel
theorem v_90_110 : inv 90 110 = some (91, 2, 1, 6291542) := by decide +kernel
theorem i_90_35 : ins 90 35 = some (.invokevirtual 110, 3) := by decide +kernel
theorem i_90_38 : ins 90 38 = some (.lsub, 1) := by decide +kernel
theorem i_90_39 : ins 90 39 = some (.lreturn, 1) := by decide +kernel
theorem r_90 : mret 90 = 5 := by decide +kernel
theorem i_91_0 : ins 91 0 = some (.aload_n 0, 1) := by decide +kernel
theorem f_91_3 : fld 91 3 = some (6291542, 7, 2) := by decide +kernel
theorem i_91_1 : ins 91 1 = some (.getfield 3, 3) := by decide +kernel
theorem f_91_40 : fld 91 40 = some (1048582, 18, 2) := by decide +kernel
theorem i_91_4 : ins 91 4 = some (.getfield 40, 3) := by decide +kernel
theorem f_91_80 : fld 91 80 = some (4194358, 0, 2) := by decide +kernel
theorem i_91_7 : ins 91 7 = some (.getfield 80, 3) := by decide +kernel
theorem i_91_10 : ins 91 10 = some (.aload_n 0, 1) := by decide +kernel
theorem f_91_19 : fld 91 19 = some (6291542, 1, 2) := by decide +kernel
theorem i_91_11 : ins 91 11 = some (.getfield 19, 3) := by decide +kernel
theorem i_91_14 : ins 91 14 = some (.iload_n 2, 1) := by decide +kernel
theorem i_91_15 : ins 91 15 = some (.iaload, 1) := by decide +kernel
theorem i_91_16 : ins 91 16 = some (.iaload, 1) := by decide +kernel
theorem i_91_17 : ins 91 17 = some (.aload_n 0, 1) := by decide +kernel
theorem i_91_18 : ins 91 18 = some (.getfield 3, 3) := by decide +kernel
theorem i_91_21 : ins 91 21 = some (.getfield 40, 3) := by decide +kernel
theorem i_91_24 : ins 91 24 = some (.getfield 80, 3) := by decide +kernel
theorem i_91_27 : ins 91 27 = some (.aload_n 0, 1) := by decide +kernel
theorem f_91_15 : fld 91 15 = some (6291542, 0, 2) := by decide +kernel
theorem i_91_28 : ins 91 28 = some (.getfield 15, 3) := by decide +kernel
theorem i_91_31 : ins 91 31 = some (.iload_n 1, 1) := by decide +kernel
theorem i_91_32 : ins 91 32 = some (.iaload, 1) := by decide +kernel
theorem i_91_33 : ins 91 33 = some (.iaload, 1) := by decide +kernel
theorem i_91_34 : ins 91 34 = some (.isub, 1) := by decide +kernel
theorem i_91_35 : ins 91 35 = some (.i2l, 1) := by decide +kernel
theorem i_91_36 : ins 91 36 = some (.aload_n 0, 1) := by decide +kernel
theorem i_91_37 : ins 91 37 = some (.getfield 3, 3) := by decide +kernel
theorem f_91_54 : fld 91 54 = some (1048582, 6, 2) := by decide +kernel
theorem i_91_40 : ins 91 40 = some (.getfield 54, 3) := by decide +kernel
theorem i_91_43 : ins 91 43 = some (.aload_n 0, 1) := by decide +kernel
theorem i_91_44 : ins 91 44 = some (.getfield 15, 3) := by decide +kernel
theorem i_91_47 : ins 91 47 = some (.iload_n 1, 1) := by decide +kernel
theorem i_91_48 : ins 91 48 = some (.iaload, 1) := by decide +kernel
theorem i_91_49 : ins 91 49 = some (.aaload, 1) := by decide +kernel
theorem f_91_83 : fld 91 83 = some (9437318, 4, 0) := by decide +kernel
theorem i_91_50 : ins 91 50 = some (.getfield 83, 3) := by decide +kernel
theorem i_91_53 : ins 91 53 = some (.i2l, 1) := by decide +kernel
theorem i_91_54 : ins 91 54 = some (.lmul, 1) := by decide +kernel
theorem i_91_55 : ins 91 55 = some (.lreturn, 1) := by decide +kernel
theorem r_91 : mret 91 = 5 := by decide +kernel
theorem i_93_0 : ins 93 0 = some (.iload_n 1, 1) := by decide +kernel
theorem i_93_1 : ins 93 1 = some (.aload_n 0, 1) := by decide +kernel
theorem f_93_264 : fld 93 264 = some (7340134, 1, 0) := by decide +kernel
theorem i_93_2 : ins 93 2 = some (.getfield 264, 3) := by decide +kernel
theorem i_93_5 : ins 93 5 = some (.sipush 3999, 3) := by decide +kernel
theorem v_93_260 : inv 93 260 = some (94, 3, 0, 0) := by decide +kernel
theorem i_93_8 : ins 93 8 = some (.invokestatic 260, 3) := by decide +kernel
theorem i_93_11 : ins 93 11 = some (.ifCond .ne 5, 3) := by decide +kernel
theorem t_11_16 : tg 11 (5) = some 16 := by decide +kernel
theorem i_93_14 : ins 93 14 = some (.iconst 0, 1) := by decide +kernel
theorem r_93 : mret 93 = 2 := by decide +kernel
theorem i_93_15 : ins 93 15 = some (.ireturn, 1) := by decide +kernel
theorem i_93_16 : ins 93 16 = some (.aload_n 0, 1) := by decide +kernel
theorem i_93_17 : ins 93 17 = some (.iload_n 1, 1) := by decide +kernel
theorem o_93_7340134_1 : putok 93 7340134 1 = true := by decide +kernel
theorem i_93_18 : ins 93 18 = some (.putfield 264, 3) := by decide +kernel
theorem i_93_21 : ins 93 21 = some (.iconst 1, 1) := by decide +kernel
theorem i_93_22 : ins 93 22 = some (.ireturn, 1) := by decide +kernel
theorem i_94_0 : ins 94 0 = some (.iload_n 0, 1) := by decide +kernel
theorem i_94_1 : ins 94 1 = some (.iload_n 1, 1) := by decide +kernel
theorem i_94_2 : ins 94 2 = some (.if_icmp .lt 12, 3) := by decide +kernel
theorem t_2_14 : tg 2 (12) = some 14 := by decide +kernel
theorem i_94_5 : ins 94 5 = some (.iload_n 0, 1) := by decide +kernel
theorem i_94_6 : ins 94 6 = some (.iload_n 2, 1) := by decide +kernel
theorem i_94_7 : ins 94 7 = some (.if_icmp .gt 7, 3) := by decide +kernel
theorem i_94_10 : ins 94 10 = some (.iconst 1, 1) := by decide +kernel
theorem i_94_11 : ins 94 11 = some (.goto 4, 3) := by decide +kernel
theorem i_94_14 : ins 94 14 = some (.iconst 0, 1) := by decide +kernel
theorem r_94 : mret 94 = 2 := by decide +kernel
theorem i_94_15 : ins 94 15 = some (.ireturn, 1) := by decide +kernel
theorem i_95_0 : ins 95 0 = some (.aload_n 0, 1) := by decide +kernel
theorem f_95_267 : fld 95 267 = some (7340134, 2, 0) := by decide +kernel
theorem i_95_1 : ins 95 1 = some (.getfield 267, 3) := by decide +kernel
theorem i_95_4 : ins 95 4 = some (.bipush 12, 2) := by decide +kernel
theorem i_95_6 : ins 95 6 = some (.if_icmp .eq 13, 3) := by decide +kernel
theorem t_6_19 : tg 6 (13) = some 19 := by decide +kernel
theorem i_95_9 : ins 95 9 = some (.iload_n 1, 1) := by decide +kernel
theorem i_95_10 : ins 95 10 = some (.iconst 0, 1) := by decide +kernel
theorem kB_7 : (Int8.ofInt (7)).toInt32 = nI 7 := by decide +kernel
theorem i_95_11 : ins 95 11 = some (.bipush 7, 2) := by decide +kernel
theorem v_95_260 : inv 95 260 = some (94, 3, 0, 0) := by decide +kernel
theorem i_95_13 : ins 95 13 = some (.invokestatic 260, 3) := by decide +kernel
theorem i_95_16 : ins 95 16 = some (.ifCond .ne 5, 3) := by decide +kernel
theorem i_95_19 : ins 95 19 = some (.iconst (-1), 1) := by decide +kernel
theorem r_95 : mret 95 = 1 := by decide +kernel
theorem i_95_20 : ins 95 20 = some (.ireturn, 1) := by decide +kernel
theorem i_95_21 : ins 95 21 = some (.aload_n 0, 1) := by decide +kernel
theorem f_95_9 : fld 95 9 = some (7340134, 4, 2) := by decide +kernel
theorem i_95_22 : ins 95 22 = some (.getfield 9, 3) := by decide +kernel
theorem i_95_25 : ins 95 25 = some (.aload_n 0, 1) := by decide +kernel
theorem i_95_26 : ins 95 26 = some (.getfield 267, 3) := by decide +kernel
theorem i_95_29 : ins 95 29 = some (.iload_n 1, 1) := by decide +kernel
theorem kl_76546241 : klen 76546241 = 12 := by decide +kernel
theorem i_95_30 : ins 95 30 = some (.iastore, 1) := by decide +kernel
theorem i_95_31 : ins 95 31 = some (.aload_n 0, 1) := by decide +kernel
theorem i_95_32 : ins 95 32 = some (.dup, 1) := by decide +kernel
theorem i_95_33 : ins 95 33 = some (.getfield 267, 3) := by decide +kernel
theorem i_95_36 : ins 95 36 = some (.iconst 1, 1) := by decide +kernel
theorem i_95_37 : ins 95 37 = some (.iadd, 1) := by decide +kernel
theorem o_95_7340134_2 : putok 95 7340134 2 = true := by decide +kernel
theorem i_95_38 : ins 95 38 = some (.putfield 267, 3) := by decide +kernel
theorem i_95_41 : ins 95 41 = some (.aload_n 0, 1) := by decide +kernel
theorem i_95_42 : ins 95 42 = some (.getfield 267, 3) := by decide +kernel
theorem i_95_45 : ins 95 45 = some (.iconst 1, 1) := by decide +kernel
theorem i_95_46 : ins 95 46 = some (.isub, 1) := by decide +kernel
theorem i_95_47 : ins 95 47 = some (.ireturn, 1) := by decide +kernel
theorem i_96_0 : ins 96 0 = some (.iload_n 1, 1) := by decide +kernel
theorem v_96_270 : inv 96 270 = some (97, 1, 0, 0) := by decide +kernel
theorem i_96_1 : ins 96 1 = some (.invokestatic 270, 3) := by decide +kernel
theorem i_96_4 : ins 96 4 = some (.ifCond .eq 25, 3) := by decide +kernel
theorem t_4_29 : tg 4 (25) = some 29 := by decide +kernel
theorem i_96_7 : ins 96 7 = some (.iload_n 2, 1) := by decide +kernel
theorem i_96_8 : ins 96 8 = some (.invokestatic 270, 3) := by decide +kernel
theorem i_96_11 : ins 96 11 = some (.ifCond .eq 18, 3) := by decide +kernel
theorem t_11_29 : tg 11 (18) = some 29 := by decide +kernel
theorem i_96_14 : ins 96 14 = some (.iload_n 1, 1) := by decide +kernel
theorem i_96_15 : ins 96 15 = some (.iload_n 2, 1) := by decide +kernel
theorem i_96_16 : ins 96 16 = some (.if_icmp .eq 13, 3) := by decide +kernel
theorem t_16_29 : tg 16 (13) = some 29 := by decide +kernel
theorem i_96_19 : ins 96 19 = some (.iload_n 3, 1) := by decide +kernel
theorem i_96_20 : ins 96 20 = some (.iconst 0, 1) := by decide +kernel
theorem i_96_21 : ins 96 21 = some (.bipush 9, 2) := by decide +kernel
theorem v_96_260 : inv 96 260 = some (94, 3, 0, 0) := by decide +kernel
theorem i_96_23 : ins 96 23 = some (.invokestatic 260, 3) := by decide +kernel
theorem i_96_26 : ins 96 26 = some (.ifCond .ne 5, 3) := by decide +kernel
theorem i_96_29 : ins 96 29 = some (.iconst (-1), 1) := by decide +kernel
theorem r_96 : mret 96 = 1 := by decide +kernel
theorem i_96_30 : ins 96 30 = some (.ireturn, 1) := by decide +kernel
theorem i_96_31 : ins 96 31 = some (.aload_n 0, 1) := by decide +kernel
theorem f_96_13 : fld 96 13 = some (7340134, 5, 2) := by decide +kernel
theorem i_96_32 : ins 96 32 = some (.getfield 13, 3) := by decide +kernel
theorem i_96_35 : ins 96 35 = some (.bipush 16, 2) := by decide +kernel
theorem i_96_37 : ins 96 37 = some (.iload_n 1, 1) := by decide +kernel
theorem i_96_38 : ins 96 38 = some (.imul, 1) := by decide +kernel
theorem i_96_39 : ins 96 39 = some (.iload_n 2, 1) := by decide +kernel
theorem i_96_40 : ins 96 40 = some (.iadd, 1) := by decide +kernel
theorem kl_77598721 : klen 77598721 = 256 := by decide +kernel
theorem i_96_41 : ins 96 41 = some (.iaload, 1) := by decide +kernel
theorem i_96_42 : ins 96 42 = some (.istore 4, 2) := by decide +kernel
theorem i_96_44 : ins 96 44 = some (.aload_n 0, 1) := by decide +kernel
theorem i_96_45 : ins 96 45 = some (.getfield 13, 3) := by decide +kernel
theorem i_96_48 : ins 96 48 = some (.bipush 16, 2) := by decide +kernel
theorem i_96_50 : ins 96 50 = some (.iload_n 1, 1) := by decide +kernel
theorem i_96_51 : ins 96 51 = some (.imul, 1) := by decide +kernel
theorem i_96_52 : ins 96 52 = some (.iload_n 2, 1) := by decide +kernel
theorem i_96_53 : ins 96 53 = some (.iadd, 1) := by decide +kernel
theorem i_96_54 : ins 96 54 = some (.iload_n 3, 1) := by decide +kernel
theorem i_96_55 : ins 96 55 = some (.iastore, 1) := by decide +kernel
theorem i_96_56 : ins 96 56 = some (.aload_n 0, 1) := by decide +kernel
theorem i_96_57 : ins 96 57 = some (.getfield 13, 3) := by decide +kernel
theorem i_96_60 : ins 96 60 = some (.bipush 16, 2) := by decide +kernel
theorem i_96_62 : ins 96 62 = some (.iload_n 2, 1) := by decide +kernel
theorem i_96_63 : ins 96 63 = some (.imul, 1) := by decide +kernel
theorem i_96_64 : ins 96 64 = some (.iload_n 1, 1) := by decide +kernel
theorem i_96_65 : ins 96 65 = some (.iadd, 1) := by decide +kernel
theorem i_96_66 : ins 96 66 = some (.iload_n 3, 1) := by decide +kernel
theorem i_96_67 : ins 96 67 = some (.iastore, 1) := by decide +kernel
theorem i_96_68 : ins 96 68 = some (.iload 4, 2) := by decide +kernel
theorem i_96_70 : ins 96 70 = some (.ireturn, 1) := by decide +kernel
theorem i_97_0 : ins 97 0 = some (.iload_n 0, 1) := by decide +kernel
theorem i_97_1 : ins 97 1 = some (.iconst 0, 1) := by decide +kernel
theorem kB_15 : (Int8.ofInt (15)).toInt32 = nI 15 := by decide +kernel
theorem i_97_2 : ins 97 2 = some (.bipush 15, 2) := by decide +kernel
theorem v_97_260 : inv 97 260 = some (94, 3, 0, 0) := by decide +kernel
theorem i_97_4 : ins 97 4 = some (.invokestatic 260, 3) := by decide +kernel
theorem r_97 : mret 97 = 2 := by decide +kernel
theorem i_97_7 : ins 97 7 = some (.ireturn, 1) := by decide +kernel
theorem i_98_0 : ins 98 0 = some (.aload_n 0, 1) := by decide +kernel
theorem f_98_274 : fld 98 274 = some (7340134, 3, 0) := by decide +kernel
theorem i_98_1 : ins 98 1 = some (.getfield 274, 3) := by decide +kernel
theorem i_98_4 : ins 98 4 = some (.sipush 200, 3) := by decide +kernel
theorem i_98_7 : ins 98 7 = some (.if_icmp .eq 37, 3) := by decide +kernel
theorem i_98_10 : ins 98 10 = some (.aload_n 0, 1) := by decide +kernel
theorem i_98_11 : ins 98 11 = some (.iload_n 1, 1) := by decide +kernel
theorem v_98_277 : inv 98 277 = some (99, 1, 1, 7340134) := by decide +kernel
theorem i_98_12 : ins 98 12 = some (.invokevirtual 277, 3) := by decide +kernel
theorem i_98_15 : ins 98 15 = some (.ifCond .eq 29, 3) := by decide +kernel
theorem i_98_18 : ins 98 18 = some (.iload_n 2, 1) := by decide +kernel
theorem v_98_270 : inv 98 270 = some (97, 1, 0, 0) := by decide +kernel
theorem i_98_19 : ins 98 19 = some (.invokestatic 270, 3) := by decide +kernel
theorem i_98_22 : ins 98 22 = some (.ifCond .eq 22, 3) := by decide +kernel
theorem t_22_44 : tg 22 (22) = some 44 := by decide +kernel
theorem i_98_25 : ins 98 25 = some (.iload_n 3, 1) := by decide +kernel
theorem v_98_280 : inv 98 280 = some (100, 1, 0, 0) := by decide +kernel
theorem i_98_26 : ins 98 26 = some (.invokestatic 280, 3) := by decide +kernel
theorem i_98_29 : ins 98 29 = some (.ifCond .eq 15, 3) := by decide +kernel
theorem i_98_32 : ins 98 32 = some (.iload 4, 2) := by decide +kernel
theorem i_98_34 : ins 98 34 = some (.iconst 0, 1) := by decide +kernel
theorem kS_9999 : (Int16.ofInt (9999)).toInt32 = nI 9999 := by decide +kernel
theorem i_98_35 : ins 98 35 = some (.sipush 9999, 3) := by decide +kernel
theorem v_98_260 : inv 98 260 = some (94, 3, 0, 0) := by decide +kernel
theorem i_98_38 : ins 98 38 = some (.invokestatic 260, 3) := by decide +kernel
theorem i_98_41 : ins 98 41 = some (.ifCond .ne 5, 3) := by decide +kernel
theorem i_98_44 : ins 98 44 = some (.iconst (-1), 1) := by decide +kernel
theorem r_98 : mret 98 = 1 := by decide +kernel
theorem i_98_45 : ins 98 45 = some (.ireturn, 1) := by decide +kernel
theorem i_98_46 : ins 98 46 = some (.aload_n 0, 1) := by decide +kernel
theorem f_98_16 : fld 98 16 = some (7340134, 6, 2) := by decide +kernel
theorem i_98_47 : ins 98 47 = some (.getfield 16, 3) := by decide +kernel
theorem i_98_50 : ins 98 50 = some (.aload_n 0, 1) := by decide +kernel
theorem i_98_51 : ins 98 51 = some (.getfield 274, 3) := by decide +kernel
theorem i_98_54 : ins 98 54 = some (.iload_n 1, 1) := by decide +kernel
theorem kl_78646401 : klen 78646401 = 200 := by decide +kernel
theorem i_98_55 : ins 98 55 = some (.iastore, 1) := by decide +kernel
theorem i_98_56 : ins 98 56 = some (.aload_n 0, 1) := by decide +kernel
theorem f_98_19 : fld 98 19 = some (7340134, 7, 2) := by decide +kernel
theorem i_98_57 : ins 98 57 = some (.getfield 19, 3) := by decide +kernel
theorem i_98_60 : ins 98 60 = some (.aload_n 0, 1) := by decide +kernel
theorem i_98_61 : ins 98 61 = some (.getfield 274, 3) := by decide +kernel
theorem i_98_64 : ins 98 64 = some (.iload_n 2, 1) := by decide +kernel
theorem kl_79694977 : klen 79694977 = 200 := by decide +kernel
theorem i_98_65 : ins 98 65 = some (.iastore, 1) := by decide +kernel
theorem i_98_66 : ins 98 66 = some (.aload_n 0, 1) := by decide +kernel
theorem f_98_22 : fld 98 22 = some (7340134, 8, 2) := by decide +kernel
theorem i_98_67 : ins 98 67 = some (.getfield 22, 3) := by decide +kernel
theorem i_98_70 : ins 98 70 = some (.aload_n 0, 1) := by decide +kernel
theorem i_98_71 : ins 98 71 = some (.getfield 274, 3) := by decide +kernel
theorem i_98_74 : ins 98 74 = some (.iload_n 3, 1) := by decide +kernel
theorem kl_80743553 : klen 80743553 = 200 := by decide +kernel
theorem i_98_75 : ins 98 75 = some (.iastore, 1) := by decide +kernel
theorem i_98_76 : ins 98 76 = some (.aload_n 0, 1) := by decide +kernel
theorem f_98_25 : fld 98 25 = some (7340134, 9, 2) := by decide +kernel
theorem i_98_77 : ins 98 77 = some (.getfield 25, 3) := by decide +kernel
theorem i_98_80 : ins 98 80 = some (.aload_n 0, 1) := by decide +kernel
theorem i_98_81 : ins 98 81 = some (.getfield 274, 3) := by decide +kernel
theorem i_98_84 : ins 98 84 = some (.iload 4, 2) := by decide +kernel
theorem kl_81792129 : klen 81792129 = 200 := by decide +kernel
theorem i_98_86 : ins 98 86 = some (.iastore, 1) := by decide +kernel
theorem i_98_87 : ins 98 87 = some (.aload_n 0, 1) := by decide +kernel
theorem f_98_28 : fld 98 28 = some (7340134, 10, 2) := by decide +kernel
theorem i_98_88 : ins 98 88 = some (.getfield 28, 3) := by decide +kernel
theorem i_98_91 : ins 98 91 = some (.aload_n 0, 1) := by decide +kernel
theorem i_98_92 : ins 98 92 = some (.getfield 274, 3) := by decide +kernel
theorem i_98_95 : ins 98 95 = some (.aload_n 0, 1) := by decide +kernel
theorem f_98_264 : fld 98 264 = some (7340134, 1, 0) := by decide +kernel
theorem i_98_96 : ins 98 96 = some (.getfield 264, 3) := by decide +kernel
theorem kl_82840705 : klen 82840705 = 200 := by decide +kernel
theorem i_98_99 : ins 98 99 = some (.iastore, 1) := by decide +kernel
theorem i_98_100 : ins 98 100 = some (.aload_n 0, 1) := by decide +kernel
theorem i_98_101 : ins 98 101 = some (.dup, 1) := by decide +kernel
theorem i_98_102 : ins 98 102 = some (.getfield 274, 3) := by decide +kernel
theorem i_98_105 : ins 98 105 = some (.iconst 1, 1) := by decide +kernel
theorem i_98_106 : ins 98 106 = some (.iadd, 1) := by decide +kernel
theorem o_98_7340134_3 : putok 98 7340134 3 = true := by decide +kernel
theorem i_98_107 : ins 98 107 = some (.putfield 274, 3) := by decide +kernel
theorem i_98_110 : ins 98 110 = some (.aload_n 0, 1) := by decide +kernel
theorem i_98_111 : ins 98 111 = some (.getfield 274, 3) := by decide +kernel
theorem i_98_114 : ins 98 114 = some (.ireturn, 1) := by decide +kernel
theorem i_99_0 : ins 99 0 = some (.iload_n 1, 1) := by decide +kernel
theorem i_99_1 : ins 99 1 = some (.iconst 0, 1) := by decide +kernel
theorem i_99_2 : ins 99 2 = some (.aload_n 0, 1) := by decide +kernel
theorem f_99_267 : fld 99 267 = some (7340134, 2, 0) := by decide +kernel
theorem i_99_3 : ins 99 3 = some (.getfield 267, 3) := by decide +kernel
theorem i_99_6 : ins 99 6 = some (.iconst 1, 1) := by decide +kernel
theorem i_99_7 : ins 99 7 = some (.isub, 1) := by decide +kernel
theorem v_99_260 : inv 99 260 = some (94, 3, 0, 0) := by decide +kernel
theorem i_99_8 : ins 99 8 = some (.invokestatic 260, 3) := by decide +kernel
theorem r_99 : mret 99 = 2 := by decide +kernel
theorem i_99_11 : ins 99 11 = some (.ireturn, 1) := by decide +kernel
theorem i_100_0 : ins 100 0 = some (.iload_n 0, 1) := by decide +kernel
theorem i_100_1 : ins 100 1 = some (.iconst 0, 1) := by decide +kernel
theorem i_100_2 : ins 100 2 = some (.sipush 133, 3) := by decide +kernel
theorem v_100_260 : inv 100 260 = some (94, 3, 0, 0) := by decide +kernel
theorem i_100_5 : ins 100 5 = some (.invokestatic 260, 3) := by decide +kernel
theorem r_100 : mret 100 = 2 := by decide +kernel
theorem i_100_8 : ins 100 8 = some (.ireturn, 1) := by decide +kernel
theorem i_101_0 : ins 101 0 = some (.aload_n 0, 1) := by decide +kernel
theorem i_101_1 : ins 101 1 = some (.iload_n 1, 1) := by decide +kernel
theorem v_101_277 : inv 101 277 = some (99, 1, 1, 7340134) := by decide +kernel
theorem i_101_2 : ins 101 2 = some (.invokevirtual 277, 3) := by decide +kernel
theorem i_101_5 : ins 101 5 = some (.ifCond .eq 37, 3) := by decide +kernel
theorem i_101_8 : ins 101 8 = some (.iload_n 2, 1) := by decide +kernel
theorem v_101_270 : inv 101 270 = some (97, 1, 0, 0) := by decide +kernel
theorem i_101_9 : ins 101 9 = some (.invokestatic 270, 3) := by decide +kernel
theorem i_101_12 : ins 101 12 = some (.ifCond .eq 30, 3) := by decide +kernel
theorem i_101_15 : ins 101 15 = some (.iload_n 3, 1) := by decide +kernel
theorem v_101_280 : inv 101 280 = some (100, 1, 0, 0) := by decide +kernel
theorem i_101_16 : ins 101 16 = some (.invokestatic 280, 3) := by decide +kernel
theorem i_101_19 : ins 101 19 = some (.ifCond .eq 23, 3) := by decide +kernel
theorem i_101_22 : ins 101 22 = some (.iload 4, 2) := by decide +kernel
theorem v_101_283 : inv 101 283 = some (102, 1, 0, 0) := by decide +kernel
theorem i_101_24 : ins 101 24 = some (.invokestatic 283, 3) := by decide +kernel
theorem i_101_27 : ins 101 27 = some (.ifCond .eq 15, 3) := by decide +kernel
theorem i_101_30 : ins 101 30 = some (.aload_n 0, 1) := by decide +kernel
theorem i_101_31 : ins 101 31 = some (.iload_n 1, 1) := by decide +kernel
theorem i_101_32 : ins 101 32 = some (.iload_n 2, 1) := by decide +kernel
theorem i_101_33 : ins 101 33 = some (.iload_n 3, 1) := by decide +kernel
theorem i_101_34 : ins 101 34 = some (.iload 4, 2) := by decide +kernel
theorem v_101_286 : inv 101 286 = some (103, 4, 1, 7340134) := by decide +kernel
theorem i_101_36 : ins 101 36 = some (.invokevirtual 286, 3) := by decide +kernel
theorem i_101_39 : ins 101 39 = some (.goto 4, 3) := by decide +kernel
theorem i_101_42 : ins 101 42 = some (.iconst (-1), 1) := by decide +kernel
theorem r_101 : mret 101 = 1 := by decide +kernel
theorem i_101_43 : ins 101 43 = some (.ireturn, 1) := by decide +kernel
theorem i_102_0 : ins 102 0 = some (.iload_n 0, 1) := by decide +kernel
theorem i_102_1 : ins 102 1 = some (.iconst 0, 1) := by decide +kernel
theorem i_102_2 : ins 102 2 = some (.sipush 3999, 3) := by decide +kernel
theorem v_102_260 : inv 102 260 = some (94, 3, 0, 0) := by decide +kernel
theorem i_102_5 : ins 102 5 = some (.invokestatic 260, 3) := by decide +kernel
theorem r_102 : mret 102 = 2 := by decide +kernel
theorem i_102_8 : ins 102 8 = some (.ireturn, 1) := by decide +kernel
theorem i_103_0 : ins 103 0 = some (.iconst (-1), 1) := by decide +kernel
theorem i_103_1 : ins 103 1 = some (.istore 5, 2) := by decide +kernel
theorem i_103_3 : ins 103 3 = some (.iconst 0, 1) := by decide +kernel
theorem i_103_4 : ins 103 4 = some (.istore 6, 2) := by decide +kernel
theorem i_103_6 : ins 103 6 = some (.iload 6, 2) := by decide +kernel
theorem i_103_8 : ins 103 8 = some (.aload_n 0, 1) := by decide +kernel
theorem f_103_274 : fld 103 274 = some (7340134, 3, 0) := by decide +kernel
theorem i_103_9 : ins 103 9 = some (.getfield 274, 3) := by decide +kernel
theorem i_103_12 : ins 103 12 = some (.if_icmp .ge 81, 3) := by decide +kernel
theorem t_12_93 : tg 12 (81) = some 93 := by decide +kernel
theorem i_103_15 : ins 103 15 = some (.aload_n 0, 1) := by decide +kernel
theorem f_103_16 : fld 103 16 = some (7340134, 6, 2) := by decide +kernel
theorem i_103_16 : ins 103 16 = some (.getfield 16, 3) := by decide +kernel
theorem i_103_19 : ins 103 19 = some (.iload 6, 2) := by decide +kernel
theorem i_103_21 : ins 103 21 = some (.iaload, 1) := by decide +kernel
theorem i_103_22 : ins 103 22 = some (.iload_n 1, 1) := by decide +kernel
theorem i_103_23 : ins 103 23 = some (.if_icmp .ne 64, 3) := by decide +kernel
theorem t_23_87 : tg 23 (64) = some 87 := by decide +kernel
theorem i_103_26 : ins 103 26 = some (.aload_n 0, 1) := by decide +kernel
theorem f_103_19 : fld 103 19 = some (7340134, 7, 2) := by decide +kernel
theorem i_103_27 : ins 103 27 = some (.getfield 19, 3) := by decide +kernel
theorem i_103_30 : ins 103 30 = some (.iload 6, 2) := by decide +kernel
theorem i_103_32 : ins 103 32 = some (.iaload, 1) := by decide +kernel
theorem i_103_33 : ins 103 33 = some (.iload_n 2, 1) := by decide +kernel
theorem i_103_34 : ins 103 34 = some (.if_icmp .ne 53, 3) := by decide +kernel
theorem t_34_87 : tg 34 (53) = some 87 := by decide +kernel
theorem i_103_37 : ins 103 37 = some (.aload_n 0, 1) := by decide +kernel
theorem f_103_22 : fld 103 22 = some (7340134, 8, 2) := by decide +kernel
theorem i_103_38 : ins 103 38 = some (.getfield 22, 3) := by decide +kernel
theorem i_103_41 : ins 103 41 = some (.iload 6, 2) := by decide +kernel
theorem i_103_43 : ins 103 43 = some (.iaload, 1) := by decide +kernel
theorem i_103_44 : ins 103 44 = some (.iload_n 3, 1) := by decide +kernel
theorem i_103_45 : ins 103 45 = some (.if_icmp .gt 42, 3) := by decide +kernel
theorem t_45_87 : tg 45 (42) = some 87 := by decide +kernel
theorem i_103_48 : ins 103 48 = some (.aload_n 0, 1) := by decide +kernel
theorem f_103_28 : fld 103 28 = some (7340134, 10, 2) := by decide +kernel
theorem i_103_49 : ins 103 49 = some (.getfield 28, 3) := by decide +kernel
theorem i_103_52 : ins 103 52 = some (.iload 6, 2) := by decide +kernel
theorem i_103_54 : ins 103 54 = some (.iaload, 1) := by decide +kernel
theorem i_103_55 : ins 103 55 = some (.iload 4, 2) := by decide +kernel
theorem i_103_57 : ins 103 57 = some (.if_icmp .gt 30, 3) := by decide +kernel
theorem t_57_87 : tg 57 (30) = some 87 := by decide +kernel
theorem i_103_60 : ins 103 60 = some (.iload 5, 2) := by decide +kernel
theorem i_103_62 : ins 103 62 = some (.iconst (-1), 1) := by decide +kernel
theorem i_103_63 : ins 103 63 = some (.if_icmp .eq 20, 3) := by decide +kernel
theorem t_63_83 : tg 63 (20) = some 83 := by decide +kernel
theorem i_103_66 : ins 103 66 = some (.aload_n 0, 1) := by decide +kernel
theorem i_103_67 : ins 103 67 = some (.getfield 22, 3) := by decide +kernel
theorem i_103_70 : ins 103 70 = some (.iload 6, 2) := by decide +kernel
theorem i_103_72 : ins 103 72 = some (.iaload, 1) := by decide +kernel
theorem i_103_73 : ins 103 73 = some (.aload_n 0, 1) := by decide +kernel
theorem i_103_74 : ins 103 74 = some (.getfield 22, 3) := by decide +kernel
theorem i_103_77 : ins 103 77 = some (.iload 5, 2) := by decide +kernel
theorem i_103_79 : ins 103 79 = some (.iaload, 1) := by decide +kernel
theorem i_103_80 : ins 103 80 = some (.if_icmp .lt 7, 3) := by decide +kernel
theorem t_80_87 : tg 80 (7) = some 87 := by decide +kernel
theorem i_103_83 : ins 103 83 = some (.iload 6, 2) := by decide +kernel
theorem i_103_85 : ins 103 85 = some (.istore 5, 2) := by decide +kernel
theorem i_103_87 : ins 103 87 = some (.iinc 6 1, 3) := by decide +kernel
theorem i_103_90 : ins 103 90 = some (.goto (-84), 3) := by decide +kernel
theorem t_90_6 : tg 90 (-84) = some 6 := by decide +kernel
theorem i_103_93 : ins 103 93 = some (.iload 5, 2) := by decide +kernel
theorem i_103_95 : ins 103 95 = some (.iconst (-1), 1) := by decide +kernel
theorem i_103_96 : ins 103 96 = some (.if_icmp .ne 7, 3) := by decide +kernel
theorem t_96_103 : tg 96 (7) = some 103 := by decide +kernel
theorem i_103_99 : ins 103 99 = some (.iconst (-1), 1) := by decide +kernel
theorem i_103_100 : ins 103 100 = some (.goto 10, 3) := by decide +kernel
theorem t_100_110 : tg 100 (10) = some 110 := by decide +kernel
theorem i_103_103 : ins 103 103 = some (.aload_n 0, 1) := by decide +kernel
theorem f_103_25 : fld 103 25 = some (7340134, 9, 2) := by decide +kernel
theorem i_103_104 : ins 103 104 = some (.getfield 25, 3) := by decide +kernel
theorem i_103_107 : ins 103 107 = some (.iload 5, 2) := by decide +kernel
theorem i_103_109 : ins 103 109 = some (.iaload, 1) := by decide +kernel
theorem r_103 : mret 103 = 1 := by decide +kernel
theorem i_103_110 : ins 103 110 = some (.ireturn, 1) := by decide +kernel
theorem i_104_0 : ins 104 0 = some (.aload_n 0, 1) := by decide +kernel
theorem f_104_290 : fld 104 290 = some (7340134, 11, 0) := by decide +kernel
theorem i_104_1 : ins 104 1 = some (.getfield 290, 3) := by decide +kernel
theorem i_104_4 : ins 104 4 = some (.sipush 300, 3) := by decide +kernel
theorem i_104_7 : ins 104 7 = some (.if_icmp .eq 55, 3) := by decide +kernel
theorem t_7_62 : tg 7 (55) = some 62 := by decide +kernel
theorem i_104_10 : ins 104 10 = some (.aload_n 0, 1) := by decide +kernel
theorem i_104_11 : ins 104 11 = some (.iload_n 1, 1) := by decide +kernel
theorem v_104_277 : inv 104 277 = some (99, 1, 1, 7340134) := by decide +kernel
theorem i_104_12 : ins 104 12 = some (.invokevirtual 277, 3) := by decide +kernel
theorem i_104_15 : ins 104 15 = some (.ifCond .eq 47, 3) := by decide +kernel
theorem t_15_62 : tg 15 (47) = some 62 := by decide +kernel
theorem i_104_18 : ins 104 18 = some (.iload_n 3, 1) := by decide +kernel
theorem v_104_270 : inv 104 270 = some (97, 1, 0, 0) := by decide +kernel
theorem i_104_19 : ins 104 19 = some (.invokestatic 270, 3) := by decide +kernel
theorem i_104_22 : ins 104 22 = some (.ifCond .eq 40, 3) := by decide +kernel
theorem t_22_62 : tg 22 (40) = some 62 := by decide +kernel
theorem i_104_25 : ins 104 25 = some (.iload 4, 2) := by decide +kernel
theorem i_104_27 : ins 104 27 = some (.iconst 0, 1) := by decide +kernel
theorem i_104_28 : ins 104 28 = some (.aload_n 0, 1) := by decide +kernel
theorem f_104_264 : fld 104 264 = some (7340134, 1, 0) := by decide +kernel
theorem i_104_29 : ins 104 29 = some (.getfield 264, 3) := by decide +kernel
theorem v_104_260 : inv 104 260 = some (94, 3, 0, 0) := by decide +kernel
theorem i_104_32 : ins 104 32 = some (.invokestatic 260, 3) := by decide +kernel
theorem i_104_35 : ins 104 35 = some (.ifCond .eq 27, 3) := by decide +kernel
theorem t_35_62 : tg 35 (27) = some 62 := by decide +kernel
theorem i_104_38 : ins 104 38 = some (.iload 5, 2) := by decide +kernel
theorem i_104_40 : ins 104 40 = some (.iconst 1, 1) := by decide +kernel
theorem kS_999 : (Int16.ofInt (999)).toInt32 = nI 999 := by decide +kernel
theorem i_104_41 : ins 104 41 = some (.sipush 999, 3) := by decide +kernel
theorem i_104_44 : ins 104 44 = some (.invokestatic 260, 3) := by decide +kernel
theorem i_104_47 : ins 104 47 = some (.ifCond .eq 15, 3) := by decide +kernel
theorem t_47_62 : tg 47 (15) = some 62 := by decide +kernel
theorem i_104_50 : ins 104 50 = some (.iload 6, 2) := by decide +kernel
theorem i_104_52 : ins 104 52 = some (.iconst 1, 1) := by decide +kernel
theorem i_104_53 : ins 104 53 = some (.sipush 9999, 3) := by decide +kernel
theorem i_104_56 : ins 104 56 = some (.invokestatic 260, 3) := by decide +kernel
theorem i_104_59 : ins 104 59 = some (.ifCond .ne 5, 3) := by decide +kernel
theorem i_104_62 : ins 104 62 = some (.iconst (-1), 1) := by decide +kernel
theorem r_104 : mret 104 = 1 := by decide +kernel
theorem i_104_63 : ins 104 63 = some (.ireturn, 1) := by decide +kernel
theorem i_104_64 : ins 104 64 = some (.aload_n 0, 1) := by decide +kernel
theorem f_104_31 : fld 104 31 = some (7340134, 13, 2) := by decide +kernel
theorem i_104_65 : ins 104 65 = some (.getfield 31, 3) := by decide +kernel
theorem i_104_68 : ins 104 68 = some (.aload_n 0, 1) := by decide +kernel
theorem i_104_69 : ins 104 69 = some (.getfield 290, 3) := by decide +kernel
theorem i_104_72 : ins 104 72 = some (.iload_n 1, 1) := by decide +kernel
theorem kl_83890881 : klen 83890881 = 300 := by decide +kernel
theorem i_104_73 : ins 104 73 = some (.iastore, 1) := by decide +kernel
theorem i_104_74 : ins 104 74 = some (.aload_n 0, 1) := by decide +kernel
theorem f_104_52 : fld 104 52 = some (7340134, 20, 2) := by decide +kernel
theorem i_104_75 : ins 104 75 = some (.getfield 52, 3) := by decide +kernel
theorem i_104_78 : ins 104 78 = some (.aload_n 0, 1) := by decide +kernel
theorem i_104_79 : ins 104 79 = some (.getfield 290, 3) := by decide +kernel
theorem i_104_82 : ins 104 82 = some (.iload_n 2, 1) := by decide +kernel
theorem kl_91230915 : klen 91230915 = 300 := by decide +kernel
theorem i_104_83 : ins 104 83 = some (.bastore, 1) := by decide +kernel
theorem i_104_84 : ins 104 84 = some (.aload_n 0, 1) := by decide +kernel
theorem f_104_34 : fld 104 34 = some (7340134, 14, 2) := by decide +kernel
theorem i_104_85 : ins 104 85 = some (.getfield 34, 3) := by decide +kernel
theorem i_104_88 : ins 104 88 = some (.aload_n 0, 1) := by decide +kernel
theorem i_104_89 : ins 104 89 = some (.getfield 290, 3) := by decide +kernel
theorem i_104_92 : ins 104 92 = some (.iload_n 3, 1) := by decide +kernel
theorem kl_84939457 : klen 84939457 = 300 := by decide +kernel
theorem i_104_93 : ins 104 93 = some (.iastore, 1) := by decide +kernel
theorem i_104_94 : ins 104 94 = some (.aload_n 0, 1) := by decide +kernel
theorem f_104_37 : fld 104 37 = some (7340134, 15, 2) := by decide +kernel
theorem i_104_95 : ins 104 95 = some (.getfield 37, 3) := by decide +kernel
theorem i_104_98 : ins 104 98 = some (.aload_n 0, 1) := by decide +kernel
theorem i_104_99 : ins 104 99 = some (.getfield 290, 3) := by decide +kernel
theorem i_104_102 : ins 104 102 = some (.iload 4, 2) := by decide +kernel
theorem kl_85988033 : klen 85988033 = 300 := by decide +kernel
theorem i_104_104 : ins 104 104 = some (.iastore, 1) := by decide +kernel
theorem i_104_105 : ins 104 105 = some (.aload_n 0, 1) := by decide +kernel
theorem f_104_40 : fld 104 40 = some (7340134, 16, 2) := by decide +kernel
theorem i_104_106 : ins 104 106 = some (.getfield 40, 3) := by decide +kernel
theorem i_104_109 : ins 104 109 = some (.aload_n 0, 1) := by decide +kernel
theorem i_104_110 : ins 104 110 = some (.getfield 290, 3) := by decide +kernel
theorem i_104_113 : ins 104 113 = some (.iload 5, 2) := by decide +kernel
theorem kl_87036609 : klen 87036609 = 300 := by decide +kernel
theorem i_104_115 : ins 104 115 = some (.iastore, 1) := by decide +kernel
theorem i_104_116 : ins 104 116 = some (.aload_n 0, 1) := by decide +kernel
theorem f_104_43 : fld 104 43 = some (7340134, 17, 2) := by decide +kernel
theorem i_104_117 : ins 104 117 = some (.getfield 43, 3) := by decide +kernel
theorem i_104_120 : ins 104 120 = some (.aload_n 0, 1) := by decide +kernel
theorem i_104_121 : ins 104 121 = some (.getfield 290, 3) := by decide +kernel
theorem i_104_124 : ins 104 124 = some (.iload 6, 2) := by decide +kernel
theorem kl_88085185 : klen 88085185 = 300 := by decide +kernel
theorem i_104_126 : ins 104 126 = some (.iastore, 1) := by decide +kernel
theorem i_104_127 : ins 104 127 = some (.aload_n 0, 1) := by decide +kernel
theorem f_104_56 : fld 104 56 = some (7340134, 21, 2) := by decide +kernel
theorem i_104_128 : ins 104 128 = some (.getfield 56, 3) := by decide +kernel
theorem i_104_131 : ins 104 131 = some (.aload_n 0, 1) := by decide +kernel
theorem i_104_132 : ins 104 132 = some (.getfield 290, 3) := by decide +kernel
theorem i_104_135 : ins 104 135 = some (.iload 7, 2) := by decide +kernel
theorem kl_92279491 : klen 92279491 = 300 := by decide +kernel
theorem i_104_137 : ins 104 137 = some (.bastore, 1) := by decide +kernel
theorem i_104_138 : ins 104 138 = some (.aload_n 0, 1) := by decide +kernel
theorem f_104_46 : fld 104 46 = some (7340134, 18, 2) := by decide +kernel
theorem i_104_139 : ins 104 139 = some (.getfield 46, 3) := by decide +kernel
theorem i_104_142 : ins 104 142 = some (.aload_n 0, 1) := by decide +kernel
theorem i_104_143 : ins 104 143 = some (.getfield 290, 3) := by decide +kernel
theorem i_104_146 : ins 104 146 = some (.aload_n 0, 1) := by decide +kernel
theorem i_104_147 : ins 104 147 = some (.getfield 264, 3) := by decide +kernel
theorem kl_89133761 : klen 89133761 = 300 := by decide +kernel
theorem i_104_150 : ins 104 150 = some (.iastore, 1) := by decide +kernel
theorem i_104_151 : ins 104 151 = some (.aload_n 0, 1) := by decide +kernel
theorem f_104_49 : fld 104 49 = some (7340134, 19, 2) := by decide +kernel
theorem i_104_152 : ins 104 152 = some (.getfield 49, 3) := by decide +kernel
theorem i_104_155 : ins 104 155 = some (.aload_n 0, 1) := by decide +kernel
theorem i_104_156 : ins 104 156 = some (.getfield 290, 3) := by decide +kernel
theorem l_104_293 : ldcv 104 293 = some (vI (nI 100000)) := rfl
theorem i_104_159 : ins 104 159 = some (.ldc_w 293, 3) := by decide +kernel
theorem kl_90182337 : klen 90182337 = 300 := by decide +kernel
theorem i_104_162 : ins 104 162 = some (.iastore, 1) := by decide +kernel
theorem i_104_163 : ins 104 163 = some (.aload_n 0, 1) := by decide +kernel
theorem i_104_164 : ins 104 164 = some (.dup, 1) := by decide +kernel
theorem i_104_165 : ins 104 165 = some (.getfield 290, 3) := by decide +kernel
theorem i_104_168 : ins 104 168 = some (.iconst 1, 1) := by decide +kernel
theorem i_104_169 : ins 104 169 = some (.iadd, 1) := by decide +kernel
theorem o_104_7340134_11 : putok 104 7340134 11 = true := by decide +kernel
theorem i_104_170 : ins 104 170 = some (.putfield 290, 3) := by decide +kernel
theorem i_104_173 : ins 104 173 = some (.aload_n 0, 1) := by decide +kernel
theorem i_104_174 : ins 104 174 = some (.getfield 290, 3) := by decide +kernel
theorem i_104_177 : ins 104 177 = some (.iconst 1, 1) := by decide +kernel
theorem i_104_178 : ins 104 178 = some (.isub, 1) := by decide +kernel
theorem i_104_179 : ins 104 179 = some (.ireturn, 1) := by decide +kernel
theorem i_105_0 : ins 105 0 = some (.aload_n 0, 1) := by decide +kernel
theorem i_105_1 : ins 105 1 = some (.iload_n 1, 1) := by decide +kernel
theorem v_105_294 : inv 105 294 = some (106, 1, 1, 7340134) := by decide +kernel
theorem i_105_2 : ins 105 2 = some (.invokevirtual 294, 3) := by decide +kernel
theorem i_105_5 : ins 105 5 = some (.ifCond .eq 15, 3) := by decide +kernel
theorem t_5_20 : tg 5 (15) = some 20 := by decide +kernel
theorem i_105_8 : ins 105 8 = some (.aload_n 0, 1) := by decide +kernel
theorem f_105_49 : fld 105 49 = some (7340134, 19, 2) := by decide +kernel
theorem i_105_9 : ins 105 9 = some (.getfield 49, 3) := by decide +kernel
theorem i_105_12 : ins 105 12 = some (.iload_n 1, 1) := by decide +kernel
theorem i_105_13 : ins 105 13 = some (.iaload, 1) := by decide +kernel
theorem l_105_293 : ldcv 105 293 = some (vI (nI 100000)) := rfl
theorem i_105_14 : ins 105 14 = some (.ldc_w 293, 3) := by decide +kernel
theorem i_105_17 : ins 105 17 = some (.if_icmp .eq 5, 3) := by decide +kernel
theorem t_17_22 : tg 17 (5) = some 22 := by decide +kernel
theorem i_105_20 : ins 105 20 = some (.iconst 0, 1) := by decide +kernel
theorem r_105 : mret 105 = 2 := by decide +kernel
theorem i_105_21 : ins 105 21 = some (.ireturn, 1) := by decide +kernel
theorem i_105_22 : ins 105 22 = some (.aload_n 0, 1) := by decide +kernel
theorem i_105_23 : ins 105 23 = some (.getfield 49, 3) := by decide +kernel
theorem i_105_26 : ins 105 26 = some (.iload_n 1, 1) := by decide +kernel
theorem i_105_27 : ins 105 27 = some (.aload_n 0, 1) := by decide +kernel
theorem f_105_264 : fld 105 264 = some (7340134, 1, 0) := by decide +kernel
theorem i_105_28 : ins 105 28 = some (.getfield 264, 3) := by decide +kernel
theorem i_105_31 : ins 105 31 = some (.iastore, 1) := by decide +kernel
theorem i_105_32 : ins 105 32 = some (.iconst 1, 1) := by decide +kernel
theorem i_105_33 : ins 105 33 = some (.ireturn, 1) := by decide +kernel
theorem i_106_0 : ins 106 0 = some (.iload_n 1, 1) := by decide +kernel
theorem i_106_1 : ins 106 1 = some (.iconst 0, 1) := by decide +kernel
theorem i_106_2 : ins 106 2 = some (.aload_n 0, 1) := by decide +kernel
theorem f_106_290 : fld 106 290 = some (7340134, 11, 0) := by decide +kernel
theorem i_106_3 : ins 106 3 = some (.getfield 290, 3) := by decide +kernel
theorem i_106_6 : ins 106 6 = some (.iconst 1, 1) := by decide +kernel
theorem i_106_7 : ins 106 7 = some (.isub, 1) := by decide +kernel
theorem v_106_260 : inv 106 260 = some (94, 3, 0, 0) := by decide +kernel
theorem i_106_8 : ins 106 8 = some (.invokestatic 260, 3) := by decide +kernel
theorem r_106 : mret 106 = 2 := by decide +kernel
theorem i_106_11 : ins 106 11 = some (.ireturn, 1) := by decide +kernel
theorem i_107_0 : ins 107 0 = some (.aload_n 0, 1) := by decide +kernel
theorem f_107_297 : fld 107 297 = some (7340134, 12, 0) := by decide +kernel
theorem i_107_1 : ins 107 1 = some (.getfield 297, 3) := by decide +kernel
theorem i_107_4 : ins 107 4 = some (.sipush 600, 3) := by decide +kernel
theorem i_107_7 : ins 107 7 = some (.if_icmp .eq 33, 3) := by decide +kernel
theorem t_7_40 : tg 7 (33) = some 40 := by decide +kernel
theorem i_107_10 : ins 107 10 = some (.aload_n 0, 1) := by decide +kernel
theorem i_107_11 : ins 107 11 = some (.iload_n 1, 1) := by decide +kernel
theorem v_107_294 : inv 107 294 = some (106, 1, 1, 7340134) := by decide +kernel
theorem i_107_12 : ins 107 12 = some (.invokevirtual 294, 3) := by decide +kernel
theorem i_107_15 : ins 107 15 = some (.ifCond .eq 25, 3) := by decide +kernel
theorem t_15_40 : tg 15 (25) = some 40 := by decide +kernel
theorem i_107_18 : ins 107 18 = some (.iload_n 2, 1) := by decide +kernel
theorem i_107_19 : ins 107 19 = some (.iconst 0, 1) := by decide +kernel
theorem i_107_20 : ins 107 20 = some (.iconst 5, 1) := by decide +kernel
theorem v_107_260 : inv 107 260 = some (94, 3, 0, 0) := by decide +kernel
theorem i_107_21 : ins 107 21 = some (.invokestatic 260, 3) := by decide +kernel
theorem i_107_24 : ins 107 24 = some (.ifCond .eq 16, 3) := by decide +kernel
theorem t_24_40 : tg 24 (16) = some 40 := by decide +kernel
theorem i_107_27 : ins 107 27 = some (.iload_n 3, 1) := by decide +kernel
theorem kS_m999 : (Int16.ofInt (-999)).toInt32 = (-999) := by decide +kernel
theorem i_107_28 : ins 107 28 = some (.sipush (-999), 3) := by decide +kernel
theorem i_107_31 : ins 107 31 = some (.sipush 999, 3) := by decide +kernel
theorem i_107_34 : ins 107 34 = some (.invokestatic 260, 3) := by decide +kernel
theorem i_107_37 : ins 107 37 = some (.ifCond .ne 5, 3) := by decide +kernel
theorem t_37_42 : tg 37 (5) = some 42 := by decide +kernel
theorem i_107_40 : ins 107 40 = some (.iconst (-1), 1) := by decide +kernel
theorem r_107 : mret 107 = 1 := by decide +kernel
theorem i_107_41 : ins 107 41 = some (.ireturn, 1) := by decide +kernel
theorem i_107_42 : ins 107 42 = some (.aload_n 0, 1) := by decide +kernel
theorem f_107_59 : fld 107 59 = some (7340134, 22, 2) := by decide +kernel
theorem i_107_43 : ins 107 43 = some (.getfield 59, 3) := by decide +kernel
theorem i_107_46 : ins 107 46 = some (.aload_n 0, 1) := by decide +kernel
theorem i_107_47 : ins 107 47 = some (.getfield 297, 3) := by decide +kernel
theorem i_107_50 : ins 107 50 = some (.iload_n 1, 1) := by decide +kernel
theorem kl_93332865 : klen 93332865 = 600 := by decide +kernel
theorem i_107_51 : ins 107 51 = some (.iastore, 1) := by decide +kernel
theorem i_107_52 : ins 107 52 = some (.aload_n 0, 1) := by decide +kernel
theorem f_107_62 : fld 107 62 = some (7340134, 23, 2) := by decide +kernel
theorem i_107_53 : ins 107 53 = some (.getfield 62, 3) := by decide +kernel
theorem i_107_56 : ins 107 56 = some (.aload_n 0, 1) := by decide +kernel
theorem i_107_57 : ins 107 57 = some (.getfield 297, 3) := by decide +kernel
theorem i_107_60 : ins 107 60 = some (.iload_n 2, 1) := by decide +kernel
theorem kl_94381441 : klen 94381441 = 600 := by decide +kernel
theorem i_107_61 : ins 107 61 = some (.iastore, 1) := by decide +kernel
theorem i_107_62 : ins 107 62 = some (.aload_n 0, 1) := by decide +kernel
theorem f_107_65 : fld 107 65 = some (7340134, 24, 2) := by decide +kernel
theorem i_107_63 : ins 107 63 = some (.getfield 65, 3) := by decide +kernel
theorem i_107_66 : ins 107 66 = some (.aload_n 0, 1) := by decide +kernel
theorem i_107_67 : ins 107 67 = some (.getfield 297, 3) := by decide +kernel
theorem i_107_70 : ins 107 70 = some (.iload_n 3, 1) := by decide +kernel
theorem kl_95430017 : klen 95430017 = 600 := by decide +kernel
theorem i_107_71 : ins 107 71 = some (.iastore, 1) := by decide +kernel
theorem i_107_72 : ins 107 72 = some (.aload_n 0, 1) := by decide +kernel
theorem f_107_71 : fld 107 71 = some (7340134, 26, 2) := by decide +kernel
theorem i_107_73 : ins 107 73 = some (.getfield 71, 3) := by decide +kernel
theorem i_107_76 : ins 107 76 = some (.aload_n 0, 1) := by decide +kernel
theorem i_107_77 : ins 107 77 = some (.getfield 297, 3) := by decide +kernel
theorem i_107_80 : ins 107 80 = some (.iload 4, 2) := by decide +kernel
theorem kl_97527171 : klen 97527171 = 600 := by decide +kernel
theorem i_107_82 : ins 107 82 = some (.bastore, 1) := by decide +kernel
theorem i_107_83 : ins 107 83 = some (.aload_n 0, 1) := by decide +kernel
theorem f_107_68 : fld 107 68 = some (7340134, 25, 2) := by decide +kernel
theorem i_107_84 : ins 107 84 = some (.getfield 68, 3) := by decide +kernel
theorem i_107_87 : ins 107 87 = some (.aload_n 0, 1) := by decide +kernel
theorem i_107_88 : ins 107 88 = some (.getfield 297, 3) := by decide +kernel
theorem i_107_91 : ins 107 91 = some (.aload_n 0, 1) := by decide +kernel
theorem f_107_264 : fld 107 264 = some (7340134, 1, 0) := by decide +kernel
theorem i_107_92 : ins 107 92 = some (.getfield 264, 3) := by decide +kernel
theorem kl_96478593 : klen 96478593 = 600 := by decide +kernel
theorem i_107_95 : ins 107 95 = some (.iastore, 1) := by decide +kernel
theorem i_107_96 : ins 107 96 = some (.aload_n 0, 1) := by decide +kernel
theorem i_107_97 : ins 107 97 = some (.dup, 1) := by decide +kernel
theorem i_107_98 : ins 107 98 = some (.getfield 297, 3) := by decide +kernel
theorem i_107_101 : ins 107 101 = some (.iconst 1, 1) := by decide +kernel
theorem i_107_102 : ins 107 102 = some (.iadd, 1) := by decide +kernel
theorem o_107_7340134_12 : putok 107 7340134 12 = true := by decide +kernel
theorem i_107_103 : ins 107 103 = some (.putfield 297, 3) := by decide +kernel
theorem i_107_106 : ins 107 106 = some (.aload_n 0, 1) := by decide +kernel
theorem i_107_107 : ins 107 107 = some (.getfield 297, 3) := by decide +kernel
theorem i_107_110 : ins 107 110 = some (.ireturn, 1) := by decide +kernel
theorem i_108_0 : ins 108 0 = some (.aload_n 0, 1) := by decide +kernel
theorem f_108_300 : fld 108 300 = some (7340134, 28, 0) := by decide +kernel
theorem i_108_1 : ins 108 1 = some (.getfield 300, 3) := by decide +kernel
theorem i_108_4 : ins 108 4 = some (.bipush 20, 2) := by decide +kernel
theorem i_108_6 : ins 108 6 = some (.iadd, 1) := by decide +kernel
theorem i_108_7 : ins 108 7 = some (.sipush 400, 3) := by decide +kernel
theorem i_108_10 : ins 108 10 = some (.if_icmp .le 5, 3) := by decide +kernel
theorem i_108_13 : ins 108 13 = some (.iconst (-1), 1) := by decide +kernel
theorem r_108 : mret 108 = 1 := by decide +kernel
theorem i_108_14 : ins 108 14 = some (.ireturn, 1) := by decide +kernel
theorem i_108_15 : ins 108 15 = some (.aload_n 0, 1) := by decide +kernel
theorem i_108_16 : ins 108 16 = some (.iload_n 1, 1) := by decide +kernel
theorem v_108_303 : inv 108 303 = some (109, 1, 1, 7340134) := by decide +kernel
theorem i_108_17 : ins 108 17 = some (.invokevirtual 303, 3) := by decide +kernel
theorem i_108_20 : ins 108 20 = some (.aload_n 0, 1) := by decide +kernel
theorem i_108_21 : ins 108 21 = some (.iload_n 2, 1) := by decide +kernel
theorem i_108_22 : ins 108 22 = some (.invokevirtual 303, 3) := by decide +kernel
theorem i_108_25 : ins 108 25 = some (.aload_n 0, 1) := by decide +kernel
theorem i_108_26 : ins 108 26 = some (.iload_n 3, 1) := by decide +kernel
theorem i_108_27 : ins 108 27 = some (.invokevirtual 303, 3) := by decide +kernel
theorem i_108_30 : ins 108 30 = some (.aload_n 0, 1) := by decide +kernel
theorem i_108_31 : ins 108 31 = some (.iload 4, 2) := by decide +kernel
theorem i_108_33 : ins 108 33 = some (.invokevirtual 303, 3) := by decide +kernel
theorem i_108_36 : ins 108 36 = some (.aload_n 0, 1) := by decide +kernel
theorem i_108_37 : ins 108 37 = some (.iload 5, 2) := by decide +kernel
theorem i_108_39 : ins 108 39 = some (.invokevirtual 303, 3) := by decide +kernel
theorem i_108_42 : ins 108 42 = some (.aload_n 0, 1) := by decide +kernel
theorem i_108_43 : ins 108 43 = some (.getfield 300, 3) := by decide +kernel
theorem i_108_46 : ins 108 46 = some (.ireturn, 1) := by decide +kernel
theorem i_109_0 : ins 109 0 = some (.bipush 24, 2) := by decide +kernel
theorem i_109_2 : ins 109 2 = some (.istore_n 2, 1) := by decide +kernel
theorem i_109_3 : ins 109 3 = some (.iload_n 2, 1) := by decide +kernel
theorem i_109_4 : ins 109 4 = some (.ifCond .lt 32, 3) := by decide +kernel
theorem i_109_7 : ins 109 7 = some (.aload_n 0, 1) := by decide +kernel
theorem f_109_74 : fld 109 74 = some (7340134, 27, 2) := by decide +kernel
theorem i_109_8 : ins 109 8 = some (.getfield 74, 3) := by decide +kernel
theorem i_109_11 : ins 109 11 = some (.aload_n 0, 1) := by decide +kernel
theorem f_109_300 : fld 109 300 = some (7340134, 28, 0) := by decide +kernel
theorem i_109_12 : ins 109 12 = some (.getfield 300, 3) := by decide +kernel
theorem i_109_15 : ins 109 15 = some (.iload_n 1, 1) := by decide +kernel
theorem i_109_16 : ins 109 16 = some (.iload_n 2, 1) := by decide +kernel
theorem i_109_17 : ins 109 17 = some (.ishr, 1) := by decide +kernel
theorem i_109_18 : ins 109 18 = some (.i2b, 1) := by decide +kernel
theorem kl_98572546 : klen 98572546 = 400 := by decide +kernel
theorem i_109_19 : ins 109 19 = some (.bastore, 1) := by decide +kernel
theorem i_109_20 : ins 109 20 = some (.aload_n 0, 1) := by decide +kernel
theorem i_109_21 : ins 109 21 = some (.dup, 1) := by decide +kernel
theorem i_109_22 : ins 109 22 = some (.getfield 300, 3) := by decide +kernel
theorem i_109_25 : ins 109 25 = some (.iconst 1, 1) := by decide +kernel
theorem i_109_26 : ins 109 26 = some (.iadd, 1) := by decide +kernel
theorem o_109_7340134_28 : putok 109 7340134 28 = true := by decide +kernel
theorem i_109_27 : ins 109 27 = some (.putfield 300, 3) := by decide +kernel
theorem i_109_30 : ins 109 30 = some (.iinc 2 (-8), 3) := by decide +kernel
theorem i_109_33 : ins 109 33 = some (.goto (-30), 3) := by decide +kernel
theorem i_109_36 : ins 109 36 = some (.return_, 1) := by decide +kernel
theorem r_109 : mret 109 = 0 := by decide +kernel
theorem i_110_0 : ins 110 0 = some (.iload_n 1, 1) := by decide +kernel
theorem i_110_1 : ins 110 1 = some (.ifCond .lt 11, 3) := by decide +kernel
theorem i_110_4 : ins 110 4 = some (.iload_n 1, 1) := by decide +kernel
theorem i_110_5 : ins 110 5 = some (.aload_n 0, 1) := by decide +kernel
theorem f_110_300 : fld 110 300 = some (7340134, 28, 0) := by decide +kernel
theorem i_110_6 : ins 110 6 = some (.getfield 300, 3) := by decide +kernel
theorem i_110_9 : ins 110 9 = some (.if_icmp .le 5, 3) := by decide +kernel
theorem i_110_12 : ins 110 12 = some (.iconst (-1), 1) := by decide +kernel
theorem r_110 : mret 110 = 1 := by decide +kernel
theorem i_110_13 : ins 110 13 = some (.ireturn, 1) := by decide +kernel
theorem i_110_14 : ins 110 14 = some (.aload_n 0, 1) := by decide +kernel
theorem i_110_15 : ins 110 15 = some (.iload_n 1, 1) := by decide +kernel
theorem o_110_7340134_28 : putok 110 7340134 28 = true := by decide +kernel
theorem i_110_16 : ins 110 16 = some (.putfield 300, 3) := by decide +kernel
theorem i_110_19 : ins 110 19 = some (.iload_n 1, 1) := by decide +kernel
theorem i_110_20 : ins 110 20 = some (.ireturn, 1) := by decide +kernel
theorem i_111_0 : ins 111 0 = some (.aload_n 0, 1) := by decide +kernel
theorem f_111_375 : fld 111 375 = some (7340134, 35, 0) := by decide +kernel
theorem i_111_1 : ins 111 1 = some (.getfield 375, 3) := by decide +kernel
theorem i_111_4 : ins 111 4 = some (.bipush 10, 2) := by decide +kernel
theorem i_111_6 : ins 111 6 = some (.if_icmp .eq 17, 3) := by decide +kernel
theorem t_6_23 : tg 6 (17) = some 23 := by decide +kernel
theorem i_111_9 : ins 111 9 = some (.iload_n 1, 1) := by decide +kernel
theorem i_111_10 : ins 111 10 = some (.aload_n 0, 1) := by decide +kernel
theorem f_111_264 : fld 111 264 = some (7340134, 1, 0) := by decide +kernel
theorem i_111_11 : ins 111 11 = some (.getfield 264, 3) := by decide +kernel
theorem i_111_14 : ins 111 14 = some (.sipush 3999, 3) := by decide +kernel
theorem v_111_260 : inv 111 260 = some (94, 3, 0, 0) := by decide +kernel
theorem i_111_17 : ins 111 17 = some (.invokestatic 260, 3) := by decide +kernel
theorem i_111_20 : ins 111 20 = some (.ifCond .ne 5, 3) := by decide +kernel
theorem t_20_25 : tg 20 (5) = some 25 := by decide +kernel
theorem i_111_23 : ins 111 23 = some (.iconst (-1), 1) := by decide +kernel
theorem r_111 : mret 111 = 1 := by decide +kernel
theorem i_111_24 : ins 111 24 = some (.ireturn, 1) := by decide +kernel
theorem i_111_25 : ins 111 25 = some (.aload_n 0, 1) := by decide +kernel
theorem i_111_26 : ins 111 26 = some (.iconst 0, 1) := by decide +kernel
theorem f_111_310 : fld 111 310 = some (7340134, 29, 0) := by decide +kernel
theorem o_111_7340134_29 : putok 111 7340134 29 = true := by decide +kernel
theorem i_111_27 : ins 111 27 = some (.putfield 310, 3) := by decide +kernel
theorem i_111_30 : ins 111 30 = some (.aload_n 0, 1) := by decide +kernel
theorem i_111_31 : ins 111 31 = some (.iconst 0, 1) := by decide +kernel
theorem f_111_307 : fld 111 307 = some (7340134, 31, 0) := by decide +kernel
theorem o_111_7340134_31 : putok 111 7340134 31 = true := by decide +kernel
theorem i_111_32 : ins 111 32 = some (.putfield 307, 3) := by decide +kernel
theorem i_111_35 : ins 111 35 = some (.aload_n 0, 1) := by decide +kernel
theorem i_111_36 : ins 111 36 = some (.iconst 0, 1) := by decide +kernel
theorem f_111_393 : fld 111 393 = some (7340134, 33, 0) := by decide +kernel
theorem o_111_7340134_33 : putok 111 7340134 33 = true := by decide +kernel
theorem i_111_37 : ins 111 37 = some (.putfield 393, 3) := by decide +kernel
theorem i_111_40 : ins 111 40 = some (.aload_n 0, 1) := by decide +kernel
theorem i_111_41 : ins 111 41 = some (.iconst 0, 1) := by decide +kernel
theorem f_111_378 : fld 111 378 = some (7340134, 44, 0) := by decide +kernel
theorem o_111_7340134_44 : putok 111 7340134 44 = true := by decide +kernel
theorem i_111_42 : ins 111 42 = some (.putfield 378, 3) := by decide +kernel
theorem i_111_45 : ins 111 45 = some (.aload_n 0, 1) := by decide +kernel
theorem i_111_46 : ins 111 46 = some (.iconst 0, 1) := by decide +kernel
theorem f_111_449 : fld 111 449 = some (7340134, 34, 0) := by decide +kernel
theorem o_111_7340134_34 : putok 111 7340134 34 = true := by decide +kernel
theorem i_111_47 : ins 111 47 = some (.putfield 449, 3) := by decide +kernel
theorem i_111_50 : ins 111 50 = some (.aload_n 0, 1) := by decide +kernel
theorem f_111_81 : fld 111 81 = some (7340134, 37, 2) := by decide +kernel
theorem i_111_51 : ins 111 51 = some (.getfield 81, 3) := by decide +kernel
theorem i_111_54 : ins 111 54 = some (.aload_n 0, 1) := by decide +kernel
theorem i_111_55 : ins 111 55 = some (.getfield 375, 3) := by decide +kernel
theorem i_111_58 : ins 111 58 = some (.iconst 0, 1) := by decide +kernel
theorem kl_100663457 : klen 100663457 = 10 := by decide +kernel
theorem i_111_59 : ins 111 59 = some (.iastore, 1) := by decide +kernel
theorem i_111_60 : ins 111 60 = some (.iconst 1, 1) := by decide +kernel
theorem i_111_61 : ins 111 61 = some (.istore_n 2, 1) := by decide +kernel
theorem i_111_62 : ins 111 62 = some (.iload_n 2, 1) := by decide +kernel
theorem i_111_63 : ins 111 63 = some (.ifCond .eq 51, 3) := by decide +kernel
theorem t_63_114 : tg 63 (51) = some 114 := by decide +kernel
theorem i_111_66 : ins 111 66 = some (.aload_n 0, 1) := by decide +kernel
theorem i_111_67 : ins 111 67 = some (.getfield 307, 3) := by decide +kernel
theorem i_111_70 : ins 111 70 = some (.ifCond .ne 44, 3) := by decide +kernel
theorem t_70_114 : tg 70 (44) = some 114 := by decide +kernel
theorem i_111_73 : ins 111 73 = some (.aload_n 0, 1) := by decide +kernel
theorem v_111_477 : inv 111 477 = some (112, 0, 1, 7340134) := by decide +kernel
theorem i_111_74 : ins 111 74 = some (.invokevirtual 477, 3) := by decide +kernel
theorem i_111_77 : ins 111 77 = some (.aload_n 0, 1) := by decide +kernel
theorem i_111_78 : ins 111 78 = some (.getfield 307, 3) := by decide +kernel
theorem i_111_81 : ins 111 81 = some (.ifCond .ne 18, 3) := by decide +kernel
theorem t_81_99 : tg 81 (18) = some 99 := by decide +kernel
theorem i_111_84 : ins 111 84 = some (.aload_n 0, 1) := by decide +kernel
theorem i_111_85 : ins 111 85 = some (.getfield 310, 3) := by decide +kernel
theorem i_111_88 : ins 111 88 = some (.aload_n 0, 1) := by decide +kernel
theorem f_111_300 : fld 111 300 = some (7340134, 28, 0) := by decide +kernel
theorem i_111_89 : ins 111 89 = some (.getfield 300, 3) := by decide +kernel
theorem i_111_92 : ins 111 92 = some (.if_icmp .ge 7, 3) := by decide +kernel
theorem t_92_99 : tg 92 (7) = some 99 := by decide +kernel
theorem i_111_95 : ins 111 95 = some (.iconst 1, 1) := by decide +kernel
theorem i_111_96 : ins 111 96 = some (.goto 4, 3) := by decide +kernel
theorem t_96_100 : tg 96 (4) = some 100 := by decide +kernel
theorem i_111_99 : ins 111 99 = some (.iconst 0, 1) := by decide +kernel
theorem i_111_100 : ins 111 100 = some (.istore_n 2, 1) := by decide +kernel
theorem i_111_101 : ins 111 101 = some (.aload_n 0, 1) := by decide +kernel
theorem i_111_102 : ins 111 102 = some (.dup, 1) := by decide +kernel
theorem i_111_103 : ins 111 103 = some (.getfield 310, 3) := by decide +kernel
theorem i_111_106 : ins 111 106 = some (.iconst 1, 1) := by decide +kernel
theorem i_111_107 : ins 111 107 = some (.iadd, 1) := by decide +kernel
theorem i_111_108 : ins 111 108 = some (.putfield 310, 3) := by decide +kernel
theorem i_111_111 : ins 111 111 = some (.goto (-49), 3) := by decide +kernel
theorem t_111_62 : tg 111 (-49) = some 62 := by decide +kernel
theorem i_111_114 : ins 111 114 = some (.aload_n 0, 1) := by decide +kernel
theorem i_111_115 : ins 111 115 = some (.iconst 0, 1) := by decide +kernel
theorem o_111_7340134_28 : putok 111 7340134 28 = true := by decide +kernel
theorem i_111_116 : ins 111 116 = some (.putfield 300, 3) := by decide +kernel
theorem i_111_119 : ins 111 119 = some (.aload_n 0, 1) := by decide +kernel
theorem i_111_120 : ins 111 120 = some (.getfield 307, 3) := by decide +kernel
theorem i_111_123 : ins 111 123 = some (.ifCond .le 21, 3) := by decide +kernel
theorem t_123_144 : tg 123 (21) = some 144 := by decide +kernel
theorem i_111_126 : ins 111 126 = some (.aload_n 0, 1) := by decide +kernel
theorem i_111_127 : ins 111 127 = some (.getfield 81, 3) := by decide +kernel
theorem i_111_130 : ins 111 130 = some (.aload_n 0, 1) := by decide +kernel
theorem i_111_131 : ins 111 131 = some (.getfield 375, 3) := by decide +kernel
theorem i_111_134 : ins 111 134 = some (.iconst 0, 1) := by decide +kernel
theorem i_111_135 : ins 111 135 = some (.iastore, 1) := by decide +kernel
theorem i_111_136 : ins 111 136 = some (.bipush (-2), 2) := by decide +kernel
theorem i_111_138 : ins 111 138 = some (.aload_n 0, 1) := by decide +kernel
theorem i_111_139 : ins 111 139 = some (.getfield 307, 3) := by decide +kernel
theorem i_111_142 : ins 111 142 = some (.isub, 1) := by decide +kernel
theorem i_111_143 : ins 111 143 = some (.ireturn, 1) := by decide +kernel
theorem i_111_144 : ins 111 144 = some (.aload_n 0, 1) := by decide +kernel
theorem f_111_78 : fld 111 78 = some (7340134, 36, 2) := by decide +kernel
theorem i_111_145 : ins 111 145 = some (.getfield 78, 3) := by decide +kernel
theorem i_111_148 : ins 111 148 = some (.aload_n 0, 1) := by decide +kernel
theorem i_111_149 : ins 111 149 = some (.getfield 375, 3) := by decide +kernel
theorem i_111_152 : ins 111 152 = some (.iload_n 1, 1) := by decide +kernel
theorem kl_99614881 : klen 99614881 = 10 := by decide +kernel
theorem i_111_153 : ins 111 153 = some (.iastore, 1) := by decide +kernel
theorem i_111_154 : ins 111 154 = some (.aload_n 0, 1) := by decide +kernel
theorem i_111_155 : ins 111 155 = some (.dup, 1) := by decide +kernel
theorem i_111_156 : ins 111 156 = some (.getfield 375, 3) := by decide +kernel
theorem i_111_159 : ins 111 159 = some (.iconst 1, 1) := by decide +kernel
theorem i_111_160 : ins 111 160 = some (.iadd, 1) := by decide +kernel
theorem o_111_7340134_35 : putok 111 7340134 35 = true := by decide +kernel
theorem i_111_161 : ins 111 161 = some (.putfield 375, 3) := by decide +kernel
theorem i_111_164 : ins 111 164 = some (.aload_n 0, 1) := by decide +kernel
theorem i_111_165 : ins 111 165 = some (.getfield 375, 3) := by decide +kernel
theorem i_111_168 : ins 111 168 = some (.iconst 1, 1) := by decide +kernel
theorem i_111_169 : ins 111 169 = some (.isub, 1) := by decide +kernel
theorem i_111_170 : ins 111 170 = some (.ireturn, 1) := by decide +kernel
theorem i_112_0 : ins 112 0 = some (.aload_n 0, 1) := by decide +kernel
theorem v_112_454 : inv 112 454 = some (113, 0, 1, 7340134) := by decide +kernel
theorem i_112_1 : ins 112 1 = some (.invokevirtual 454, 3) := by decide +kernel
theorem i_112_4 : ins 112 4 = some (.istore_n 1, 1) := by decide +kernel
theorem i_112_5 : ins 112 5 = some (.aload_n 0, 1) := by decide +kernel
theorem f_112_307 : fld 112 307 = some (7340134, 31, 0) := by decide +kernel
theorem i_112_6 : ins 112 6 = some (.getfield 307, 3) := by decide +kernel
theorem i_112_9 : ins 112 9 = some (.ifCond .le 4, 3) := by decide +kernel
theorem t_9_13 : tg 9 (4) = some 13 := by decide +kernel
theorem i_112_12 : ins 112 12 = some (.return_, 1) := by decide +kernel
theorem r_112 : mret 112 = 0 := by decide +kernel
theorem i_112_13 : ins 112 13 = some (.bipush 12, 2) := by decide +kernel
theorem i_112_15 : ins 112 15 = some (.aload_n 0, 1) := by decide +kernel
theorem f_112_375 : fld 112 375 = some (7340134, 35, 0) := by decide +kernel
theorem i_112_16 : ins 112 16 = some (.getfield 375, 3) := by decide +kernel
theorem i_112_19 : ins 112 19 = some (.imul, 1) := by decide +kernel
theorem i_112_20 : ins 112 20 = some (.aload_n 0, 1) := by decide +kernel
theorem f_112_81 : fld 112 81 = some (7340134, 37, 2) := by decide +kernel
theorem i_112_21 : ins 112 21 = some (.getfield 81, 3) := by decide +kernel
theorem i_112_24 : ins 112 24 = some (.aload_n 0, 1) := by decide +kernel
theorem i_112_25 : ins 112 25 = some (.getfield 375, 3) := by decide +kernel
theorem i_112_28 : ins 112 28 = some (.iaload, 1) := by decide +kernel
theorem i_112_29 : ins 112 29 = some (.iadd, 1) := by decide +kernel
theorem i_112_30 : ins 112 30 = some (.istore_n 2, 1) := by decide +kernel
theorem i_112_31 : ins 112 31 = some (.aload_n 0, 1) := by decide +kernel
theorem f_112_84 : fld 112 84 = some (7340134, 38, 2) := by decide +kernel
theorem i_112_32 : ins 112 32 = some (.getfield 84, 3) := by decide +kernel
theorem i_112_35 : ins 112 35 = some (.iload_n 2, 1) := by decide +kernel
theorem i_112_36 : ins 112 36 = some (.iload_n 1, 1) := by decide +kernel
theorem kl_101713793 : klen 101713793 = 120 := by decide +kernel
theorem i_112_37 : ins 112 37 = some (.iastore, 1) := by decide +kernel
theorem i_112_38 : ins 112 38 = some (.aload_n 0, 1) := by decide +kernel
theorem f_112_87 : fld 112 87 = some (7340134, 39, 2) := by decide +kernel
theorem i_112_39 : ins 112 39 = some (.getfield 87, 3) := by decide +kernel
theorem i_112_42 : ins 112 42 = some (.iload_n 2, 1) := by decide +kernel
theorem i_112_43 : ins 112 43 = some (.iconst 0, 1) := by decide +kernel
theorem kl_102762369 : klen 102762369 = 120 := by decide +kernel
theorem i_112_44 : ins 112 44 = some (.iastore, 1) := by decide +kernel
theorem i_112_45 : ins 112 45 = some (.iload_n 1, 1) := by decide +kernel
theorem i_112_46 : ins 112 46 = some (.ifCond .eq 14, 3) := by decide +kernel
theorem t_46_60 : tg 46 (14) = some 60 := by decide +kernel
theorem i_112_49 : ins 112 49 = some (.iload_n 1, 1) := by decide +kernel
theorem i_112_50 : ins 112 50 = some (.iconst 4, 1) := by decide +kernel
theorem i_112_51 : ins 112 51 = some (.if_icmp .lt 47, 3) := by decide +kernel
theorem t_51_98 : tg 51 (47) = some 98 := by decide +kernel
theorem i_112_54 : ins 112 54 = some (.iload_n 1, 1) := by decide +kernel
theorem i_112_55 : ins 112 55 = some (.bipush 8, 2) := by decide +kernel
theorem i_112_57 : ins 112 57 = some (.if_icmp .ge 41, 3) := by decide +kernel
theorem t_57_98 : tg 57 (41) = some 98 := by decide +kernel
theorem i_112_60 : ins 112 60 = some (.aload_n 0, 1) := by decide +kernel
theorem v_112_396 : inv 112 396 = some (114, 0, 1, 7340134) := by decide +kernel
theorem i_112_61 : ins 112 61 = some (.invokevirtual 396, 3) := by decide +kernel
theorem i_112_64 : ins 112 64 = some (.aload_n 0, 1) := by decide +kernel
theorem v_112_399 : inv 112 399 = some (119, 0, 1, 7340134) := by decide +kernel
theorem i_112_65 : ins 112 65 = some (.invokevirtual 399, 3) := by decide +kernel
theorem v_112_368 : inv 112 368 = some (120, 1, 0, 0) := by decide +kernel
theorem i_112_68 : ins 112 68 = some (.invokestatic 368, 3) := by decide +kernel
theorem i_112_71 : ins 112 71 = some (.ifCond .ne 13, 3) := by decide +kernel
theorem t_71_84 : tg 71 (13) = some 84 := by decide +kernel
theorem i_112_74 : ins 112 74 = some (.aload_n 0, 1) := by decide +kernel
theorem i_112_75 : ins 112 75 = some (.iconst 0, 1) := by decide +kernel
theorem i_112_76 : ins 112 76 = some (.aload_n 0, 1) := by decide +kernel
theorem f_112_310 : fld 112 310 = some (7340134, 29, 0) := by decide +kernel
theorem i_112_77 : ins 112 77 = some (.getfield 310, 3) := by decide +kernel
theorem v_112_371 : inv 112 371 = some (118, 2, 1, 7340134) := by decide +kernel
theorem i_112_80 : ins 112 80 = some (.invokevirtual 371, 3) := by decide +kernel
theorem i_112_83 : ins 112 83 = some (.return_, 1) := by decide +kernel
theorem i_112_84 : ins 112 84 = some (.aload_n 0, 1) := by decide +kernel
theorem i_112_85 : ins 112 85 = some (.getfield 87, 3) := by decide +kernel
theorem i_112_88 : ins 112 88 = some (.iload_n 2, 1) := by decide +kernel
theorem i_112_89 : ins 112 89 = some (.aload_n 0, 1) := by decide +kernel
theorem i_112_90 : ins 112 90 = some (.iload_n 1, 1) := by decide +kernel
theorem v_112_457 : inv 112 457 = some (121, 1, 0, 0) := by decide +kernel
theorem i_112_91 : ins 112 91 = some (.invokestatic 457, 3) := by decide +kernel
theorem v_112_412 : inv 112 412 = some (122, 1, 1, 7340134) := by decide +kernel
theorem i_112_94 : ins 112 94 = some (.invokevirtual 412, 3) := by decide +kernel
theorem i_112_97 : ins 112 97 = some (.iastore, 1) := by decide +kernel
theorem i_112_98 : ins 112 98 = some (.aload_n 0, 1) := by decide +kernel
theorem f_112_90 : fld 112 90 = some (7340134, 40, 2) := by decide +kernel
theorem i_112_99 : ins 112 99 = some (.getfield 90, 3) := by decide +kernel
theorem i_112_102 : ins 112 102 = some (.iload_n 2, 1) := by decide +kernel
theorem i_112_103 : ins 112 103 = some (.aload_n 0, 1) := by decide +kernel
theorem f_112_378 : fld 112 378 = some (7340134, 44, 0) := by decide +kernel
theorem i_112_104 : ins 112 104 = some (.getfield 378, 3) := by decide +kernel
theorem kl_103810945 : klen 103810945 = 120 := by decide +kernel
theorem i_112_107 : ins 112 107 = some (.iastore, 1) := by decide +kernel
theorem i_112_108 : ins 112 108 = some (.aload_n 0, 1) := by decide +kernel
theorem i_112_109 : ins 112 109 = some (.getfield 307, 3) := by decide +kernel
theorem i_112_112 : ins 112 112 = some (.ifCond .ne 15, 3) := by decide +kernel
theorem t_112_127 : tg 112 (15) = some 127 := by decide +kernel
theorem i_112_115 : ins 112 115 = some (.aload_n 0, 1) := by decide +kernel
theorem i_112_116 : ins 112 116 = some (.iload_n 1, 1) := by decide +kernel
theorem v_112_460 : inv 112 460 = some (123, 1, 1, 7340134) := by decide +kernel
theorem i_112_117 : ins 112 117 = some (.invokevirtual 460, 3) := by decide +kernel
theorem i_112_120 : ins 112 120 = some (.ifCond .eq 7, 3) := by decide +kernel
theorem t_120_127 : tg 120 (7) = some 127 := by decide +kernel
theorem i_112_123 : ins 112 123 = some (.iconst 1, 1) := by decide +kernel
theorem i_112_124 : ins 112 124 = some (.goto 4, 3) := by decide +kernel
theorem t_124_128 : tg 124 (4) = some 128 := by decide +kernel
theorem i_112_127 : ins 112 127 = some (.iconst 0, 1) := by decide +kernel
theorem i_112_128 : ins 112 128 = some (.istore_n 3, 1) := by decide +kernel
theorem i_112_129 : ins 112 129 = some (.aload_n 0, 1) := by decide +kernel
theorem i_112_130 : ins 112 130 = some (.iconst 0, 1) := by decide +kernel
theorem f_112_381 : fld 112 381 = some (7340134, 45, 0) := by decide +kernel
theorem o_112_7340134_45 : putok 112 7340134 45 = true := by decide +kernel
theorem i_112_131 : ins 112 131 = some (.putfield 381, 3) := by decide +kernel
theorem i_112_134 : ins 112 134 = some (.aload_n 0, 1) := by decide +kernel
theorem i_112_135 : ins 112 135 = some (.iconst 0, 1) := by decide +kernel
theorem f_112_384 : fld 112 384 = some (7340134, 32, 0) := by decide +kernel
theorem o_112_7340134_32 : putok 112 7340134 32 = true := by decide +kernel
theorem i_112_136 : ins 112 136 = some (.putfield 384, 3) := by decide +kernel
theorem i_112_139 : ins 112 139 = some (.aload_n 0, 1) := by decide +kernel
theorem i_112_140 : ins 112 140 = some (.getfield 307, 3) := by decide +kernel
theorem i_112_143 : ins 112 143 = some (.ifCond .le 7, 3) := by decide +kernel
theorem t_143_150 : tg 143 (7) = some 150 := by decide +kernel
theorem i_112_146 : ins 112 146 = some (.iconst 4, 1) := by decide +kernel
theorem i_112_147 : ins 112 147 = some (.goto 21, 3) := by decide +kernel
theorem t_147_168 : tg 147 (21) = some 168 := by decide +kernel
theorem i_112_150 : ins 112 150 = some (.iload_n 1, 1) := by decide +kernel
theorem i_112_151 : ins 112 151 = some (.iconst 3, 1) := by decide +kernel
theorem i_112_152 : ins 112 152 = some (.if_icmp .ne 7, 3) := by decide +kernel
theorem t_152_159 : tg 152 (7) = some 159 := by decide +kernel
theorem i_112_155 : ins 112 155 = some (.iconst 1, 1) := by decide +kernel
theorem i_112_156 : ins 112 156 = some (.goto 12, 3) := by decide +kernel
theorem t_156_168 : tg 156 (12) = some 168 := by decide +kernel
theorem i_112_159 : ins 112 159 = some (.iload_n 3, 1) := by decide +kernel
theorem i_112_160 : ins 112 160 = some (.ifCond .eq 7, 3) := by decide +kernel
theorem t_160_167 : tg 160 (7) = some 167 := by decide +kernel
theorem i_112_163 : ins 112 163 = some (.iconst 0, 1) := by decide +kernel
theorem i_112_164 : ins 112 164 = some (.goto 4, 3) := by decide +kernel
theorem t_164_168 : tg 164 (4) = some 168 := by decide +kernel
theorem i_112_167 : ins 112 167 = some (.iconst 4, 1) := by decide +kernel
theorem i_112_168 : ins 112 168 = some (.istore 4, 2) := by decide +kernel
theorem i_112_170 : ins 112 170 = some (.iload 4, 2) := by decide +kernel
theorem i_112_172 : ins 112 172 = some (.iconst 4, 1) := by decide +kernel
theorem i_112_173 : ins 112 173 = some (.if_icmp .eq 93, 3) := by decide +kernel
theorem t_173_266 : tg 173 (93) = some 266 := by decide +kernel
theorem i_112_176 : ins 112 176 = some (.aload_n 0, 1) := by decide +kernel
theorem i_112_177 : ins 112 177 = some (.getfield 307, 3) := by decide +kernel
theorem i_112_180 : ins 112 180 = some (.ifCond .ne 86, 3) := by decide +kernel
theorem t_180_266 : tg 180 (86) = some 266 := by decide +kernel
theorem i_112_183 : ins 112 183 = some (.iload 4, 2) := by decide +kernel
theorem i_112_185 : ins 112 185 = some (.tableswitch 72 0 2 #[27, 36, 53], 27) := by decide +kernel
theorem t_185_257 : tg 185 (72) = some 257 := by decide +kernel
theorem i_112_212 : ins 112 212 = some (.aload_n 0, 1) := by decide +kernel
theorem v_112_463 : inv 112 463 = some (124, 0, 1, 7340134) := by decide +kernel
theorem i_112_213 : ins 112 213 = some (.invokevirtual 463, 3) := by decide +kernel
theorem i_112_216 : ins 112 216 = some (.istore 4, 2) := by decide +kernel
theorem i_112_218 : ins 112 218 = some (.goto (-48), 3) := by decide +kernel
theorem t_218_170 : tg 218 (-48) = some 170 := by decide +kernel
theorem i_112_221 : ins 112 221 = some (.aload_n 0, 1) := by decide +kernel
theorem v_112_466 : inv 112 466 = some (127, 0, 1, 7340134) := by decide +kernel
theorem i_112_222 : ins 112 222 = some (.invokevirtual 466, 3) := by decide +kernel
theorem i_112_225 : ins 112 225 = some (.ifCond .eq 7, 3) := by decide +kernel
theorem t_225_232 : tg 225 (7) = some 232 := by decide +kernel
theorem i_112_228 : ins 112 228 = some (.iconst 2, 1) := by decide +kernel
theorem i_112_229 : ins 112 229 = some (.goto 4, 3) := by decide +kernel
theorem t_229_233 : tg 229 (4) = some 233 := by decide +kernel
theorem i_112_232 : ins 112 232 = some (.iconst 1, 1) := by decide +kernel
theorem i_112_233 : ins 112 233 = some (.istore 4, 2) := by decide +kernel
theorem i_112_235 : ins 112 235 = some (.goto (-65), 3) := by decide +kernel
theorem t_235_170 : tg 235 (-65) = some 170 := by decide +kernel
theorem i_112_238 : ins 112 238 = some (.aload_n 0, 1) := by decide +kernel
theorem i_112_239 : ins 112 239 = some (.iload_n 1, 1) := by decide +kernel
theorem i_112_240 : ins 112 240 = some (.iconst 3, 1) := by decide +kernel
theorem i_112_241 : ins 112 241 = some (.if_icmp .ne 7, 3) := by decide +kernel
theorem t_241_248 : tg 241 (7) = some 248 := by decide +kernel
theorem i_112_244 : ins 112 244 = some (.iconst 1, 1) := by decide +kernel
theorem i_112_245 : ins 112 245 = some (.goto 4, 3) := by decide +kernel
theorem t_245_249 : tg 245 (4) = some 249 := by decide +kernel
theorem i_112_248 : ins 112 248 = some (.iconst 0, 1) := by decide +kernel
theorem v_112_470 : inv 112 470 = some (131, 1, 1, 7340134) := by decide +kernel
theorem i_112_249 : ins 112 249 = some (.invokevirtual 470, 3) := by decide +kernel
theorem i_112_252 : ins 112 252 = some (.istore 4, 2) := by decide +kernel
theorem i_112_254 : ins 112 254 = some (.goto (-84), 3) := by decide +kernel
theorem t_254_170 : tg 254 (-84) = some 170 := by decide +kernel
theorem i_112_257 : ins 112 257 = some (.aload_n 0, 1) := by decide +kernel
theorem v_112_474 : inv 112 474 = some (136, 0, 1, 7340134) := by decide +kernel
theorem i_112_258 : ins 112 258 = some (.invokevirtual 474, 3) := by decide +kernel
theorem i_112_261 : ins 112 261 = some (.istore 4, 2) := by decide +kernel
theorem i_112_263 : ins 112 263 = some (.goto (-93), 3) := by decide +kernel
theorem t_263_170 : tg 263 (-93) = some 170 := by decide +kernel
theorem i_112_266 : ins 112 266 = some (.aload_n 0, 1) := by decide +kernel
theorem f_112_93 : fld 112 93 = some (7340134, 41, 2) := by decide +kernel
theorem i_112_267 : ins 112 267 = some (.getfield 93, 3) := by decide +kernel
theorem i_112_270 : ins 112 270 = some (.iload_n 2, 1) := by decide +kernel
theorem i_112_271 : ins 112 271 = some (.aload_n 0, 1) := by decide +kernel
theorem i_112_272 : ins 112 272 = some (.getfield 378, 3) := by decide +kernel
theorem kl_104859521 : klen 104859521 = 120 := by decide +kernel
theorem i_112_275 : ins 112 275 = some (.iastore, 1) := by decide +kernel
theorem i_112_276 : ins 112 276 = some (.aload_n 0, 1) := by decide +kernel
theorem i_112_277 : ins 112 277 = some (.invokevirtual 396, 3) := by decide +kernel
theorem i_112_280 : ins 112 280 = some (.aload_n 0, 1) := by decide +kernel
theorem i_112_281 : ins 112 281 = some (.getfield 310, 3) := by decide +kernel
theorem i_112_284 : ins 112 284 = some (.aload_n 0, 1) := by decide +kernel
theorem f_112_300 : fld 112 300 = some (7340134, 28, 0) := by decide +kernel
theorem i_112_285 : ins 112 285 = some (.getfield 300, 3) := by decide +kernel
theorem i_112_288 : ins 112 288 = some (.if_icmp .ge 21, 3) := by decide +kernel
theorem t_288_309 : tg 288 (21) = some 309 := by decide +kernel
theorem i_112_291 : ins 112 291 = some (.aload_n 0, 1) := by decide +kernel
theorem i_112_292 : ins 112 292 = some (.invokevirtual 399, 3) := by decide +kernel
theorem kB_59 : (Int8.ofInt (59)).toInt32 = nI 59 := by decide +kernel
theorem i_112_295 : ins 112 295 = some (.bipush 59, 2) := by decide +kernel
theorem i_112_297 : ins 112 297 = some (.if_icmp .eq 12, 3) := by decide +kernel
theorem t_297_309 : tg 297 (12) = some 309 := by decide +kernel
theorem i_112_300 : ins 112 300 = some (.aload_n 0, 1) := by decide +kernel
theorem i_112_301 : ins 112 301 = some (.iconst 0, 1) := by decide +kernel
theorem i_112_302 : ins 112 302 = some (.aload_n 0, 1) := by decide +kernel
theorem i_112_303 : ins 112 303 = some (.getfield 310, 3) := by decide +kernel
theorem i_112_306 : ins 112 306 = some (.invokevirtual 371, 3) := by decide +kernel
theorem i_112_309 : ins 112 309 = some (.aload_n 0, 1) := by decide +kernel
theorem i_112_310 : ins 112 310 = some (.getfield 81, 3) := by decide +kernel
theorem i_112_313 : ins 112 313 = some (.aload_n 0, 1) := by decide +kernel
theorem i_112_314 : ins 112 314 = some (.getfield 375, 3) := by decide +kernel
theorem i_112_317 : ins 112 317 = some (.dup2, 1) := by decide +kernel
theorem i_112_318 : ins 112 318 = some (.iaload, 1) := by decide +kernel
theorem i_112_319 : ins 112 319 = some (.iconst 1, 1) := by decide +kernel
theorem i_112_320 : ins 112 320 = some (.iadd, 1) := by decide +kernel
theorem i_112_321 : ins 112 321 = some (.iastore, 1) := by decide +kernel
theorem i_112_322 : ins 112 322 = some (.return_, 1) := by decide +kernel
theorem i_113_0 : ins 113 0 = some (.aload_n 0, 1) := by decide +kernel
theorem v_113_396 : inv 113 396 = some (114, 0, 1, 7340134) := by decide +kernel
theorem i_113_1 : ins 113 1 = some (.invokevirtual 396, 3) := by decide +kernel
theorem i_113_4 : ins 113 4 = some (.aload_n 0, 1) := by decide +kernel
theorem v_113_416 : inv 113 416 = some (115, 0, 1, 7340134) := by decide +kernel
theorem i_113_5 : ins 113 5 = some (.invokevirtual 416, 3) := by decide +kernel
theorem i_113_8 : ins 113 8 = some (.istore_n 1, 1) := by decide +kernel
theorem i_113_9 : ins 113 9 = some (.iconst 0, 1) := by decide +kernel
theorem i_113_10 : ins 113 10 = some (.istore_n 2, 1) := by decide +kernel
theorem i_113_11 : ins 113 11 = some (.iload_n 2, 1) := by decide +kernel
theorem i_113_12 : ins 113 12 = some (.bipush 9, 2) := by decide +kernel
theorem i_113_14 : ins 113 14 = some (.if_icmp .ge 21, 3) := by decide +kernel
theorem t_14_35 : tg 14 (21) = some 35 := by decide +kernel
theorem i_113_17 : ins 113 17 = some (.aload_n 0, 1) := by decide +kernel
theorem i_113_18 : ins 113 18 = some (.iload_n 2, 1) := by decide +kernel
theorem v_113_446 : inv 113 446 = some (116, 1, 0, 0) := by decide +kernel
theorem i_113_19 : ins 113 19 = some (.invokestatic 446, 3) := by decide +kernel
theorem i_113_22 : ins 113 22 = some (.iload_n 1, 1) := by decide +kernel
theorem v_113_423 : inv 113 423 = some (117, 2, 1, 7340134) := by decide +kernel
theorem i_113_23 : ins 113 23 = some (.invokevirtual 423, 3) := by decide +kernel
theorem i_113_26 : ins 113 26 = some (.ifCond .ne 9, 3) := by decide +kernel
theorem t_26_35 : tg 26 (9) = some 35 := by decide +kernel
theorem i_113_29 : ins 113 29 = some (.iinc 2 1, 3) := by decide +kernel
theorem i_113_32 : ins 113 32 = some (.goto (-21), 3) := by decide +kernel
theorem t_32_11 : tg 32 (-21) = some 11 := by decide +kernel
theorem i_113_35 : ins 113 35 = some (.iload_n 2, 1) := by decide +kernel
theorem i_113_36 : ins 113 36 = some (.iconst 3, 1) := by decide +kernel
theorem i_113_37 : ins 113 37 = some (.if_icmp .lt 13, 3) := by decide +kernel
theorem t_37_50 : tg 37 (13) = some 50 := by decide +kernel
theorem i_113_40 : ins 113 40 = some (.iload_n 2, 1) := by decide +kernel
theorem i_113_41 : ins 113 41 = some (.bipush 9, 2) := by decide +kernel
theorem i_113_43 : ins 113 43 = some (.if_icmp .ge 7, 3) := by decide +kernel
theorem t_43_50 : tg 43 (7) = some 50 := by decide +kernel
theorem i_113_46 : ins 113 46 = some (.iconst 1, 1) := by decide +kernel
theorem i_113_47 : ins 113 47 = some (.goto 4, 3) := by decide +kernel
theorem t_47_51 : tg 47 (4) = some 51 := by decide +kernel
theorem i_113_50 : ins 113 50 = some (.iconst 0, 1) := by decide +kernel
theorem i_113_51 : ins 113 51 = some (.istore_n 3, 1) := by decide +kernel
theorem i_113_52 : ins 113 52 = some (.iload_n 2, 1) := by decide +kernel
theorem i_113_53 : ins 113 53 = some (.bipush 9, 2) := by decide +kernel
theorem i_113_55 : ins 113 55 = some (.if_icmp .ne 15, 3) := by decide +kernel
theorem t_55_70 : tg 55 (15) = some 70 := by decide +kernel
theorem i_113_58 : ins 113 58 = some (.aload_n 0, 1) := by decide +kernel
theorem i_113_59 : ins 113 59 = some (.iconst 0, 1) := by decide +kernel
theorem i_113_60 : ins 113 60 = some (.aload_n 0, 1) := by decide +kernel
theorem f_113_310 : fld 113 310 = some (7340134, 29, 0) := by decide +kernel
theorem i_113_61 : ins 113 61 = some (.getfield 310, 3) := by decide +kernel
theorem v_113_371 : inv 113 371 = some (118, 2, 1, 7340134) := by decide +kernel
theorem i_113_64 : ins 113 64 = some (.invokevirtual 371, 3) := by decide +kernel
theorem i_113_67 : ins 113 67 = some (.goto 54, 3) := by decide +kernel
theorem t_67_121 : tg 67 (54) = some 121 := by decide +kernel
theorem i_113_70 : ins 113 70 = some (.aload_n 0, 1) := by decide +kernel
theorem f_113_81 : fld 113 81 = some (7340134, 37, 2) := by decide +kernel
theorem i_113_71 : ins 113 71 = some (.getfield 81, 3) := by decide +kernel
theorem i_113_74 : ins 113 74 = some (.aload_n 0, 1) := by decide +kernel
theorem f_113_375 : fld 113 375 = some (7340134, 35, 0) := by decide +kernel
theorem i_113_75 : ins 113 75 = some (.getfield 375, 3) := by decide +kernel
theorem i_113_78 : ins 113 78 = some (.iaload, 1) := by decide +kernel
theorem i_113_79 : ins 113 79 = some (.bipush 12, 2) := by decide +kernel
theorem i_113_81 : ins 113 81 = some (.if_icmp .ne 15, 3) := by decide +kernel
theorem t_81_96 : tg 81 (15) = some 96 := by decide +kernel
theorem i_113_84 : ins 113 84 = some (.aload_n 0, 1) := by decide +kernel
theorem i_113_85 : ins 113 85 = some (.iconst 4, 1) := by decide +kernel
theorem i_113_86 : ins 113 86 = some (.aload_n 0, 1) := by decide +kernel
theorem i_113_87 : ins 113 87 = some (.getfield 310, 3) := by decide +kernel
theorem i_113_90 : ins 113 90 = some (.invokevirtual 371, 3) := by decide +kernel
theorem i_113_93 : ins 113 93 = some (.goto 28, 3) := by decide +kernel
theorem t_93_121 : tg 93 (28) = some 121 := by decide +kernel
theorem i_113_96 : ins 113 96 = some (.iload_n 3, 1) := by decide +kernel
theorem i_113_97 : ins 113 97 = some (.ifCond .eq 24, 3) := by decide +kernel
theorem t_97_121 : tg 97 (24) = some 121 := by decide +kernel
theorem i_113_100 : ins 113 100 = some (.aload_n 0, 1) := by decide +kernel
theorem f_113_449 : fld 113 449 = some (7340134, 34, 0) := by decide +kernel
theorem i_113_101 : ins 113 101 = some (.getfield 449, 3) := by decide +kernel
theorem i_113_104 : ins 113 104 = some (.iload_n 2, 1) := by decide +kernel
theorem i_113_105 : ins 113 105 = some (.ishr, 1) := by decide +kernel
theorem i_113_106 : ins 113 106 = some (.iconst 1, 1) := by decide +kernel
theorem i_113_107 : ins 113 107 = some (.iand, 1) := by decide +kernel
theorem i_113_108 : ins 113 108 = some (.iconst 1, 1) := by decide +kernel
theorem i_113_109 : ins 113 109 = some (.if_icmp .ne 12, 3) := by decide +kernel
theorem t_109_121 : tg 109 (12) = some 121 := by decide +kernel
theorem i_113_112 : ins 113 112 = some (.aload_n 0, 1) := by decide +kernel
theorem i_113_113 : ins 113 113 = some (.iconst 5, 1) := by decide +kernel
theorem i_113_114 : ins 113 114 = some (.aload_n 0, 1) := by decide +kernel
theorem i_113_115 : ins 113 115 = some (.getfield 310, 3) := by decide +kernel
theorem i_113_118 : ins 113 118 = some (.invokevirtual 371, 3) := by decide +kernel
theorem i_113_121 : ins 113 121 = some (.aload_n 0, 1) := by decide +kernel
theorem i_113_122 : ins 113 122 = some (.dup, 1) := by decide +kernel
theorem i_113_123 : ins 113 123 = some (.getfield 449, 3) := by decide +kernel
theorem i_113_126 : ins 113 126 = some (.iconst 1, 1) := by decide +kernel
theorem i_113_127 : ins 113 127 = some (.iload_n 2, 1) := by decide +kernel
theorem i_113_128 : ins 113 128 = some (.ishl, 1) := by decide +kernel
theorem i_113_129 : ins 113 129 = some (.ior, 1) := by decide +kernel
theorem o_113_7340134_34 : putok 113 7340134 34 = true := by decide +kernel
theorem i_113_130 : ins 113 130 = some (.putfield 449, 3) := by decide +kernel
theorem i_113_133 : ins 113 133 = some (.aload_n 0, 1) := by decide +kernel
theorem i_113_134 : ins 113 134 = some (.iload_n 1, 1) := by decide +kernel
theorem o_113_7340134_29 : putok 113 7340134 29 = true := by decide +kernel
theorem i_113_135 : ins 113 135 = some (.putfield 310, 3) := by decide +kernel
theorem i_113_138 : ins 113 138 = some (.aload_n 0, 1) := by decide +kernel
theorem f_113_307 : fld 113 307 = some (7340134, 31, 0) := by decide +kernel
theorem i_113_139 : ins 113 139 = some (.getfield 307, 3) := by decide +kernel
theorem i_113_142 : ins 113 142 = some (.ifCond .le 7, 3) := by decide +kernel
theorem t_142_149 : tg 142 (7) = some 149 := by decide +kernel
theorem i_113_145 : ins 113 145 = some (.iconst (-1), 1) := by decide +kernel
theorem i_113_146 : ins 113 146 = some (.goto 4, 3) := by decide +kernel
theorem t_146_150 : tg 146 (4) = some 150 := by decide +kernel
theorem i_113_149 : ins 113 149 = some (.iload_n 2, 1) := by decide +kernel
theorem r_113 : mret 113 = 1 := by decide +kernel
theorem i_113_150 : ins 113 150 = some (.ireturn, 1) := by decide +kernel
theorem i_114_0 : ins 114 0 = some (.aload_n 0, 1) := by decide +kernel
theorem f_114_310 : fld 114 310 = some (7340134, 29, 0) := by decide +kernel
theorem i_114_1 : ins 114 1 = some (.getfield 310, 3) := by decide +kernel
theorem i_114_4 : ins 114 4 = some (.aload_n 0, 1) := by decide +kernel
theorem f_114_300 : fld 114 300 = some (7340134, 28, 0) := by decide +kernel
theorem i_114_5 : ins 114 5 = some (.getfield 300, 3) := by decide +kernel
theorem i_114_8 : ins 114 8 = some (.if_icmp .ge 30, 3) := by decide +kernel
theorem t_8_38 : tg 8 (30) = some 38 := by decide +kernel
theorem i_114_11 : ins 114 11 = some (.aload_n 0, 1) := by decide +kernel
theorem f_114_74 : fld 114 74 = some (7340134, 27, 2) := by decide +kernel
theorem i_114_12 : ins 114 12 = some (.getfield 74, 3) := by decide +kernel
theorem i_114_15 : ins 114 15 = some (.aload_n 0, 1) := by decide +kernel
theorem i_114_16 : ins 114 16 = some (.getfield 310, 3) := by decide +kernel
theorem i_114_19 : ins 114 19 = some (.baload, 1) := by decide +kernel
theorem kB_32 : (Int8.ofInt (32)).toInt32 = nI 32 := by decide +kernel
theorem i_114_20 : ins 114 20 = some (.bipush 32, 2) := by decide +kernel
theorem i_114_22 : ins 114 22 = some (.if_icmp .ne 16, 3) := by decide +kernel
theorem t_22_38 : tg 22 (16) = some 38 := by decide +kernel
theorem i_114_25 : ins 114 25 = some (.aload_n 0, 1) := by decide +kernel
theorem i_114_26 : ins 114 26 = some (.dup, 1) := by decide +kernel
theorem i_114_27 : ins 114 27 = some (.getfield 310, 3) := by decide +kernel
theorem i_114_30 : ins 114 30 = some (.iconst 1, 1) := by decide +kernel
theorem i_114_31 : ins 114 31 = some (.iadd, 1) := by decide +kernel
theorem o_114_7340134_29 : putok 114 7340134 29 = true := by decide +kernel
theorem i_114_32 : ins 114 32 = some (.putfield 310, 3) := by decide +kernel
theorem i_114_35 : ins 114 35 = some (.goto (-35), 3) := by decide +kernel
theorem t_35_0 : tg 35 (-35) = some 0 := by decide +kernel
theorem i_114_38 : ins 114 38 = some (.aload_n 0, 1) := by decide +kernel
theorem i_114_39 : ins 114 39 = some (.aload_n 0, 1) := by decide +kernel
theorem i_114_40 : ins 114 40 = some (.getfield 310, 3) := by decide +kernel
theorem f_114_313 : fld 114 313 = some (7340134, 30, 0) := by decide +kernel
theorem o_114_7340134_30 : putok 114 7340134 30 = true := by decide +kernel
theorem i_114_43 : ins 114 43 = some (.putfield 313, 3) := by decide +kernel
theorem i_114_46 : ins 114 46 = some (.return_, 1) := by decide +kernel
theorem r_114 : mret 114 = 0 := by decide +kernel
theorem i_115_0 : ins 115 0 = some (.aload_n 0, 1) := by decide +kernel
theorem f_115_310 : fld 115 310 = some (7340134, 29, 0) := by decide +kernel
theorem i_115_1 : ins 115 1 = some (.getfield 310, 3) := by decide +kernel
theorem i_115_4 : ins 115 4 = some (.istore_n 1, 1) := by decide +kernel
theorem i_115_5 : ins 115 5 = some (.iload_n 1, 1) := by decide +kernel
theorem i_115_6 : ins 115 6 = some (.aload_n 0, 1) := by decide +kernel
theorem f_115_300 : fld 115 300 = some (7340134, 28, 0) := by decide +kernel
theorem i_115_7 : ins 115 7 = some (.getfield 300, 3) := by decide +kernel
theorem i_115_10 : ins 115 10 = some (.if_icmp .ge 31, 3) := by decide +kernel
theorem t_10_41 : tg 10 (31) = some 41 := by decide +kernel
theorem i_115_13 : ins 115 13 = some (.aload_n 0, 1) := by decide +kernel
theorem f_115_74 : fld 115 74 = some (7340134, 27, 2) := by decide +kernel
theorem i_115_14 : ins 115 14 = some (.getfield 74, 3) := by decide +kernel
theorem i_115_17 : ins 115 17 = some (.iload_n 1, 1) := by decide +kernel
theorem i_115_18 : ins 115 18 = some (.baload, 1) := by decide +kernel
theorem kB_97 : (Int8.ofInt (97)).toInt32 = nI 97 := by decide +kernel
theorem i_115_19 : ins 115 19 = some (.bipush 97, 2) := by decide +kernel
theorem i_115_21 : ins 115 21 = some (.if_icmp .lt 20, 3) := by decide +kernel
theorem t_21_41 : tg 21 (20) = some 41 := by decide +kernel
theorem i_115_24 : ins 115 24 = some (.aload_n 0, 1) := by decide +kernel
theorem i_115_25 : ins 115 25 = some (.getfield 74, 3) := by decide +kernel
theorem i_115_28 : ins 115 28 = some (.iload_n 1, 1) := by decide +kernel
theorem i_115_29 : ins 115 29 = some (.baload, 1) := by decide +kernel
theorem kB_122 : (Int8.ofInt (122)).toInt32 = nI 122 := by decide +kernel
theorem i_115_30 : ins 115 30 = some (.bipush 122, 2) := by decide +kernel
theorem i_115_32 : ins 115 32 = some (.if_icmp .gt 9, 3) := by decide +kernel
theorem t_32_41 : tg 32 (9) = some 41 := by decide +kernel
theorem i_115_35 : ins 115 35 = some (.iinc 1 1, 3) := by decide +kernel
theorem i_115_38 : ins 115 38 = some (.goto (-33), 3) := by decide +kernel
theorem t_38_5 : tg 38 (-33) = some 5 := by decide +kernel
theorem i_115_41 : ins 115 41 = some (.iload_n 1, 1) := by decide +kernel
theorem r_115 : mret 115 = 1 := by decide +kernel
theorem i_115_42 : ins 115 42 = some (.ireturn, 1) := by decide +kernel
theorem i_116_0 : ins 116 0 = some (.iload_n 0, 1) := by decide +kernel
theorem i_116_1 : ins 116 1 = some (.tableswitch 79 0 7 #[47, 51, 55, 59, 63, 67, 71, 75], 47) := by decide +kernel
theorem t_1_80 : tg 1 (79) = some 80 := by decide +kernel
theorem l_116_350 : ldcv 116 350 = some (vR (8, 20)) := rfl
theorem i_116_48 : ins 116 48 = some (.ldc_w 350, 3) := by decide +kernel
theorem i_116_51 : ins 116 51 = some (.areturn, 1) := by decide +kernel
theorem r_116 : mret 116 = 6 := by decide +kernel
theorem l_116_352 : ldcv 116 352 = some (vR (8, 21)) := rfl
theorem i_116_52 : ins 116 52 = some (.ldc_w 352, 3) := by decide +kernel
theorem i_116_55 : ins 116 55 = some (.areturn, 1) := by decide +kernel
theorem l_116_354 : ldcv 116 354 = some (vR (8, 22)) := rfl
theorem i_116_56 : ins 116 56 = some (.ldc_w 354, 3) := by decide +kernel
theorem i_116_59 : ins 116 59 = some (.areturn, 1) := by decide +kernel
theorem l_116_356 : ldcv 116 356 = some (vR (8, 19)) := rfl
theorem i_116_60 : ins 116 60 = some (.ldc_w 356, 3) := by decide +kernel
theorem i_116_63 : ins 116 63 = some (.areturn, 1) := by decide +kernel
theorem l_116_358 : ldcv 116 358 = some (vR (8, 13)) := rfl
theorem i_116_64 : ins 116 64 = some (.ldc_w 358, 3) := by decide +kernel
theorem i_116_67 : ins 116 67 = some (.areturn, 1) := by decide +kernel
theorem l_116_360 : ldcv 116 360 = some (vR (8, 14)) := rfl
theorem i_116_68 : ins 116 68 = some (.ldc_w 360, 3) := by decide +kernel
theorem i_116_71 : ins 116 71 = some (.areturn, 1) := by decide +kernel
theorem l_116_362 : ldcv 116 362 = some (vR (8, 15)) := rfl
theorem i_116_72 : ins 116 72 = some (.ldc_w 362, 3) := by decide +kernel
theorem i_116_75 : ins 116 75 = some (.areturn, 1) := by decide +kernel
theorem l_116_364 : ldcv 116 364 = some (vR (8, 16)) := rfl
theorem i_116_76 : ins 116 76 = some (.ldc_w 364, 3) := by decide +kernel
theorem i_116_79 : ins 116 79 = some (.areturn, 1) := by decide +kernel
theorem l_116_366 : ldcv 116 366 = some (vR (8, 18)) := rfl
theorem i_116_80 : ins 116 80 = some (.ldc_w 366, 3) := by decide +kernel
theorem i_116_83 : ins 116 83 = some (.areturn, 1) := by decide +kernel
theorem i_117_0 : ins 117 0 = some (.iload_n 2, 1) := by decide +kernel
theorem i_117_1 : ins 117 1 = some (.aload_n 0, 1) := by decide +kernel
theorem f_117_310 : fld 117 310 = some (7340134, 29, 0) := by decide +kernel
theorem i_117_2 : ins 117 2 = some (.getfield 310, 3) := by decide +kernel
theorem i_117_5 : ins 117 5 = some (.isub, 1) := by decide +kernel
theorem i_117_6 : ins 117 6 = some (.aload_n 1, 1) := by decide +kernel
theorem v_117_316 : inv 117 316 = some (253, 0, 1, 8) := by decide +kernel
theorem i_117_7 : ins 117 7 = some (.invokevirtual 316, 3) := by decide +kernel
theorem i_117_10 : ins 117 10 = some (.if_icmp .ne 7, 3) := by decide +kernel
theorem i_117_13 : ins 117 13 = some (.iconst 1, 1) := by decide +kernel
theorem i_117_14 : ins 117 14 = some (.goto 4, 3) := by decide +kernel
theorem i_117_17 : ins 117 17 = some (.iconst 0, 1) := by decide +kernel
theorem i_117_18 : ins 117 18 = some (.istore_n 3, 1) := by decide +kernel
theorem i_117_19 : ins 117 19 = some (.iconst 0, 1) := by decide +kernel
theorem i_117_20 : ins 117 20 = some (.istore 4, 2) := by decide +kernel
theorem i_117_22 : ins 117 22 = some (.iload 4, 2) := by decide +kernel
theorem i_117_24 : ins 117 24 = some (.aload_n 1, 1) := by decide +kernel
theorem i_117_25 : ins 117 25 = some (.invokevirtual 316, 3) := by decide +kernel
theorem i_117_28 : ins 117 28 = some (.if_icmp .ge 40, 3) := by decide +kernel
theorem t_28_68 : tg 28 (40) = some 68 := by decide +kernel
theorem i_117_31 : ins 117 31 = some (.iload_n 3, 1) := by decide +kernel
theorem i_117_32 : ins 117 32 = some (.ifCond .eq 36, 3) := by decide +kernel
theorem t_32_68 : tg 32 (36) = some 68 := by decide +kernel
theorem i_117_35 : ins 117 35 = some (.aload_n 0, 1) := by decide +kernel
theorem f_117_74 : fld 117 74 = some (7340134, 27, 2) := by decide +kernel
theorem i_117_36 : ins 117 36 = some (.getfield 74, 3) := by decide +kernel
theorem i_117_39 : ins 117 39 = some (.aload_n 0, 1) := by decide +kernel
theorem i_117_40 : ins 117 40 = some (.getfield 310, 3) := by decide +kernel
theorem i_117_43 : ins 117 43 = some (.iload 4, 2) := by decide +kernel
theorem i_117_45 : ins 117 45 = some (.iadd, 1) := by decide +kernel
theorem i_117_46 : ins 117 46 = some (.baload, 1) := by decide +kernel
theorem i_117_47 : ins 117 47 = some (.aload_n 1, 1) := by decide +kernel
theorem i_117_48 : ins 117 48 = some (.iload 4, 2) := by decide +kernel
theorem v_117_322 : inv 117 322 = some (255, 1, 1, 8) := by decide +kernel
theorem i_117_50 : ins 117 50 = some (.invokevirtual 322, 3) := by decide +kernel
theorem i_117_53 : ins 117 53 = some (.if_icmp .ne 7, 3) := by decide +kernel
theorem i_117_56 : ins 117 56 = some (.iconst 1, 1) := by decide +kernel
theorem i_117_57 : ins 117 57 = some (.goto 4, 3) := by decide +kernel
theorem i_117_60 : ins 117 60 = some (.iconst 0, 1) := by decide +kernel
theorem i_117_61 : ins 117 61 = some (.istore_n 3, 1) := by decide +kernel
theorem i_117_62 : ins 117 62 = some (.iinc 4 1, 3) := by decide +kernel
theorem i_117_65 : ins 117 65 = some (.goto (-43), 3) := by decide +kernel
theorem t_65_22 : tg 65 (-43) = some 22 := by decide +kernel
theorem i_117_68 : ins 117 68 = some (.iload_n 3, 1) := by decide +kernel
theorem r_117 : mret 117 = 2 := by decide +kernel
theorem i_117_69 : ins 117 69 = some (.ireturn, 1) := by decide +kernel
theorem i_118_0 : ins 118 0 = some (.aload_n 0, 1) := by decide +kernel
theorem f_118_307 : fld 118 307 = some (7340134, 31, 0) := by decide +kernel
theorem i_118_1 : ins 118 1 = some (.getfield 307, 3) := by decide +kernel
theorem i_118_4 : ins 118 4 = some (.ifCond .ne 15, 3) := by decide +kernel
theorem i_118_7 : ins 118 7 = some (.aload_n 0, 1) := by decide +kernel
theorem i_118_8 : ins 118 8 = some (.iconst 1, 1) := by decide +kernel
theorem i_118_9 : ins 118 9 = some (.bipush 8, 2) := by decide +kernel
theorem i_118_11 : ins 118 11 = some (.iload_n 2, 1) := by decide +kernel
theorem i_118_12 : ins 118 12 = some (.imul, 1) := by decide +kernel
theorem i_118_13 : ins 118 13 = some (.iadd, 1) := by decide +kernel
theorem i_118_14 : ins 118 14 = some (.iload_n 1, 1) := by decide +kernel
theorem i_118_15 : ins 118 15 = some (.iadd, 1) := by decide +kernel
theorem o_118_7340134_31 : putok 118 7340134 31 = true := by decide +kernel
theorem i_118_16 : ins 118 16 = some (.putfield 307, 3) := by decide +kernel
theorem i_118_19 : ins 118 19 = some (.return_, 1) := by decide +kernel
theorem r_118 : mret 118 = 0 := by decide +kernel
theorem i_119_0 : ins 119 0 = some (.aload_n 0, 1) := by decide +kernel
theorem f_119_310 : fld 119 310 = some (7340134, 29, 0) := by decide +kernel
theorem i_119_1 : ins 119 1 = some (.getfield 310, 3) := by decide +kernel
theorem i_119_4 : ins 119 4 = some (.aload_n 0, 1) := by decide +kernel
theorem f_119_300 : fld 119 300 = some (7340134, 28, 0) := by decide +kernel
theorem i_119_5 : ins 119 5 = some (.getfield 300, 3) := by decide +kernel
theorem i_119_8 : ins 119 8 = some (.if_icmp .ge 15, 3) := by decide +kernel
theorem t_8_23 : tg 8 (15) = some 23 := by decide +kernel
theorem i_119_11 : ins 119 11 = some (.aload_n 0, 1) := by decide +kernel
theorem f_119_74 : fld 119 74 = some (7340134, 27, 2) := by decide +kernel
theorem i_119_12 : ins 119 12 = some (.getfield 74, 3) := by decide +kernel
theorem i_119_15 : ins 119 15 = some (.aload_n 0, 1) := by decide +kernel
theorem i_119_16 : ins 119 16 = some (.getfield 310, 3) := by decide +kernel
theorem i_119_19 : ins 119 19 = some (.baload, 1) := by decide +kernel
theorem i_119_20 : ins 119 20 = some (.goto 4, 3) := by decide +kernel
theorem i_119_23 : ins 119 23 = some (.iconst (-1), 1) := by decide +kernel
theorem r_119 : mret 119 = 1 := by decide +kernel
theorem i_119_24 : ins 119 24 = some (.ireturn, 1) := by decide +kernel
theorem i_120_0 : ins 120 0 = some (.iload_n 0, 1) := by decide +kernel
theorem kB_48 : (Int8.ofInt (48)).toInt32 = nI 48 := by decide +kernel
theorem i_120_1 : ins 120 1 = some (.bipush 48, 2) := by decide +kernel
theorem i_120_3 : ins 120 3 = some (.if_icmp .lt 13, 3) := by decide +kernel
theorem t_3_16 : tg 3 (13) = some 16 := by decide +kernel
theorem i_120_6 : ins 120 6 = some (.iload_n 0, 1) := by decide +kernel
theorem kB_57 : (Int8.ofInt (57)).toInt32 = nI 57 := by decide +kernel
theorem i_120_7 : ins 120 7 = some (.bipush 57, 2) := by decide +kernel
theorem i_120_9 : ins 120 9 = some (.if_icmp .gt 7, 3) := by decide +kernel
theorem i_120_12 : ins 120 12 = some (.iconst 1, 1) := by decide +kernel
theorem i_120_13 : ins 120 13 = some (.goto 4, 3) := by decide +kernel
theorem i_120_16 : ins 120 16 = some (.iconst 0, 1) := by decide +kernel
theorem r_120 : mret 120 = 2 := by decide +kernel
theorem i_120_17 : ins 120 17 = some (.ireturn, 1) := by decide +kernel
theorem i_121_0 : ins 121 0 = some (.iload_n 0, 1) := by decide +kernel
theorem i_121_36 : ins 121 36 = some (.iconst 5, 1) := by decide +kernel
theorem r_121 : mret 121 = 1 := by decide +kernel
theorem i_121_37 : ins 121 37 = some (.ireturn, 1) := by decide +kernel
theorem i_121_38 : ins 121 38 = some (.bipush 9, 2) := by decide +kernel
theorem i_121_40 : ins 121 40 = some (.ireturn, 1) := by decide +kernel
theorem i_121_41 : ins 121 41 = some (.bipush 24, 2) := by decide +kernel
theorem i_121_43 : ins 121 43 = some (.ireturn, 1) := by decide +kernel
theorem i_121_44 : ins 121 44 = some (.sipush 999, 3) := by decide +kernel
theorem i_121_47 : ins 121 47 = some (.ireturn, 1) := by decide +kernel
theorem i_122_0 : ins 122 0 = some (.iconst 0, 1) := by decide +kernel
theorem i_122_1 : ins 122 1 = some (.istore_n 2, 1) := by decide +kernel
theorem i_122_2 : ins 122 2 = some (.iconst 0, 1) := by decide +kernel
theorem i_122_3 : ins 122 3 = some (.istore_n 3, 1) := by decide +kernel
theorem i_122_4 : ins 122 4 = some (.aload_n 0, 1) := by decide +kernel
theorem f_122_310 : fld 122 310 = some (7340134, 29, 0) := by decide +kernel
theorem i_122_5 : ins 122 5 = some (.getfield 310, 3) := by decide +kernel
theorem i_122_8 : ins 122 8 = some (.aload_n 0, 1) := by decide +kernel
theorem f_122_300 : fld 122 300 = some (7340134, 28, 0) := by decide +kernel
theorem i_122_9 : ins 122 9 = some (.getfield 300, 3) := by decide +kernel
theorem i_122_12 : ins 122 12 = some (.if_icmp .ge 61, 3) := by decide +kernel
theorem t_12_73 : tg 12 (61) = some 73 := by decide +kernel
theorem i_122_15 : ins 122 15 = some (.aload_n 0, 1) := by decide +kernel
theorem f_122_74 : fld 122 74 = some (7340134, 27, 2) := by decide +kernel
theorem i_122_16 : ins 122 16 = some (.getfield 74, 3) := by decide +kernel
theorem i_122_19 : ins 122 19 = some (.aload_n 0, 1) := by decide +kernel
theorem i_122_20 : ins 122 20 = some (.getfield 310, 3) := by decide +kernel
theorem i_122_23 : ins 122 23 = some (.baload, 1) := by decide +kernel
theorem v_122_368 : inv 122 368 = some (120, 1, 0, 0) := by decide +kernel
theorem i_122_24 : ins 122 24 = some (.invokestatic 368, 3) := by decide +kernel
theorem i_122_27 : ins 122 27 = some (.ifCond .eq 46, 3) := by decide +kernel
theorem t_27_73 : tg 27 (46) = some 73 := by decide +kernel
theorem i_122_30 : ins 122 30 = some (.iload_n 3, 1) := by decide +kernel
theorem i_122_31 : ins 122 31 = some (.iconst 5, 1) := by decide +kernel
theorem i_122_32 : ins 122 32 = some (.if_icmp .ge 23, 3) := by decide +kernel
theorem t_32_55 : tg 32 (23) = some 55 := by decide +kernel
theorem i_122_35 : ins 122 35 = some (.bipush 10, 2) := by decide +kernel
theorem i_122_37 : ins 122 37 = some (.iload_n 2, 1) := by decide +kernel
theorem i_122_38 : ins 122 38 = some (.imul, 1) := by decide +kernel
theorem i_122_39 : ins 122 39 = some (.aload_n 0, 1) := by decide +kernel
theorem i_122_40 : ins 122 40 = some (.getfield 74, 3) := by decide +kernel
theorem i_122_43 : ins 122 43 = some (.aload_n 0, 1) := by decide +kernel
theorem i_122_44 : ins 122 44 = some (.getfield 310, 3) := by decide +kernel
theorem i_122_47 : ins 122 47 = some (.baload, 1) := by decide +kernel
theorem i_122_48 : ins 122 48 = some (.iadd, 1) := by decide +kernel
theorem i_122_49 : ins 122 49 = some (.bipush 48, 2) := by decide +kernel
theorem i_122_51 : ins 122 51 = some (.isub, 1) := by decide +kernel
theorem i_122_52 : ins 122 52 = some (.goto 4, 3) := by decide +kernel
theorem i_122_55 : ins 122 55 = some (.iload_n 2, 1) := by decide +kernel
theorem i_122_56 : ins 122 56 = some (.istore_n 2, 1) := by decide +kernel
theorem i_122_57 : ins 122 57 = some (.iinc 3 1, 3) := by decide +kernel
theorem i_122_60 : ins 122 60 = some (.aload_n 0, 1) := by decide +kernel
theorem i_122_61 : ins 122 61 = some (.dup, 1) := by decide +kernel
theorem i_122_62 : ins 122 62 = some (.getfield 310, 3) := by decide +kernel
theorem i_122_65 : ins 122 65 = some (.iconst 1, 1) := by decide +kernel
theorem i_122_66 : ins 122 66 = some (.iadd, 1) := by decide +kernel
theorem o_122_7340134_29 : putok 122 7340134 29 = true := by decide +kernel
theorem i_122_67 : ins 122 67 = some (.putfield 310, 3) := by decide +kernel
theorem i_122_70 : ins 122 70 = some (.goto (-66), 3) := by decide +kernel
theorem t_70_4 : tg 70 (-66) = some 4 := by decide +kernel
theorem i_122_73 : ins 122 73 = some (.iload_n 3, 1) := by decide +kernel
theorem i_122_74 : ins 122 74 = some (.iconst 5, 1) := by decide +kernel
theorem i_122_75 : ins 122 75 = some (.if_icmp .gt 8, 3) := by decide +kernel
theorem t_75_83 : tg 75 (8) = some 83 := by decide +kernel
theorem i_122_78 : ins 122 78 = some (.iload_n 2, 1) := by decide +kernel
theorem i_122_79 : ins 122 79 = some (.iload_n 1, 1) := by decide +kernel
theorem i_122_80 : ins 122 80 = some (.if_icmp .le 12, 3) := by decide +kernel
theorem t_80_92 : tg 80 (12) = some 92 := by decide +kernel
theorem i_122_83 : ins 122 83 = some (.aload_n 0, 1) := by decide +kernel
theorem i_122_84 : ins 122 84 = some (.iconst 1, 1) := by decide +kernel
theorem i_122_85 : ins 122 85 = some (.aload_n 0, 1) := by decide +kernel
theorem f_122_313 : fld 122 313 = some (7340134, 30, 0) := by decide +kernel
theorem i_122_86 : ins 122 86 = some (.getfield 313, 3) := by decide +kernel
theorem v_122_371 : inv 122 371 = some (118, 2, 1, 7340134) := by decide +kernel
theorem i_122_89 : ins 122 89 = some (.invokevirtual 371, 3) := by decide +kernel
theorem i_122_92 : ins 122 92 = some (.iload_n 2, 1) := by decide +kernel
theorem r_122 : mret 122 = 1 := by decide +kernel
theorem i_122_93 : ins 122 93 = some (.ireturn, 1) := by decide +kernel
theorem i_123_0 : ins 123 0 = some (.iload_n 1, 1) := by decide +kernel
theorem i_123_1 : ins 123 1 = some (.iconst 3, 1) := by decide +kernel
theorem i_123_2 : ins 123 2 = some (.if_icmp .eq 8, 3) := by decide +kernel
theorem t_2_10 : tg 2 (8) = some 10 := by decide +kernel
theorem i_123_5 : ins 123 5 = some (.iload_n 1, 1) := by decide +kernel
theorem i_123_6 : ins 123 6 = some (.iconst 4, 1) := by decide +kernel
theorem i_123_7 : ins 123 7 = some (.if_icmp .lt 5, 3) := by decide +kernel
theorem i_123_10 : ins 123 10 = some (.iconst 0, 1) := by decide +kernel
theorem r_123 : mret 123 = 2 := by decide +kernel
theorem i_123_11 : ins 123 11 = some (.ireturn, 1) := by decide +kernel
theorem i_123_12 : ins 123 12 = some (.aload_n 0, 1) := by decide +kernel
theorem v_123_396 : inv 123 396 = some (114, 0, 1, 7340134) := by decide +kernel
theorem i_123_13 : ins 123 13 = some (.invokevirtual 396, 3) := by decide +kernel
theorem i_123_16 : ins 123 16 = some (.aload_n 0, 1) := by decide +kernel
theorem v_123_416 : inv 123 416 = some (115, 0, 1, 7340134) := by decide +kernel
theorem i_123_17 : ins 123 17 = some (.invokevirtual 416, 3) := by decide +kernel
theorem i_123_20 : ins 123 20 = some (.istore_n 2, 1) := by decide +kernel
theorem i_123_21 : ins 123 21 = some (.aload_n 0, 1) := by decide +kernel
theorem l_123_452 : ldcv 123 452 = some (vR (8, 23)) := rfl
theorem i_123_22 : ins 123 22 = some (.ldc_w 452, 3) := by decide +kernel
theorem i_123_25 : ins 123 25 = some (.iload_n 2, 1) := by decide +kernel
theorem v_123_423 : inv 123 423 = some (117, 2, 1, 7340134) := by decide +kernel
theorem i_123_26 : ins 123 26 = some (.invokevirtual 423, 3) := by decide +kernel
theorem i_123_29 : ins 123 29 = some (.ifCond .eq 10, 3) := by decide +kernel
theorem t_29_39 : tg 29 (10) = some 39 := by decide +kernel
theorem i_123_32 : ins 123 32 = some (.aload_n 0, 1) := by decide +kernel
theorem i_123_33 : ins 123 33 = some (.iload_n 2, 1) := by decide +kernel
theorem f_123_310 : fld 123 310 = some (7340134, 29, 0) := by decide +kernel
theorem o_123_7340134_29 : putok 123 7340134 29 = true := by decide +kernel
theorem i_123_34 : ins 123 34 = some (.putfield 310, 3) := by decide +kernel
theorem i_123_37 : ins 123 37 = some (.iconst 1, 1) := by decide +kernel
theorem i_123_38 : ins 123 38 = some (.ireturn, 1) := by decide +kernel
theorem i_123_39 : ins 123 39 = some (.iload_n 1, 1) := by decide +kernel
theorem i_123_40 : ins 123 40 = some (.ifCond .eq 12, 3) := by decide +kernel
theorem t_40_52 : tg 40 (12) = some 52 := by decide +kernel
theorem i_123_43 : ins 123 43 = some (.aload_n 0, 1) := by decide +kernel
theorem i_123_44 : ins 123 44 = some (.iconst 0, 1) := by decide +kernel
theorem i_123_45 : ins 123 45 = some (.aload_n 0, 1) := by decide +kernel
theorem i_123_46 : ins 123 46 = some (.getfield 310, 3) := by decide +kernel
theorem v_123_371 : inv 123 371 = some (118, 2, 1, 7340134) := by decide +kernel
theorem i_123_49 : ins 123 49 = some (.invokevirtual 371, 3) := by decide +kernel
theorem i_123_52 : ins 123 52 = some (.iconst 0, 1) := by decide +kernel
theorem i_123_53 : ins 123 53 = some (.ireturn, 1) := by decide +kernel
theorem i_124_0 : ins 124 0 = some (.aload_n 0, 1) := by decide +kernel
theorem v_124_396 : inv 124 396 = some (114, 0, 1, 7340134) := by decide +kernel
theorem i_124_1 : ins 124 1 = some (.invokevirtual 396, 3) := by decide +kernel
theorem i_124_4 : ins 124 4 = some (.aload_n 0, 1) := by decide +kernel
theorem v_124_416 : inv 124 416 = some (115, 0, 1, 7340134) := by decide +kernel
theorem i_124_5 : ins 124 5 = some (.invokevirtual 416, 3) := by decide +kernel
theorem i_124_8 : ins 124 8 = some (.istore_n 1, 1) := by decide +kernel
theorem i_124_9 : ins 124 9 = some (.aload_n 0, 1) := by decide +kernel
theorem l_124_427 : ldcv 124 427 = some (vR (8, 26)) := rfl
theorem i_124_10 : ins 124 10 = some (.ldc_w 427, 3) := by decide +kernel
theorem i_124_13 : ins 124 13 = some (.iload_n 1, 1) := by decide +kernel
theorem v_124_423 : inv 124 423 = some (117, 2, 1, 7340134) := by decide +kernel
theorem i_124_14 : ins 124 14 = some (.invokevirtual 423, 3) := by decide +kernel
theorem i_124_17 : ins 124 17 = some (.istore_n 2, 1) := by decide +kernel
theorem i_124_18 : ins 124 18 = some (.iload_n 2, 1) := by decide +kernel
theorem i_124_19 : ins 124 19 = some (.ifCond .ne 12, 3) := by decide +kernel
theorem t_19_31 : tg 19 (12) = some 31 := by decide +kernel
theorem i_124_22 : ins 124 22 = some (.aload_n 0, 1) := by decide +kernel
theorem v_124_399 : inv 124 399 = some (119, 0, 1, 7340134) := by decide +kernel
theorem i_124_23 : ins 124 23 = some (.invokevirtual 399, 3) := by decide +kernel
theorem kB_91 : (Int8.ofInt (91)).toInt32 = nI 91 := by decide +kernel
theorem i_124_26 : ins 124 26 = some (.bipush 91, 2) := by decide +kernel
theorem i_124_28 : ins 124 28 = some (.if_icmp .ne 46, 3) := by decide +kernel
theorem t_28_74 : tg 28 (46) = some 74 := by decide +kernel
theorem i_124_31 : ins 124 31 = some (.aload_n 0, 1) := by decide +kernel
theorem i_124_32 : ins 124 32 = some (.aload_n 0, 1) := by decide +kernel
theorem f_124_310 : fld 124 310 = some (7340134, 29, 0) := by decide +kernel
theorem i_124_33 : ins 124 33 = some (.getfield 310, 3) := by decide +kernel
theorem v_124_402 : inv 124 402 = some (125, 1, 1, 7340134) := by decide +kernel
theorem i_124_36 : ins 124 36 = some (.invokevirtual 402, 3) := by decide +kernel
theorem i_124_39 : ins 124 39 = some (.aload_n 0, 1) := by decide +kernel
theorem i_124_40 : ins 124 40 = some (.iload_n 2, 1) := by decide +kernel
theorem i_124_41 : ins 124 41 = some (.ifCond .eq 8, 3) := by decide +kernel
theorem t_41_49 : tg 41 (8) = some 49 := by decide +kernel
theorem kB_14 : (Int8.ofInt (14)).toInt32 = nI 14 := by decide +kernel
theorem i_124_44 : ins 124 44 = some (.bipush 14, 2) := by decide +kernel
theorem i_124_46 : ins 124 46 = some (.goto 5, 3) := by decide +kernel
theorem t_46_51 : tg 46 (5) = some 51 := by decide +kernel
theorem i_124_49 : ins 124 49 = some (.bipush 16, 2) := by decide +kernel
theorem v_124_408 : inv 124 408 = some (126, 1, 1, 7340134) := by decide +kernel
theorem i_124_51 : ins 124 51 = some (.invokevirtual 408, 3) := by decide +kernel
theorem i_124_54 : ins 124 54 = some (.aload_n 0, 1) := by decide +kernel
theorem i_124_55 : ins 124 55 = some (.iload_n 2, 1) := by decide +kernel
theorem i_124_56 : ins 124 56 = some (.ifCond .eq 7, 3) := by decide +kernel
theorem t_56_63 : tg 56 (7) = some 63 := by decide +kernel
theorem i_124_59 : ins 124 59 = some (.iload_n 1, 1) := by decide +kernel
theorem i_124_60 : ins 124 60 = some (.goto 9, 3) := by decide +kernel
theorem t_60_69 : tg 60 (9) = some 69 := by decide +kernel
theorem i_124_63 : ins 124 63 = some (.aload_n 0, 1) := by decide +kernel
theorem i_124_64 : ins 124 64 = some (.getfield 310, 3) := by decide +kernel
theorem i_124_67 : ins 124 67 = some (.iconst 1, 1) := by decide +kernel
theorem i_124_68 : ins 124 68 = some (.iadd, 1) := by decide +kernel
theorem o_124_7340134_29 : putok 124 7340134 29 = true := by decide +kernel
theorem i_124_69 : ins 124 69 = some (.putfield 310, 3) := by decide +kernel
theorem i_124_72 : ins 124 72 = some (.iconst 0, 1) := by decide +kernel
theorem r_124 : mret 124 = 1 := by decide +kernel
theorem i_124_73 : ins 124 73 = some (.ireturn, 1) := by decide +kernel
theorem i_124_74 : ins 124 74 = some (.iconst 1, 1) := by decide +kernel
theorem i_124_75 : ins 124 75 = some (.ireturn, 1) := by decide +kernel
theorem i_125_0 : ins 125 0 = some (.aload_n 0, 1) := by decide +kernel
theorem f_125_384 : fld 125 384 = some (7340134, 32, 0) := by decide +kernel
theorem i_125_1 : ins 125 1 = some (.getfield 384, 3) := by decide +kernel
theorem i_125_4 : ins 125 4 = some (.bipush 10, 2) := by decide +kernel
theorem i_125_6 : ins 125 6 = some (.if_icmp .ne 9, 3) := by decide +kernel
theorem t_6_15 : tg 6 (9) = some 15 := by decide +kernel
theorem i_125_9 : ins 125 9 = some (.aload_n 0, 1) := by decide +kernel
theorem i_125_10 : ins 125 10 = some (.iconst 2, 1) := by decide +kernel
theorem i_125_11 : ins 125 11 = some (.iload_n 1, 1) := by decide +kernel
theorem v_125_371 : inv 125 371 = some (118, 2, 1, 7340134) := by decide +kernel
theorem i_125_12 : ins 125 12 = some (.invokevirtual 371, 3) := by decide +kernel
theorem i_125_15 : ins 125 15 = some (.aload_n 0, 1) := by decide +kernel
theorem i_125_16 : ins 125 16 = some (.dup, 1) := by decide +kernel
theorem i_125_17 : ins 125 17 = some (.getfield 384, 3) := by decide +kernel
theorem i_125_20 : ins 125 20 = some (.iconst 1, 1) := by decide +kernel
theorem i_125_21 : ins 125 21 = some (.iadd, 1) := by decide +kernel
theorem o_125_7340134_32 : putok 125 7340134 32 = true := by decide +kernel
theorem i_125_22 : ins 125 22 = some (.putfield 384, 3) := by decide +kernel
theorem i_125_25 : ins 125 25 = some (.return_, 1) := by decide +kernel
theorem r_125 : mret 125 = 0 := by decide +kernel
theorem i_126_0 : ins 126 0 = some (.aload_n 0, 1) := by decide +kernel
theorem f_126_102 : fld 126 102 = some (7340134, 46, 2) := by decide +kernel
theorem i_126_1 : ins 126 1 = some (.getfield 102, 3) := by decide +kernel
theorem i_126_4 : ins 126 4 = some (.aload_n 0, 1) := by decide +kernel
theorem f_126_381 : fld 126 381 = some (7340134, 45, 0) := by decide +kernel
theorem i_126_5 : ins 126 5 = some (.getfield 381, 3) := by decide +kernel
theorem i_126_8 : ins 126 8 = some (.iload_n 1, 1) := by decide +kernel
theorem kl_108009729 : klen 108009729 = 400 := by decide +kernel
theorem i_126_9 : ins 126 9 = some (.iastore, 1) := by decide +kernel
theorem i_126_10 : ins 126 10 = some (.aload_n 0, 1) := by decide +kernel
theorem i_126_11 : ins 126 11 = some (.dup, 1) := by decide +kernel
theorem i_126_12 : ins 126 12 = some (.getfield 381, 3) := by decide +kernel
theorem i_126_15 : ins 126 15 = some (.iconst 1, 1) := by decide +kernel
theorem i_126_16 : ins 126 16 = some (.iadd, 1) := by decide +kernel
theorem o_126_7340134_45 : putok 126 7340134 45 = true := by decide +kernel
theorem i_126_17 : ins 126 17 = some (.putfield 381, 3) := by decide +kernel
theorem i_126_20 : ins 126 20 = some (.return_, 1) := by decide +kernel
theorem r_126 : mret 126 = 0 := by decide +kernel
theorem i_127_0 : ins 127 0 = some (.aload_n 0, 1) := by decide +kernel
theorem v_127_396 : inv 127 396 = some (114, 0, 1, 7340134) := by decide +kernel
theorem i_127_1 : ins 127 1 = some (.invokevirtual 396, 3) := by decide +kernel
theorem i_127_4 : ins 127 4 = some (.aload_n 0, 1) := by decide +kernel
theorem f_127_310 : fld 127 310 = some (7340134, 29, 0) := by decide +kernel
theorem i_127_5 : ins 127 5 = some (.getfield 310, 3) := by decide +kernel
theorem i_127_8 : ins 127 8 = some (.istore_n 1, 1) := by decide +kernel
theorem i_127_9 : ins 127 9 = some (.aload_n 0, 1) := by decide +kernel
theorem v_127_399 : inv 127 399 = some (119, 0, 1, 7340134) := by decide +kernel
theorem i_127_10 : ins 127 10 = some (.invokevirtual 399, 3) := by decide +kernel
theorem i_127_13 : ins 127 13 = some (.istore_n 2, 1) := by decide +kernel
theorem i_127_14 : ins 127 14 = some (.iload_n 2, 1) := by decide +kernel
theorem kB_40 : (Int8.ofInt (40)).toInt32 = nI 40 := by decide +kernel
theorem i_127_15 : ins 127 15 = some (.bipush 40, 2) := by decide +kernel
theorem i_127_17 : ins 127 17 = some (.if_icmp .ne 31, 3) := by decide +kernel
theorem t_17_48 : tg 17 (31) = some 48 := by decide +kernel
theorem i_127_20 : ins 127 20 = some (.aload_n 0, 1) := by decide +kernel
theorem i_127_21 : ins 127 21 = some (.iload_n 1, 1) := by decide +kernel
theorem v_127_402 : inv 127 402 = some (125, 1, 1, 7340134) := by decide +kernel
theorem i_127_22 : ins 127 22 = some (.invokevirtual 402, 3) := by decide +kernel
theorem i_127_25 : ins 127 25 = some (.aload_n 0, 1) := by decide +kernel
theorem i_127_26 : ins 127 26 = some (.iload_n 1, 1) := by decide +kernel
theorem v_127_405 : inv 127 405 = some (128, 1, 1, 7340134) := by decide +kernel
theorem i_127_27 : ins 127 27 = some (.invokevirtual 405, 3) := by decide +kernel
theorem i_127_30 : ins 127 30 = some (.aload_n 0, 1) := by decide +kernel
theorem i_127_31 : ins 127 31 = some (.bipush 15, 2) := by decide +kernel
theorem v_127_408 : inv 127 408 = some (126, 1, 1, 7340134) := by decide +kernel
theorem i_127_33 : ins 127 33 = some (.invokevirtual 408, 3) := by decide +kernel
theorem i_127_36 : ins 127 36 = some (.aload_n 0, 1) := by decide +kernel
theorem i_127_37 : ins 127 37 = some (.dup, 1) := by decide +kernel
theorem i_127_38 : ins 127 38 = some (.getfield 310, 3) := by decide +kernel
theorem i_127_41 : ins 127 41 = some (.iconst 1, 1) := by decide +kernel
theorem i_127_42 : ins 127 42 = some (.iadd, 1) := by decide +kernel
theorem o_127_7340134_29 : putok 127 7340134 29 = true := by decide +kernel
theorem i_127_43 : ins 127 43 = some (.putfield 310, 3) := by decide +kernel
theorem i_127_46 : ins 127 46 = some (.iconst 0, 1) := by decide +kernel
theorem r_127 : mret 127 = 2 := by decide +kernel
theorem i_127_47 : ins 127 47 = some (.ireturn, 1) := by decide +kernel
theorem i_127_48 : ins 127 48 = some (.iload_n 2, 1) := by decide +kernel
theorem v_127_368 : inv 127 368 = some (120, 1, 0, 0) := by decide +kernel
theorem i_127_49 : ins 127 49 = some (.invokestatic 368, 3) := by decide +kernel
theorem i_127_52 : ins 127 52 = some (.ifCond .eq 24, 3) := by decide +kernel
theorem t_52_76 : tg 52 (24) = some 76 := by decide +kernel
theorem i_127_55 : ins 127 55 = some (.aload_n 0, 1) := by decide +kernel
theorem l_127_411 : ldcv 127 411 = some (vI (nI 99999)) := rfl
theorem i_127_56 : ins 127 56 = some (.ldc_w 411, 3) := by decide +kernel
theorem v_127_412 : inv 127 412 = some (122, 1, 1, 7340134) := by decide +kernel
theorem i_127_59 : ins 127 59 = some (.invokevirtual 412, 3) := by decide +kernel
theorem i_127_62 : ins 127 62 = some (.istore_n 3, 1) := by decide +kernel
theorem i_127_63 : ins 127 63 = some (.aload_n 0, 1) := by decide +kernel
theorem i_127_64 : ins 127 64 = some (.iload_n 1, 1) := by decide +kernel
theorem i_127_65 : ins 127 65 = some (.invokevirtual 405, 3) := by decide +kernel
theorem i_127_68 : ins 127 68 = some (.aload_n 0, 1) := by decide +kernel
theorem i_127_69 : ins 127 69 = some (.iconst 0, 1) := by decide +kernel
theorem i_127_70 : ins 127 70 = some (.iload_n 3, 1) := by decide +kernel
theorem v_127_390 : inv 127 390 = some (129, 2, 1, 7340134) := by decide +kernel
theorem i_127_71 : ins 127 71 = some (.invokevirtual 390, 3) := by decide +kernel
theorem i_127_74 : ins 127 74 = some (.iconst 1, 1) := by decide +kernel
theorem i_127_75 : ins 127 75 = some (.ireturn, 1) := by decide +kernel
theorem i_127_76 : ins 127 76 = some (.aload_n 0, 1) := by decide +kernel
theorem v_127_416 : inv 127 416 = some (115, 0, 1, 7340134) := by decide +kernel
theorem i_127_77 : ins 127 77 = some (.invokevirtual 416, 3) := by decide +kernel
theorem i_127_80 : ins 127 80 = some (.istore_n 3, 1) := by decide +kernel
theorem i_127_81 : ins 127 81 = some (.iconst 0, 1) := by decide +kernel
theorem i_127_82 : ins 127 82 = some (.istore 4, 2) := by decide +kernel
theorem i_127_84 : ins 127 84 = some (.iload 4, 2) := by decide +kernel
theorem kB_13 : (Int8.ofInt (13)).toInt32 = nI 13 := by decide +kernel
theorem i_127_86 : ins 127 86 = some (.bipush 13, 2) := by decide +kernel
theorem i_127_88 : ins 127 88 = some (.if_icmp .ge 22, 3) := by decide +kernel
theorem t_88_110 : tg 88 (22) = some 110 := by decide +kernel
theorem i_127_91 : ins 127 91 = some (.aload_n 0, 1) := by decide +kernel
theorem i_127_92 : ins 127 92 = some (.iload 4, 2) := by decide +kernel
theorem v_127_419 : inv 127 419 = some (130, 1, 0, 0) := by decide +kernel
theorem i_127_94 : ins 127 94 = some (.invokestatic 419, 3) := by decide +kernel
theorem i_127_97 : ins 127 97 = some (.iload_n 3, 1) := by decide +kernel
theorem v_127_423 : inv 127 423 = some (117, 2, 1, 7340134) := by decide +kernel
theorem i_127_98 : ins 127 98 = some (.invokevirtual 423, 3) := by decide +kernel
theorem i_127_101 : ins 127 101 = some (.ifCond .ne 9, 3) := by decide +kernel
theorem t_101_110 : tg 101 (9) = some 110 := by decide +kernel
theorem i_127_104 : ins 127 104 = some (.iinc 4 1, 3) := by decide +kernel
theorem i_127_107 : ins 127 107 = some (.goto (-23), 3) := by decide +kernel
theorem t_107_84 : tg 107 (-23) = some 84 := by decide +kernel
theorem i_127_110 : ins 127 110 = some (.iload 4, 2) := by decide +kernel
theorem i_127_112 : ins 127 112 = some (.bipush 13, 2) := by decide +kernel
theorem i_127_114 : ins 127 114 = some (.if_icmp .ne 11, 3) := by decide +kernel
theorem t_114_125 : tg 114 (11) = some 125 := by decide +kernel
theorem i_127_117 : ins 127 117 = some (.aload_n 0, 1) := by decide +kernel
theorem i_127_118 : ins 127 118 = some (.iconst 0, 1) := by decide +kernel
theorem i_127_119 : ins 127 119 = some (.iload_n 1, 1) := by decide +kernel
theorem v_127_371 : inv 127 371 = some (118, 2, 1, 7340134) := by decide +kernel
theorem i_127_120 : ins 127 120 = some (.invokevirtual 371, 3) := by decide +kernel
theorem i_127_123 : ins 127 123 = some (.iconst 1, 1) := by decide +kernel
theorem i_127_124 : ins 127 124 = some (.ireturn, 1) := by decide +kernel
theorem i_127_125 : ins 127 125 = some (.aload_n 0, 1) := by decide +kernel
theorem i_127_126 : ins 127 126 = some (.iload_n 1, 1) := by decide +kernel
theorem i_127_127 : ins 127 127 = some (.invokevirtual 405, 3) := by decide +kernel
theorem i_127_130 : ins 127 130 = some (.aload_n 0, 1) := by decide +kernel
theorem i_127_131 : ins 127 131 = some (.iload_n 3, 1) := by decide +kernel
theorem i_127_132 : ins 127 132 = some (.putfield 310, 3) := by decide +kernel
theorem i_127_135 : ins 127 135 = some (.aload_n 0, 1) := by decide +kernel
theorem i_127_136 : ins 127 136 = some (.iconst 1, 1) := by decide +kernel
theorem i_127_137 : ins 127 137 = some (.iload 4, 2) := by decide +kernel
theorem i_127_139 : ins 127 139 = some (.invokevirtual 390, 3) := by decide +kernel
theorem i_127_142 : ins 127 142 = some (.iconst 1, 1) := by decide +kernel
theorem i_127_143 : ins 127 143 = some (.ireturn, 1) := by decide +kernel
theorem i_128_0 : ins 128 0 = some (.aload_n 0, 1) := by decide +kernel
theorem f_128_393 : fld 128 393 = some (7340134, 33, 0) := by decide +kernel
theorem i_128_1 : ins 128 1 = some (.getfield 393, 3) := by decide +kernel
theorem kB_80 : (Int8.ofInt (80)).toInt32 = nI 80 := by decide +kernel
theorem i_128_4 : ins 128 4 = some (.bipush 80, 2) := by decide +kernel
theorem i_128_6 : ins 128 6 = some (.if_icmp .ne 9, 3) := by decide +kernel
theorem i_128_9 : ins 128 9 = some (.aload_n 0, 1) := by decide +kernel
theorem i_128_10 : ins 128 10 = some (.iconst 3, 1) := by decide +kernel
theorem i_128_11 : ins 128 11 = some (.iload_n 1, 1) := by decide +kernel
theorem v_128_371 : inv 128 371 = some (118, 2, 1, 7340134) := by decide +kernel
theorem i_128_12 : ins 128 12 = some (.invokevirtual 371, 3) := by decide +kernel
theorem i_128_15 : ins 128 15 = some (.aload_n 0, 1) := by decide +kernel
theorem i_128_16 : ins 128 16 = some (.dup, 1) := by decide +kernel
theorem i_128_17 : ins 128 17 = some (.getfield 393, 3) := by decide +kernel
theorem i_128_20 : ins 128 20 = some (.iconst 1, 1) := by decide +kernel
theorem i_128_21 : ins 128 21 = some (.iadd, 1) := by decide +kernel
theorem o_128_7340134_33 : putok 128 7340134 33 = true := by decide +kernel
theorem i_128_22 : ins 128 22 = some (.putfield 393, 3) := by decide +kernel
theorem i_128_25 : ins 128 25 = some (.return_, 1) := by decide +kernel
theorem r_128 : mret 128 = 0 := by decide +kernel
theorem i_129_0 : ins 129 0 = some (.aload_n 0, 1) := by decide +kernel
theorem f_129_96 : fld 129 96 = some (7340134, 42, 2) := by decide +kernel
theorem i_129_1 : ins 129 1 = some (.getfield 96, 3) := by decide +kernel
theorem i_129_4 : ins 129 4 = some (.sipush 400, 3) := by decide +kernel
theorem i_129_7 : ins 129 7 = some (.aload_n 0, 1) := by decide +kernel
theorem f_129_375 : fld 129 375 = some (7340134, 35, 0) := by decide +kernel
theorem i_129_8 : ins 129 8 = some (.getfield 375, 3) := by decide +kernel
theorem i_129_11 : ins 129 11 = some (.imul, 1) := by decide +kernel
theorem i_129_12 : ins 129 12 = some (.aload_n 0, 1) := by decide +kernel
theorem f_129_378 : fld 129 378 = some (7340134, 44, 0) := by decide +kernel
theorem i_129_13 : ins 129 13 = some (.getfield 378, 3) := by decide +kernel
theorem i_129_16 : ins 129 16 = some (.iadd, 1) := by decide +kernel
theorem i_129_17 : ins 129 17 = some (.iload_n 1, 1) := by decide +kernel
theorem kl_105970177 : klen 105970177 = 4000 := by decide +kernel
theorem i_129_18 : ins 129 18 = some (.iastore, 1) := by decide +kernel
theorem i_129_19 : ins 129 19 = some (.aload_n 0, 1) := by decide +kernel
theorem f_129_99 : fld 129 99 = some (7340134, 43, 2) := by decide +kernel
theorem i_129_20 : ins 129 20 = some (.getfield 99, 3) := by decide +kernel
theorem i_129_23 : ins 129 23 = some (.sipush 400, 3) := by decide +kernel
theorem i_129_26 : ins 129 26 = some (.aload_n 0, 1) := by decide +kernel
theorem i_129_27 : ins 129 27 = some (.getfield 375, 3) := by decide +kernel
theorem i_129_30 : ins 129 30 = some (.imul, 1) := by decide +kernel
theorem i_129_31 : ins 129 31 = some (.aload_n 0, 1) := by decide +kernel
theorem i_129_32 : ins 129 32 = some (.getfield 378, 3) := by decide +kernel
theorem i_129_35 : ins 129 35 = some (.iadd, 1) := by decide +kernel
theorem i_129_36 : ins 129 36 = some (.iload_n 2, 1) := by decide +kernel
theorem kl_107018753 : klen 107018753 = 4000 := by decide +kernel
theorem i_129_37 : ins 129 37 = some (.iastore, 1) := by decide +kernel
theorem i_129_38 : ins 129 38 = some (.aload_n 0, 1) := by decide +kernel
theorem i_129_39 : ins 129 39 = some (.dup, 1) := by decide +kernel
theorem i_129_40 : ins 129 40 = some (.getfield 378, 3) := by decide +kernel
theorem i_129_43 : ins 129 43 = some (.iconst 1, 1) := by decide +kernel
theorem i_129_44 : ins 129 44 = some (.iadd, 1) := by decide +kernel
theorem o_129_7340134_44 : putok 129 7340134 44 = true := by decide +kernel
theorem i_129_45 : ins 129 45 = some (.putfield 378, 3) := by decide +kernel
theorem i_129_48 : ins 129 48 = some (.return_, 1) := by decide +kernel
theorem r_129 : mret 129 = 0 := by decide +kernel
theorem i_130_0 : ins 130 0 = some (.iload_n 0, 1) := by decide +kernel
theorem i_130_1 : ins 130 1 = some (.tableswitch 111 0 11 #[63, 67, 71, 75, 79, 83, 87, 91, 95, 99, 103, 107], 63) := by decide +kernel
theorem t_1_112 : tg 1 (111) = some 112 := by decide +kernel
theorem l_130_326 : ldcv 130 326 = some (vR (8, 0)) := rfl
theorem i_130_64 : ins 130 64 = some (.ldc_w 326, 3) := by decide +kernel
theorem i_130_67 : ins 130 67 = some (.areturn, 1) := by decide +kernel
theorem r_130 : mret 130 = 6 := by decide +kernel
theorem l_130_328 : ldcv 130 328 = some (vR (8, 1)) := rfl
theorem i_130_68 : ins 130 68 = some (.ldc_w 328, 3) := by decide +kernel
theorem i_130_71 : ins 130 71 = some (.areturn, 1) := by decide +kernel
theorem l_130_330 : ldcv 130 330 = some (vR (8, 2)) := rfl
theorem i_130_72 : ins 130 72 = some (.ldc_w 330, 3) := by decide +kernel
theorem i_130_75 : ins 130 75 = some (.areturn, 1) := by decide +kernel
theorem l_130_332 : ldcv 130 332 = some (vR (8, 3)) := rfl
theorem i_130_76 : ins 130 76 = some (.ldc_w 332, 3) := by decide +kernel
theorem i_130_79 : ins 130 79 = some (.areturn, 1) := by decide +kernel
theorem l_130_334 : ldcv 130 334 = some (vR (8, 4)) := rfl
theorem i_130_80 : ins 130 80 = some (.ldc_w 334, 3) := by decide +kernel
theorem i_130_83 : ins 130 83 = some (.areturn, 1) := by decide +kernel
theorem l_130_336 : ldcv 130 336 = some (vR (8, 5)) := rfl
theorem i_130_84 : ins 130 84 = some (.ldc_w 336, 3) := by decide +kernel
theorem i_130_87 : ins 130 87 = some (.areturn, 1) := by decide +kernel
theorem l_130_338 : ldcv 130 338 = some (vR (8, 6)) := rfl
theorem i_130_88 : ins 130 88 = some (.ldc_w 338, 3) := by decide +kernel
theorem i_130_91 : ins 130 91 = some (.areturn, 1) := by decide +kernel
theorem l_130_340 : ldcv 130 340 = some (vR (8, 7)) := rfl
theorem i_130_92 : ins 130 92 = some (.ldc_w 340, 3) := by decide +kernel
theorem i_130_95 : ins 130 95 = some (.areturn, 1) := by decide +kernel
theorem l_130_342 : ldcv 130 342 = some (vR (8, 8)) := rfl
theorem i_130_96 : ins 130 96 = some (.ldc_w 342, 3) := by decide +kernel
theorem i_130_99 : ins 130 99 = some (.areturn, 1) := by decide +kernel
theorem l_130_343 : ldcv 130 343 = some (vR (8, 9)) := rfl
theorem i_130_100 : ins 130 100 = some (.ldc_w 343, 3) := by decide +kernel
theorem i_130_103 : ins 130 103 = some (.areturn, 1) := by decide +kernel
theorem l_130_345 : ldcv 130 345 = some (vR (8, 10)) := rfl
theorem i_130_104 : ins 130 104 = some (.ldc_w 345, 3) := by decide +kernel
theorem i_130_107 : ins 130 107 = some (.areturn, 1) := by decide +kernel
theorem l_130_346 : ldcv 130 346 = some (vR (8, 11)) := rfl
theorem i_130_108 : ins 130 108 = some (.ldc_w 346, 3) := by decide +kernel
theorem i_130_111 : ins 130 111 = some (.areturn, 1) := by decide +kernel
theorem l_130_348 : ldcv 130 348 = some (vR (8, 12)) := rfl
theorem i_130_112 : ins 130 112 = some (.ldc_w 348, 3) := by decide +kernel
theorem i_130_115 : ins 130 115 = some (.areturn, 1) := by decide +kernel
theorem i_131_0 : ins 131 0 = some (.aload_n 0, 1) := by decide +kernel
theorem v_131_396 : inv 131 396 = some (114, 0, 1, 7340134) := by decide +kernel
theorem i_131_1 : ins 131 1 = some (.invokevirtual 396, 3) := by decide +kernel
theorem i_131_4 : ins 131 4 = some (.aload_n 0, 1) := by decide +kernel
theorem v_131_399 : inv 131 399 = some (119, 0, 1, 7340134) := by decide +kernel
theorem i_131_5 : ins 131 5 = some (.invokevirtual 399, 3) := by decide +kernel
theorem i_131_8 : ins 131 8 = some (.istore_n 2, 1) := by decide +kernel
theorem i_131_9 : ins 131 9 = some (.iload_n 2, 1) := by decide +kernel
theorem kB_42 : (Int8.ofInt (42)).toInt32 = nI 42 := by decide +kernel
theorem i_131_10 : ins 131 10 = some (.bipush 42, 2) := by decide +kernel
theorem i_131_12 : ins 131 12 = some (.if_icmp .eq 15, 3) := by decide +kernel
theorem i_131_15 : ins 131 15 = some (.iload_n 2, 1) := by decide +kernel
theorem kB_43 : (Int8.ofInt (43)).toInt32 = nI 43 := by decide +kernel
theorem i_131_16 : ins 131 16 = some (.bipush 43, 2) := by decide +kernel
theorem i_131_18 : ins 131 18 = some (.if_icmp .eq 9, 3) := by decide +kernel
theorem t_18_27 : tg 18 (9) = some 27 := by decide +kernel
theorem i_131_21 : ins 131 21 = some (.iload_n 2, 1) := by decide +kernel
theorem kB_45 : (Int8.ofInt (45)).toInt32 = nI 45 := by decide +kernel
theorem i_131_22 : ins 131 22 = some (.bipush 45, 2) := by decide +kernel
theorem i_131_24 : ins 131 24 = some (.if_icmp .ne 55, 3) := by decide +kernel
theorem t_24_79 : tg 24 (55) = some 79 := by decide +kernel
theorem i_131_27 : ins 131 27 = some (.aload_n 0, 1) := by decide +kernel
theorem i_131_28 : ins 131 28 = some (.iload_n 2, 1) := by decide +kernel
theorem i_131_29 : ins 131 29 = some (.bipush 42, 2) := by decide +kernel
theorem i_131_31 : ins 131 31 = some (.if_icmp .ne 7, 3) := by decide +kernel
theorem i_131_34 : ins 131 34 = some (.iconst 1, 1) := by decide +kernel
theorem i_131_35 : ins 131 35 = some (.goto 4, 3) := by decide +kernel
theorem i_131_38 : ins 131 38 = some (.iconst 0, 1) := by decide +kernel
theorem v_131_429 : inv 131 429 = some (132, 1, 1, 7340134) := by decide +kernel
theorem i_131_39 : ins 131 39 = some (.invokevirtual 429, 3) := by decide +kernel
theorem i_131_42 : ins 131 42 = some (.aload_n 0, 1) := by decide +kernel
theorem i_131_43 : ins 131 43 = some (.iload_n 2, 1) := by decide +kernel
theorem i_131_44 : ins 131 44 = some (.bipush 42, 2) := by decide +kernel
theorem i_131_46 : ins 131 46 = some (.if_icmp .ne 7, 3) := by decide +kernel
theorem t_46_53 : tg 46 (7) = some 53 := by decide +kernel
theorem i_131_49 : ins 131 49 = some (.iconst 5, 1) := by decide +kernel
theorem i_131_50 : ins 131 50 = some (.goto 14, 3) := by decide +kernel
theorem t_50_64 : tg 50 (14) = some 64 := by decide +kernel
theorem i_131_53 : ins 131 53 = some (.iload_n 2, 1) := by decide +kernel
theorem i_131_54 : ins 131 54 = some (.bipush 43, 2) := by decide +kernel
theorem i_131_56 : ins 131 56 = some (.if_icmp .ne 7, 3) := by decide +kernel
theorem i_131_59 : ins 131 59 = some (.iconst 3, 1) := by decide +kernel
theorem i_131_60 : ins 131 60 = some (.goto 4, 3) := by decide +kernel
theorem t_60_64 : tg 60 (4) = some 64 := by decide +kernel
theorem i_131_63 : ins 131 63 = some (.iconst 4, 1) := by decide +kernel
theorem v_131_408 : inv 131 408 = some (126, 1, 1, 7340134) := by decide +kernel
theorem i_131_64 : ins 131 64 = some (.invokevirtual 408, 3) := by decide +kernel
theorem i_131_67 : ins 131 67 = some (.aload_n 0, 1) := by decide +kernel
theorem i_131_68 : ins 131 68 = some (.dup, 1) := by decide +kernel
theorem f_131_310 : fld 131 310 = some (7340134, 29, 0) := by decide +kernel
theorem i_131_69 : ins 131 69 = some (.getfield 310, 3) := by decide +kernel
theorem i_131_72 : ins 131 72 = some (.iconst 1, 1) := by decide +kernel
theorem i_131_73 : ins 131 73 = some (.iadd, 1) := by decide +kernel
theorem o_131_7340134_29 : putok 131 7340134 29 = true := by decide +kernel
theorem i_131_74 : ins 131 74 = some (.putfield 310, 3) := by decide +kernel
theorem i_131_77 : ins 131 77 = some (.iconst 1, 1) := by decide +kernel
theorem r_131 : mret 131 = 1 := by decide +kernel
theorem i_131_78 : ins 131 78 = some (.ireturn, 1) := by decide +kernel
theorem i_131_79 : ins 131 79 = some (.aload_n 0, 1) := by decide +kernel
theorem i_131_80 : ins 131 80 = some (.iconst 0, 1) := by decide +kernel
theorem i_131_81 : ins 131 81 = some (.invokevirtual 429, 3) := by decide +kernel
theorem i_131_84 : ins 131 84 = some (.iload_n 2, 1) := by decide +kernel
theorem kB_41 : (Int8.ofInt (41)).toInt32 = nI 41 := by decide +kernel
theorem i_131_85 : ins 131 85 = some (.bipush 41, 2) := by decide +kernel
theorem i_131_87 : ins 131 87 = some (.if_icmp .ne 44, 3) := by decide +kernel
theorem t_87_131 : tg 87 (44) = some 131 := by decide +kernel
theorem i_131_90 : ins 131 90 = some (.aload_n 0, 1) := by decide +kernel
theorem v_131_387 : inv 131 387 = some (133, 0, 1, 7340134) := by decide +kernel
theorem i_131_91 : ins 131 91 = some (.invokevirtual 387, 3) := by decide +kernel
theorem i_131_94 : ins 131 94 = some (.bipush 15, 2) := by decide +kernel
theorem i_131_96 : ins 131 96 = some (.if_icmp .ne 35, 3) := by decide +kernel
theorem t_96_131 : tg 96 (35) = some 131 := by decide +kernel
theorem i_131_99 : ins 131 99 = some (.aload_n 0, 1) := by decide +kernel
theorem i_131_100 : ins 131 100 = some (.dup, 1) := by decide +kernel
theorem f_131_381 : fld 131 381 = some (7340134, 45, 0) := by decide +kernel
theorem i_131_101 : ins 131 101 = some (.getfield 381, 3) := by decide +kernel
theorem i_131_104 : ins 131 104 = some (.iconst 1, 1) := by decide +kernel
theorem i_131_105 : ins 131 105 = some (.isub, 1) := by decide +kernel
theorem o_131_7340134_45 : putok 131 7340134 45 = true := by decide +kernel
theorem i_131_106 : ins 131 106 = some (.putfield 381, 3) := by decide +kernel
theorem i_131_109 : ins 131 109 = some (.aload_n 0, 1) := by decide +kernel
theorem i_131_110 : ins 131 110 = some (.dup, 1) := by decide +kernel
theorem f_131_384 : fld 131 384 = some (7340134, 32, 0) := by decide +kernel
theorem i_131_111 : ins 131 111 = some (.getfield 384, 3) := by decide +kernel
theorem i_131_114 : ins 131 114 = some (.iconst 1, 1) := by decide +kernel
theorem i_131_115 : ins 131 115 = some (.isub, 1) := by decide +kernel
theorem o_131_7340134_32 : putok 131 7340134 32 = true := by decide +kernel
theorem i_131_116 : ins 131 116 = some (.putfield 384, 3) := by decide +kernel
theorem i_131_119 : ins 131 119 = some (.aload_n 0, 1) := by decide +kernel
theorem i_131_120 : ins 131 120 = some (.dup, 1) := by decide +kernel
theorem i_131_121 : ins 131 121 = some (.getfield 310, 3) := by decide +kernel
theorem i_131_124 : ins 131 124 = some (.iconst 1, 1) := by decide +kernel
theorem i_131_125 : ins 131 125 = some (.iadd, 1) := by decide +kernel
theorem i_131_126 : ins 131 126 = some (.putfield 310, 3) := by decide +kernel
theorem i_131_129 : ins 131 129 = some (.iconst 2, 1) := by decide +kernel
theorem i_131_130 : ins 131 130 = some (.ireturn, 1) := by decide +kernel
theorem i_131_131 : ins 131 131 = some (.aload_n 0, 1) := by decide +kernel
theorem i_131_132 : ins 131 132 = some (.getfield 310, 3) := by decide +kernel
theorem i_131_135 : ins 131 135 = some (.istore_n 3, 1) := by decide +kernel
theorem i_131_136 : ins 131 136 = some (.aload_n 0, 1) := by decide +kernel
theorem i_131_137 : ins 131 137 = some (.invokevirtual 387, 3) := by decide +kernel
theorem i_131_140 : ins 131 140 = some (.bipush 15, 2) := by decide +kernel
theorem i_131_142 : ins 131 142 = some (.if_icmp .ne 11, 3) := by decide +kernel
theorem t_142_153 : tg 142 (11) = some 153 := by decide +kernel
theorem i_131_145 : ins 131 145 = some (.aload_n 0, 1) := by decide +kernel
theorem i_131_146 : ins 131 146 = some (.iconst 0, 1) := by decide +kernel
theorem i_131_147 : ins 131 147 = some (.iload_n 3, 1) := by decide +kernel
theorem v_131_371 : inv 131 371 = some (118, 2, 1, 7340134) := by decide +kernel
theorem i_131_148 : ins 131 148 = some (.invokevirtual 371, 3) := by decide +kernel
theorem i_131_151 : ins 131 151 = some (.iconst 4, 1) := by decide +kernel
theorem i_131_152 : ins 131 152 = some (.ireturn, 1) := by decide +kernel
theorem i_131_153 : ins 131 153 = some (.iload_n 1, 1) := by decide +kernel
theorem i_131_154 : ins 131 154 = some (.ifCond .eq 5, 3) := by decide +kernel
theorem t_154_159 : tg 154 (5) = some 159 := by decide +kernel
theorem i_131_157 : ins 131 157 = some (.iconst 4, 1) := by decide +kernel
theorem i_131_158 : ins 131 158 = some (.ireturn, 1) := by decide +kernel
theorem i_131_159 : ins 131 159 = some (.aload_n 0, 1) := by decide +kernel
theorem i_131_160 : ins 131 160 = some (.invokevirtual 387, 3) := by decide +kernel
theorem v_131_433 : inv 131 433 = some (134, 1, 0, 0) := by decide +kernel
theorem i_131_163 : ins 131 163 = some (.invokestatic 433, 3) := by decide +kernel
theorem i_131_166 : ins 131 166 = some (.ifCond .ne 37, 3) := by decide +kernel
theorem t_166_203 : tg 166 (37) = some 203 := by decide +kernel
theorem i_131_169 : ins 131 169 = some (.aload_n 0, 1) := by decide +kernel
theorem v_131_436 : inv 131 436 = some (135, 0, 1, 7340134) := by decide +kernel
theorem i_131_170 : ins 131 170 = some (.invokevirtual 436, 3) := by decide +kernel
theorem i_131_173 : ins 131 173 = some (.istore 4, 2) := by decide +kernel
theorem i_131_175 : ins 131 175 = some (.iload 4, 2) := by decide +kernel
theorem i_131_177 : ins 131 177 = some (.iconst (-1), 1) := by decide +kernel
theorem i_131_178 : ins 131 178 = some (.if_icmp .ne 12, 3) := by decide +kernel
theorem t_178_190 : tg 178 (12) = some 190 := by decide +kernel
theorem i_131_181 : ins 131 181 = some (.aload_n 0, 1) := by decide +kernel
theorem i_131_182 : ins 131 182 = some (.iconst 0, 1) := by decide +kernel
theorem i_131_183 : ins 131 183 = some (.iload_n 3, 1) := by decide +kernel
theorem i_131_184 : ins 131 184 = some (.invokevirtual 371, 3) := by decide +kernel
theorem i_131_187 : ins 131 187 = some (.goto 14, 3) := by decide +kernel
theorem t_187_201 : tg 187 (14) = some 201 := by decide +kernel
theorem i_131_190 : ins 131 190 = some (.aload_n 0, 1) := by decide +kernel
theorem i_131_191 : ins 131 191 = some (.iload_n 3, 1) := by decide +kernel
theorem v_131_405 : inv 131 405 = some (128, 1, 1, 7340134) := by decide +kernel
theorem i_131_192 : ins 131 192 = some (.invokevirtual 405, 3) := by decide +kernel
theorem i_131_195 : ins 131 195 = some (.aload_n 0, 1) := by decide +kernel
theorem i_131_196 : ins 131 196 = some (.iload 4, 2) := by decide +kernel
theorem i_131_198 : ins 131 198 = some (.invokevirtual 408, 3) := by decide +kernel
theorem i_131_201 : ins 131 201 = some (.iconst 1, 1) := by decide +kernel
theorem i_131_202 : ins 131 202 = some (.ireturn, 1) := by decide +kernel
theorem i_131_203 : ins 131 203 = some (.aload_n 0, 1) := by decide +kernel
theorem i_131_204 : ins 131 204 = some (.dup, 1) := by decide +kernel
theorem i_131_205 : ins 131 205 = some (.getfield 381, 3) := by decide +kernel
theorem i_131_208 : ins 131 208 = some (.iconst 1, 1) := by decide +kernel
theorem i_131_209 : ins 131 209 = some (.isub, 1) := by decide +kernel
theorem i_131_210 : ins 131 210 = some (.putfield 381, 3) := by decide +kernel
theorem i_131_213 : ins 131 213 = some (.aload_n 0, 1) := by decide +kernel
theorem i_131_214 : ins 131 214 = some (.aload_n 0, 1) := by decide +kernel
theorem f_131_102 : fld 131 102 = some (7340134, 46, 2) := by decide +kernel
theorem i_131_215 : ins 131 215 = some (.getfield 102, 3) := by decide +kernel
theorem i_131_218 : ins 131 218 = some (.aload_n 0, 1) := by decide +kernel
theorem i_131_219 : ins 131 219 = some (.getfield 381, 3) := by decide +kernel
theorem i_131_222 : ins 131 222 = some (.iaload, 1) := by decide +kernel
theorem i_131_223 : ins 131 223 = some (.iconst 0, 1) := by decide +kernel
theorem v_131_390 : inv 131 390 = some (129, 2, 1, 7340134) := by decide +kernel
theorem i_131_224 : ins 131 224 = some (.invokevirtual 390, 3) := by decide +kernel
theorem i_131_227 : ins 131 227 = some (.iconst 3, 1) := by decide +kernel
theorem i_131_228 : ins 131 228 = some (.ireturn, 1) := by decide +kernel
theorem i_132_0 : ins 132 0 = some (.aload_n 0, 1) := by decide +kernel
theorem v_132_387 : inv 132 387 = some (133, 0, 1, 7340134) := by decide +kernel
theorem i_132_1 : ins 132 1 = some (.invokevirtual 387, 3) := by decide +kernel
theorem i_132_4 : ins 132 4 = some (.iconst 5, 1) := by decide +kernel
theorem i_132_5 : ins 132 5 = some (.if_icmp .eq 23, 3) := by decide +kernel
theorem t_5_28 : tg 5 (23) = some 28 := by decide +kernel
theorem i_132_8 : ins 132 8 = some (.iload_n 1, 1) := by decide +kernel
theorem i_132_9 : ins 132 9 = some (.ifCond .ne 46, 3) := by decide +kernel
theorem t_9_55 : tg 9 (46) = some 55 := by decide +kernel
theorem i_132_12 : ins 132 12 = some (.aload_n 0, 1) := by decide +kernel
theorem i_132_13 : ins 132 13 = some (.invokevirtual 387, 3) := by decide +kernel
theorem i_132_16 : ins 132 16 = some (.iconst 3, 1) := by decide +kernel
theorem i_132_17 : ins 132 17 = some (.if_icmp .eq 11, 3) := by decide +kernel
theorem t_17_28 : tg 17 (11) = some 28 := by decide +kernel
theorem i_132_20 : ins 132 20 = some (.aload_n 0, 1) := by decide +kernel
theorem i_132_21 : ins 132 21 = some (.invokevirtual 387, 3) := by decide +kernel
theorem i_132_24 : ins 132 24 = some (.iconst 4, 1) := by decide +kernel
theorem i_132_25 : ins 132 25 = some (.if_icmp .ne 30, 3) := by decide +kernel
theorem t_25_55 : tg 25 (30) = some 55 := by decide +kernel
theorem i_132_28 : ins 132 28 = some (.aload_n 0, 1) := by decide +kernel
theorem i_132_29 : ins 132 29 = some (.dup, 1) := by decide +kernel
theorem f_132_381 : fld 132 381 = some (7340134, 45, 0) := by decide +kernel
theorem i_132_30 : ins 132 30 = some (.getfield 381, 3) := by decide +kernel
theorem i_132_33 : ins 132 33 = some (.iconst 1, 1) := by decide +kernel
theorem i_132_34 : ins 132 34 = some (.isub, 1) := by decide +kernel
theorem o_132_7340134_45 : putok 132 7340134 45 = true := by decide +kernel
theorem i_132_35 : ins 132 35 = some (.putfield 381, 3) := by decide +kernel
theorem i_132_38 : ins 132 38 = some (.aload_n 0, 1) := by decide +kernel
theorem i_132_39 : ins 132 39 = some (.aload_n 0, 1) := by decide +kernel
theorem f_132_102 : fld 132 102 = some (7340134, 46, 2) := by decide +kernel
theorem i_132_40 : ins 132 40 = some (.getfield 102, 3) := by decide +kernel
theorem i_132_43 : ins 132 43 = some (.aload_n 0, 1) := by decide +kernel
theorem i_132_44 : ins 132 44 = some (.getfield 381, 3) := by decide +kernel
theorem i_132_47 : ins 132 47 = some (.iaload, 1) := by decide +kernel
theorem i_132_48 : ins 132 48 = some (.iconst 0, 1) := by decide +kernel
theorem v_132_390 : inv 132 390 = some (129, 2, 1, 7340134) := by decide +kernel
theorem i_132_49 : ins 132 49 = some (.invokevirtual 390, 3) := by decide +kernel
theorem i_132_52 : ins 132 52 = some (.goto (-52), 3) := by decide +kernel
theorem t_52_0 : tg 52 (-52) = some 0 := by decide +kernel
theorem i_132_55 : ins 132 55 = some (.return_, 1) := by decide +kernel
theorem r_132 : mret 132 = 0 := by decide +kernel
theorem i_133_0 : ins 133 0 = some (.aload_n 0, 1) := by decide +kernel
theorem f_133_381 : fld 133 381 = some (7340134, 45, 0) := by decide +kernel
theorem i_133_1 : ins 133 1 = some (.getfield 381, 3) := by decide +kernel
theorem i_133_4 : ins 133 4 = some (.ifCond .ne 7, 3) := by decide +kernel
theorem t_4_11 : tg 4 (7) = some 11 := by decide +kernel
theorem i_133_7 : ins 133 7 = some (.iconst (-1), 1) := by decide +kernel
theorem i_133_8 : ins 133 8 = some (.goto 14, 3) := by decide +kernel
theorem t_8_22 : tg 8 (14) = some 22 := by decide +kernel
theorem i_133_11 : ins 133 11 = some (.aload_n 0, 1) := by decide +kernel
theorem f_133_102 : fld 133 102 = some (7340134, 46, 2) := by decide +kernel
theorem i_133_12 : ins 133 12 = some (.getfield 102, 3) := by decide +kernel
theorem i_133_15 : ins 133 15 = some (.aload_n 0, 1) := by decide +kernel
theorem i_133_16 : ins 133 16 = some (.getfield 381, 3) := by decide +kernel
theorem i_133_19 : ins 133 19 = some (.iconst 1, 1) := by decide +kernel
theorem i_133_20 : ins 133 20 = some (.isub, 1) := by decide +kernel
theorem i_133_21 : ins 133 21 = some (.iaload, 1) := by decide +kernel
theorem r_133 : mret 133 = 1 := by decide +kernel
theorem i_133_22 : ins 133 22 = some (.ireturn, 1) := by decide +kernel
theorem i_134_0 : ins 134 0 = some (.iload_n 0, 1) := by decide +kernel
theorem i_134_1 : ins 134 1 = some (.bipush 7, 2) := by decide +kernel
theorem i_134_3 : ins 134 3 = some (.if_icmp .lt 13, 3) := by decide +kernel
theorem i_134_6 : ins 134 6 = some (.iload_n 0, 1) := by decide +kernel
theorem kB_11 : (Int8.ofInt (11)).toInt32 = nI 11 := by decide +kernel
theorem i_134_7 : ins 134 7 = some (.bipush 11, 2) := by decide +kernel
theorem i_134_9 : ins 134 9 = some (.if_icmp .gt 7, 3) := by decide +kernel
theorem i_134_12 : ins 134 12 = some (.iconst 1, 1) := by decide +kernel
theorem i_134_13 : ins 134 13 = some (.goto 4, 3) := by decide +kernel
theorem i_134_16 : ins 134 16 = some (.iconst 0, 1) := by decide +kernel
theorem r_134 : mret 134 = 2 := by decide +kernel
theorem i_134_17 : ins 134 17 = some (.ireturn, 1) := by decide +kernel
theorem i_135_0 : ins 135 0 = some (.aload_n 0, 1) := by decide +kernel
theorem v_135_399 : inv 135 399 = some (119, 0, 1, 7340134) := by decide +kernel
theorem i_135_1 : ins 135 1 = some (.invokevirtual 399, 3) := by decide +kernel
theorem i_135_4 : ins 135 4 = some (.istore_n 1, 1) := by decide +kernel
theorem i_135_5 : ins 135 5 = some (.aload_n 0, 1) := by decide +kernel
theorem f_135_310 : fld 135 310 = some (7340134, 29, 0) := by decide +kernel
theorem i_135_6 : ins 135 6 = some (.getfield 310, 3) := by decide +kernel
theorem i_135_9 : ins 135 9 = some (.iconst 1, 1) := by decide +kernel
theorem i_135_10 : ins 135 10 = some (.iadd, 1) := by decide +kernel
theorem i_135_11 : ins 135 11 = some (.aload_n 0, 1) := by decide +kernel
theorem f_135_300 : fld 135 300 = some (7340134, 28, 0) := by decide +kernel
theorem i_135_12 : ins 135 12 = some (.getfield 300, 3) := by decide +kernel
theorem i_135_15 : ins 135 15 = some (.if_icmp .ge 23, 3) := by decide +kernel
theorem t_15_38 : tg 15 (23) = some 38 := by decide +kernel
theorem i_135_18 : ins 135 18 = some (.aload_n 0, 1) := by decide +kernel
theorem f_135_74 : fld 135 74 = some (7340134, 27, 2) := by decide +kernel
theorem i_135_19 : ins 135 19 = some (.getfield 74, 3) := by decide +kernel
theorem i_135_22 : ins 135 22 = some (.aload_n 0, 1) := by decide +kernel
theorem i_135_23 : ins 135 23 = some (.getfield 310, 3) := by decide +kernel
theorem i_135_26 : ins 135 26 = some (.iconst 1, 1) := by decide +kernel
theorem i_135_27 : ins 135 27 = some (.iadd, 1) := by decide +kernel
theorem i_135_28 : ins 135 28 = some (.baload, 1) := by decide +kernel
theorem kB_61 : (Int8.ofInt (61)).toInt32 = nI 61 := by decide +kernel
theorem i_135_29 : ins 135 29 = some (.bipush 61, 2) := by decide +kernel
theorem i_135_31 : ins 135 31 = some (.if_icmp .ne 7, 3) := by decide +kernel
theorem i_135_34 : ins 135 34 = some (.iconst 1, 1) := by decide +kernel
theorem i_135_35 : ins 135 35 = some (.goto 4, 3) := by decide +kernel
theorem i_135_38 : ins 135 38 = some (.iconst 0, 1) := by decide +kernel
theorem i_135_39 : ins 135 39 = some (.istore_n 2, 1) := by decide +kernel
theorem i_135_40 : ins 135 40 = some (.iload_n 1, 1) := by decide +kernel
theorem i_135_41 : ins 135 41 = some (.bipush 61, 2) := by decide +kernel
theorem i_135_43 : ins 135 43 = some (.if_icmp .ne 16, 3) := by decide +kernel
theorem i_135_46 : ins 135 46 = some (.aload_n 0, 1) := by decide +kernel
theorem i_135_47 : ins 135 47 = some (.dup, 1) := by decide +kernel
theorem i_135_48 : ins 135 48 = some (.getfield 310, 3) := by decide +kernel
theorem i_135_51 : ins 135 51 = some (.iconst 1, 1) := by decide +kernel
theorem i_135_52 : ins 135 52 = some (.iadd, 1) := by decide +kernel
theorem o_135_7340134_29 : putok 135 7340134 29 = true := by decide +kernel
theorem i_135_53 : ins 135 53 = some (.putfield 310, 3) := by decide +kernel
theorem i_135_56 : ins 135 56 = some (.bipush 9, 2) := by decide +kernel
theorem r_135 : mret 135 = 1 := by decide +kernel
theorem i_135_58 : ins 135 58 = some (.ireturn, 1) := by decide +kernel
theorem i_135_59 : ins 135 59 = some (.iload_n 1, 1) := by decide +kernel
theorem i_135_60 : ins 135 60 = some (.bipush 60, 2) := by decide +kernel
theorem i_135_62 : ins 135 62 = some (.if_icmp .eq 9, 3) := by decide +kernel
theorem t_62_71 : tg 62 (9) = some 71 := by decide +kernel
theorem i_135_65 : ins 135 65 = some (.iload_n 1, 1) := by decide +kernel
theorem kB_62 : (Int8.ofInt (62)).toInt32 = nI 62 := by decide +kernel
theorem i_135_66 : ins 135 66 = some (.bipush 62, 2) := by decide +kernel
theorem i_135_68 : ins 135 68 = some (.if_icmp .ne 53, 3) := by decide +kernel
theorem t_68_121 : tg 68 (53) = some 121 := by decide +kernel
theorem i_135_71 : ins 135 71 = some (.aload_n 0, 1) := by decide +kernel
theorem i_135_72 : ins 135 72 = some (.dup, 1) := by decide +kernel
theorem i_135_73 : ins 135 73 = some (.getfield 310, 3) := by decide +kernel
theorem i_135_76 : ins 135 76 = some (.iload_n 2, 1) := by decide +kernel
theorem i_135_77 : ins 135 77 = some (.ifCond .eq 7, 3) := by decide +kernel
theorem t_77_84 : tg 77 (7) = some 84 := by decide +kernel
theorem i_135_80 : ins 135 80 = some (.iconst 2, 1) := by decide +kernel
theorem i_135_81 : ins 135 81 = some (.goto 4, 3) := by decide +kernel
theorem t_81_85 : tg 81 (4) = some 85 := by decide +kernel
theorem i_135_84 : ins 135 84 = some (.iconst 1, 1) := by decide +kernel
theorem i_135_85 : ins 135 85 = some (.iadd, 1) := by decide +kernel
theorem i_135_86 : ins 135 86 = some (.putfield 310, 3) := by decide +kernel
theorem i_135_89 : ins 135 89 = some (.iload_n 1, 1) := by decide +kernel
theorem i_135_90 : ins 135 90 = some (.bipush 60, 2) := by decide +kernel
theorem i_135_92 : ins 135 92 = some (.if_icmp .ne 17, 3) := by decide +kernel
theorem t_92_109 : tg 92 (17) = some 109 := by decide +kernel
theorem i_135_95 : ins 135 95 = some (.iload_n 2, 1) := by decide +kernel
theorem i_135_96 : ins 135 96 = some (.ifCond .eq 8, 3) := by decide +kernel
theorem t_96_104 : tg 96 (8) = some 104 := by decide +kernel
theorem i_135_99 : ins 135 99 = some (.bipush 8, 2) := by decide +kernel
theorem i_135_101 : ins 135 101 = some (.goto 19, 3) := by decide +kernel
theorem t_101_120 : tg 101 (19) = some 120 := by decide +kernel
theorem i_135_104 : ins 135 104 = some (.bipush 7, 2) := by decide +kernel
theorem i_135_106 : ins 135 106 = some (.goto 14, 3) := by decide +kernel
theorem t_106_120 : tg 106 (14) = some 120 := by decide +kernel
theorem i_135_109 : ins 135 109 = some (.iload_n 2, 1) := by decide +kernel
theorem i_135_110 : ins 135 110 = some (.ifCond .eq 8, 3) := by decide +kernel
theorem t_110_118 : tg 110 (8) = some 118 := by decide +kernel
theorem i_135_113 : ins 135 113 = some (.bipush 10, 2) := by decide +kernel
theorem i_135_115 : ins 135 115 = some (.goto 5, 3) := by decide +kernel
theorem t_115_120 : tg 115 (5) = some 120 := by decide +kernel
theorem i_135_118 : ins 135 118 = some (.bipush 11, 2) := by decide +kernel
theorem i_135_120 : ins 135 120 = some (.ireturn, 1) := by decide +kernel
theorem i_135_121 : ins 135 121 = some (.iconst (-1), 1) := by decide +kernel
theorem i_135_122 : ins 135 122 = some (.ireturn, 1) := by decide +kernel
theorem i_136_0 : ins 136 0 = some (.aload_n 0, 1) := by decide +kernel
theorem v_136_387 : inv 136 387 = some (133, 0, 1, 7340134) := by decide +kernel
theorem i_136_1 : ins 136 1 = some (.invokevirtual 387, 3) := by decide +kernel
theorem i_136_4 : ins 136 4 = some (.bipush 14, 2) := by decide +kernel
theorem i_136_6 : ins 136 6 = some (.if_icmp .ne 33, 3) := by decide +kernel
theorem t_6_39 : tg 6 (33) = some 39 := by decide +kernel
theorem i_136_9 : ins 136 9 = some (.aload_n 0, 1) := by decide +kernel
theorem i_136_10 : ins 136 10 = some (.dup, 1) := by decide +kernel
theorem f_136_381 : fld 136 381 = some (7340134, 45, 0) := by decide +kernel
theorem i_136_11 : ins 136 11 = some (.getfield 381, 3) := by decide +kernel
theorem i_136_14 : ins 136 14 = some (.iconst 1, 1) := by decide +kernel
theorem i_136_15 : ins 136 15 = some (.isub, 1) := by decide +kernel
theorem o_136_7340134_45 : putok 136 7340134 45 = true := by decide +kernel
theorem i_136_16 : ins 136 16 = some (.putfield 381, 3) := by decide +kernel
theorem i_136_19 : ins 136 19 = some (.aload_n 0, 1) := by decide +kernel
theorem i_136_20 : ins 136 20 = some (.dup, 1) := by decide +kernel
theorem f_136_384 : fld 136 384 = some (7340134, 32, 0) := by decide +kernel
theorem i_136_21 : ins 136 21 = some (.getfield 384, 3) := by decide +kernel
theorem i_136_24 : ins 136 24 = some (.iconst 1, 1) := by decide +kernel
theorem i_136_25 : ins 136 25 = some (.isub, 1) := by decide +kernel
theorem o_136_7340134_32 : putok 136 7340134 32 = true := by decide +kernel
theorem i_136_26 : ins 136 26 = some (.putfield 384, 3) := by decide +kernel
theorem i_136_29 : ins 136 29 = some (.aload_n 0, 1) := by decide +kernel
theorem i_136_30 : ins 136 30 = some (.bipush 14, 2) := by decide +kernel
theorem i_136_32 : ins 136 32 = some (.iconst 0, 1) := by decide +kernel
theorem v_136_390 : inv 136 390 = some (129, 2, 1, 7340134) := by decide +kernel
theorem i_136_33 : ins 136 33 = some (.invokevirtual 390, 3) := by decide +kernel
theorem i_136_36 : ins 136 36 = some (.goto (-36), 3) := by decide +kernel
theorem t_36_0 : tg 36 (-36) = some 0 := by decide +kernel
theorem i_136_39 : ins 136 39 = some (.aload_n 0, 1) := by decide +kernel
theorem v_136_396 : inv 136 396 = some (114, 0, 1, 7340134) := by decide +kernel
theorem i_136_40 : ins 136 40 = some (.invokevirtual 396, 3) := by decide +kernel
theorem i_136_43 : ins 136 43 = some (.aload_n 0, 1) := by decide +kernel
theorem v_136_416 : inv 136 416 = some (115, 0, 1, 7340134) := by decide +kernel
theorem i_136_44 : ins 136 44 = some (.invokevirtual 416, 3) := by decide +kernel
theorem i_136_47 : ins 136 47 = some (.istore_n 1, 1) := by decide +kernel
theorem i_136_48 : ins 136 48 = some (.aload_n 0, 1) := by decide +kernel
theorem l_136_439 : ldcv 136 439 = some (vR (8, 25)) := rfl
theorem i_136_49 : ins 136 49 = some (.ldc_w 439, 3) := by decide +kernel
theorem i_136_52 : ins 136 52 = some (.iload_n 1, 1) := by decide +kernel
theorem v_136_423 : inv 136 423 = some (117, 2, 1, 7340134) := by decide +kernel
theorem i_136_53 : ins 136 53 = some (.invokevirtual 423, 3) := by decide +kernel
theorem i_136_56 : ins 136 56 = some (.istore_n 2, 1) := by decide +kernel
theorem i_136_57 : ins 136 57 = some (.iload_n 2, 1) := by decide +kernel
theorem i_136_58 : ins 136 58 = some (.ifCond .ne 14, 3) := by decide +kernel
theorem t_58_72 : tg 58 (14) = some 72 := by decide +kernel
theorem i_136_61 : ins 136 61 = some (.aload_n 0, 1) := by decide +kernel
theorem l_136_441 : ldcv 136 441 = some (vR (8, 24)) := rfl
theorem i_136_62 : ins 136 62 = some (.ldc_w 441, 3) := by decide +kernel
theorem i_136_65 : ins 136 65 = some (.iload_n 1, 1) := by decide +kernel
theorem i_136_66 : ins 136 66 = some (.invokevirtual 423, 3) := by decide +kernel
theorem i_136_69 : ins 136 69 = some (.ifCond .eq 38, 3) := by decide +kernel
theorem t_69_107 : tg 69 (38) = some 107 := by decide +kernel
theorem i_136_72 : ins 136 72 = some (.aload_n 0, 1) := by decide +kernel
theorem i_136_73 : ins 136 73 = some (.iload_n 2, 1) := by decide +kernel
theorem i_136_74 : ins 136 74 = some (.ifCond .ne 7, 3) := by decide +kernel
theorem t_74_81 : tg 74 (7) = some 81 := by decide +kernel
theorem i_136_77 : ins 136 77 = some (.iconst 1, 1) := by decide +kernel
theorem i_136_78 : ins 136 78 = some (.goto 4, 3) := by decide +kernel
theorem t_78_82 : tg 78 (4) = some 82 := by decide +kernel
theorem i_136_81 : ins 136 81 = some (.iconst 0, 1) := by decide +kernel
theorem v_136_443 : inv 136 443 = some (137, 1, 1, 7340134) := by decide +kernel
theorem i_136_82 : ins 136 82 = some (.invokevirtual 443, 3) := by decide +kernel
theorem i_136_85 : ins 136 85 = some (.aload_n 0, 1) := by decide +kernel
theorem i_136_86 : ins 136 86 = some (.iload_n 2, 1) := by decide +kernel
theorem i_136_87 : ins 136 87 = some (.ifCond .eq 8, 3) := by decide +kernel
theorem t_87_95 : tg 87 (8) = some 95 := by decide +kernel
theorem i_136_90 : ins 136 90 = some (.bipush 12, 2) := by decide +kernel
theorem i_136_92 : ins 136 92 = some (.goto 5, 3) := by decide +kernel
theorem t_92_97 : tg 92 (5) = some 97 := by decide +kernel
theorem i_136_95 : ins 136 95 = some (.bipush 13, 2) := by decide +kernel
theorem v_136_408 : inv 136 408 = some (126, 1, 1, 7340134) := by decide +kernel
theorem i_136_97 : ins 136 97 = some (.invokevirtual 408, 3) := by decide +kernel
theorem i_136_100 : ins 136 100 = some (.aload_n 0, 1) := by decide +kernel
theorem i_136_101 : ins 136 101 = some (.iload_n 1, 1) := by decide +kernel
theorem f_136_310 : fld 136 310 = some (7340134, 29, 0) := by decide +kernel
theorem o_136_7340134_29 : putok 136 7340134 29 = true := by decide +kernel
theorem i_136_102 : ins 136 102 = some (.putfield 310, 3) := by decide +kernel
theorem i_136_105 : ins 136 105 = some (.iconst 0, 1) := by decide +kernel
theorem r_136 : mret 136 = 1 := by decide +kernel
theorem i_136_106 : ins 136 106 = some (.ireturn, 1) := by decide +kernel
theorem i_136_107 : ins 136 107 = some (.aload_n 0, 1) := by decide +kernel
theorem i_136_108 : ins 136 108 = some (.iconst 1, 1) := by decide +kernel
theorem i_136_109 : ins 136 109 = some (.invokevirtual 443, 3) := by decide +kernel
theorem i_136_112 : ins 136 112 = some (.aload_n 0, 1) := by decide +kernel
theorem v_136_399 : inv 136 399 = some (119, 0, 1, 7340134) := by decide +kernel
theorem i_136_113 : ins 136 113 = some (.invokevirtual 399, 3) := by decide +kernel
theorem kB_93 : (Int8.ofInt (93)).toInt32 = nI 93 := by decide +kernel
theorem i_136_116 : ins 136 116 = some (.bipush 93, 2) := by decide +kernel
theorem i_136_118 : ins 136 118 = some (.if_icmp .ne 44, 3) := by decide +kernel
theorem t_118_162 : tg 118 (44) = some 162 := by decide +kernel
theorem i_136_121 : ins 136 121 = some (.aload_n 0, 1) := by decide +kernel
theorem i_136_122 : ins 136 122 = some (.invokevirtual 387, 3) := by decide +kernel
theorem i_136_125 : ins 136 125 = some (.bipush 16, 2) := by decide +kernel
theorem i_136_127 : ins 136 127 = some (.if_icmp .ne 35, 3) := by decide +kernel
theorem t_127_162 : tg 127 (35) = some 162 := by decide +kernel
theorem i_136_130 : ins 136 130 = some (.aload_n 0, 1) := by decide +kernel
theorem i_136_131 : ins 136 131 = some (.dup, 1) := by decide +kernel
theorem i_136_132 : ins 136 132 = some (.getfield 381, 3) := by decide +kernel
theorem i_136_135 : ins 136 135 = some (.iconst 1, 1) := by decide +kernel
theorem i_136_136 : ins 136 136 = some (.isub, 1) := by decide +kernel
theorem i_136_137 : ins 136 137 = some (.putfield 381, 3) := by decide +kernel
theorem i_136_140 : ins 136 140 = some (.aload_n 0, 1) := by decide +kernel
theorem i_136_141 : ins 136 141 = some (.dup, 1) := by decide +kernel
theorem i_136_142 : ins 136 142 = some (.getfield 384, 3) := by decide +kernel
theorem i_136_145 : ins 136 145 = some (.iconst 1, 1) := by decide +kernel
theorem i_136_146 : ins 136 146 = some (.isub, 1) := by decide +kernel
theorem i_136_147 : ins 136 147 = some (.putfield 384, 3) := by decide +kernel
theorem i_136_150 : ins 136 150 = some (.aload_n 0, 1) := by decide +kernel
theorem i_136_151 : ins 136 151 = some (.dup, 1) := by decide +kernel
theorem i_136_152 : ins 136 152 = some (.getfield 310, 3) := by decide +kernel
theorem i_136_155 : ins 136 155 = some (.iconst 1, 1) := by decide +kernel
theorem i_136_156 : ins 136 156 = some (.iadd, 1) := by decide +kernel
theorem i_136_157 : ins 136 157 = some (.putfield 310, 3) := by decide +kernel
theorem i_136_160 : ins 136 160 = some (.iconst 3, 1) := by decide +kernel
theorem i_136_161 : ins 136 161 = some (.ireturn, 1) := by decide +kernel
theorem i_136_162 : ins 136 162 = some (.aload_n 0, 1) := by decide +kernel
theorem i_136_163 : ins 136 163 = some (.getfield 381, 3) := by decide +kernel
theorem i_136_166 : ins 136 166 = some (.ifCond .le 12, 3) := by decide +kernel
theorem t_166_178 : tg 166 (12) = some 178 := by decide +kernel
theorem i_136_169 : ins 136 169 = some (.aload_n 0, 1) := by decide +kernel
theorem i_136_170 : ins 136 170 = some (.iconst 0, 1) := by decide +kernel
theorem i_136_171 : ins 136 171 = some (.aload_n 0, 1) := by decide +kernel
theorem i_136_172 : ins 136 172 = some (.getfield 310, 3) := by decide +kernel
theorem v_136_371 : inv 136 371 = some (118, 2, 1, 7340134) := by decide +kernel
theorem i_136_175 : ins 136 175 = some (.invokevirtual 371, 3) := by decide +kernel
theorem i_136_178 : ins 136 178 = some (.iconst 4, 1) := by decide +kernel
theorem i_136_179 : ins 136 179 = some (.ireturn, 1) := by decide +kernel
theorem i_137_0 : ins 137 0 = some (.aload_n 0, 1) := by decide +kernel
theorem v_137_387 : inv 137 387 = some (133, 0, 1, 7340134) := by decide +kernel
theorem i_137_1 : ins 137 1 = some (.invokevirtual 387, 3) := by decide +kernel
theorem i_137_4 : ins 137 4 = some (.bipush 12, 2) := by decide +kernel
theorem i_137_6 : ins 137 6 = some (.if_icmp .eq 16, 3) := by decide +kernel
theorem t_6_22 : tg 6 (16) = some 22 := by decide +kernel
theorem i_137_9 : ins 137 9 = some (.iload_n 1, 1) := by decide +kernel
theorem i_137_10 : ins 137 10 = some (.ifCond .eq 39, 3) := by decide +kernel
theorem t_10_49 : tg 10 (39) = some 49 := by decide +kernel
theorem i_137_13 : ins 137 13 = some (.aload_n 0, 1) := by decide +kernel
theorem i_137_14 : ins 137 14 = some (.invokevirtual 387, 3) := by decide +kernel
theorem i_137_17 : ins 137 17 = some (.bipush 13, 2) := by decide +kernel
theorem i_137_19 : ins 137 19 = some (.if_icmp .ne 30, 3) := by decide +kernel
theorem t_19_49 : tg 19 (30) = some 49 := by decide +kernel
theorem i_137_22 : ins 137 22 = some (.aload_n 0, 1) := by decide +kernel
theorem i_137_23 : ins 137 23 = some (.dup, 1) := by decide +kernel
theorem f_137_381 : fld 137 381 = some (7340134, 45, 0) := by decide +kernel
theorem i_137_24 : ins 137 24 = some (.getfield 381, 3) := by decide +kernel
theorem i_137_27 : ins 137 27 = some (.iconst 1, 1) := by decide +kernel
theorem i_137_28 : ins 137 28 = some (.isub, 1) := by decide +kernel
theorem o_137_7340134_45 : putok 137 7340134 45 = true := by decide +kernel
theorem i_137_29 : ins 137 29 = some (.putfield 381, 3) := by decide +kernel
theorem i_137_32 : ins 137 32 = some (.aload_n 0, 1) := by decide +kernel
theorem i_137_33 : ins 137 33 = some (.aload_n 0, 1) := by decide +kernel
theorem f_137_102 : fld 137 102 = some (7340134, 46, 2) := by decide +kernel
theorem i_137_34 : ins 137 34 = some (.getfield 102, 3) := by decide +kernel
theorem i_137_37 : ins 137 37 = some (.aload_n 0, 1) := by decide +kernel
theorem i_137_38 : ins 137 38 = some (.getfield 381, 3) := by decide +kernel
theorem i_137_41 : ins 137 41 = some (.iaload, 1) := by decide +kernel
theorem i_137_42 : ins 137 42 = some (.iconst 0, 1) := by decide +kernel
theorem v_137_390 : inv 137 390 = some (129, 2, 1, 7340134) := by decide +kernel
theorem i_137_43 : ins 137 43 = some (.invokevirtual 390, 3) := by decide +kernel
theorem i_137_46 : ins 137 46 = some (.goto (-46), 3) := by decide +kernel
theorem t_46_0 : tg 46 (-46) = some 0 := by decide +kernel
theorem i_137_49 : ins 137 49 = some (.return_, 1) := by decide +kernel
theorem r_137 : mret 137 = 0 := by decide +kernel
theorem i_138_0 : ins 138 0 = some (.iload_n 1, 1) := by decide +kernel
theorem v_138_283 : inv 138 283 = some (102, 1, 0, 0) := by decide +kernel
theorem i_138_1 : ins 138 1 = some (.invokestatic 283, 3) := by decide +kernel
theorem i_138_4 : ins 138 4 = some (.ifCond .eq 12, 3) := by decide +kernel
theorem t_4_16 : tg 4 (12) = some 16 := by decide +kernel
theorem i_138_7 : ins 138 7 = some (.iload_n 2, 1) := by decide +kernel
theorem i_138_8 : ins 138 8 = some (.iconst 0, 1) := by decide +kernel
theorem i_138_9 : ins 138 9 = some (.iconst 5, 1) := by decide +kernel
theorem v_138_260 : inv 138 260 = some (94, 3, 0, 0) := by decide +kernel
theorem i_138_10 : ins 138 10 = some (.invokestatic 260, 3) := by decide +kernel
theorem i_138_13 : ins 138 13 = some (.ifCond .ne 5, 3) := by decide +kernel
theorem i_138_16 : ins 138 16 = some (.iconst (-1), 1) := by decide +kernel
theorem r_138 : mret 138 = 1 := by decide +kernel
theorem i_138_17 : ins 138 17 = some (.ireturn, 1) := by decide +kernel
theorem i_138_18 : ins 138 18 = some (.aload_n 0, 1) := by decide +kernel
theorem i_138_19 : ins 138 19 = some (.iload_n 1, 1) := by decide +kernel
theorem v_138_484 : inv 138 484 = some (139, 1, 1, 7340134) := by decide +kernel
theorem i_138_20 : ins 138 20 = some (.invokevirtual 484, 3) := by decide +kernel
theorem i_138_23 : ins 138 23 = some (.istore_n 3, 1) := by decide +kernel
theorem i_138_24 : ins 138 24 = some (.iload_n 2, 1) := by decide +kernel
theorem i_138_25 : ins 138 25 = some (.tableswitch 67 0 4 #[35, 37, 44, 51, 59], 35) := by decide +kernel
theorem t_25_92 : tg 25 (67) = some 92 := by decide +kernel
theorem i_138_60 : ins 138 60 = some (.iload_n 3, 1) := by decide +kernel
theorem i_138_61 : ins 138 61 = some (.ireturn, 1) := by decide +kernel
theorem i_138_62 : ins 138 62 = some (.aload_n 0, 1) := by decide +kernel
theorem i_138_63 : ins 138 63 = some (.iload_n 3, 1) := by decide +kernel
theorem i_138_64 : ins 138 64 = some (.iconst 4, 1) := by decide +kernel
theorem v_138_487 : inv 138 487 = some (140, 2, 1, 7340134) := by decide +kernel
theorem i_138_65 : ins 138 65 = some (.invokevirtual 487, 3) := by decide +kernel
theorem i_138_68 : ins 138 68 = some (.ireturn, 1) := by decide +kernel
theorem i_138_69 : ins 138 69 = some (.aload_n 0, 1) := by decide +kernel
theorem i_138_70 : ins 138 70 = some (.iload_n 3, 1) := by decide +kernel
theorem i_138_71 : ins 138 71 = some (.iconst 5, 1) := by decide +kernel
theorem i_138_72 : ins 138 72 = some (.invokevirtual 487, 3) := by decide +kernel
theorem i_138_75 : ins 138 75 = some (.ireturn, 1) := by decide +kernel
theorem i_138_76 : ins 138 76 = some (.aload_n 0, 1) := by decide +kernel
theorem i_138_77 : ins 138 77 = some (.iload_n 3, 1) := by decide +kernel
theorem i_138_78 : ins 138 78 = some (.bipush 6, 2) := by decide +kernel
theorem i_138_80 : ins 138 80 = some (.invokevirtual 487, 3) := by decide +kernel
theorem i_138_83 : ins 138 83 = some (.ireturn, 1) := by decide +kernel
theorem i_138_84 : ins 138 84 = some (.aload_n 0, 1) := by decide +kernel
theorem i_138_85 : ins 138 85 = some (.iload_n 3, 1) := by decide +kernel
theorem i_138_86 : ins 138 86 = some (.bipush 7, 2) := by decide +kernel
theorem i_138_88 : ins 138 88 = some (.invokevirtual 487, 3) := by decide +kernel
theorem i_138_91 : ins 138 91 = some (.ireturn, 1) := by decide +kernel
theorem i_138_92 : ins 138 92 = some (.aload_n 0, 1) := by decide +kernel
theorem i_138_93 : ins 138 93 = some (.iload_n 3, 1) := by decide +kernel
theorem i_138_94 : ins 138 94 = some (.bipush 8, 2) := by decide +kernel
theorem v_138_480 : inv 138 480 = some (141, 2, 1, 7340134) := by decide +kernel
theorem i_138_96 : ins 138 96 = some (.invokevirtual 480, 3) := by decide +kernel
theorem i_138_99 : ins 138 99 = some (.iconst (-1), 1) := by decide +kernel
theorem i_138_100 : ins 138 100 = some (.if_icmp .ne 7, 3) := by decide +kernel
theorem t_100_107 : tg 100 (7) = some 107 := by decide +kernel
theorem i_138_103 : ins 138 103 = some (.iconst 0, 1) := by decide +kernel
theorem i_138_104 : ins 138 104 = some (.goto 4, 3) := by decide +kernel
theorem t_104_108 : tg 104 (4) = some 108 := by decide +kernel
theorem i_138_107 : ins 138 107 = some (.iconst 1, 1) := by decide +kernel
theorem i_138_108 : ins 138 108 = some (.ireturn, 1) := by decide +kernel
theorem i_139_0 : ins 139 0 = some (.iconst (-1), 1) := by decide +kernel
theorem i_139_1 : ins 139 1 = some (.istore_n 2, 1) := by decide +kernel
theorem i_139_2 : ins 139 2 = some (.iconst 0, 1) := by decide +kernel
theorem i_139_3 : ins 139 3 = some (.istore_n 3, 1) := by decide +kernel
theorem i_139_4 : ins 139 4 = some (.iload_n 3, 1) := by decide +kernel
theorem i_139_5 : ins 139 5 = some (.aload_n 0, 1) := by decide +kernel
theorem f_139_375 : fld 139 375 = some (7340134, 35, 0) := by decide +kernel
theorem i_139_6 : ins 139 6 = some (.getfield 375, 3) := by decide +kernel
theorem i_139_9 : ins 139 9 = some (.if_icmp .ge 41, 3) := by decide +kernel
theorem t_9_50 : tg 9 (41) = some 50 := by decide +kernel
theorem i_139_12 : ins 139 12 = some (.aload_n 0, 1) := by decide +kernel
theorem f_139_78 : fld 139 78 = some (7340134, 36, 2) := by decide +kernel
theorem i_139_13 : ins 139 13 = some (.getfield 78, 3) := by decide +kernel
theorem i_139_16 : ins 139 16 = some (.iload_n 3, 1) := by decide +kernel
theorem i_139_17 : ins 139 17 = some (.iaload, 1) := by decide +kernel
theorem i_139_18 : ins 139 18 = some (.iload_n 1, 1) := by decide +kernel
theorem i_139_19 : ins 139 19 = some (.if_icmp .gt 25, 3) := by decide +kernel
theorem t_19_44 : tg 19 (25) = some 44 := by decide +kernel
theorem i_139_22 : ins 139 22 = some (.iload_n 2, 1) := by decide +kernel
theorem i_139_23 : ins 139 23 = some (.iconst (-1), 1) := by decide +kernel
theorem i_139_24 : ins 139 24 = some (.if_icmp .eq 18, 3) := by decide +kernel
theorem t_24_42 : tg 24 (18) = some 42 := by decide +kernel
theorem i_139_27 : ins 139 27 = some (.aload_n 0, 1) := by decide +kernel
theorem i_139_28 : ins 139 28 = some (.getfield 78, 3) := by decide +kernel
theorem i_139_31 : ins 139 31 = some (.iload_n 3, 1) := by decide +kernel
theorem i_139_32 : ins 139 32 = some (.iaload, 1) := by decide +kernel
theorem i_139_33 : ins 139 33 = some (.aload_n 0, 1) := by decide +kernel
theorem i_139_34 : ins 139 34 = some (.getfield 78, 3) := by decide +kernel
theorem i_139_37 : ins 139 37 = some (.iload_n 2, 1) := by decide +kernel
theorem i_139_38 : ins 139 38 = some (.iaload, 1) := by decide +kernel
theorem i_139_39 : ins 139 39 = some (.if_icmp .lt 5, 3) := by decide +kernel
theorem t_39_44 : tg 39 (5) = some 44 := by decide +kernel
theorem i_139_42 : ins 139 42 = some (.iload_n 3, 1) := by decide +kernel
theorem i_139_43 : ins 139 43 = some (.istore_n 2, 1) := by decide +kernel
theorem i_139_44 : ins 139 44 = some (.iinc 3 1, 3) := by decide +kernel
theorem i_139_47 : ins 139 47 = some (.goto (-43), 3) := by decide +kernel
theorem t_47_4 : tg 47 (-43) = some 4 := by decide +kernel
theorem i_139_50 : ins 139 50 = some (.iload_n 2, 1) := by decide +kernel
theorem r_139 : mret 139 = 1 := by decide +kernel
theorem i_139_51 : ins 139 51 = some (.ireturn, 1) := by decide +kernel
theorem i_140_0 : ins 140 0 = some (.aload_n 0, 1) := by decide +kernel
theorem i_140_1 : ins 140 1 = some (.iload_n 1, 1) := by decide +kernel
theorem i_140_2 : ins 140 2 = some (.iload_n 2, 1) := by decide +kernel
theorem v_140_480 : inv 140 480 = some (141, 2, 1, 7340134) := by decide +kernel
theorem i_140_3 : ins 140 3 = some (.invokevirtual 480, 3) := by decide +kernel
theorem i_140_6 : ins 140 6 = some (.istore_n 3, 1) := by decide +kernel
theorem i_140_7 : ins 140 7 = some (.iload_n 3, 1) := by decide +kernel
theorem i_140_8 : ins 140 8 = some (.iconst (-1), 1) := by decide +kernel
theorem i_140_9 : ins 140 9 = some (.if_icmp .eq 12, 3) := by decide +kernel
theorem i_140_12 : ins 140 12 = some (.aload_n 0, 1) := by decide +kernel
theorem f_140_87 : fld 140 87 = some (7340134, 39, 2) := by decide +kernel
theorem i_140_13 : ins 140 13 = some (.getfield 87, 3) := by decide +kernel
theorem i_140_16 : ins 140 16 = some (.iload_n 3, 1) := by decide +kernel
theorem i_140_17 : ins 140 17 = some (.iaload, 1) := by decide +kernel
theorem i_140_18 : ins 140 18 = some (.goto 26, 3) := by decide +kernel
theorem t_18_44 : tg 18 (26) = some 44 := by decide +kernel
theorem i_140_21 : ins 140 21 = some (.iload_n 2, 1) := by decide +kernel
theorem i_140_22 : ins 140 22 = some (.bipush 6, 2) := by decide +kernel
theorem i_140_24 : ins 140 24 = some (.if_icmp .ne 8, 3) := by decide +kernel
theorem t_24_32 : tg 24 (8) = some 32 := by decide +kernel
theorem i_140_27 : ins 140 27 = some (.bipush 100, 2) := by decide +kernel
theorem i_140_29 : ins 140 29 = some (.goto 15, 3) := by decide +kernel
theorem i_140_32 : ins 140 32 = some (.iload_n 2, 1) := by decide +kernel
theorem i_140_33 : ins 140 33 = some (.bipush 7, 2) := by decide +kernel
theorem i_140_35 : ins 140 35 = some (.if_icmp .ne 8, 3) := by decide +kernel
theorem t_35_43 : tg 35 (8) = some 43 := by decide +kernel
theorem i_140_38 : ins 140 38 = some (.bipush 20, 2) := by decide +kernel
theorem i_140_40 : ins 140 40 = some (.goto 4, 3) := by decide +kernel
theorem t_40_44 : tg 40 (4) = some 44 := by decide +kernel
theorem i_140_43 : ins 140 43 = some (.iconst 0, 1) := by decide +kernel
theorem r_140 : mret 140 = 1 := by decide +kernel
theorem i_140_44 : ins 140 44 = some (.ireturn, 1) := by decide +kernel
theorem i_141_0 : ins 141 0 = some (.iconst 0, 1) := by decide +kernel
theorem i_141_1 : ins 141 1 = some (.istore_n 3, 1) := by decide +kernel
theorem i_141_2 : ins 141 2 = some (.iload_n 1, 1) := by decide +kernel
theorem i_141_3 : ins 141 3 = some (.iconst (-1), 1) := by decide +kernel
theorem i_141_4 : ins 141 4 = some (.if_icmp .eq 41, 3) := by decide +kernel
theorem t_4_45 : tg 4 (41) = some 45 := by decide +kernel
theorem i_141_7 : ins 141 7 = some (.iload_n 3, 1) := by decide +kernel
theorem i_141_8 : ins 141 8 = some (.aload_n 0, 1) := by decide +kernel
theorem f_141_81 : fld 141 81 = some (7340134, 37, 2) := by decide +kernel
theorem i_141_9 : ins 141 9 = some (.getfield 81, 3) := by decide +kernel
theorem i_141_12 : ins 141 12 = some (.iload_n 1, 1) := by decide +kernel
theorem i_141_13 : ins 141 13 = some (.iaload, 1) := by decide +kernel
theorem i_141_14 : ins 141 14 = some (.if_icmp .ge 31, 3) := by decide +kernel
theorem t_14_45 : tg 14 (31) = some 45 := by decide +kernel
theorem i_141_17 : ins 141 17 = some (.aload_n 0, 1) := by decide +kernel
theorem f_141_84 : fld 141 84 = some (7340134, 38, 2) := by decide +kernel
theorem i_141_18 : ins 141 18 = some (.getfield 84, 3) := by decide +kernel
theorem i_141_21 : ins 141 21 = some (.bipush 12, 2) := by decide +kernel
theorem i_141_23 : ins 141 23 = some (.iload_n 1, 1) := by decide +kernel
theorem i_141_24 : ins 141 24 = some (.imul, 1) := by decide +kernel
theorem i_141_25 : ins 141 25 = some (.iload_n 3, 1) := by decide +kernel
theorem i_141_26 : ins 141 26 = some (.iadd, 1) := by decide +kernel
theorem i_141_27 : ins 141 27 = some (.iaload, 1) := by decide +kernel
theorem i_141_28 : ins 141 28 = some (.iload_n 2, 1) := by decide +kernel
theorem i_141_29 : ins 141 29 = some (.if_icmp .ne 10, 3) := by decide +kernel
theorem i_141_32 : ins 141 32 = some (.bipush 12, 2) := by decide +kernel
theorem i_141_34 : ins 141 34 = some (.iload_n 1, 1) := by decide +kernel
theorem i_141_35 : ins 141 35 = some (.imul, 1) := by decide +kernel
theorem i_141_36 : ins 141 36 = some (.iload_n 3, 1) := by decide +kernel
theorem i_141_37 : ins 141 37 = some (.iadd, 1) := by decide +kernel
theorem r_141 : mret 141 = 1 := by decide +kernel
theorem i_141_38 : ins 141 38 = some (.ireturn, 1) := by decide +kernel
theorem i_141_39 : ins 141 39 = some (.iinc 3 1, 3) := by decide +kernel
theorem i_141_42 : ins 141 42 = some (.goto (-40), 3) := by decide +kernel
theorem t_42_2 : tg 42 (-40) = some 2 := by decide +kernel
theorem i_141_45 : ins 141 45 = some (.iconst (-1), 1) := by decide +kernel
theorem i_141_46 : ins 141 46 = some (.ireturn, 1) := by decide +kernel
theorem i_142_0 : ins 142 0 = some (.aload_n 0, 1) := by decide +kernel
theorem i_142_1 : ins 142 1 = some (.iload_n 1, 1) := by decide +kernel
theorem v_142_294 : inv 142 294 = some (106, 1, 1, 7340134) := by decide +kernel
theorem i_142_2 : ins 142 2 = some (.invokevirtual 294, 3) := by decide +kernel
theorem i_142_5 : ins 142 5 = some (.ifCond .eq 19, 3) := by decide +kernel
theorem i_142_8 : ins 142 8 = some (.iload_n 2, 1) := by decide +kernel
theorem v_142_283 : inv 142 283 = some (102, 1, 0, 0) := by decide +kernel
theorem i_142_9 : ins 142 9 = some (.invokestatic 283, 3) := by decide +kernel
theorem i_142_12 : ins 142 12 = some (.ifCond .eq 12, 3) := by decide +kernel
theorem i_142_15 : ins 142 15 = some (.iload_n 3, 1) := by decide +kernel
theorem i_142_16 : ins 142 16 = some (.iconst 0, 1) := by decide +kernel
theorem i_142_17 : ins 142 17 = some (.iconst 2, 1) := by decide +kernel
theorem v_142_260 : inv 142 260 = some (94, 3, 0, 0) := by decide +kernel
theorem i_142_18 : ins 142 18 = some (.invokestatic 260, 3) := by decide +kernel
theorem i_142_21 : ins 142 21 = some (.ifCond .ne 5, 3) := by decide +kernel
theorem i_142_24 : ins 142 24 = some (.iconst (-1), 1) := by decide +kernel
theorem r_142 : mret 142 = 1 := by decide +kernel
theorem i_142_25 : ins 142 25 = some (.ireturn, 1) := by decide +kernel
theorem i_142_26 : ins 142 26 = some (.iload_n 3, 1) := by decide +kernel
theorem i_142_27 : ins 142 27 = some (.iconst 1, 1) := by decide +kernel
theorem i_142_28 : ins 142 28 = some (.if_icmp .ne 18, 3) := by decide +kernel
theorem t_28_46 : tg 28 (18) = some 46 := by decide +kernel
theorem i_142_31 : ins 142 31 = some (.aload_n 0, 1) := by decide +kernel
theorem i_142_32 : ins 142 32 = some (.iload_n 1, 1) := by decide +kernel
theorem i_142_33 : ins 142 33 = some (.iload_n 2, 1) := by decide +kernel
theorem v_142_523 : inv 142 523 = some (143, 2, 1, 7340134) := by decide +kernel
theorem i_142_34 : ins 142 34 = some (.invokevirtual 523, 3) := by decide +kernel
theorem i_142_37 : ins 142 37 = some (.ifCond .eq 7, 3) := by decide +kernel
theorem t_37_44 : tg 37 (7) = some 44 := by decide +kernel
theorem i_142_40 : ins 142 40 = some (.iconst 1, 1) := by decide +kernel
theorem i_142_41 : ins 142 41 = some (.goto 4, 3) := by decide +kernel
theorem t_41_45 : tg 41 (4) = some 45 := by decide +kernel
theorem i_142_44 : ins 142 44 = some (.iconst 0, 1) := by decide +kernel
theorem i_142_45 : ins 142 45 = some (.ireturn, 1) := by decide +kernel
theorem i_142_46 : ins 142 46 = some (.aload_n 0, 1) := by decide +kernel
theorem i_142_47 : ins 142 47 = some (.iload_n 1, 1) := by decide +kernel
theorem i_142_48 : ins 142 48 = some (.iload_n 2, 1) := by decide +kernel
theorem i_142_49 : ins 142 49 = some (.invokevirtual 523, 3) := by decide +kernel
theorem i_142_52 : ins 142 52 = some (.ifCond .ne 5, 3) := by decide +kernel
theorem t_52_57 : tg 52 (5) = some 57 := by decide +kernel
theorem i_142_55 : ins 142 55 = some (.iconst (-1), 1) := by decide +kernel
theorem i_142_56 : ins 142 56 = some (.ireturn, 1) := by decide +kernel
theorem i_142_57 : ins 142 57 = some (.aload_n 0, 1) := by decide +kernel
theorem i_142_58 : ins 142 58 = some (.aload_n 0, 1) := by decide +kernel
theorem f_142_31 : fld 142 31 = some (7340134, 13, 2) := by decide +kernel
theorem i_142_59 : ins 142 59 = some (.getfield 31, 3) := by decide +kernel
theorem i_142_62 : ins 142 62 = some (.iload_n 1, 1) := by decide +kernel
theorem i_142_63 : ins 142 63 = some (.iaload, 1) := by decide +kernel
theorem i_142_64 : ins 142 64 = some (.iload_n 2, 1) := by decide +kernel
theorem v_142_530 : inv 142 530 = some (144, 2, 1, 7340134) := by decide +kernel
theorem i_142_65 : ins 142 65 = some (.invokevirtual 530, 3) := by decide +kernel
theorem i_142_68 : ins 142 68 = some (.iload_n 3, 1) := by decide +kernel
theorem i_142_69 : ins 142 69 = some (.ifCond .ne 12, 3) := by decide +kernel
theorem t_69_81 : tg 69 (12) = some 81 := by decide +kernel
theorem i_142_72 : ins 142 72 = some (.aload_n 0, 1) := by decide +kernel
theorem f_142_115 : fld 142 115 = some (7340134, 53, 2) := by decide +kernel
theorem i_142_73 : ins 142 73 = some (.getfield 115, 3) := by decide +kernel
theorem i_142_76 : ins 142 76 = some (.iload_n 1, 1) := by decide +kernel
theorem kl_112202433 : klen 112202433 = 300 := by decide +kernel
theorem i_142_77 : ins 142 77 = some (.iaload, 1) := by decide +kernel
theorem i_142_78 : ins 142 78 = some (.goto 17, 3) := by decide +kernel
theorem t_78_95 : tg 78 (17) = some 95 := by decide +kernel
theorem i_142_81 : ins 142 81 = some (.aload_n 0, 1) := by decide +kernel
theorem f_142_121 : fld 142 121 = some (7340134, 55, 2) := by decide +kernel
theorem i_142_82 : ins 142 82 = some (.getfield 121, 3) := by decide +kernel
theorem i_142_85 : ins 142 85 = some (.iload_n 1, 1) := by decide +kernel
theorem kl_114299587 : klen 114299587 = 300 := by decide +kernel
theorem i_142_86 : ins 142 86 = some (.baload, 1) := by decide +kernel
theorem i_142_87 : ins 142 87 = some (.ifCond .eq 7, 3) := by decide +kernel
theorem i_142_90 : ins 142 90 = some (.iconst 1, 1) := by decide +kernel
theorem i_142_91 : ins 142 91 = some (.goto 4, 3) := by decide +kernel
theorem i_142_94 : ins 142 94 = some (.iconst 0, 1) := by decide +kernel
theorem i_142_95 : ins 142 95 = some (.ireturn, 1) := by decide +kernel
theorem i_143_0 : ins 143 0 = some (.aload_n 0, 1) := by decide +kernel
theorem f_143_46 : fld 143 46 = some (7340134, 18, 2) := by decide +kernel
theorem i_143_1 : ins 143 1 = some (.getfield 46, 3) := by decide +kernel
theorem i_143_4 : ins 143 4 = some (.iload_n 1, 1) := by decide +kernel
theorem i_143_5 : ins 143 5 = some (.iaload, 1) := by decide +kernel
theorem i_143_6 : ins 143 6 = some (.iload_n 2, 1) := by decide +kernel
theorem i_143_7 : ins 143 7 = some (.if_icmp .gt 17, 3) := by decide +kernel
theorem t_7_24 : tg 7 (17) = some 24 := by decide +kernel
theorem i_143_10 : ins 143 10 = some (.aload_n 0, 1) := by decide +kernel
theorem f_143_49 : fld 143 49 = some (7340134, 19, 2) := by decide +kernel
theorem i_143_11 : ins 143 11 = some (.getfield 49, 3) := by decide +kernel
theorem i_143_14 : ins 143 14 = some (.iload_n 1, 1) := by decide +kernel
theorem i_143_15 : ins 143 15 = some (.iaload, 1) := by decide +kernel
theorem i_143_16 : ins 143 16 = some (.iload_n 2, 1) := by decide +kernel
theorem i_143_17 : ins 143 17 = some (.if_icmp .le 7, 3) := by decide +kernel
theorem t_17_24 : tg 17 (7) = some 24 := by decide +kernel
theorem i_143_20 : ins 143 20 = some (.iconst 1, 1) := by decide +kernel
theorem i_143_21 : ins 143 21 = some (.goto 4, 3) := by decide +kernel
theorem i_143_24 : ins 143 24 = some (.iconst 0, 1) := by decide +kernel
theorem r_143 : mret 143 = 2 := by decide +kernel
theorem i_143_25 : ins 143 25 = some (.ireturn, 1) := by decide +kernel
theorem i_144_0 : ins 144 0 = some (.aload_n 0, 1) := by decide +kernel
theorem i_144_1 : ins 144 1 = some (.iload_n 1, 1) := by decide +kernel
theorem f_144_520 : fld 144 520 = some (7340134, 49, 0) := by decide +kernel
theorem o_144_7340134_49 : putok 144 7340134 49 = true := by decide +kernel
theorem i_144_2 : ins 144 2 = some (.putfield 520, 3) := by decide +kernel
theorem i_144_5 : ins 144 5 = some (.aload_n 0, 1) := by decide +kernel
theorem i_144_6 : ins 144 6 = some (.iload_n 2, 1) := by decide +kernel
theorem f_144_508 : fld 144 508 = some (7340134, 50, 0) := by decide +kernel
theorem o_144_7340134_50 : putok 144 7340134 50 = true := by decide +kernel
theorem i_144_7 : ins 144 7 = some (.putfield 508, 3) := by decide +kernel
theorem i_144_10 : ins 144 10 = some (.aload_n 0, 1) := by decide +kernel
theorem i_144_11 : ins 144 11 = some (.aload_n 0, 1) := by decide +kernel
theorem i_144_12 : ins 144 12 = some (.iload_n 2, 1) := by decide +kernel
theorem v_144_484 : inv 144 484 = some (139, 1, 1, 7340134) := by decide +kernel
theorem i_144_13 : ins 144 13 = some (.invokevirtual 484, 3) := by decide +kernel
theorem f_144_514 : fld 144 514 = some (7340134, 51, 0) := by decide +kernel
theorem o_144_7340134_51 : putok 144 7340134 51 = true := by decide +kernel
theorem i_144_16 : ins 144 16 = some (.putfield 514, 3) := by decide +kernel
theorem i_144_19 : ins 144 19 = some (.iconst 0, 1) := by decide +kernel
theorem i_144_20 : ins 144 20 = some (.istore_n 3, 1) := by decide +kernel
theorem i_144_21 : ins 144 21 = some (.iload_n 3, 1) := by decide +kernel
theorem i_144_22 : ins 144 22 = some (.bipush 6, 2) := by decide +kernel
theorem i_144_24 : ins 144 24 = some (.aload_n 0, 1) := by decide +kernel
theorem f_144_290 : fld 144 290 = some (7340134, 11, 0) := by decide +kernel
theorem i_144_25 : ins 144 25 = some (.getfield 290, 3) := by decide +kernel
theorem i_144_28 : ins 144 28 = some (.imul, 1) := by decide +kernel
theorem i_144_29 : ins 144 29 = some (.if_icmp .ge 16, 3) := by decide +kernel
theorem i_144_32 : ins 144 32 = some (.aload_n 0, 1) := by decide +kernel
theorem f_144_112 : fld 144 112 = some (7340134, 52, 2) := by decide +kernel
theorem i_144_33 : ins 144 33 = some (.getfield 112, 3) := by decide +kernel
theorem i_144_36 : ins 144 36 = some (.iload_n 3, 1) := by decide +kernel
theorem i_144_37 : ins 144 37 = some (.iconst (-1), 1) := by decide +kernel
theorem kl_111177857 : klen 111177857 = 1800 := by decide +kernel
theorem i_144_38 : ins 144 38 = some (.iastore, 1) := by decide +kernel
theorem i_144_39 : ins 144 39 = some (.iinc 3 1, 3) := by decide +kernel
theorem i_144_42 : ins 144 42 = some (.goto (-21), 3) := by decide +kernel
theorem t_42_21 : tg 42 (-21) = some 21 := by decide +kernel
theorem i_144_45 : ins 144 45 = some (.iconst 0, 1) := by decide +kernel
theorem i_144_46 : ins 144 46 = some (.istore_n 3, 1) := by decide +kernel
theorem i_144_47 : ins 144 47 = some (.iload_n 3, 1) := by decide +kernel
theorem i_144_48 : ins 144 48 = some (.aload_n 0, 1) := by decide +kernel
theorem f_144_297 : fld 144 297 = some (7340134, 12, 0) := by decide +kernel
theorem i_144_49 : ins 144 49 = some (.getfield 297, 3) := by decide +kernel
theorem i_144_52 : ins 144 52 = some (.if_icmp .ge 41, 3) := by decide +kernel
theorem t_52_93 : tg 52 (41) = some 93 := by decide +kernel
theorem i_144_55 : ins 144 55 = some (.aload_n 0, 1) := by decide +kernel
theorem f_144_68 : fld 144 68 = some (7340134, 25, 2) := by decide +kernel
theorem i_144_56 : ins 144 56 = some (.getfield 68, 3) := by decide +kernel
theorem i_144_59 : ins 144 59 = some (.iload_n 3, 1) := by decide +kernel
theorem i_144_60 : ins 144 60 = some (.iaload, 1) := by decide +kernel
theorem i_144_61 : ins 144 61 = some (.iload_n 2, 1) := by decide +kernel
theorem i_144_62 : ins 144 62 = some (.if_icmp .gt 25, 3) := by decide +kernel
theorem t_62_87 : tg 62 (25) = some 87 := by decide +kernel
theorem i_144_65 : ins 144 65 = some (.aload_n 0, 1) := by decide +kernel
theorem i_144_66 : ins 144 66 = some (.getfield 112, 3) := by decide +kernel
theorem i_144_69 : ins 144 69 = some (.bipush 6, 2) := by decide +kernel
theorem i_144_71 : ins 144 71 = some (.aload_n 0, 1) := by decide +kernel
theorem f_144_59 : fld 144 59 = some (7340134, 22, 2) := by decide +kernel
theorem i_144_72 : ins 144 72 = some (.getfield 59, 3) := by decide +kernel
theorem i_144_75 : ins 144 75 = some (.iload_n 3, 1) := by decide +kernel
theorem i_144_76 : ins 144 76 = some (.iaload, 1) := by decide +kernel
theorem i_144_77 : ins 144 77 = some (.imul, 1) := by decide +kernel
theorem i_144_78 : ins 144 78 = some (.aload_n 0, 1) := by decide +kernel
theorem f_144_62 : fld 144 62 = some (7340134, 23, 2) := by decide +kernel
theorem i_144_79 : ins 144 79 = some (.getfield 62, 3) := by decide +kernel
theorem i_144_82 : ins 144 82 = some (.iload_n 3, 1) := by decide +kernel
theorem i_144_83 : ins 144 83 = some (.iaload, 1) := by decide +kernel
theorem i_144_84 : ins 144 84 = some (.iadd, 1) := by decide +kernel
theorem i_144_85 : ins 144 85 = some (.iload_n 3, 1) := by decide +kernel
theorem i_144_86 : ins 144 86 = some (.iastore, 1) := by decide +kernel
theorem i_144_87 : ins 144 87 = some (.iinc 3 1, 3) := by decide +kernel
theorem i_144_90 : ins 144 90 = some (.goto (-43), 3) := by decide +kernel
theorem t_90_47 : tg 90 (-43) = some 47 := by decide +kernel
theorem i_144_93 : ins 144 93 = some (.iconst 0, 1) := by decide +kernel
theorem i_144_94 : ins 144 94 = some (.istore_n 3, 1) := by decide +kernel
theorem i_144_95 : ins 144 95 = some (.iload_n 3, 1) := by decide +kernel
theorem kS_2144 : (Int16.ofInt (2144)).toInt32 = nI 2144 := by decide +kernel
theorem i_144_96 : ins 144 96 = some (.sipush 2144, 3) := by decide +kernel
theorem i_144_99 : ins 144 99 = some (.if_icmp .ge 23, 3) := by decide +kernel
theorem t_99_122 : tg 99 (23) = some 122 := by decide +kernel
theorem i_144_102 : ins 144 102 = some (.aload_n 0, 1) := by decide +kernel
theorem f_144_124 : fld 144 124 = some (7340134, 56, 2) := by decide +kernel
theorem i_144_103 : ins 144 103 = some (.getfield 124, 3) := by decide +kernel
theorem i_144_106 : ins 144 106 = some (.iload_n 3, 1) := by decide +kernel
theorem i_144_107 : ins 144 107 = some (.lconst 0, 1) := by decide +kernel
theorem kl_115377668 : klen 115377668 = 2144 := by decide +kernel
theorem i_144_108 : ins 144 108 = some (.lastore, 1) := by decide +kernel
theorem i_144_109 : ins 144 109 = some (.aload_n 0, 1) := by decide +kernel
theorem f_144_127 : fld 144 127 = some (7340134, 57, 2) := by decide +kernel
theorem i_144_110 : ins 144 110 = some (.getfield 127, 3) := by decide +kernel
theorem i_144_113 : ins 144 113 = some (.iload_n 3, 1) := by decide +kernel
theorem i_144_114 : ins 144 114 = some (.lconst 0, 1) := by decide +kernel
theorem kl_116426244 : klen 116426244 = 2144 := by decide +kernel
theorem i_144_115 : ins 144 115 = some (.lastore, 1) := by decide +kernel
theorem i_144_116 : ins 144 116 = some (.iinc 3 1, 3) := by decide +kernel
theorem i_144_119 : ins 144 119 = some (.goto (-24), 3) := by decide +kernel
theorem t_119_95 : tg 119 (-24) = some 95 := by decide +kernel
theorem i_144_122 : ins 144 122 = some (.iconst 0, 1) := by decide +kernel
theorem i_144_123 : ins 144 123 = some (.istore_n 3, 1) := by decide +kernel
theorem i_144_124 : ins 144 124 = some (.iload_n 3, 1) := by decide +kernel
theorem i_144_125 : ins 144 125 = some (.aload_n 0, 1) := by decide +kernel
theorem i_144_126 : ins 144 126 = some (.getfield 290, 3) := by decide +kernel
theorem i_144_129 : ins 144 129 = some (.if_icmp .ge 185, 3) := by decide +kernel
theorem t_129_314 : tg 129 (185) = some 314 := by decide +kernel
theorem i_144_132 : ins 144 132 = some (.aload_n 0, 1) := by decide +kernel
theorem f_144_118 : fld 144 118 = some (7340134, 54, 2) := by decide +kernel
theorem i_144_133 : ins 144 133 = some (.getfield 118, 3) := by decide +kernel
theorem i_144_136 : ins 144 136 = some (.iload_n 3, 1) := by decide +kernel
theorem i_144_137 : ins 144 137 = some (.aload_n 0, 1) := by decide +kernel
theorem f_144_31 : fld 144 31 = some (7340134, 13, 2) := by decide +kernel
theorem i_144_138 : ins 144 138 = some (.getfield 31, 3) := by decide +kernel
theorem i_144_141 : ins 144 141 = some (.iload_n 3, 1) := by decide +kernel
theorem i_144_142 : ins 144 142 = some (.iaload, 1) := by decide +kernel
theorem i_144_143 : ins 144 143 = some (.iload_n 1, 1) := by decide +kernel
theorem i_144_144 : ins 144 144 = some (.if_icmp .ne 16, 3) := by decide +kernel
theorem t_144_160 : tg 144 (16) = some 160 := by decide +kernel
theorem i_144_147 : ins 144 147 = some (.aload_n 0, 1) := by decide +kernel
theorem i_144_148 : ins 144 148 = some (.iload_n 3, 1) := by decide +kernel
theorem i_144_149 : ins 144 149 = some (.iload_n 2, 1) := by decide +kernel
theorem v_144_523 : inv 144 523 = some (143, 2, 1, 7340134) := by decide +kernel
theorem i_144_150 : ins 144 150 = some (.invokevirtual 523, 3) := by decide +kernel
theorem i_144_153 : ins 144 153 = some (.ifCond .eq 7, 3) := by decide +kernel
theorem t_153_160 : tg 153 (7) = some 160 := by decide +kernel
theorem i_144_156 : ins 144 156 = some (.iconst 1, 1) := by decide +kernel
theorem i_144_157 : ins 144 157 = some (.goto 4, 3) := by decide +kernel
theorem t_157_161 : tg 157 (4) = some 161 := by decide +kernel
theorem i_144_160 : ins 144 160 = some (.iconst 0, 1) := by decide +kernel
theorem kl_113251011 : klen 113251011 = 300 := by decide +kernel
theorem i_144_161 : ins 144 161 = some (.bastore, 1) := by decide +kernel
theorem i_144_162 : ins 144 162 = some (.aload_n 0, 1) := by decide +kernel
theorem i_144_163 : ins 144 163 = some (.getfield 118, 3) := by decide +kernel
theorem i_144_166 : ins 144 166 = some (.iload_n 3, 1) := by decide +kernel
theorem i_144_167 : ins 144 167 = some (.baload, 1) := by decide +kernel
theorem i_144_168 : ins 144 168 = some (.ifCond .eq 140, 3) := by decide +kernel
theorem t_168_308 : tg 168 (140) = some 308 := by decide +kernel
theorem i_144_171 : ins 144 171 = some (.aload_n 0, 1) := by decide +kernel
theorem f_144_115 : fld 144 115 = some (7340134, 53, 2) := by decide +kernel
theorem i_144_172 : ins 144 172 = some (.getfield 115, 3) := by decide +kernel
theorem i_144_175 : ins 144 175 = some (.iload_n 3, 1) := by decide +kernel
theorem i_144_176 : ins 144 176 = some (.aload_n 0, 1) := by decide +kernel
theorem i_144_177 : ins 144 177 = some (.iload_n 3, 1) := by decide +kernel
theorem v_144_527 : inv 144 527 = some (145, 1, 1, 7340134) := by decide +kernel
theorem i_144_178 : ins 144 178 = some (.invokevirtual 527, 3) := by decide +kernel
theorem i_144_181 : ins 144 181 = some (.iastore, 1) := by decide +kernel
theorem i_144_182 : ins 144 182 = some (.aload_n 0, 1) := by decide +kernel
theorem i_144_183 : ins 144 183 = some (.iload_n 3, 1) := by decide +kernel
theorem v_144_511 : inv 144 511 = some (146, 1, 1, 7340134) := by decide +kernel
theorem i_144_184 : ins 144 184 = some (.invokevirtual 511, 3) := by decide +kernel
theorem i_144_187 : ins 144 187 = some (.aload_n 0, 1) := by decide +kernel
theorem f_144_121 : fld 144 121 = some (7340134, 55, 2) := by decide +kernel
theorem i_144_188 : ins 144 188 = some (.getfield 121, 3) := by decide +kernel
theorem i_144_191 : ins 144 191 = some (.iload_n 3, 1) := by decide +kernel
theorem i_144_192 : ins 144 192 = some (.aload_n 0, 1) := by decide +kernel
theorem f_144_52 : fld 144 52 = some (7340134, 20, 2) := by decide +kernel
theorem i_144_193 : ins 144 193 = some (.getfield 52, 3) := by decide +kernel
theorem i_144_196 : ins 144 196 = some (.iload_n 3, 1) := by decide +kernel
theorem i_144_197 : ins 144 197 = some (.baload, 1) := by decide +kernel
theorem i_144_198 : ins 144 198 = some (.ifCond .ne 20, 3) := by decide +kernel
theorem t_198_218 : tg 198 (20) = some 218 := by decide +kernel
theorem i_144_201 : ins 144 201 = some (.aload_n 0, 1) := by decide +kernel
theorem i_144_202 : ins 144 202 = some (.aload_n 0, 1) := by decide +kernel
theorem i_144_203 : ins 144 203 = some (.getfield 514, 3) := by decide +kernel
theorem i_144_206 : ins 144 206 = some (.iconst 1, 1) := by decide +kernel
theorem i_144_207 : ins 144 207 = some (.iconst 0, 1) := by decide +kernel
theorem v_144_517 : inv 144 517 = some (150, 3, 1, 7340134) := by decide +kernel
theorem i_144_208 : ins 144 208 = some (.invokevirtual 517, 3) := by decide +kernel
theorem i_144_211 : ins 144 211 = some (.ifCond .eq 7, 3) := by decide +kernel
theorem t_211_218 : tg 211 (7) = some 218 := by decide +kernel
theorem i_144_214 : ins 144 214 = some (.iconst 1, 1) := by decide +kernel
theorem i_144_215 : ins 144 215 = some (.goto 4, 3) := by decide +kernel
theorem t_215_219 : tg 215 (4) = some 219 := by decide +kernel
theorem i_144_218 : ins 144 218 = some (.iconst 0, 1) := by decide +kernel
theorem i_144_219 : ins 144 219 = some (.bastore, 1) := by decide +kernel
theorem i_144_220 : ins 144 220 = some (.aload_n 0, 1) := by decide +kernel
theorem i_144_221 : ins 144 221 = some (.getfield 52, 3) := by decide +kernel
theorem i_144_224 : ins 144 224 = some (.iload_n 3, 1) := by decide +kernel
theorem i_144_225 : ins 144 225 = some (.baload, 1) := by decide +kernel
theorem i_144_226 : ins 144 226 = some (.ifCond .ne 82, 3) := by decide +kernel
theorem t_226_308 : tg 226 (82) = some 308 := by decide +kernel
theorem i_144_229 : ins 144 229 = some (.aload_n 0, 1) := by decide +kernel
theorem i_144_230 : ins 144 230 = some (.getfield 121, 3) := by decide +kernel
theorem i_144_233 : ins 144 233 = some (.iload_n 3, 1) := by decide +kernel
theorem i_144_234 : ins 144 234 = some (.baload, 1) := by decide +kernel
theorem i_144_235 : ins 144 235 = some (.ifCond .ne 73, 3) := by decide +kernel
theorem t_235_308 : tg 235 (73) = some 308 := by decide +kernel
theorem i_144_238 : ins 144 238 = some (.aload_n 0, 1) := by decide +kernel
theorem i_144_239 : ins 144 239 = some (.getfield 124, 3) := by decide +kernel
theorem i_144_242 : ins 144 242 = some (.sipush 134, 3) := by decide +kernel
theorem i_144_245 : ins 144 245 = some (.aload_n 0, 1) := by decide +kernel
theorem f_144_34 : fld 144 34 = some (7340134, 14, 2) := by decide +kernel
theorem i_144_246 : ins 144 246 = some (.getfield 34, 3) := by decide +kernel
theorem i_144_249 : ins 144 249 = some (.iload_n 3, 1) := by decide +kernel
theorem i_144_250 : ins 144 250 = some (.iaload, 1) := by decide +kernel
theorem i_144_251 : ins 144 251 = some (.imul, 1) := by decide +kernel
theorem i_144_252 : ins 144 252 = some (.aload_n 0, 1) := by decide +kernel
theorem i_144_253 : ins 144 253 = some (.iload_n 3, 1) := by decide +kernel
theorem v_144_505 : inv 144 505 = some (148, 1, 1, 7340134) := by decide +kernel
theorem i_144_254 : ins 144 254 = some (.invokevirtual 505, 3) := by decide +kernel
theorem i_144_257 : ins 144 257 = some (.iadd, 1) := by decide +kernel
theorem i_144_258 : ins 144 258 = some (.dup2, 1) := by decide +kernel
theorem i_144_259 : ins 144 259 = some (.laload, 1) := by decide +kernel
theorem i_144_260 : ins 144 260 = some (.aload_n 0, 1) := by decide +kernel
theorem i_144_261 : ins 144 261 = some (.getfield 115, 3) := by decide +kernel
theorem i_144_264 : ins 144 264 = some (.iload_n 3, 1) := by decide +kernel
theorem i_144_265 : ins 144 265 = some (.iaload, 1) := by decide +kernel
theorem i_144_266 : ins 144 266 = some (.i2l, 1) := by decide +kernel
theorem i_144_267 : ins 144 267 = some (.aload_n 0, 1) := by decide +kernel
theorem f_144_40 : fld 144 40 = some (7340134, 16, 2) := by decide +kernel
theorem i_144_268 : ins 144 268 = some (.getfield 40, 3) := by decide +kernel
theorem i_144_271 : ins 144 271 = some (.iload_n 3, 1) := by decide +kernel
theorem i_144_272 : ins 144 272 = some (.iaload, 1) := by decide +kernel
theorem i_144_273 : ins 144 273 = some (.i2l, 1) := by decide +kernel
theorem i_144_274 : ins 144 274 = some (.lmul, 1) := by decide +kernel
theorem i_144_275 : ins 144 275 = some (.ladd, 1) := by decide +kernel
theorem i_144_276 : ins 144 276 = some (.lastore, 1) := by decide +kernel
theorem i_144_277 : ins 144 277 = some (.aload_n 0, 1) := by decide +kernel
theorem i_144_278 : ins 144 278 = some (.getfield 127, 3) := by decide +kernel
theorem i_144_281 : ins 144 281 = some (.sipush 134, 3) := by decide +kernel
theorem i_144_284 : ins 144 284 = some (.aload_n 0, 1) := by decide +kernel
theorem i_144_285 : ins 144 285 = some (.getfield 34, 3) := by decide +kernel
theorem i_144_288 : ins 144 288 = some (.iload_n 3, 1) := by decide +kernel
theorem i_144_289 : ins 144 289 = some (.iaload, 1) := by decide +kernel
theorem i_144_290 : ins 144 290 = some (.imul, 1) := by decide +kernel
theorem i_144_291 : ins 144 291 = some (.aload_n 0, 1) := by decide +kernel
theorem i_144_292 : ins 144 292 = some (.iload_n 3, 1) := by decide +kernel
theorem i_144_293 : ins 144 293 = some (.invokevirtual 505, 3) := by decide +kernel
theorem i_144_296 : ins 144 296 = some (.iadd, 1) := by decide +kernel
theorem i_144_297 : ins 144 297 = some (.dup2, 1) := by decide +kernel
theorem i_144_298 : ins 144 298 = some (.laload, 1) := by decide +kernel
theorem i_144_299 : ins 144 299 = some (.aload_n 0, 1) := by decide +kernel
theorem i_144_300 : ins 144 300 = some (.getfield 40, 3) := by decide +kernel
theorem i_144_303 : ins 144 303 = some (.iload_n 3, 1) := by decide +kernel
theorem i_144_304 : ins 144 304 = some (.iaload, 1) := by decide +kernel
theorem i_144_305 : ins 144 305 = some (.i2l, 1) := by decide +kernel
theorem i_144_306 : ins 144 306 = some (.ladd, 1) := by decide +kernel
theorem i_144_307 : ins 144 307 = some (.lastore, 1) := by decide +kernel
theorem i_144_308 : ins 144 308 = some (.iinc 3 1, 3) := by decide +kernel
theorem i_144_311 : ins 144 311 = some (.goto (-187), 3) := by decide +kernel
theorem t_311_124 : tg 311 (-187) = some 124 := by decide +kernel
theorem i_144_314 : ins 144 314 = some (.return_, 1) := by decide +kernel
theorem r_144 : mret 144 = 0 := by decide +kernel
theorem i_145_0 : ins 145 0 = some (.aload_n 0, 1) := by decide +kernel
theorem f_145_43 : fld 145 43 = some (7340134, 17, 2) := by decide +kernel
theorem i_145_1 : ins 145 1 = some (.getfield 43, 3) := by decide +kernel
theorem i_145_4 : ins 145 4 = some (.iload_n 1, 1) := by decide +kernel
theorem i_145_5 : ins 145 5 = some (.iaload, 1) := by decide +kernel
theorem i_145_6 : ins 145 6 = some (.istore_n 2, 1) := by decide +kernel
theorem i_145_7 : ins 145 7 = some (.iconst 0, 1) := by decide +kernel
theorem i_145_8 : ins 145 8 = some (.istore_n 3, 1) := by decide +kernel
theorem i_145_9 : ins 145 9 = some (.iload_n 3, 1) := by decide +kernel
theorem i_145_10 : ins 145 10 = some (.bipush 6, 2) := by decide +kernel
theorem i_145_12 : ins 145 12 = some (.if_icmp .ge 92, 3) := by decide +kernel
theorem t_12_104 : tg 12 (92) = some 104 := by decide +kernel
theorem i_145_15 : ins 145 15 = some (.aload_n 0, 1) := by decide +kernel
theorem f_145_112 : fld 145 112 = some (7340134, 52, 2) := by decide +kernel
theorem i_145_16 : ins 145 16 = some (.getfield 112, 3) := by decide +kernel
theorem i_145_19 : ins 145 19 = some (.bipush 6, 2) := by decide +kernel
theorem i_145_21 : ins 145 21 = some (.iload_n 1, 1) := by decide +kernel
theorem i_145_22 : ins 145 22 = some (.imul, 1) := by decide +kernel
theorem i_145_23 : ins 145 23 = some (.iload_n 3, 1) := by decide +kernel
theorem i_145_24 : ins 145 24 = some (.iadd, 1) := by decide +kernel
theorem i_145_25 : ins 145 25 = some (.iaload, 1) := by decide +kernel
theorem i_145_26 : ins 145 26 = some (.istore 4, 2) := by decide +kernel
theorem i_145_28 : ins 145 28 = some (.iload 4, 2) := by decide +kernel
theorem i_145_30 : ins 145 30 = some (.iconst (-1), 1) := by decide +kernel
theorem i_145_31 : ins 145 31 = some (.if_icmp .eq 67, 3) := by decide +kernel
theorem t_31_98 : tg 31 (67) = some 98 := by decide +kernel
theorem i_145_34 : ins 145 34 = some (.aload_n 0, 1) := by decide +kernel
theorem i_145_35 : ins 145 35 = some (.iload_n 1, 1) := by decide +kernel
theorem v_145_511 : inv 145 511 = some (146, 1, 1, 7340134) := by decide +kernel
theorem i_145_36 : ins 145 36 = some (.invokevirtual 511, 3) := by decide +kernel
theorem i_145_39 : ins 145 39 = some (.aload_n 0, 1) := by decide +kernel
theorem f_145_109 : fld 145 109 = some (7340134, 48, 2) := by decide +kernel
theorem i_145_40 : ins 145 40 = some (.getfield 109, 3) := by decide +kernel
theorem i_145_43 : ins 145 43 = some (.bipush 6, 2) := by decide +kernel
theorem i_145_45 : ins 145 45 = some (.aload_n 0, 1) := by decide +kernel
theorem f_145_65 : fld 145 65 = some (7340134, 24, 2) := by decide +kernel
theorem i_145_46 : ins 145 46 = some (.getfield 65, 3) := by decide +kernel
theorem i_145_49 : ins 145 49 = some (.iload 4, 2) := by decide +kernel
theorem i_145_51 : ins 145 51 = some (.iaload, 1) := by decide +kernel
theorem i_145_52 : ins 145 52 = some (.i2l, 1) := by decide +kernel
theorem kl_110100692 : klen 110100692 = 13 := by decide +kernel
theorem i_145_53 : ins 145 53 = some (.lastore, 1) := by decide +kernel
theorem i_145_54 : ins 145 54 = some (.aload_n 0, 1) := by decide +kernel
theorem i_145_55 : ins 145 55 = some (.getfield 109, 3) := by decide +kernel
theorem i_145_58 : ins 145 58 = some (.bipush 7, 2) := by decide +kernel
theorem i_145_60 : ins 145 60 = some (.aload_n 0, 1) := by decide +kernel
theorem f_145_71 : fld 145 71 = some (7340134, 26, 2) := by decide +kernel
theorem i_145_61 : ins 145 61 = some (.getfield 71, 3) := by decide +kernel
theorem i_145_64 : ins 145 64 = some (.iload 4, 2) := by decide +kernel
theorem i_145_66 : ins 145 66 = some (.baload, 1) := by decide +kernel
theorem v_145_494 : inv 145 494 = some (149, 1, 0, 0) := by decide +kernel
theorem i_145_67 : ins 145 67 = some (.invokestatic 494, 3) := by decide +kernel
theorem i_145_70 : ins 145 70 = some (.lastore, 1) := by decide +kernel
theorem i_145_71 : ins 145 71 = some (.iload_n 2, 1) := by decide +kernel
theorem i_145_72 : ins 145 72 = some (.aload_n 0, 1) := by decide +kernel
theorem i_145_73 : ins 145 73 = some (.aload_n 0, 1) := by decide +kernel
theorem f_145_514 : fld 145 514 = some (7340134, 51, 0) := by decide +kernel
theorem i_145_74 : ins 145 74 = some (.getfield 514, 3) := by decide +kernel
theorem i_145_77 : ins 145 77 = some (.iconst 0, 1) := by decide +kernel
theorem i_145_78 : ins 145 78 = some (.iload_n 3, 1) := by decide +kernel
theorem v_145_517 : inv 145 517 = some (150, 3, 1, 7340134) := by decide +kernel
theorem i_145_79 : ins 145 79 = some (.invokevirtual 517, 3) := by decide +kernel
theorem i_145_82 : ins 145 82 = some (.ifCond .eq 13, 3) := by decide +kernel
theorem t_82_95 : tg 82 (13) = some 95 := by decide +kernel
theorem i_145_85 : ins 145 85 = some (.aload_n 0, 1) := by decide +kernel
theorem i_145_86 : ins 145 86 = some (.getfield 65, 3) := by decide +kernel
theorem i_145_89 : ins 145 89 = some (.iload 4, 2) := by decide +kernel
theorem i_145_91 : ins 145 91 = some (.iaload, 1) := by decide +kernel
theorem i_145_92 : ins 145 92 = some (.goto 4, 3) := by decide +kernel
theorem t_92_96 : tg 92 (4) = some 96 := by decide +kernel
theorem i_145_95 : ins 145 95 = some (.iconst 0, 1) := by decide +kernel
theorem i_145_96 : ins 145 96 = some (.isub, 1) := by decide +kernel
theorem i_145_97 : ins 145 97 = some (.istore_n 2, 1) := by decide +kernel
theorem i_145_98 : ins 145 98 = some (.iinc 3 1, 3) := by decide +kernel
theorem i_145_101 : ins 145 101 = some (.goto (-92), 3) := by decide +kernel
theorem t_101_9 : tg 101 (-92) = some 9 := by decide +kernel
theorem i_145_104 : ins 145 104 = some (.iload_n 2, 1) := by decide +kernel
theorem i_145_105 : ins 145 105 = some (.ifCond .ge 7, 3) := by decide +kernel
theorem t_105_112 : tg 105 (7) = some 112 := by decide +kernel
theorem i_145_108 : ins 145 108 = some (.iconst 0, 1) := by decide +kernel
theorem i_145_109 : ins 145 109 = some (.goto 4, 3) := by decide +kernel
theorem t_109_113 : tg 109 (4) = some 113 := by decide +kernel
theorem i_145_112 : ins 145 112 = some (.iload_n 2, 1) := by decide +kernel
theorem r_145 : mret 145 = 1 := by decide +kernel
theorem i_145_113 : ins 145 113 = some (.ireturn, 1) := by decide +kernel
theorem i_146_0 : ins 146 0 = some (.aload_n 0, 1) := by decide +kernel
theorem v_146_502 : inv 146 502 = some (147, 0, 1, 7340134) := by decide +kernel
theorem i_146_1 : ins 146 1 = some (.invokevirtual 502, 3) := by decide +kernel
theorem i_146_4 : ins 146 4 = some (.aload_n 0, 1) := by decide +kernel
theorem f_146_109 : fld 146 109 = some (7340134, 48, 2) := by decide +kernel
theorem i_146_5 : ins 146 5 = some (.getfield 109, 3) := by decide +kernel
theorem i_146_8 : ins 146 8 = some (.iconst 0, 1) := by decide +kernel
theorem i_146_9 : ins 146 9 = some (.aload_n 0, 1) := by decide +kernel
theorem f_146_43 : fld 146 43 = some (7340134, 17, 2) := by decide +kernel
theorem i_146_10 : ins 146 10 = some (.getfield 43, 3) := by decide +kernel
theorem i_146_13 : ins 146 13 = some (.iload_n 1, 1) := by decide +kernel
theorem i_146_14 : ins 146 14 = some (.iaload, 1) := by decide +kernel
theorem i_146_15 : ins 146 15 = some (.i2l, 1) := by decide +kernel
theorem i_146_16 : ins 146 16 = some (.lastore, 1) := by decide +kernel
theorem i_146_17 : ins 146 17 = some (.aload_n 0, 1) := by decide +kernel
theorem i_146_18 : ins 146 18 = some (.getfield 109, 3) := by decide +kernel
theorem i_146_21 : ins 146 21 = some (.iconst 1, 1) := by decide +kernel
theorem i_146_22 : ins 146 22 = some (.aload_n 0, 1) := by decide +kernel
theorem f_146_40 : fld 146 40 = some (7340134, 16, 2) := by decide +kernel
theorem i_146_23 : ins 146 23 = some (.getfield 40, 3) := by decide +kernel
theorem i_146_26 : ins 146 26 = some (.iload_n 1, 1) := by decide +kernel
theorem i_146_27 : ins 146 27 = some (.iaload, 1) := by decide +kernel
theorem i_146_28 : ins 146 28 = some (.i2l, 1) := by decide +kernel
theorem i_146_29 : ins 146 29 = some (.lastore, 1) := by decide +kernel
theorem i_146_30 : ins 146 30 = some (.aload_n 0, 1) := by decide +kernel
theorem i_146_31 : ins 146 31 = some (.getfield 109, 3) := by decide +kernel
theorem i_146_34 : ins 146 34 = some (.iconst 2, 1) := by decide +kernel
theorem i_146_35 : ins 146 35 = some (.aload_n 0, 1) := by decide +kernel
theorem f_146_34 : fld 146 34 = some (7340134, 14, 2) := by decide +kernel
theorem i_146_36 : ins 146 36 = some (.getfield 34, 3) := by decide +kernel
theorem i_146_39 : ins 146 39 = some (.iload_n 1, 1) := by decide +kernel
theorem i_146_40 : ins 146 40 = some (.iaload, 1) := by decide +kernel
theorem i_146_41 : ins 146 41 = some (.i2l, 1) := by decide +kernel
theorem i_146_42 : ins 146 42 = some (.lastore, 1) := by decide +kernel
theorem i_146_43 : ins 146 43 = some (.aload_n 0, 1) := by decide +kernel
theorem i_146_44 : ins 146 44 = some (.getfield 109, 3) := by decide +kernel
theorem i_146_47 : ins 146 47 = some (.iconst 3, 1) := by decide +kernel
theorem i_146_48 : ins 146 48 = some (.aload_n 0, 1) := by decide +kernel
theorem i_146_49 : ins 146 49 = some (.iload_n 1, 1) := by decide +kernel
theorem v_146_505 : inv 146 505 = some (148, 1, 1, 7340134) := by decide +kernel
theorem i_146_50 : ins 146 50 = some (.invokevirtual 505, 3) := by decide +kernel
theorem i_146_53 : ins 146 53 = some (.i2l, 1) := by decide +kernel
theorem i_146_54 : ins 146 54 = some (.lastore, 1) := by decide +kernel
theorem i_146_55 : ins 146 55 = some (.aload_n 0, 1) := by decide +kernel
theorem i_146_56 : ins 146 56 = some (.getfield 109, 3) := by decide +kernel
theorem i_146_59 : ins 146 59 = some (.iconst 4, 1) := by decide +kernel
theorem i_146_60 : ins 146 60 = some (.aload_n 0, 1) := by decide +kernel
theorem f_146_56 : fld 146 56 = some (7340134, 21, 2) := by decide +kernel
theorem i_146_61 : ins 146 61 = some (.getfield 56, 3) := by decide +kernel
theorem i_146_64 : ins 146 64 = some (.iload_n 1, 1) := by decide +kernel
theorem i_146_65 : ins 146 65 = some (.baload, 1) := by decide +kernel
theorem v_146_494 : inv 146 494 = some (149, 1, 0, 0) := by decide +kernel
theorem i_146_66 : ins 146 66 = some (.invokestatic 494, 3) := by decide +kernel
theorem i_146_69 : ins 146 69 = some (.lastore, 1) := by decide +kernel
theorem i_146_70 : ins 146 70 = some (.aload_n 0, 1) := by decide +kernel
theorem i_146_71 : ins 146 71 = some (.getfield 109, 3) := by decide +kernel
theorem i_146_74 : ins 146 74 = some (.iconst 5, 1) := by decide +kernel
theorem i_146_75 : ins 146 75 = some (.aload_n 0, 1) := by decide +kernel
theorem i_146_76 : ins 146 76 = some (.aload_n 0, 1) := by decide +kernel
theorem f_146_31 : fld 146 31 = some (7340134, 13, 2) := by decide +kernel
theorem i_146_77 : ins 146 77 = some (.getfield 31, 3) := by decide +kernel
theorem i_146_80 : ins 146 80 = some (.iload_n 1, 1) := by decide +kernel
theorem i_146_81 : ins 146 81 = some (.iaload, 1) := by decide +kernel
theorem i_146_82 : ins 146 82 = some (.aload_n 0, 1) := by decide +kernel
theorem i_146_83 : ins 146 83 = some (.getfield 34, 3) := by decide +kernel
theorem i_146_86 : ins 146 86 = some (.iload_n 1, 1) := by decide +kernel
theorem i_146_87 : ins 146 87 = some (.iaload, 1) := by decide +kernel
theorem i_146_88 : ins 146 88 = some (.aload_n 0, 1) := by decide +kernel
theorem i_146_89 : ins 146 89 = some (.iload_n 1, 1) := by decide +kernel
theorem i_146_90 : ins 146 90 = some (.invokevirtual 505, 3) := by decide +kernel
theorem i_146_93 : ins 146 93 = some (.aload_n 0, 1) := by decide +kernel
theorem f_146_508 : fld 146 508 = some (7340134, 50, 0) := by decide +kernel
theorem i_146_94 : ins 146 94 = some (.getfield 508, 3) := by decide +kernel
theorem v_146_286 : inv 146 286 = some (103, 4, 1, 7340134) := by decide +kernel
theorem i_146_97 : ins 146 97 = some (.invokevirtual 286, 3) := by decide +kernel
theorem i_146_100 : ins 146 100 = some (.i2l, 1) := by decide +kernel
theorem i_146_101 : ins 146 101 = some (.lastore, 1) := by decide +kernel
theorem i_146_102 : ins 146 102 = some (.return_, 1) := by decide +kernel
theorem r_146 : mret 146 = 0 := by decide +kernel
theorem i_147_0 : ins 147 0 = some (.iconst 0, 1) := by decide +kernel
theorem i_147_1 : ins 147 1 = some (.istore_n 1, 1) := by decide +kernel
theorem i_147_2 : ins 147 2 = some (.iload_n 1, 1) := by decide +kernel
theorem i_147_3 : ins 147 3 = some (.bipush 13, 2) := by decide +kernel
theorem i_147_5 : ins 147 5 = some (.if_icmp .ge 16, 3) := by decide +kernel
theorem i_147_8 : ins 147 8 = some (.aload_n 0, 1) := by decide +kernel
theorem f_147_109 : fld 147 109 = some (7340134, 48, 2) := by decide +kernel
theorem i_147_9 : ins 147 9 = some (.getfield 109, 3) := by decide +kernel
theorem i_147_12 : ins 147 12 = some (.iload_n 1, 1) := by decide +kernel
theorem i_147_13 : ins 147 13 = some (.lconst 0, 1) := by decide +kernel
theorem i_147_14 : ins 147 14 = some (.lastore, 1) := by decide +kernel
theorem i_147_15 : ins 147 15 = some (.iinc 1 1, 3) := by decide +kernel
theorem i_147_18 : ins 147 18 = some (.goto (-16), 3) := by decide +kernel
theorem t_18_2 : tg 18 (-16) = some 2 := by decide +kernel
theorem i_147_21 : ins 147 21 = some (.return_, 1) := by decide +kernel
theorem r_147 : mret 147 = 0 := by decide +kernel
theorem i_148_0 : ins 148 0 = some (.aload_n 0, 1) := by decide +kernel
theorem f_148_37 : fld 148 37 = some (7340134, 15, 2) := by decide +kernel
theorem i_148_1 : ins 148 1 = some (.getfield 37, 3) := by decide +kernel
theorem i_148_4 : ins 148 4 = some (.iload_n 1, 1) := by decide +kernel
theorem i_148_5 : ins 148 5 = some (.iaload, 1) := by decide +kernel
theorem i_148_6 : ins 148 6 = some (.bipush 30, 2) := by decide +kernel
theorem nz_30 : ¬ nI 30 = 0 := by decide +kernel
theorem i_148_8 : ins 148 8 = some (.idiv, 1) := by decide +kernel
theorem r_148 : mret 148 = 1 := by decide +kernel
theorem i_148_9 : ins 148 9 = some (.ireturn, 1) := by decide +kernel
theorem i_149_0 : ins 149 0 = some (.iload_n 0, 1) := by decide +kernel
theorem i_149_1 : ins 149 1 = some (.ifCond .eq 7, 3) := by decide +kernel
theorem t_1_8 : tg 1 (7) = some 8 := by decide +kernel
theorem i_149_4 : ins 149 4 = some (.lconst 1, 1) := by decide +kernel
theorem i_149_5 : ins 149 5 = some (.goto 4, 3) := by decide +kernel
theorem t_5_9 : tg 5 (4) = some 9 := by decide +kernel
theorem i_149_8 : ins 149 8 = some (.lconst 0, 1) := by decide +kernel
theorem i_149_9 : ins 149 9 = some (.lreturn, 1) := by decide +kernel
theorem r_149 : mret 149 = 5 := by decide +kernel
theorem i_150_0 : ins 150 0 = some (.iconst 0, 1) := by decide +kernel
theorem i_150_1 : ins 150 1 = some (.istore 4, 2) := by decide +kernel
theorem i_150_3 : ins 150 3 = some (.iload_n 1, 1) := by decide +kernel
theorem i_150_4 : ins 150 4 = some (.iconst (-1), 1) := by decide +kernel
theorem i_150_5 : ins 150 5 = some (.if_icmp .eq 68, 3) := by decide +kernel
theorem t_5_73 : tg 5 (68) = some 73 := by decide +kernel
theorem i_150_8 : ins 150 8 = some (.iload 4, 2) := by decide +kernel
theorem i_150_10 : ins 150 10 = some (.aload_n 0, 1) := by decide +kernel
theorem f_150_81 : fld 150 81 = some (7340134, 37, 2) := by decide +kernel
theorem i_150_11 : ins 150 11 = some (.getfield 81, 3) := by decide +kernel
theorem i_150_14 : ins 150 14 = some (.iload_n 1, 1) := by decide +kernel
theorem i_150_15 : ins 150 15 = some (.iaload, 1) := by decide +kernel
theorem i_150_16 : ins 150 16 = some (.if_icmp .ge 57, 3) := by decide +kernel
theorem t_16_73 : tg 16 (57) = some 73 := by decide +kernel
theorem i_150_19 : ins 150 19 = some (.bipush 12, 2) := by decide +kernel
theorem i_150_21 : ins 150 21 = some (.iload_n 1, 1) := by decide +kernel
theorem i_150_22 : ins 150 22 = some (.imul, 1) := by decide +kernel
theorem i_150_23 : ins 150 23 = some (.iload 4, 2) := by decide +kernel
theorem i_150_25 : ins 150 25 = some (.iadd, 1) := by decide +kernel
theorem i_150_26 : ins 150 26 = some (.istore 5, 2) := by decide +kernel
theorem i_150_28 : ins 150 28 = some (.aload_n 0, 1) := by decide +kernel
theorem f_150_84 : fld 150 84 = some (7340134, 38, 2) := by decide +kernel
theorem i_150_29 : ins 150 29 = some (.getfield 84, 3) := by decide +kernel
theorem i_150_32 : ins 150 32 = some (.iload 5, 2) := by decide +kernel
theorem i_150_34 : ins 150 34 = some (.iaload, 1) := by decide +kernel
theorem i_150_35 : ins 150 35 = some (.iload_n 2, 1) := by decide +kernel
theorem i_150_36 : ins 150 36 = some (.if_icmp .ne 31, 3) := by decide +kernel
theorem i_150_39 : ins 150 39 = some (.iload_n 2, 1) := by decide +kernel
theorem i_150_40 : ins 150 40 = some (.ifCond .ne 14, 3) := by decide +kernel
theorem t_40_54 : tg 40 (14) = some 54 := by decide +kernel
theorem i_150_43 : ins 150 43 = some (.aload_n 0, 1) := by decide +kernel
theorem f_150_87 : fld 150 87 = some (7340134, 39, 2) := by decide +kernel
theorem i_150_44 : ins 150 44 = some (.getfield 87, 3) := by decide +kernel
theorem i_150_47 : ins 150 47 = some (.iload 5, 2) := by decide +kernel
theorem i_150_49 : ins 150 49 = some (.iaload, 1) := by decide +kernel
theorem i_150_50 : ins 150 50 = some (.iload_n 3, 1) := by decide +kernel
theorem i_150_51 : ins 150 51 = some (.if_icmp .ne 16, 3) := by decide +kernel
theorem t_51_67 : tg 51 (16) = some 67 := by decide +kernel
theorem i_150_54 : ins 150 54 = some (.aload_n 0, 1) := by decide +kernel
theorem i_150_55 : ins 150 55 = some (.iload 5, 2) := by decide +kernel
theorem v_150_498 : inv 150 498 = some (151, 1, 1, 7340134) := by decide +kernel
theorem i_150_57 : ins 150 57 = some (.invokevirtual 498, 3) := by decide +kernel
theorem i_150_60 : ins 150 60 = some (.lconst 1, 1) := by decide +kernel
theorem i_150_61 : ins 150 61 = some (.lcmp, 1) := by decide +kernel
theorem i_150_62 : ins 150 62 = some (.ifCond .ne 5, 3) := by decide +kernel
theorem i_150_65 : ins 150 65 = some (.iconst 1, 1) := by decide +kernel
theorem r_150 : mret 150 = 2 := by decide +kernel
theorem i_150_66 : ins 150 66 = some (.ireturn, 1) := by decide +kernel
theorem i_150_67 : ins 150 67 = some (.iinc 4 1, 3) := by decide +kernel
theorem i_150_70 : ins 150 70 = some (.goto (-67), 3) := by decide +kernel
theorem t_70_3 : tg 70 (-67) = some 3 := by decide +kernel
theorem i_150_73 : ins 150 73 = some (.iconst 0, 1) := by decide +kernel
theorem i_150_74 : ins 150 74 = some (.ireturn, 1) := by decide +kernel
theorem i_151_0 : ins 151 0 = some (.aload_n 0, 1) := by decide +kernel
theorem f_151_90 : fld 151 90 = some (7340134, 40, 2) := by decide +kernel
theorem i_151_1 : ins 151 1 = some (.getfield 90, 3) := by decide +kernel
theorem i_151_4 : ins 151 4 = some (.iload_n 1, 1) := by decide +kernel
theorem i_151_5 : ins 151 5 = some (.iaload, 1) := by decide +kernel
theorem i_151_6 : ins 151 6 = some (.aload_n 0, 1) := by decide +kernel
theorem f_151_93 : fld 151 93 = some (7340134, 41, 2) := by decide +kernel
theorem i_151_7 : ins 151 7 = some (.getfield 93, 3) := by decide +kernel
theorem i_151_10 : ins 151 10 = some (.iload_n 1, 1) := by decide +kernel
theorem i_151_11 : ins 151 11 = some (.iaload, 1) := by decide +kernel
theorem i_151_12 : ins 151 12 = some (.if_icmp .ne 5, 3) := by decide +kernel
theorem i_151_15 : ins 151 15 = some (.lconst 1, 1) := by decide +kernel
theorem i_151_16 : ins 151 16 = some (.lreturn, 1) := by decide +kernel
theorem r_151 : mret 151 = 5 := by decide +kernel
theorem i_151_17 : ins 151 17 = some (.iconst 0, 1) := by decide +kernel
theorem i_151_18 : ins 151 18 = some (.istore_n 2, 1) := by decide +kernel
theorem i_151_19 : ins 151 19 = some (.iload_n 1, 1) := by decide +kernel
theorem i_151_20 : ins 151 20 = some (.bipush 12, 2) := by decide +kernel
theorem nz_12 : ¬ nI 12 = 0 := by decide +kernel
theorem i_151_22 : ins 151 22 = some (.idiv, 1) := by decide +kernel
theorem i_151_23 : ins 151 23 = some (.istore_n 3, 1) := by decide +kernel
theorem i_151_24 : ins 151 24 = some (.aload_n 0, 1) := by decide +kernel
theorem i_151_25 : ins 151 25 = some (.getfield 90, 3) := by decide +kernel
theorem i_151_28 : ins 151 28 = some (.iload_n 1, 1) := by decide +kernel
theorem i_151_29 : ins 151 29 = some (.iaload, 1) := by decide +kernel
theorem i_151_30 : ins 151 30 = some (.istore 4, 2) := by decide +kernel
theorem i_151_32 : ins 151 32 = some (.iload 4, 2) := by decide +kernel
theorem i_151_34 : ins 151 34 = some (.aload_n 0, 1) := by decide +kernel
theorem i_151_35 : ins 151 35 = some (.getfield 93, 3) := by decide +kernel
theorem i_151_38 : ins 151 38 = some (.iload_n 1, 1) := by decide +kernel
theorem i_151_39 : ins 151 39 = some (.iaload, 1) := by decide +kernel
theorem i_151_40 : ins 151 40 = some (.if_icmp .ge 138, 3) := by decide +kernel
theorem t_40_178 : tg 40 (138) = some 178 := by decide +kernel
theorem i_151_43 : ins 151 43 = some (.aload_n 0, 1) := by decide +kernel
theorem f_151_96 : fld 151 96 = some (7340134, 42, 2) := by decide +kernel
theorem i_151_44 : ins 151 44 = some (.getfield 96, 3) := by decide +kernel
theorem i_151_47 : ins 151 47 = some (.sipush 400, 3) := by decide +kernel
theorem i_151_50 : ins 151 50 = some (.iload_n 3, 1) := by decide +kernel
theorem i_151_51 : ins 151 51 = some (.imul, 1) := by decide +kernel
theorem i_151_52 : ins 151 52 = some (.iload 4, 2) := by decide +kernel
theorem i_151_54 : ins 151 54 = some (.iadd, 1) := by decide +kernel
theorem i_151_55 : ins 151 55 = some (.iaload, 1) := by decide +kernel
theorem i_151_56 : ins 151 56 = some (.istore 5, 2) := by decide +kernel
theorem i_151_58 : ins 151 58 = some (.aload_n 0, 1) := by decide +kernel
theorem f_151_99 : fld 151 99 = some (7340134, 43, 2) := by decide +kernel
theorem i_151_59 : ins 151 59 = some (.getfield 99, 3) := by decide +kernel
theorem i_151_62 : ins 151 62 = some (.sipush 400, 3) := by decide +kernel
theorem i_151_65 : ins 151 65 = some (.iload_n 3, 1) := by decide +kernel
theorem i_151_66 : ins 151 66 = some (.imul, 1) := by decide +kernel
theorem i_151_67 : ins 151 67 = some (.iload 4, 2) := by decide +kernel
theorem i_151_69 : ins 151 69 = some (.iadd, 1) := by decide +kernel
theorem i_151_70 : ins 151 70 = some (.iaload, 1) := by decide +kernel
theorem i_151_71 : ins 151 71 = some (.istore 6, 2) := by decide +kernel
theorem i_151_73 : ins 151 73 = some (.iload 5, 2) := by decide +kernel
theorem i_151_75 : ins 151 75 = some (.ifCond .eq 9, 3) := by decide +kernel
theorem t_75_84 : tg 75 (9) = some 84 := by decide +kernel
theorem i_151_78 : ins 151 78 = some (.iload 5, 2) := by decide +kernel
theorem i_151_80 : ins 151 80 = some (.iconst 1, 1) := by decide +kernel
theorem i_151_81 : ins 151 81 = some (.if_icmp .ne 33, 3) := by decide +kernel
theorem t_81_114 : tg 81 (33) = some 114 := by decide +kernel
theorem i_151_84 : ins 151 84 = some (.aload_n 0, 1) := by decide +kernel
theorem f_151_105 : fld 151 105 = some (7340134, 47, 2) := by decide +kernel
theorem i_151_85 : ins 151 85 = some (.getfield 105, 3) := by decide +kernel
theorem i_151_88 : ins 151 88 = some (.iload_n 2, 1) := by decide +kernel
theorem i_151_89 : ins 151 89 = some (.iload 5, 2) := by decide +kernel
theorem i_151_91 : ins 151 91 = some (.ifCond .ne 9, 3) := by decide +kernel
theorem t_91_100 : tg 91 (9) = some 100 := by decide +kernel
theorem i_151_94 : ins 151 94 = some (.iload 6, 2) := by decide +kernel
theorem i_151_96 : ins 151 96 = some (.i2l, 1) := by decide +kernel
theorem i_151_97 : ins 151 97 = some (.goto 10, 3) := by decide +kernel
theorem t_97_107 : tg 97 (10) = some 107 := by decide +kernel
theorem i_151_100 : ins 151 100 = some (.aload_n 0, 1) := by decide +kernel
theorem f_151_109 : fld 151 109 = some (7340134, 48, 2) := by decide +kernel
theorem i_151_101 : ins 151 101 = some (.getfield 109, 3) := by decide +kernel
theorem i_151_104 : ins 151 104 = some (.iload 6, 2) := by decide +kernel
theorem i_151_106 : ins 151 106 = some (.laload, 1) := by decide +kernel
theorem kl_109058308 : klen 109058308 = 400 := by decide +kernel
theorem i_151_107 : ins 151 107 = some (.lastore, 1) := by decide +kernel
theorem i_151_108 : ins 151 108 = some (.iinc 2 1, 3) := by decide +kernel
theorem i_151_111 : ins 151 111 = some (.goto 61, 3) := by decide +kernel
theorem t_111_172 : tg 111 (61) = some 172 := by decide +kernel
theorem i_151_114 : ins 151 114 = some (.iload 5, 2) := by decide +kernel
theorem i_151_116 : ins 151 116 = some (.bipush 14, 2) := by decide +kernel
theorem i_151_118 : ins 151 118 = some (.if_icmp .ne 24, 3) := by decide +kernel
theorem t_118_142 : tg 118 (24) = some 142 := by decide +kernel
theorem i_151_121 : ins 151 121 = some (.aload_n 0, 1) := by decide +kernel
theorem i_151_122 : ins 151 122 = some (.getfield 105, 3) := by decide +kernel
theorem i_151_125 : ins 151 125 = some (.iload_n 2, 1) := by decide +kernel
theorem i_151_126 : ins 151 126 = some (.iconst 1, 1) := by decide +kernel
theorem i_151_127 : ins 151 127 = some (.isub, 1) := by decide +kernel
theorem i_151_128 : ins 151 128 = some (.lconst 1, 1) := by decide +kernel
theorem i_151_129 : ins 151 129 = some (.aload_n 0, 1) := by decide +kernel
theorem i_151_130 : ins 151 130 = some (.getfield 105, 3) := by decide +kernel
theorem i_151_133 : ins 151 133 = some (.iload_n 2, 1) := by decide +kernel
theorem i_151_134 : ins 151 134 = some (.iconst 1, 1) := by decide +kernel
theorem i_151_135 : ins 151 135 = some (.isub, 1) := by decide +kernel
theorem i_151_136 : ins 151 136 = some (.laload, 1) := by decide +kernel
theorem i_151_137 : ins 151 137 = some (.lsub, 1) := by decide +kernel
theorem i_151_138 : ins 151 138 = some (.lastore, 1) := by decide +kernel
theorem i_151_139 : ins 151 139 = some (.goto 33, 3) := by decide +kernel
theorem t_139_172 : tg 139 (33) = some 172 := by decide +kernel
theorem i_151_142 : ins 151 142 = some (.iinc 2 (-1), 3) := by decide +kernel
theorem i_151_145 : ins 151 145 = some (.aload_n 0, 1) := by decide +kernel
theorem i_151_146 : ins 151 146 = some (.getfield 105, 3) := by decide +kernel
theorem i_151_149 : ins 151 149 = some (.iload_n 2, 1) := by decide +kernel
theorem i_151_150 : ins 151 150 = some (.iconst 1, 1) := by decide +kernel
theorem i_151_151 : ins 151 151 = some (.isub, 1) := by decide +kernel
theorem i_151_152 : ins 151 152 = some (.iload 5, 2) := by decide +kernel
theorem i_151_154 : ins 151 154 = some (.aload_n 0, 1) := by decide +kernel
theorem i_151_155 : ins 151 155 = some (.getfield 105, 3) := by decide +kernel
theorem i_151_158 : ins 151 158 = some (.iload_n 2, 1) := by decide +kernel
theorem i_151_159 : ins 151 159 = some (.iconst 1, 1) := by decide +kernel
theorem i_151_160 : ins 151 160 = some (.isub, 1) := by decide +kernel
theorem i_151_161 : ins 151 161 = some (.laload, 1) := by decide +kernel
theorem i_151_162 : ins 151 162 = some (.aload_n 0, 1) := by decide +kernel
theorem i_151_163 : ins 151 163 = some (.getfield 105, 3) := by decide +kernel
theorem i_151_166 : ins 151 166 = some (.iload_n 2, 1) := by decide +kernel
theorem i_151_167 : ins 151 167 = some (.laload, 1) := by decide +kernel
theorem v_151_490 : inv 151 490 = some (152, 3, 0, 0) := by decide +kernel
theorem i_151_168 : ins 151 168 = some (.invokestatic 490, 3) := by decide +kernel
theorem i_151_171 : ins 151 171 = some (.lastore, 1) := by decide +kernel
theorem i_151_172 : ins 151 172 = some (.iinc 4 1, 3) := by decide +kernel
theorem i_151_175 : ins 151 175 = some (.goto (-143), 3) := by decide +kernel
theorem t_175_32 : tg 175 (-143) = some 32 := by decide +kernel
theorem i_151_178 : ins 151 178 = some (.aload_n 0, 1) := by decide +kernel
theorem i_151_179 : ins 151 179 = some (.getfield 105, 3) := by decide +kernel
theorem i_151_182 : ins 151 182 = some (.iconst 0, 1) := by decide +kernel
theorem i_151_183 : ins 151 183 = some (.laload, 1) := by decide +kernel
theorem i_151_184 : ins 151 184 = some (.lreturn, 1) := by decide +kernel
theorem i_152_0 : ins 152 0 = some (.iload_n 0, 1) := by decide +kernel
theorem i_152_1 : ins 152 1 = some (.tableswitch 146 3 12 #[55, 59, 63, 146, 67, 82, 97, 112, 127, 142], 55) := by decide +kernel
theorem t_1_147 : tg 1 (146) = some 147 := by decide +kernel
theorem i_152_56 : ins 152 56 = some (.lload_n 1, 1) := by decide +kernel
theorem i_152_57 : ins 152 57 = some (.lload_n 3, 1) := by decide +kernel
theorem i_152_58 : ins 152 58 = some (.ladd, 1) := by decide +kernel
theorem i_152_59 : ins 152 59 = some (.lreturn, 1) := by decide +kernel
theorem r_152 : mret 152 = 5 := by decide +kernel
theorem i_152_60 : ins 152 60 = some (.lload_n 1, 1) := by decide +kernel
theorem i_152_61 : ins 152 61 = some (.lload_n 3, 1) := by decide +kernel
theorem i_152_62 : ins 152 62 = some (.lsub, 1) := by decide +kernel
theorem i_152_63 : ins 152 63 = some (.lreturn, 1) := by decide +kernel
theorem i_152_64 : ins 152 64 = some (.lload_n 1, 1) := by decide +kernel
theorem i_152_65 : ins 152 65 = some (.lload_n 3, 1) := by decide +kernel
theorem i_152_66 : ins 152 66 = some (.lmul, 1) := by decide +kernel
theorem i_152_67 : ins 152 67 = some (.lreturn, 1) := by decide +kernel
theorem i_152_68 : ins 152 68 = some (.lload_n 1, 1) := by decide +kernel
theorem i_152_69 : ins 152 69 = some (.lload_n 3, 1) := by decide +kernel
theorem t_71_78 : tg 71 (7) = some 78 := by decide +kernel
theorem i_152_70 : ins 152 70 = some (.lcmp, 1) := by decide +kernel
theorem i_152_71 : ins 152 71 = some (.ifCond .ge 7, 3) := by decide +kernel
theorem i_152_74 : ins 152 74 = some (.iconst 1, 1) := by decide +kernel
theorem i_152_75 : ins 152 75 = some (.goto 4, 3) := by decide +kernel
theorem t_75_79 : tg 75 (4) = some 79 := by decide +kernel
theorem i_152_78 : ins 152 78 = some (.iconst 0, 1) := by decide +kernel
theorem v_152_494 : inv 152 494 = some (149, 1, 0, 0) := by decide +kernel
theorem i_152_79 : ins 152 79 = some (.invokestatic 494, 3) := by decide +kernel
theorem i_152_82 : ins 152 82 = some (.lreturn, 1) := by decide +kernel
theorem i_152_83 : ins 152 83 = some (.lload_n 1, 1) := by decide +kernel
theorem i_152_84 : ins 152 84 = some (.lload_n 3, 1) := by decide +kernel
theorem t_86_93 : tg 86 (7) = some 93 := by decide +kernel
theorem i_152_85 : ins 152 85 = some (.lcmp, 1) := by decide +kernel
theorem i_152_86 : ins 152 86 = some (.ifCond .gt 7, 3) := by decide +kernel
theorem i_152_89 : ins 152 89 = some (.iconst 1, 1) := by decide +kernel
theorem i_152_90 : ins 152 90 = some (.goto 4, 3) := by decide +kernel
theorem t_90_94 : tg 90 (4) = some 94 := by decide +kernel
theorem i_152_93 : ins 152 93 = some (.iconst 0, 1) := by decide +kernel
theorem i_152_94 : ins 152 94 = some (.invokestatic 494, 3) := by decide +kernel
theorem i_152_97 : ins 152 97 = some (.lreturn, 1) := by decide +kernel
theorem i_152_98 : ins 152 98 = some (.lload_n 1, 1) := by decide +kernel
theorem i_152_99 : ins 152 99 = some (.lload_n 3, 1) := by decide +kernel
theorem i_152_100 : ins 152 100 = some (.lcmp, 1) := by decide +kernel
theorem i_152_101 : ins 152 101 = some (.ifCond .ne 7, 3) := by decide +kernel
theorem i_152_104 : ins 152 104 = some (.iconst 1, 1) := by decide +kernel
theorem i_152_105 : ins 152 105 = some (.goto 4, 3) := by decide +kernel
theorem t_105_109 : tg 105 (4) = some 109 := by decide +kernel
theorem i_152_108 : ins 152 108 = some (.iconst 0, 1) := by decide +kernel
theorem i_152_109 : ins 152 109 = some (.invokestatic 494, 3) := by decide +kernel
theorem i_152_112 : ins 152 112 = some (.lreturn, 1) := by decide +kernel
theorem i_152_113 : ins 152 113 = some (.lload_n 1, 1) := by decide +kernel
theorem i_152_114 : ins 152 114 = some (.lload_n 3, 1) := by decide +kernel
theorem i_152_115 : ins 152 115 = some (.lcmp, 1) := by decide +kernel
theorem i_152_116 : ins 152 116 = some (.ifCond .lt 7, 3) := by decide +kernel
theorem i_152_119 : ins 152 119 = some (.iconst 1, 1) := by decide +kernel
theorem i_152_120 : ins 152 120 = some (.goto 4, 3) := by decide +kernel
theorem i_152_123 : ins 152 123 = some (.iconst 0, 1) := by decide +kernel
theorem i_152_124 : ins 152 124 = some (.invokestatic 494, 3) := by decide +kernel
theorem i_152_127 : ins 152 127 = some (.lreturn, 1) := by decide +kernel
theorem i_152_128 : ins 152 128 = some (.lload_n 1, 1) := by decide +kernel
theorem i_152_129 : ins 152 129 = some (.lload_n 3, 1) := by decide +kernel
theorem t_131_138 : tg 131 (7) = some 138 := by decide +kernel
theorem i_152_130 : ins 152 130 = some (.lcmp, 1) := by decide +kernel
theorem i_152_131 : ins 152 131 = some (.ifCond .le 7, 3) := by decide +kernel
theorem i_152_134 : ins 152 134 = some (.iconst 1, 1) := by decide +kernel
theorem i_152_135 : ins 152 135 = some (.goto 4, 3) := by decide +kernel
theorem t_135_139 : tg 135 (4) = some 139 := by decide +kernel
theorem i_152_138 : ins 152 138 = some (.iconst 0, 1) := by decide +kernel
theorem i_152_139 : ins 152 139 = some (.invokestatic 494, 3) := by decide +kernel
theorem i_152_142 : ins 152 142 = some (.lreturn, 1) := by decide +kernel
theorem i_152_143 : ins 152 143 = some (.lload_n 1, 1) := by decide +kernel
theorem i_152_144 : ins 152 144 = some (.lload_n 3, 1) := by decide +kernel
theorem i_152_145 : ins 152 145 = some (.land, 1) := by decide +kernel
theorem i_152_146 : ins 152 146 = some (.lreturn, 1) := by decide +kernel
theorem i_152_147 : ins 152 147 = some (.lload_n 1, 1) := by decide +kernel
theorem i_152_148 : ins 152 148 = some (.lload_n 3, 1) := by decide +kernel
theorem i_152_149 : ins 152 149 = some (.lor, 1) := by decide +kernel
theorem i_152_150 : ins 152 150 = some (.lreturn, 1) := by decide +kernel
theorem i_153_0 : ins 153 0 = some (.aload_n 0, 1) := by decide +kernel
theorem i_153_1 : ins 153 1 = some (.iload_n 1, 1) := by decide +kernel
theorem v_153_277 : inv 153 277 = some (99, 1, 1, 7340134) := by decide +kernel
theorem i_153_2 : ins 153 2 = some (.invokevirtual 277, 3) := by decide +kernel
theorem i_153_5 : ins 153 5 = some (.ifCond .eq 25, 3) := by decide +kernel
theorem i_153_8 : ins 153 8 = some (.iload_n 2, 1) := by decide +kernel
theorem v_153_270 : inv 153 270 = some (97, 1, 0, 0) := by decide +kernel
theorem i_153_9 : ins 153 9 = some (.invokestatic 270, 3) := by decide +kernel
theorem i_153_12 : ins 153 12 = some (.ifCond .eq 18, 3) := by decide +kernel
theorem i_153_15 : ins 153 15 = some (.iload_n 3, 1) := by decide +kernel
theorem v_153_280 : inv 153 280 = some (100, 1, 0, 0) := by decide +kernel
theorem i_153_16 : ins 153 16 = some (.invokestatic 280, 3) := by decide +kernel
theorem i_153_19 : ins 153 19 = some (.ifCond .eq 11, 3) := by decide +kernel
theorem i_153_22 : ins 153 22 = some (.iload 4, 2) := by decide +kernel
theorem v_153_283 : inv 153 283 = some (102, 1, 0, 0) := by decide +kernel
theorem i_153_24 : ins 153 24 = some (.invokestatic 283, 3) := by decide +kernel
theorem i_153_27 : ins 153 27 = some (.ifCond .ne 5, 3) := by decide +kernel
theorem i_153_30 : ins 153 30 = some (.iconst (-1), 1) := by decide +kernel
theorem r_153 : mret 153 = 1 := by decide +kernel
theorem i_153_31 : ins 153 31 = some (.ireturn, 1) := by decide +kernel
theorem i_153_32 : ins 153 32 = some (.aload_n 0, 1) := by decide +kernel
theorem i_153_33 : ins 153 33 = some (.iload_n 1, 1) := by decide +kernel
theorem i_153_34 : ins 153 34 = some (.iload 4, 2) := by decide +kernel
theorem v_153_530 : inv 153 530 = some (144, 2, 1, 7340134) := by decide +kernel
theorem i_153_36 : ins 153 36 = some (.invokevirtual 530, 3) := by decide +kernel
theorem i_153_39 : ins 153 39 = some (.aload_n 0, 1) := by decide +kernel
theorem i_153_40 : ins 153 40 = some (.iload_n 2, 1) := by decide +kernel
theorem i_153_41 : ins 153 41 = some (.iload_n 3, 1) := by decide +kernel
theorem v_153_537 : inv 153 537 = some (154, 2, 1, 7340134) := by decide +kernel
theorem i_153_42 : ins 153 42 = some (.invokevirtual 537, 3) := by decide +kernel
theorem i_153_45 : ins 153 45 = some (.istore 5, 2) := by decide +kernel
theorem i_153_47 : ins 153 47 = some (.iload 5, 2) := by decide +kernel
theorem i_153_49 : ins 153 49 = some (.iconst (-1), 1) := by decide +kernel
theorem i_153_50 : ins 153 50 = some (.if_icmp .eq 19, 3) := by decide +kernel
theorem t_50_69 : tg 50 (19) = some 69 := by decide +kernel
theorem i_153_53 : ins 153 53 = some (.aload_n 0, 1) := by decide +kernel
theorem i_153_54 : ins 153 54 = some (.aload_n 0, 1) := by decide +kernel
theorem f_153_130 : fld 153 130 = some (7340134, 58, 0) := by decide +kernel
theorem i_153_55 : ins 153 55 = some (.getfield 130, 3) := by decide +kernel
theorem f_153_137 : fld 153 137 = some (7340134, 60, 0) := by decide +kernel
theorem o_153_7340134_60 : putok 153 7340134 60 = true := by decide +kernel
theorem i_153_58 : ins 153 58 = some (.putfield 137, 3) := by decide +kernel
theorem i_153_61 : ins 153 61 = some (.aload_n 0, 1) := by decide +kernel
theorem i_153_62 : ins 153 62 = some (.aload_n 0, 1) := by decide +kernel
theorem f_153_134 : fld 153 134 = some (7340134, 59, 0) := by decide +kernel
theorem i_153_63 : ins 153 63 = some (.getfield 134, 3) := by decide +kernel
theorem f_153_140 : fld 153 140 = some (7340134, 61, 0) := by decide +kernel
theorem o_153_7340134_61 : putok 153 7340134 61 = true := by decide +kernel
theorem i_153_66 : ins 153 66 = some (.putfield 140, 3) := by decide +kernel
theorem i_153_69 : ins 153 69 = some (.iload 5, 2) := by decide +kernel
theorem i_153_71 : ins 153 71 = some (.ireturn, 1) := by decide +kernel
theorem i_154_0 : ins 154 0 = some (.aload_n 0, 1) := by decide +kernel
theorem i_154_1 : ins 154 1 = some (.aload_n 0, 1) := by decide +kernel
theorem f_154_514 : fld 154 514 = some (7340134, 51, 0) := by decide +kernel
theorem i_154_2 : ins 154 2 = some (.getfield 514, 3) := by decide +kernel
theorem i_154_5 : ins 154 5 = some (.iconst 4, 1) := by decide +kernel
theorem v_154_487 : inv 154 487 = some (140, 2, 1, 7340134) := by decide +kernel
theorem i_154_6 : ins 154 6 = some (.invokevirtual 487, 3) := by decide +kernel
theorem i_154_9 : ins 154 9 = some (.istore_n 3, 1) := by decide +kernel
theorem i_154_10 : ins 154 10 = some (.aload_n 0, 1) := by decide +kernel
theorem i_154_11 : ins 154 11 = some (.aload_n 0, 1) := by decide +kernel
theorem i_154_12 : ins 154 12 = some (.getfield 514, 3) := by decide +kernel
theorem i_154_15 : ins 154 15 = some (.iconst 5, 1) := by decide +kernel
theorem i_154_16 : ins 154 16 = some (.invokevirtual 487, 3) := by decide +kernel
theorem i_154_19 : ins 154 19 = some (.istore 4, 2) := by decide +kernel
theorem i_154_21 : ins 154 21 = some (.iconst 0, 1) := by decide +kernel
theorem i_154_22 : ins 154 22 = some (.istore 5, 2) := by decide +kernel
theorem i_154_24 : ins 154 24 = some (.iload 5, 2) := by decide +kernel
theorem i_154_26 : ins 154 26 = some (.iload_n 3, 1) := by decide +kernel
theorem i_154_27 : ins 154 27 = some (.if_icmp .gt 131, 3) := by decide +kernel
theorem t_27_158 : tg 27 (131) = some 158 := by decide +kernel
theorem i_154_30 : ins 154 30 = some (.iconst 0, 1) := by decide +kernel
theorem i_154_31 : ins 154 31 = some (.istore 6, 2) := by decide +kernel
theorem i_154_33 : ins 154 33 = some (.iload 6, 2) := by decide +kernel
theorem i_154_35 : ins 154 35 = some (.bipush 16, 2) := by decide +kernel
theorem i_154_37 : ins 154 37 = some (.if_icmp .ge 115, 3) := by decide +kernel
theorem t_37_152 : tg 37 (115) = some 152 := by decide +kernel
theorem i_154_40 : ins 154 40 = some (.iload_n 2, 1) := by decide +kernel
theorem i_154_41 : ins 154 41 = some (.istore 7, 2) := by decide +kernel
theorem i_154_43 : ins 154 43 = some (.iload 7, 2) := by decide +kernel
theorem i_154_45 : ins 154 45 = some (.ifCond .lt 101, 3) := by decide +kernel
theorem t_45_146 : tg 45 (101) = some 146 := by decide +kernel
theorem i_154_48 : ins 154 48 = some (.iload 7, 2) := by decide +kernel
theorem i_154_50 : ins 154 50 = some (.iload_n 2, 1) := by decide +kernel
theorem i_154_51 : ins 154 51 = some (.iload 4, 2) := by decide +kernel
theorem i_154_53 : ins 154 53 = some (.isub, 1) := by decide +kernel
theorem i_154_54 : ins 154 54 = some (.if_icmp .lt 92, 3) := by decide +kernel
theorem t_54_146 : tg 54 (92) = some 146 := by decide +kernel
theorem i_154_57 : ins 154 57 = some (.aload_n 0, 1) := by decide +kernel
theorem f_154_13 : fld 154 13 = some (7340134, 5, 2) := by decide +kernel
theorem i_154_58 : ins 154 58 = some (.getfield 13, 3) := by decide +kernel
theorem i_154_61 : ins 154 61 = some (.bipush 16, 2) := by decide +kernel
theorem i_154_63 : ins 154 63 = some (.iload_n 1, 1) := by decide +kernel
theorem i_154_64 : ins 154 64 = some (.imul, 1) := by decide +kernel
theorem i_154_65 : ins 154 65 = some (.iload 6, 2) := by decide +kernel
theorem i_154_67 : ins 154 67 = some (.iadd, 1) := by decide +kernel
theorem i_154_68 : ins 154 68 = some (.iaload, 1) := by decide +kernel
theorem i_154_69 : ins 154 69 = some (.iload 5, 2) := by decide +kernel
theorem i_154_71 : ins 154 71 = some (.if_icmp .ne 75, 3) := by decide +kernel
theorem t_71_146 : tg 71 (75) = some 146 := by decide +kernel
theorem i_154_74 : ins 154 74 = some (.aload_n 0, 1) := by decide +kernel
theorem f_154_127 : fld 154 127 = some (7340134, 57, 2) := by decide +kernel
theorem i_154_75 : ins 154 75 = some (.getfield 127, 3) := by decide +kernel
theorem i_154_78 : ins 154 78 = some (.sipush 134, 3) := by decide +kernel
theorem i_154_81 : ins 154 81 = some (.iload 6, 2) := by decide +kernel
theorem i_154_83 : ins 154 83 = some (.imul, 1) := by decide +kernel
theorem i_154_84 : ins 154 84 = some (.iload 7, 2) := by decide +kernel
theorem i_154_86 : ins 154 86 = some (.iadd, 1) := by decide +kernel
theorem i_154_87 : ins 154 87 = some (.laload, 1) := by decide +kernel
theorem i_154_88 : ins 154 88 = some (.lconst 0, 1) := by decide +kernel
theorem t_90_140 : tg 90 (50) = some 140 := by decide +kernel
theorem i_154_89 : ins 154 89 = some (.lcmp, 1) := by decide +kernel
theorem i_154_90 : ins 154 90 = some (.ifCond .le 50, 3) := by decide +kernel
theorem i_154_93 : ins 154 93 = some (.aload_n 0, 1) := by decide +kernel
theorem i_154_94 : ins 154 94 = some (.iload 6, 2) := by decide +kernel
theorem f_154_130 : fld 154 130 = some (7340134, 58, 0) := by decide +kernel
theorem o_154_7340134_58 : putok 154 7340134 58 = true := by decide +kernel
theorem i_154_96 : ins 154 96 = some (.putfield 130, 3) := by decide +kernel
theorem i_154_99 : ins 154 99 = some (.aload_n 0, 1) := by decide +kernel
theorem i_154_100 : ins 154 100 = some (.iload 7, 2) := by decide +kernel
theorem f_154_134 : fld 154 134 = some (7340134, 59, 0) := by decide +kernel
theorem o_154_7340134_59 : putok 154 7340134 59 = true := by decide +kernel
theorem i_154_102 : ins 154 102 = some (.putfield 134, 3) := by decide +kernel
theorem l_154_533 : ldcv 154 533 = some (vL (100)) := rfl
theorem i_154_105 : ins 154 105 = some (.ldc2_w 533, 3) := by decide +kernel
theorem i_154_108 : ins 154 108 = some (.aload_n 0, 1) := by decide +kernel
theorem f_154_124 : fld 154 124 = some (7340134, 56, 2) := by decide +kernel
theorem i_154_109 : ins 154 109 = some (.getfield 124, 3) := by decide +kernel
theorem i_154_112 : ins 154 112 = some (.sipush 134, 3) := by decide +kernel
theorem i_154_115 : ins 154 115 = some (.iload 6, 2) := by decide +kernel
theorem i_154_117 : ins 154 117 = some (.imul, 1) := by decide +kernel
theorem i_154_118 : ins 154 118 = some (.iload 7, 2) := by decide +kernel
theorem i_154_120 : ins 154 120 = some (.iadd, 1) := by decide +kernel
theorem i_154_121 : ins 154 121 = some (.laload, 1) := by decide +kernel
theorem i_154_122 : ins 154 122 = some (.lmul, 1) := by decide +kernel
theorem i_154_123 : ins 154 123 = some (.aload_n 0, 1) := by decide +kernel
theorem i_154_124 : ins 154 124 = some (.getfield 127, 3) := by decide +kernel
theorem i_154_127 : ins 154 127 = some (.sipush 134, 3) := by decide +kernel
theorem i_154_130 : ins 154 130 = some (.iload 6, 2) := by decide +kernel
theorem i_154_132 : ins 154 132 = some (.imul, 1) := by decide +kernel
theorem i_154_133 : ins 154 133 = some (.iload 7, 2) := by decide +kernel
theorem i_154_135 : ins 154 135 = some (.iadd, 1) := by decide +kernel
theorem i_154_136 : ins 154 136 = some (.laload, 1) := by decide +kernel
theorem i_154_137 : ins 154 137 = some (.ldiv, 1) := by decide +kernel
theorem i_154_138 : ins 154 138 = some (.l2i, 1) := by decide +kernel
theorem r_154 : mret 154 = 1 := by decide +kernel
theorem i_154_139 : ins 154 139 = some (.ireturn, 1) := by decide +kernel
theorem i_154_140 : ins 154 140 = some (.iinc 7 (-1), 3) := by decide +kernel
theorem i_154_143 : ins 154 143 = some (.goto (-100), 3) := by decide +kernel
theorem t_143_43 : tg 143 (-100) = some 43 := by decide +kernel
theorem i_154_146 : ins 154 146 = some (.iinc 6 1, 3) := by decide +kernel
theorem i_154_149 : ins 154 149 = some (.goto (-116), 3) := by decide +kernel
theorem t_149_33 : tg 149 (-116) = some 33 := by decide +kernel
theorem i_154_152 : ins 154 152 = some (.iinc 5 1, 3) := by decide +kernel
theorem i_154_155 : ins 154 155 = some (.goto (-131), 3) := by decide +kernel
theorem t_155_24 : tg 155 (-131) = some 24 := by decide +kernel
theorem i_154_158 : ins 154 158 = some (.aload_n 0, 1) := by decide +kernel
theorem i_154_159 : ins 154 159 = some (.iconst (-1), 1) := by decide +kernel
theorem i_154_160 : ins 154 160 = some (.putfield 130, 3) := by decide +kernel
theorem i_154_163 : ins 154 163 = some (.aload_n 0, 1) := by decide +kernel
theorem i_154_164 : ins 154 164 = some (.iconst (-1), 1) := by decide +kernel
theorem i_154_165 : ins 154 165 = some (.putfield 134, 3) := by decide +kernel
theorem i_154_168 : ins 154 168 = some (.aload_n 0, 1) := by decide +kernel
theorem i_154_169 : ins 154 169 = some (.aload_n 0, 1) := by decide +kernel
theorem f_154_520 : fld 154 520 = some (7340134, 49, 0) := by decide +kernel
theorem i_154_170 : ins 154 170 = some (.getfield 520, 3) := by decide +kernel
theorem i_154_173 : ins 154 173 = some (.iload_n 1, 1) := by decide +kernel
theorem i_154_174 : ins 154 174 = some (.iload_n 2, 1) := by decide +kernel
theorem i_154_175 : ins 154 175 = some (.aload_n 0, 1) := by decide +kernel
theorem f_154_508 : fld 154 508 = some (7340134, 50, 0) := by decide +kernel
theorem i_154_176 : ins 154 176 = some (.getfield 508, 3) := by decide +kernel
theorem v_154_286 : inv 154 286 = some (103, 4, 1, 7340134) := by decide +kernel
theorem i_154_179 : ins 154 179 = some (.invokevirtual 286, 3) := by decide +kernel
theorem i_154_182 : ins 154 182 = some (.istore 5, 2) := by decide +kernel
theorem i_154_184 : ins 154 184 = some (.iload 5, 2) := by decide +kernel
theorem i_154_186 : ins 154 186 = some (.iconst (-1), 1) := by decide +kernel
theorem i_154_187 : ins 154 187 = some (.if_icmp .ne 7, 3) := by decide +kernel
theorem t_187_194 : tg 187 (7) = some 194 := by decide +kernel
theorem i_154_190 : ins 154 190 = some (.iconst (-1), 1) := by decide +kernel
theorem i_154_191 : ins 154 191 = some (.goto 31, 3) := by decide +kernel
theorem t_191_222 : tg 191 (31) = some 222 := by decide +kernel
theorem i_154_194 : ins 154 194 = some (.ldc2_w 533, 3) := by decide +kernel
theorem i_154_197 : ins 154 197 = some (.iload 5, 2) := by decide +kernel
theorem i_154_199 : ins 154 199 = some (.i2l, 1) := by decide +kernel
theorem i_154_200 : ins 154 200 = some (.lmul, 1) := by decide +kernel
theorem i_154_201 : ins 154 201 = some (.sipush 1000, 3) := by decide +kernel
theorem i_154_204 : ins 154 204 = some (.aload_n 0, 1) := by decide +kernel
theorem i_154_205 : ins 154 205 = some (.aload_n 0, 1) := by decide +kernel
theorem i_154_206 : ins 154 206 = some (.getfield 514, 3) := by decide +kernel
theorem i_154_209 : ins 154 209 = some (.bipush 6, 2) := by decide +kernel
theorem i_154_211 : ins 154 211 = some (.invokevirtual 487, 3) := by decide +kernel
theorem i_154_214 : ins 154 214 = some (.iadd, 1) := by decide +kernel
theorem i_154_215 : ins 154 215 = some (.i2l, 1) := by decide +kernel
theorem i_154_216 : ins 154 216 = some (.lmul, 1) := by decide +kernel
theorem l_154_535 : ldcv 154 535 = some (vL (1000)) := rfl
theorem i_154_217 : ins 154 217 = some (.ldc2_w 535, 3) := by decide +kernel
theorem i_154_220 : ins 154 220 = some (.ldiv, 1) := by decide +kernel
theorem i_154_221 : ins 154 221 = some (.l2i, 1) := by decide +kernel
theorem i_154_222 : ins 154 222 = some (.ireturn, 1) := by decide +kernel
theorem i_155_0 : ins 155 0 = some (.iload_n 1, 1) := by decide +kernel
theorem i_155_1 : ins 155 1 = some (.ifCond .ne 10, 3) := by decide +kernel
theorem i_155_4 : ins 155 4 = some (.aload_n 0, 1) := by decide +kernel
theorem f_155_137 : fld 155 137 = some (7340134, 60, 0) := by decide +kernel
theorem i_155_5 : ins 155 5 = some (.getfield 137, 3) := by decide +kernel
theorem i_155_8 : ins 155 8 = some (.goto 16, 3) := by decide +kernel
theorem i_155_11 : ins 155 11 = some (.iload_n 1, 1) := by decide +kernel
theorem i_155_12 : ins 155 12 = some (.iconst 1, 1) := by decide +kernel
theorem i_155_13 : ins 155 13 = some (.if_icmp .ne 10, 3) := by decide +kernel
theorem i_155_16 : ins 155 16 = some (.aload_n 0, 1) := by decide +kernel
theorem f_155_140 : fld 155 140 = some (7340134, 61, 0) := by decide +kernel
theorem i_155_17 : ins 155 17 = some (.getfield 140, 3) := by decide +kernel
theorem i_155_20 : ins 155 20 = some (.goto 4, 3) := by decide +kernel
theorem i_155_23 : ins 155 23 = some (.iconst (-1), 1) := by decide +kernel
theorem r_155 : mret 155 = 1 := by decide +kernel
theorem i_155_24 : ins 155 24 = some (.ireturn, 1) := by decide +kernel
theorem i_156_0 : ins 156 0 = some (.aload_n 0, 1) := by decide +kernel
theorem i_156_1 : ins 156 1 = some (.iload_n 1, 1) := by decide +kernel
theorem i_156_2 : ins 156 2 = some (.iload_n 2, 1) := by decide +kernel
theorem i_156_3 : ins 156 3 = some (.iload_n 3, 1) := by decide +kernel
theorem v_156_549 : inv 156 549 = some (157, 3, 1, 7340134) := by decide +kernel
theorem i_156_4 : ins 156 4 = some (.invokevirtual 549, 3) := by decide +kernel
theorem i_156_7 : ins 156 7 = some (.ifCond .eq 31, 3) := by decide +kernel
theorem t_7_38 : tg 7 (31) = some 38 := by decide +kernel
theorem i_156_10 : ins 156 10 = some (.iload 4, 2) := by decide +kernel
theorem i_156_12 : ins 156 12 = some (.iconst 0, 1) := by decide +kernel
theorem i_156_13 : ins 156 13 = some (.iconst 1, 1) := by decide +kernel
theorem v_156_260 : inv 156 260 = some (94, 3, 0, 0) := by decide +kernel
theorem i_156_14 : ins 156 14 = some (.invokestatic 260, 3) := by decide +kernel
theorem i_156_17 : ins 156 17 = some (.ifCond .eq 21, 3) := by decide +kernel
theorem t_17_38 : tg 17 (21) = some 38 := by decide +kernel
theorem i_156_20 : ins 156 20 = some (.iload 5, 2) := by decide +kernel
theorem v_156_283 : inv 156 283 = some (102, 1, 0, 0) := by decide +kernel
theorem i_156_22 : ins 156 22 = some (.invokestatic 283, 3) := by decide +kernel
theorem i_156_25 : ins 156 25 = some (.ifCond .eq 13, 3) := by decide +kernel
theorem t_25_38 : tg 25 (13) = some 38 := by decide +kernel
theorem i_156_28 : ins 156 28 = some (.iload 6, 2) := by decide +kernel
theorem i_156_30 : ins 156 30 = some (.iconst 0, 1) := by decide +kernel
theorem i_156_31 : ins 156 31 = some (.iconst 1, 1) := by decide +kernel
theorem i_156_32 : ins 156 32 = some (.invokestatic 260, 3) := by decide +kernel
theorem i_156_35 : ins 156 35 = some (.ifCond .ne 7, 3) := by decide +kernel
theorem t_35_42 : tg 35 (7) = some 42 := by decide +kernel
theorem l_156_552 : ldcv 156 552 = some (vL (-9000000000000000000)) := rfl
theorem i_156_38 : ins 156 38 = some (.ldc2_w 552, 3) := by decide +kernel
theorem i_156_41 : ins 156 41 = some (.lreturn, 1) := by decide +kernel
theorem r_156 : mret 156 = 5 := by decide +kernel
theorem i_156_42 : ins 156 42 = some (.aload_n 0, 1) := by decide +kernel
theorem i_156_43 : ins 156 43 = some (.iload_n 1, 1) := by decide +kernel
theorem i_156_44 : ins 156 44 = some (.iload 5, 2) := by decide +kernel
theorem v_156_530 : inv 156 530 = some (144, 2, 1, 7340134) := by decide +kernel
theorem i_156_46 : ins 156 46 = some (.invokevirtual 530, 3) := by decide +kernel
theorem i_156_49 : ins 156 49 = some (.aload_n 0, 1) := by decide +kernel
theorem i_156_50 : ins 156 50 = some (.iload_n 2, 1) := by decide +kernel
theorem i_156_51 : ins 156 51 = some (.iload_n 3, 1) := by decide +kernel
theorem i_156_52 : ins 156 52 = some (.iload 4, 2) := by decide +kernel
theorem v_156_554 : inv 156 554 = some (158, 3, 1, 7340134) := by decide +kernel
theorem i_156_54 : ins 156 54 = some (.invokevirtual 554, 3) := by decide +kernel
theorem i_156_57 : ins 156 57 = some (.aload_n 0, 1) := by decide +kernel
theorem f_156_544 : fld 156 544 = some (7340134, 63, 1) := by decide +kernel
theorem i_156_58 : ins 156 58 = some (.getfield 544, 3) := by decide +kernel
theorem i_156_61 : ins 156 61 = some (.lconst 0, 1) := by decide +kernel
theorem i_156_62 : ins 156 62 = some (.lcmp, 1) := by decide +kernel
theorem i_156_63 : ins 156 63 = some (.ifCond .ne 5, 3) := by decide +kernel
theorem i_156_66 : ins 156 66 = some (.lconst 0, 1) := by decide +kernel
theorem i_156_67 : ins 156 67 = some (.lreturn, 1) := by decide +kernel
theorem i_156_68 : ins 156 68 = some (.aload_n 0, 1) := by decide +kernel
theorem f_156_540 : fld 156 540 = some (7340134, 62, 1) := by decide +kernel
theorem i_156_69 : ins 156 69 = some (.getfield 540, 3) := by decide +kernel
theorem i_156_72 : ins 156 72 = some (.lconst 0, 1) := by decide +kernel
theorem t_74_85 : tg 74 (11) = some 85 := by decide +kernel
theorem i_156_73 : ins 156 73 = some (.lcmp, 1) := by decide +kernel
theorem i_156_74 : ins 156 74 = some (.ifCond .ge 11, 3) := by decide +kernel
theorem i_156_77 : ins 156 77 = some (.aload_n 0, 1) := by decide +kernel
theorem i_156_78 : ins 156 78 = some (.getfield 540, 3) := by decide +kernel
theorem i_156_81 : ins 156 81 = some (.lneg, 1) := by decide +kernel
theorem i_156_82 : ins 156 82 = some (.goto 7, 3) := by decide +kernel
theorem t_82_89 : tg 82 (7) = some 89 := by decide +kernel
theorem i_156_85 : ins 156 85 = some (.aload_n 0, 1) := by decide +kernel
theorem i_156_86 : ins 156 86 = some (.getfield 540, 3) := by decide +kernel
theorem i_156_89 : ins 156 89 = some (.lstore 7, 2) := by decide +kernel
theorem i_156_91 : ins 156 91 = some (.aload_n 0, 1) := by decide +kernel
theorem i_156_92 : ins 156 92 = some (.getfield 544, 3) := by decide +kernel
theorem i_156_95 : ins 156 95 = some (.lstore 9, 2) := by decide +kernel
theorem i_156_97 : ins 156 97 = some (.lload 9, 2) := by decide +kernel
theorem i_156_99 : ins 156 99 = some (.lconst 0, 1) := by decide +kernel
theorem t_101_122 : tg 101 (21) = some 122 := by decide +kernel
theorem i_156_100 : ins 156 100 = some (.lcmp, 1) := by decide +kernel
theorem i_156_101 : ins 156 101 = some (.ifCond .eq 21, 3) := by decide +kernel
theorem i_156_104 : ins 156 104 = some (.lload 7, 2) := by decide +kernel
theorem i_156_106 : ins 156 106 = some (.lload 9, 2) := by decide +kernel
theorem i_156_108 : ins 156 108 = some (.lrem, 1) := by decide +kernel
theorem i_156_109 : ins 156 109 = some (.lstore 11, 2) := by decide +kernel
theorem i_156_111 : ins 156 111 = some (.lload 9, 2) := by decide +kernel
theorem i_156_113 : ins 156 113 = some (.lstore 7, 2) := by decide +kernel
theorem i_156_115 : ins 156 115 = some (.lload 11, 2) := by decide +kernel
theorem i_156_117 : ins 156 117 = some (.lstore 9, 2) := by decide +kernel
theorem i_156_119 : ins 156 119 = some (.goto (-22), 3) := by decide +kernel
theorem t_119_97 : tg 119 (-22) = some 97 := by decide +kernel
theorem i_156_122 : ins 156 122 = some (.iload 6, 2) := by decide +kernel
theorem i_156_124 : ins 156 124 = some (.ifCond .ne 13, 3) := by decide +kernel
theorem t_124_137 : tg 124 (13) = some 137 := by decide +kernel
theorem i_156_127 : ins 156 127 = some (.aload_n 0, 1) := by decide +kernel
theorem i_156_128 : ins 156 128 = some (.getfield 540, 3) := by decide +kernel
theorem i_156_131 : ins 156 131 = some (.lload 7, 2) := by decide +kernel
theorem i_156_133 : ins 156 133 = some (.ldiv, 1) := by decide +kernel
theorem i_156_134 : ins 156 134 = some (.goto 10, 3) := by decide +kernel
theorem t_134_144 : tg 134 (10) = some 144 := by decide +kernel
theorem i_156_137 : ins 156 137 = some (.aload_n 0, 1) := by decide +kernel
theorem i_156_138 : ins 156 138 = some (.getfield 544, 3) := by decide +kernel
theorem i_156_141 : ins 156 141 = some (.lload 7, 2) := by decide +kernel
theorem i_156_143 : ins 156 143 = some (.ldiv, 1) := by decide +kernel
theorem i_156_144 : ins 156 144 = some (.lreturn, 1) := by decide +kernel
theorem i_157_0 : ins 157 0 = some (.aload_n 0, 1) := by decide +kernel
theorem i_157_1 : ins 157 1 = some (.iload_n 1, 1) := by decide +kernel
theorem v_157_277 : inv 157 277 = some (99, 1, 1, 7340134) := by decide +kernel
theorem i_157_2 : ins 157 2 = some (.invokevirtual 277, 3) := by decide +kernel
theorem i_157_5 : ins 157 5 = some (.ifCond .eq 26, 3) := by decide +kernel
theorem t_5_31 : tg 5 (26) = some 31 := by decide +kernel
theorem i_157_8 : ins 157 8 = some (.iload_n 2, 1) := by decide +kernel
theorem v_157_280 : inv 157 280 = some (100, 1, 0, 0) := by decide +kernel
theorem i_157_9 : ins 157 9 = some (.invokestatic 280, 3) := by decide +kernel
theorem i_157_12 : ins 157 12 = some (.ifCond .eq 19, 3) := by decide +kernel
theorem t_12_31 : tg 12 (19) = some 31 := by decide +kernel
theorem i_157_15 : ins 157 15 = some (.iload_n 3, 1) := by decide +kernel
theorem i_157_16 : ins 157 16 = some (.invokestatic 280, 3) := by decide +kernel
theorem i_157_19 : ins 157 19 = some (.ifCond .eq 12, 3) := by decide +kernel
theorem i_157_22 : ins 157 22 = some (.iload_n 2, 1) := by decide +kernel
theorem i_157_23 : ins 157 23 = some (.iload_n 3, 1) := by decide +kernel
theorem i_157_24 : ins 157 24 = some (.if_icmp .gt 7, 3) := by decide +kernel
theorem t_24_31 : tg 24 (7) = some 31 := by decide +kernel
theorem i_157_27 : ins 157 27 = some (.iconst 1, 1) := by decide +kernel
theorem i_157_28 : ins 157 28 = some (.goto 4, 3) := by decide +kernel
theorem t_28_32 : tg 28 (4) = some 32 := by decide +kernel
theorem i_157_31 : ins 157 31 = some (.iconst 0, 1) := by decide +kernel
theorem r_157 : mret 157 = 2 := by decide +kernel
theorem i_157_32 : ins 157 32 = some (.ireturn, 1) := by decide +kernel
theorem i_158_0 : ins 158 0 = some (.aload_n 0, 1) := by decide +kernel
theorem i_158_1 : ins 158 1 = some (.aload_n 0, 1) := by decide +kernel
theorem f_158_514 : fld 158 514 = some (7340134, 51, 0) := by decide +kernel
theorem i_158_2 : ins 158 2 = some (.getfield 514, 3) := by decide +kernel
theorem i_158_5 : ins 158 5 = some (.bipush 8, 2) := by decide +kernel
theorem v_158_480 : inv 158 480 = some (141, 2, 1, 7340134) := by decide +kernel
theorem i_158_7 : ins 158 7 = some (.invokevirtual 480, 3) := by decide +kernel
theorem i_158_10 : ins 158 10 = some (.iconst (-1), 1) := by decide +kernel
theorem i_158_11 : ins 158 11 = some (.if_icmp .eq 7, 3) := by decide +kernel
theorem t_11_18 : tg 11 (7) = some 18 := by decide +kernel
theorem i_158_14 : ins 158 14 = some (.iconst 1, 1) := by decide +kernel
theorem i_158_15 : ins 158 15 = some (.goto 4, 3) := by decide +kernel
theorem t_15_19 : tg 15 (4) = some 19 := by decide +kernel
theorem i_158_18 : ins 158 18 = some (.iconst 0, 1) := by decide +kernel
theorem i_158_19 : ins 158 19 = some (.istore 4, 2) := by decide +kernel
theorem i_158_21 : ins 158 21 = some (.aload_n 0, 1) := by decide +kernel
theorem i_158_22 : ins 158 22 = some (.lconst 0, 1) := by decide +kernel
theorem f_158_540 : fld 158 540 = some (7340134, 62, 1) := by decide +kernel
theorem o_158_7340134_62 : putok 158 7340134 62 = true := by decide +kernel
theorem i_158_23 : ins 158 23 = some (.putfield 540, 3) := by decide +kernel
theorem i_158_26 : ins 158 26 = some (.aload_n 0, 1) := by decide +kernel
theorem i_158_27 : ins 158 27 = some (.lconst 0, 1) := by decide +kernel
theorem f_158_544 : fld 158 544 = some (7340134, 63, 1) := by decide +kernel
theorem o_158_7340134_63 : putok 158 7340134 63 = true := by decide +kernel
theorem i_158_28 : ins 158 28 = some (.putfield 544, 3) := by decide +kernel
theorem i_158_31 : ins 158 31 = some (.iconst 0, 1) := by decide +kernel
theorem i_158_32 : ins 158 32 = some (.istore 5, 2) := by decide +kernel
theorem i_158_34 : ins 158 34 = some (.iload 5, 2) := by decide +kernel
theorem i_158_36 : ins 158 36 = some (.sipush 2144, 3) := by decide +kernel
theorem i_158_39 : ins 158 39 = some (.if_icmp .ge 17, 3) := by decide +kernel
theorem t_39_56 : tg 39 (17) = some 56 := by decide +kernel
theorem i_158_42 : ins 158 42 = some (.aload_n 0, 1) := by decide +kernel
theorem f_158_143 : fld 158 143 = some (7340134, 64, 2) := by decide +kernel
theorem i_158_43 : ins 158 43 = some (.getfield 143, 3) := by decide +kernel
theorem i_158_46 : ins 158 46 = some (.iload 5, 2) := by decide +kernel
theorem i_158_48 : ins 158 48 = some (.lconst 0, 1) := by decide +kernel
theorem kl_117474820 : klen 117474820 = 2144 := by decide +kernel
theorem i_158_49 : ins 158 49 = some (.lastore, 1) := by decide +kernel
theorem i_158_50 : ins 158 50 = some (.iinc 5 1, 3) := by decide +kernel
theorem i_158_53 : ins 158 53 = some (.goto (-19), 3) := by decide +kernel
theorem t_53_34 : tg 53 (-19) = some 34 := by decide +kernel
theorem i_158_56 : ins 158 56 = some (.iconst 0, 1) := by decide +kernel
theorem i_158_57 : ins 158 57 = some (.istore 5, 2) := by decide +kernel
theorem i_158_59 : ins 158 59 = some (.iload 5, 2) := by decide +kernel
theorem i_158_61 : ins 158 61 = some (.aload_n 0, 1) := by decide +kernel
theorem f_158_290 : fld 158 290 = some (7340134, 11, 0) := by decide +kernel
theorem i_158_62 : ins 158 62 = some (.getfield 290, 3) := by decide +kernel
theorem i_158_65 : ins 158 65 = some (.if_icmp .ge 177, 3) := by decide +kernel
theorem t_65_242 : tg 65 (177) = some 242 := by decide +kernel
theorem i_158_68 : ins 158 68 = some (.aload_n 0, 1) := by decide +kernel
theorem i_158_69 : ins 158 69 = some (.iload 5, 2) := by decide +kernel
theorem i_158_71 : ins 158 71 = some (.iload_n 1, 1) := by decide +kernel
theorem i_158_72 : ins 158 72 = some (.iload_n 2, 1) := by decide +kernel
theorem v_158_547 : inv 158 547 = some (159, 3, 1, 7340134) := by decide +kernel
theorem i_158_73 : ins 158 73 = some (.invokevirtual 547, 3) := by decide +kernel
theorem i_158_76 : ins 158 76 = some (.ifCond .eq 23, 3) := by decide +kernel
theorem t_76_99 : tg 76 (23) = some 99 := by decide +kernel
theorem i_158_79 : ins 158 79 = some (.aload_n 0, 1) := by decide +kernel
theorem i_158_80 : ins 158 80 = some (.aload_n 0, 1) := by decide +kernel
theorem f_158_34 : fld 158 34 = some (7340134, 14, 2) := by decide +kernel
theorem i_158_81 : ins 158 81 = some (.getfield 34, 3) := by decide +kernel
theorem i_158_84 : ins 158 84 = some (.iload 5, 2) := by decide +kernel
theorem i_158_86 : ins 158 86 = some (.iaload, 1) := by decide +kernel
theorem i_158_87 : ins 158 87 = some (.aload_n 0, 1) := by decide +kernel
theorem i_158_88 : ins 158 88 = some (.iload 5, 2) := by decide +kernel
theorem v_158_505 : inv 158 505 = some (148, 1, 1, 7340134) := by decide +kernel
theorem i_158_90 : ins 158 90 = some (.invokevirtual 505, 3) := by decide +kernel
theorem v_158_537 : inv 158 537 = some (154, 2, 1, 7340134) := by decide +kernel
theorem i_158_93 : ins 158 93 = some (.invokevirtual 537, 3) := by decide +kernel
theorem i_158_96 : ins 158 96 = some (.goto 4, 3) := by decide +kernel
theorem i_158_99 : ins 158 99 = some (.iconst (-1), 1) := by decide +kernel
theorem i_158_100 : ins 158 100 = some (.istore 6, 2) := by decide +kernel
theorem i_158_102 : ins 158 102 = some (.iload 6, 2) := by decide +kernel
theorem i_158_104 : ins 158 104 = some (.iconst (-1), 1) := by decide +kernel
theorem i_158_105 : ins 158 105 = some (.if_icmp .eq 131, 3) := by decide +kernel
theorem t_105_236 : tg 105 (131) = some 236 := by decide +kernel
theorem i_158_108 : ins 158 108 = some (.iload 6, 2) := by decide +kernel
theorem i_158_110 : ins 158 110 = some (.i2l, 1) := by decide +kernel
theorem i_158_111 : ins 158 111 = some (.aload_n 0, 1) := by decide +kernel
theorem f_158_40 : fld 158 40 = some (7340134, 16, 2) := by decide +kernel
theorem i_158_112 : ins 158 112 = some (.getfield 40, 3) := by decide +kernel
theorem i_158_115 : ins 158 115 = some (.iload 5, 2) := by decide +kernel
theorem i_158_117 : ins 158 117 = some (.iaload, 1) := by decide +kernel
theorem i_158_118 : ins 158 118 = some (.i2l, 1) := by decide +kernel
theorem i_158_119 : ins 158 119 = some (.lmul, 1) := by decide +kernel
theorem l_158_533 : ldcv 158 533 = some (vL (100)) := rfl
theorem i_158_120 : ins 158 120 = some (.ldc2_w 533, 3) := by decide +kernel
theorem i_158_123 : ins 158 123 = some (.aload_n 0, 1) := by decide +kernel
theorem f_158_115 : fld 158 115 = some (7340134, 53, 2) := by decide +kernel
theorem i_158_124 : ins 158 124 = some (.getfield 115, 3) := by decide +kernel
theorem i_158_127 : ins 158 127 = some (.iload 5, 2) := by decide +kernel
theorem i_158_129 : ins 158 129 = some (.iaload, 1) := by decide +kernel
theorem i_158_130 : ins 158 130 = some (.i2l, 1) := by decide +kernel
theorem i_158_131 : ins 158 131 = some (.lmul, 1) := by decide +kernel
theorem i_158_132 : ins 158 132 = some (.aload_n 0, 1) := by decide +kernel
theorem i_158_133 : ins 158 133 = some (.getfield 40, 3) := by decide +kernel
theorem i_158_136 : ins 158 136 = some (.iload 5, 2) := by decide +kernel
theorem i_158_138 : ins 158 138 = some (.iaload, 1) := by decide +kernel
theorem i_158_139 : ins 158 139 = some (.i2l, 1) := by decide +kernel
theorem i_158_140 : ins 158 140 = some (.lmul, 1) := by decide +kernel
theorem i_158_141 : ins 158 141 = some (.lsub, 1) := by decide +kernel
theorem i_158_142 : ins 158 142 = some (.lstore 7, 2) := by decide +kernel
theorem i_158_144 : ins 158 144 = some (.aload_n 0, 1) := by decide +kernel
theorem i_158_145 : ins 158 145 = some (.dup, 1) := by decide +kernel
theorem i_158_146 : ins 158 146 = some (.getfield 544, 3) := by decide +kernel
theorem i_158_149 : ins 158 149 = some (.ldc2_w 533, 3) := by decide +kernel
theorem i_158_152 : ins 158 152 = some (.aload_n 0, 1) := by decide +kernel
theorem i_158_153 : ins 158 153 = some (.getfield 115, 3) := by decide +kernel
theorem i_158_156 : ins 158 156 = some (.iload 5, 2) := by decide +kernel
theorem i_158_158 : ins 158 158 = some (.iaload, 1) := by decide +kernel
theorem i_158_159 : ins 158 159 = some (.i2l, 1) := by decide +kernel
theorem i_158_160 : ins 158 160 = some (.lmul, 1) := by decide +kernel
theorem i_158_161 : ins 158 161 = some (.aload_n 0, 1) := by decide +kernel
theorem i_158_162 : ins 158 162 = some (.getfield 40, 3) := by decide +kernel
theorem i_158_165 : ins 158 165 = some (.iload 5, 2) := by decide +kernel
theorem i_158_167 : ins 158 167 = some (.iaload, 1) := by decide +kernel
theorem i_158_168 : ins 158 168 = some (.i2l, 1) := by decide +kernel
theorem i_158_169 : ins 158 169 = some (.lmul, 1) := by decide +kernel
theorem i_158_170 : ins 158 170 = some (.ladd, 1) := by decide +kernel
theorem i_158_171 : ins 158 171 = some (.putfield 544, 3) := by decide +kernel
theorem i_158_174 : ins 158 174 = some (.iload_n 3, 1) := by decide +kernel
theorem i_158_175 : ins 158 175 = some (.ifCond .ne 34, 3) := by decide +kernel
theorem t_175_209 : tg 175 (34) = some 209 := by decide +kernel
theorem i_158_178 : ins 158 178 = some (.aload_n 0, 1) := by decide +kernel
theorem i_158_179 : ins 158 179 = some (.getfield 143, 3) := by decide +kernel
theorem i_158_182 : ins 158 182 = some (.sipush 134, 3) := by decide +kernel
theorem i_158_185 : ins 158 185 = some (.aload_n 0, 1) := by decide +kernel
theorem i_158_186 : ins 158 186 = some (.getfield 34, 3) := by decide +kernel
theorem i_158_189 : ins 158 189 = some (.iload 5, 2) := by decide +kernel
theorem i_158_191 : ins 158 191 = some (.iaload, 1) := by decide +kernel
theorem i_158_192 : ins 158 192 = some (.imul, 1) := by decide +kernel
theorem i_158_193 : ins 158 193 = some (.aload_n 0, 1) := by decide +kernel
theorem i_158_194 : ins 158 194 = some (.iload 5, 2) := by decide +kernel
theorem i_158_196 : ins 158 196 = some (.invokevirtual 505, 3) := by decide +kernel
theorem i_158_199 : ins 158 199 = some (.iadd, 1) := by decide +kernel
theorem i_158_200 : ins 158 200 = some (.dup2, 1) := by decide +kernel
theorem i_158_201 : ins 158 201 = some (.laload, 1) := by decide +kernel
theorem i_158_202 : ins 158 202 = some (.lload 7, 2) := by decide +kernel
theorem i_158_204 : ins 158 204 = some (.ladd, 1) := by decide +kernel
theorem i_158_205 : ins 158 205 = some (.lastore, 1) := by decide +kernel
theorem i_158_206 : ins 158 206 = some (.goto 30, 3) := by decide +kernel
theorem t_206_236 : tg 206 (30) = some 236 := by decide +kernel
theorem i_158_209 : ins 158 209 = some (.aload_n 0, 1) := by decide +kernel
theorem i_158_210 : ins 158 210 = some (.dup, 1) := by decide +kernel
theorem i_158_211 : ins 158 211 = some (.getfield 540, 3) := by decide +kernel
theorem i_158_214 : ins 158 214 = some (.iload 4, 2) := by decide +kernel
theorem i_158_216 : ins 158 216 = some (.ifCond .eq 14, 3) := by decide +kernel
theorem t_216_230 : tg 216 (14) = some 230 := by decide +kernel
theorem i_158_219 : ins 158 219 = some (.lload 7, 2) := by decide +kernel
theorem i_158_221 : ins 158 221 = some (.lconst 0, 1) := by decide +kernel
theorem t_223_230 : tg 223 (7) = some 230 := by decide +kernel
theorem i_158_222 : ins 158 222 = some (.lcmp, 1) := by decide +kernel
theorem i_158_223 : ins 158 223 = some (.ifCond .ge 7, 3) := by decide +kernel
theorem i_158_226 : ins 158 226 = some (.lconst 0, 1) := by decide +kernel
theorem i_158_227 : ins 158 227 = some (.goto 5, 3) := by decide +kernel
theorem t_227_232 : tg 227 (5) = some 232 := by decide +kernel
theorem i_158_230 : ins 158 230 = some (.lload 7, 2) := by decide +kernel
theorem i_158_232 : ins 158 232 = some (.ladd, 1) := by decide +kernel
theorem i_158_233 : ins 158 233 = some (.putfield 540, 3) := by decide +kernel
theorem i_158_236 : ins 158 236 = some (.iinc 5 1, 3) := by decide +kernel
theorem i_158_239 : ins 158 239 = some (.goto (-180), 3) := by decide +kernel
theorem t_239_59 : tg 239 (-180) = some 59 := by decide +kernel
theorem i_158_242 : ins 158 242 = some (.iconst 0, 1) := by decide +kernel
theorem i_158_243 : ins 158 243 = some (.istore 5, 2) := by decide +kernel
theorem i_158_245 : ins 158 245 = some (.iload 5, 2) := by decide +kernel
theorem i_158_247 : ins 158 247 = some (.sipush 2144, 3) := by decide +kernel
theorem i_158_250 : ins 158 250 = some (.if_icmp .ge 46, 3) := by decide +kernel
theorem t_250_296 : tg 250 (46) = some 296 := by decide +kernel
theorem i_158_253 : ins 158 253 = some (.aload_n 0, 1) := by decide +kernel
theorem i_158_254 : ins 158 254 = some (.dup, 1) := by decide +kernel
theorem i_158_255 : ins 158 255 = some (.getfield 540, 3) := by decide +kernel
theorem i_158_258 : ins 158 258 = some (.iload 4, 2) := by decide +kernel
theorem i_158_260 : ins 158 260 = some (.ifCond .eq 19, 3) := by decide +kernel
theorem t_260_279 : tg 260 (19) = some 279 := by decide +kernel
theorem i_158_263 : ins 158 263 = some (.aload_n 0, 1) := by decide +kernel
theorem i_158_264 : ins 158 264 = some (.getfield 143, 3) := by decide +kernel
theorem i_158_267 : ins 158 267 = some (.iload 5, 2) := by decide +kernel
theorem i_158_269 : ins 158 269 = some (.laload, 1) := by decide +kernel
theorem i_158_270 : ins 158 270 = some (.lconst 0, 1) := by decide +kernel
theorem t_272_279 : tg 272 (7) = some 279 := by decide +kernel
theorem i_158_271 : ins 158 271 = some (.lcmp, 1) := by decide +kernel
theorem i_158_272 : ins 158 272 = some (.ifCond .ge 7, 3) := by decide +kernel
theorem i_158_275 : ins 158 275 = some (.lconst 0, 1) := by decide +kernel
theorem i_158_276 : ins 158 276 = some (.goto 10, 3) := by decide +kernel
theorem t_276_286 : tg 276 (10) = some 286 := by decide +kernel
theorem i_158_279 : ins 158 279 = some (.aload_n 0, 1) := by decide +kernel
theorem i_158_280 : ins 158 280 = some (.getfield 143, 3) := by decide +kernel
theorem i_158_283 : ins 158 283 = some (.iload 5, 2) := by decide +kernel
theorem i_158_285 : ins 158 285 = some (.laload, 1) := by decide +kernel
theorem i_158_286 : ins 158 286 = some (.ladd, 1) := by decide +kernel
theorem i_158_287 : ins 158 287 = some (.putfield 540, 3) := by decide +kernel
theorem i_158_290 : ins 158 290 = some (.iinc 5 1, 3) := by decide +kernel
theorem i_158_293 : ins 158 293 = some (.goto (-48), 3) := by decide +kernel
theorem t_293_245 : tg 293 (-48) = some 245 := by decide +kernel
theorem i_158_296 : ins 158 296 = some (.return_, 1) := by decide +kernel
theorem r_158 : mret 158 = 0 := by decide +kernel
theorem i_159_0 : ins 159 0 = some (.aload_n 0, 1) := by decide +kernel
theorem f_159_118 : fld 159 118 = some (7340134, 54, 2) := by decide +kernel
theorem i_159_1 : ins 159 1 = some (.getfield 118, 3) := by decide +kernel
theorem i_159_4 : ins 159 4 = some (.iload_n 1, 1) := by decide +kernel
theorem i_159_5 : ins 159 5 = some (.baload, 1) := by decide +kernel
theorem i_159_6 : ins 159 6 = some (.ifCond .eq 29, 3) := by decide +kernel
theorem t_6_35 : tg 6 (29) = some 35 := by decide +kernel
theorem i_159_9 : ins 159 9 = some (.aload_n 0, 1) := by decide +kernel
theorem f_159_52 : fld 159 52 = some (7340134, 20, 2) := by decide +kernel
theorem i_159_10 : ins 159 10 = some (.getfield 52, 3) := by decide +kernel
theorem i_159_13 : ins 159 13 = some (.iload_n 1, 1) := by decide +kernel
theorem i_159_14 : ins 159 14 = some (.baload, 1) := by decide +kernel
theorem i_159_15 : ins 159 15 = some (.ifCond .eq 20, 3) := by decide +kernel
theorem t_15_35 : tg 15 (20) = some 35 := by decide +kernel
theorem i_159_18 : ins 159 18 = some (.aload_n 0, 1) := by decide +kernel
theorem i_159_19 : ins 159 19 = some (.iload_n 1, 1) := by decide +kernel
theorem v_159_505 : inv 159 505 = some (148, 1, 1, 7340134) := by decide +kernel
theorem i_159_20 : ins 159 20 = some (.invokevirtual 505, 3) := by decide +kernel
theorem i_159_23 : ins 159 23 = some (.iload_n 2, 1) := by decide +kernel
theorem i_159_24 : ins 159 24 = some (.iload_n 3, 1) := by decide +kernel
theorem v_159_260 : inv 159 260 = some (94, 3, 0, 0) := by decide +kernel
theorem i_159_25 : ins 159 25 = some (.invokestatic 260, 3) := by decide +kernel
theorem i_159_28 : ins 159 28 = some (.ifCond .eq 7, 3) := by decide +kernel
theorem i_159_31 : ins 159 31 = some (.iconst 1, 1) := by decide +kernel
theorem i_159_32 : ins 159 32 = some (.goto 4, 3) := by decide +kernel
theorem i_159_35 : ins 159 35 = some (.iconst 0, 1) := by decide +kernel
theorem r_159 : mret 159 = 2 := by decide +kernel
theorem i_159_36 : ins 159 36 = some (.ireturn, 1) := by decide +kernel
theorem i_160_0 : ins 160 0 = some (.aload_n 0, 1) := by decide +kernel
theorem i_160_1 : ins 160 1 = some (.iload_n 1, 1) := by decide +kernel
theorem i_160_2 : ins 160 2 = some (.iload_n 2, 1) := by decide +kernel
theorem i_160_3 : ins 160 3 = some (.iload_n 3, 1) := by decide +kernel
theorem v_160_549 : inv 160 549 = some (157, 3, 1, 7340134) := by decide +kernel
theorem i_160_4 : ins 160 4 = some (.invokevirtual 549, 3) := by decide +kernel
theorem i_160_7 : ins 160 7 = some (.ifCond .eq 11, 3) := by decide +kernel
theorem t_7_18 : tg 7 (11) = some 18 := by decide +kernel
theorem i_160_10 : ins 160 10 = some (.iload 4, 2) := by decide +kernel
theorem v_160_283 : inv 160 283 = some (102, 1, 0, 0) := by decide +kernel
theorem i_160_12 : ins 160 12 = some (.invokestatic 283, 3) := by decide +kernel
theorem i_160_15 : ins 160 15 = some (.ifCond .ne 5, 3) := by decide +kernel
theorem t_15_20 : tg 15 (5) = some 20 := by decide +kernel
theorem i_160_18 : ins 160 18 = some (.iconst (-1), 1) := by decide +kernel
theorem r_160 : mret 160 = 1 := by decide +kernel
theorem i_160_19 : ins 160 19 = some (.ireturn, 1) := by decide +kernel
theorem i_160_20 : ins 160 20 = some (.aload_n 0, 1) := by decide +kernel
theorem i_160_21 : ins 160 21 = some (.iload_n 1, 1) := by decide +kernel
theorem i_160_22 : ins 160 22 = some (.iload 4, 2) := by decide +kernel
theorem v_160_530 : inv 160 530 = some (144, 2, 1, 7340134) := by decide +kernel
theorem i_160_24 : ins 160 24 = some (.invokevirtual 530, 3) := by decide +kernel
theorem i_160_27 : ins 160 27 = some (.iconst 0, 1) := by decide +kernel
theorem i_160_28 : ins 160 28 = some (.istore 5, 2) := by decide +kernel
theorem i_160_30 : ins 160 30 = some (.iconst 0, 1) := by decide +kernel
theorem i_160_31 : ins 160 31 = some (.istore 6, 2) := by decide +kernel
theorem i_160_33 : ins 160 33 = some (.iload 6, 2) := by decide +kernel
theorem i_160_35 : ins 160 35 = some (.aload_n 0, 1) := by decide +kernel
theorem f_160_290 : fld 160 290 = some (7340134, 11, 0) := by decide +kernel
theorem i_160_36 : ins 160 36 = some (.getfield 290, 3) := by decide +kernel
theorem i_160_39 : ins 160 39 = some (.if_icmp .ge 51, 3) := by decide +kernel
theorem t_39_90 : tg 39 (51) = some 90 := by decide +kernel
theorem i_160_42 : ins 160 42 = some (.iload 5, 2) := by decide +kernel
theorem i_160_44 : ins 160 44 = some (.aload_n 0, 1) := by decide +kernel
theorem i_160_45 : ins 160 45 = some (.iload 6, 2) := by decide +kernel
theorem i_160_47 : ins 160 47 = some (.iload_n 2, 1) := by decide +kernel
theorem i_160_48 : ins 160 48 = some (.iload_n 3, 1) := by decide +kernel
theorem v_160_547 : inv 160 547 = some (159, 3, 1, 7340134) := by decide +kernel
theorem i_160_49 : ins 160 49 = some (.invokevirtual 547, 3) := by decide +kernel
theorem i_160_52 : ins 160 52 = some (.ifCond .eq 28, 3) := by decide +kernel
theorem t_52_80 : tg 52 (28) = some 80 := by decide +kernel
theorem i_160_55 : ins 160 55 = some (.aload_n 0, 1) := by decide +kernel
theorem i_160_56 : ins 160 56 = some (.aload_n 0, 1) := by decide +kernel
theorem f_160_34 : fld 160 34 = some (7340134, 14, 2) := by decide +kernel
theorem i_160_57 : ins 160 57 = some (.getfield 34, 3) := by decide +kernel
theorem i_160_60 : ins 160 60 = some (.iload 6, 2) := by decide +kernel
theorem i_160_62 : ins 160 62 = some (.iaload, 1) := by decide +kernel
theorem i_160_63 : ins 160 63 = some (.aload_n 0, 1) := by decide +kernel
theorem i_160_64 : ins 160 64 = some (.iload 6, 2) := by decide +kernel
theorem v_160_505 : inv 160 505 = some (148, 1, 1, 7340134) := by decide +kernel
theorem i_160_66 : ins 160 66 = some (.invokevirtual 505, 3) := by decide +kernel
theorem v_160_537 : inv 160 537 = some (154, 2, 1, 7340134) := by decide +kernel
theorem i_160_69 : ins 160 69 = some (.invokevirtual 537, 3) := by decide +kernel
theorem i_160_72 : ins 160 72 = some (.iconst (-1), 1) := by decide +kernel
theorem i_160_73 : ins 160 73 = some (.if_icmp .ne 7, 3) := by decide +kernel
theorem t_73_80 : tg 73 (7) = some 80 := by decide +kernel
theorem i_160_76 : ins 160 76 = some (.iconst 1, 1) := by decide +kernel
theorem i_160_77 : ins 160 77 = some (.goto 4, 3) := by decide +kernel
theorem t_77_81 : tg 77 (4) = some 81 := by decide +kernel
theorem i_160_80 : ins 160 80 = some (.iconst 0, 1) := by decide +kernel
theorem i_160_81 : ins 160 81 = some (.iadd, 1) := by decide +kernel
theorem i_160_82 : ins 160 82 = some (.istore 5, 2) := by decide +kernel
theorem i_160_84 : ins 160 84 = some (.iinc 6 1, 3) := by decide +kernel
theorem i_160_87 : ins 160 87 = some (.goto (-54), 3) := by decide +kernel
theorem t_87_33 : tg 87 (-54) = some 33 := by decide +kernel
theorem i_160_90 : ins 160 90 = some (.iload 5, 2) := by decide +kernel
theorem i_160_92 : ins 160 92 = some (.ireturn, 1) := by decide +kernel
theorem i_161_0 : ins 161 0 = some (.aload_n 0, 1) := by decide +kernel
theorem i_161_1 : ins 161 1 = some (.iload_n 1, 1) := by decide +kernel
theorem i_161_2 : ins 161 2 = some (.iload_n 2, 1) := by decide +kernel
theorem i_161_3 : ins 161 3 = some (.iload_n 3, 1) := by decide +kernel
theorem v_161_549 : inv 161 549 = some (157, 3, 1, 7340134) := by decide +kernel
theorem i_161_4 : ins 161 4 = some (.invokevirtual 549, 3) := by decide +kernel
theorem i_161_7 : ins 161 7 = some (.ifCond .eq 11, 3) := by decide +kernel
theorem i_161_10 : ins 161 10 = some (.iload 5, 2) := by decide +kernel
theorem v_161_283 : inv 161 283 = some (102, 1, 0, 0) := by decide +kernel
theorem i_161_12 : ins 161 12 = some (.invokestatic 283, 3) := by decide +kernel
theorem i_161_15 : ins 161 15 = some (.ifCond .ne 5, 3) := by decide +kernel
theorem i_161_18 : ins 161 18 = some (.iconst (-1), 1) := by decide +kernel
theorem r_161 : mret 161 = 1 := by decide +kernel
theorem i_161_19 : ins 161 19 = some (.ireturn, 1) := by decide +kernel
theorem i_161_20 : ins 161 20 = some (.aload_n 0, 1) := by decide +kernel
theorem i_161_21 : ins 161 21 = some (.iload_n 1, 1) := by decide +kernel
theorem i_161_22 : ins 161 22 = some (.iload 5, 2) := by decide +kernel
theorem v_161_530 : inv 161 530 = some (144, 2, 1, 7340134) := by decide +kernel
theorem i_161_24 : ins 161 24 = some (.invokevirtual 530, 3) := by decide +kernel
theorem i_161_27 : ins 161 27 = some (.iconst 0, 1) := by decide +kernel
theorem i_161_28 : ins 161 28 = some (.istore 6, 2) := by decide +kernel
theorem i_161_30 : ins 161 30 = some (.iconst 0, 1) := by decide +kernel
theorem i_161_31 : ins 161 31 = some (.istore 7, 2) := by decide +kernel
theorem i_161_33 : ins 161 33 = some (.iconst 0, 1) := by decide +kernel
theorem i_161_34 : ins 161 34 = some (.istore 8, 2) := by decide +kernel
theorem i_161_36 : ins 161 36 = some (.iload 8, 2) := by decide +kernel
theorem i_161_38 : ins 161 38 = some (.aload_n 0, 1) := by decide +kernel
theorem f_161_290 : fld 161 290 = some (7340134, 11, 0) := by decide +kernel
theorem i_161_39 : ins 161 39 = some (.getfield 290, 3) := by decide +kernel
theorem i_161_42 : ins 161 42 = some (.if_icmp .ge 118, 3) := by decide +kernel
theorem t_42_160 : tg 42 (118) = some 160 := by decide +kernel
theorem i_161_45 : ins 161 45 = some (.aload_n 0, 1) := by decide +kernel
theorem f_161_118 : fld 161 118 = some (7340134, 54, 2) := by decide +kernel
theorem i_161_46 : ins 161 46 = some (.getfield 118, 3) := by decide +kernel
theorem i_161_49 : ins 161 49 = some (.iload 8, 2) := by decide +kernel
theorem i_161_51 : ins 161 51 = some (.baload, 1) := by decide +kernel
theorem i_161_52 : ins 161 52 = some (.ifCond .eq 21, 3) := by decide +kernel
theorem t_52_73 : tg 52 (21) = some 73 := by decide +kernel
theorem i_161_55 : ins 161 55 = some (.aload_n 0, 1) := by decide +kernel
theorem i_161_56 : ins 161 56 = some (.iload 8, 2) := by decide +kernel
theorem v_161_505 : inv 161 505 = some (148, 1, 1, 7340134) := by decide +kernel
theorem i_161_58 : ins 161 58 = some (.invokevirtual 505, 3) := by decide +kernel
theorem i_161_61 : ins 161 61 = some (.iload_n 2, 1) := by decide +kernel
theorem i_161_62 : ins 161 62 = some (.iload_n 3, 1) := by decide +kernel
theorem v_161_260 : inv 161 260 = some (94, 3, 0, 0) := by decide +kernel
theorem i_161_63 : ins 161 63 = some (.invokestatic 260, 3) := by decide +kernel
theorem i_161_66 : ins 161 66 = some (.ifCond .eq 7, 3) := by decide +kernel
theorem t_66_73 : tg 66 (7) = some 73 := by decide +kernel
theorem i_161_69 : ins 161 69 = some (.iconst 1, 1) := by decide +kernel
theorem i_161_70 : ins 161 70 = some (.goto 4, 3) := by decide +kernel
theorem t_70_74 : tg 70 (4) = some 74 := by decide +kernel
theorem i_161_73 : ins 161 73 = some (.iconst 0, 1) := by decide +kernel
theorem i_161_74 : ins 161 74 = some (.istore 9, 2) := by decide +kernel
theorem i_161_76 : ins 161 76 = some (.iload 9, 2) := by decide +kernel
theorem i_161_78 : ins 161 78 = some (.ifCond .eq 32, 3) := by decide +kernel
theorem t_78_110 : tg 78 (32) = some 110 := by decide +kernel
theorem i_161_81 : ins 161 81 = some (.aload_n 0, 1) := by decide +kernel
theorem f_161_52 : fld 161 52 = some (7340134, 20, 2) := by decide +kernel
theorem i_161_82 : ins 161 82 = some (.getfield 52, 3) := by decide +kernel
theorem i_161_85 : ins 161 85 = some (.iload 8, 2) := by decide +kernel
theorem i_161_87 : ins 161 87 = some (.baload, 1) := by decide +kernel
theorem i_161_88 : ins 161 88 = some (.ifCond .eq 22, 3) := by decide +kernel
theorem i_161_91 : ins 161 91 = some (.iload 6, 2) := by decide +kernel
theorem i_161_93 : ins 161 93 = some (.bipush 8, 2) := by decide +kernel
theorem i_161_95 : ins 161 95 = some (.if_icmp .ge 15, 3) := by decide +kernel
theorem t_95_110 : tg 95 (15) = some 110 := by decide +kernel
theorem i_161_98 : ins 161 98 = some (.aload_n 0, 1) := by decide +kernel
theorem f_161_149 : fld 161 149 = some (7340134, 66, 2) := by decide +kernel
theorem i_161_99 : ins 161 99 = some (.getfield 149, 3) := by decide +kernel
theorem i_161_102 : ins 161 102 = some (.iload 6, 2) := by decide +kernel
theorem i_161_104 : ins 161 104 = some (.iload 8, 2) := by decide +kernel
theorem kl_118489217 : klen 118489217 = 8 := by decide +kernel
theorem i_161_106 : ins 161 106 = some (.iastore, 1) := by decide +kernel
theorem i_161_107 : ins 161 107 = some (.iinc 6 1, 3) := by decide +kernel
theorem i_161_110 : ins 161 110 = some (.iload 9, 2) := by decide +kernel
theorem i_161_112 : ins 161 112 = some (.ifCond .eq 42, 3) := by decide +kernel
theorem t_112_154 : tg 112 (42) = some 154 := by decide +kernel
theorem i_161_115 : ins 161 115 = some (.aload_n 0, 1) := by decide +kernel
theorem i_161_116 : ins 161 116 = some (.getfield 52, 3) := by decide +kernel
theorem i_161_119 : ins 161 119 = some (.iload 8, 2) := by decide +kernel
theorem i_161_121 : ins 161 121 = some (.baload, 1) := by decide +kernel
theorem i_161_122 : ins 161 122 = some (.ifCond .ne 32, 3) := by decide +kernel
theorem t_122_154 : tg 122 (32) = some 154 := by decide +kernel
theorem i_161_125 : ins 161 125 = some (.aload_n 0, 1) := by decide +kernel
theorem f_161_121 : fld 161 121 = some (7340134, 55, 2) := by decide +kernel
theorem i_161_126 : ins 161 126 = some (.getfield 121, 3) := by decide +kernel
theorem i_161_129 : ins 161 129 = some (.iload 8, 2) := by decide +kernel
theorem i_161_131 : ins 161 131 = some (.baload, 1) := by decide +kernel
theorem i_161_132 : ins 161 132 = some (.ifCond .ne 22, 3) := by decide +kernel
theorem t_132_154 : tg 132 (22) = some 154 := by decide +kernel
theorem i_161_135 : ins 161 135 = some (.iload 7, 2) := by decide +kernel
theorem i_161_137 : ins 161 137 = some (.bipush 10, 2) := by decide +kernel
theorem i_161_139 : ins 161 139 = some (.if_icmp .ge 15, 3) := by decide +kernel
theorem t_139_154 : tg 139 (15) = some 154 := by decide +kernel
theorem i_161_142 : ins 161 142 = some (.aload_n 0, 1) := by decide +kernel
theorem f_161_152 : fld 161 152 = some (7340134, 67, 2) := by decide +kernel
theorem i_161_143 : ins 161 143 = some (.getfield 152, 3) := by decide +kernel
theorem i_161_146 : ins 161 146 = some (.iload 7, 2) := by decide +kernel
theorem i_161_148 : ins 161 148 = some (.iload 8, 2) := by decide +kernel
theorem kl_119537825 : klen 119537825 = 10 := by decide +kernel
theorem i_161_150 : ins 161 150 = some (.iastore, 1) := by decide +kernel
theorem i_161_151 : ins 161 151 = some (.iinc 7 1, 3) := by decide +kernel
theorem i_161_154 : ins 161 154 = some (.iinc 8 1, 3) := by decide +kernel
theorem i_161_157 : ins 161 157 = some (.goto (-121), 3) := by decide +kernel
theorem t_157_36 : tg 157 (-121) = some 36 := by decide +kernel
theorem i_161_160 : ins 161 160 = some (.iconst 0, 1) := by decide +kernel
theorem i_161_161 : ins 161 161 = some (.istore 8, 2) := by decide +kernel
theorem i_161_163 : ins 161 163 = some (.iload 8, 2) := by decide +kernel
theorem i_161_165 : ins 161 165 = some (.iconst 1, 1) := by decide +kernel
theorem i_161_166 : ins 161 166 = some (.iload 7, 2) := by decide +kernel
theorem i_161_168 : ins 161 168 = some (.ishl, 1) := by decide +kernel
theorem i_161_169 : ins 161 169 = some (.if_icmp .ge 23, 3) := by decide +kernel
theorem t_169_192 : tg 169 (23) = some 192 := by decide +kernel
theorem i_161_172 : ins 161 172 = some (.aload_n 0, 1) := by decide +kernel
theorem f_161_164 : fld 161 164 = some (7340134, 71, 2) := by decide +kernel
theorem i_161_173 : ins 161 173 = some (.getfield 164, 3) := by decide +kernel
theorem i_161_176 : ins 161 176 = some (.iload 6, 2) := by decide +kernel
theorem i_161_178 : ins 161 178 = some (.bipush 10, 2) := by decide +kernel
theorem i_161_180 : ins 161 180 = some (.ishl, 1) := by decide +kernel
theorem i_161_181 : ins 161 181 = some (.iload 8, 2) := by decide +kernel
theorem i_161_183 : ins 161 183 = some (.iadd, 1) := by decide +kernel
theorem i_161_184 : ins 161 184 = some (.lconst 0, 1) := by decide +kernel
theorem kl_123879428 : klen 123879428 = 9216 := by decide +kernel
theorem i_161_185 : ins 161 185 = some (.lastore, 1) := by decide +kernel
theorem i_161_186 : ins 161 186 = some (.iinc 8 1, 3) := by decide +kernel
theorem i_161_189 : ins 161 189 = some (.goto (-26), 3) := by decide +kernel
theorem t_189_163 : tg 189 (-26) = some 163 := by decide +kernel
theorem i_161_192 : ins 161 192 = some (.iload 6, 2) := by decide +kernel
theorem i_161_194 : ins 161 194 = some (.iconst 1, 1) := by decide +kernel
theorem i_161_195 : ins 161 195 = some (.isub, 1) := by decide +kernel
theorem i_161_196 : ins 161 196 = some (.istore 8, 2) := by decide +kernel
theorem i_161_198 : ins 161 198 = some (.iload 8, 2) := by decide +kernel
theorem i_161_200 : ins 161 200 = some (.ifCond .lt 165, 3) := by decide +kernel
theorem t_200_365 : tg 200 (165) = some 365 := by decide +kernel
theorem i_161_203 : ins 161 203 = some (.iconst 0, 1) := by decide +kernel
theorem i_161_204 : ins 161 204 = some (.istore 9, 2) := by decide +kernel
theorem i_161_206 : ins 161 206 = some (.iload 9, 2) := by decide +kernel
theorem i_161_208 : ins 161 208 = some (.iconst 1, 1) := by decide +kernel
theorem i_161_209 : ins 161 209 = some (.iload 7, 2) := by decide +kernel
theorem i_161_211 : ins 161 211 = some (.ishl, 1) := by decide +kernel
theorem i_161_212 : ins 161 212 = some (.if_icmp .ge 147, 3) := by decide +kernel
theorem t_212_359 : tg 212 (147) = some 359 := by decide +kernel
theorem i_161_215 : ins 161 215 = some (.aload_n 0, 1) := by decide +kernel
theorem i_161_216 : ins 161 216 = some (.getfield 164, 3) := by decide +kernel
theorem i_161_219 : ins 161 219 = some (.iload 8, 2) := by decide +kernel
theorem i_161_221 : ins 161 221 = some (.iconst 1, 1) := by decide +kernel
theorem i_161_222 : ins 161 222 = some (.iadd, 1) := by decide +kernel
theorem i_161_223 : ins 161 223 = some (.bipush 10, 2) := by decide +kernel
theorem i_161_225 : ins 161 225 = some (.ishl, 1) := by decide +kernel
theorem i_161_226 : ins 161 226 = some (.iload 9, 2) := by decide +kernel
theorem i_161_228 : ins 161 228 = some (.iadd, 1) := by decide +kernel
theorem i_161_229 : ins 161 229 = some (.laload, 1) := by decide +kernel
theorem i_161_230 : ins 161 230 = some (.lstore 10, 2) := by decide +kernel
theorem i_161_232 : ins 161 232 = some (.iconst 0, 1) := by decide +kernel
theorem i_161_233 : ins 161 233 = some (.istore 12, 2) := by decide +kernel
theorem i_161_235 : ins 161 235 = some (.iload 12, 2) := by decide +kernel
theorem i_161_237 : ins 161 237 = some (.iload 7, 2) := by decide +kernel
theorem i_161_239 : ins 161 239 = some (.if_icmp .ge 99, 3) := by decide +kernel
theorem t_239_338 : tg 239 (99) = some 338 := by decide +kernel
theorem i_161_242 : ins 161 242 = some (.iload 9, 2) := by decide +kernel
theorem i_161_244 : ins 161 244 = some (.iload 12, 2) := by decide +kernel
theorem i_161_246 : ins 161 246 = some (.ishr, 1) := by decide +kernel
theorem i_161_247 : ins 161 247 = some (.iconst 1, 1) := by decide +kernel
theorem i_161_248 : ins 161 248 = some (.iand, 1) := by decide +kernel
theorem i_161_249 : ins 161 249 = some (.iconst 1, 1) := by decide +kernel
theorem i_161_250 : ins 161 250 = some (.if_icmp .ne 7, 3) := by decide +kernel
theorem t_250_257 : tg 250 (7) = some 257 := by decide +kernel
theorem i_161_253 : ins 161 253 = some (.lconst 0, 1) := by decide +kernel
theorem i_161_254 : ins 161 254 = some (.goto 23, 3) := by decide +kernel
theorem t_254_277 : tg 254 (23) = some 277 := by decide +kernel
theorem i_161_257 : ins 161 257 = some (.aload_n 0, 1) := by decide +kernel
theorem i_161_258 : ins 161 258 = some (.aload_n 0, 1) := by decide +kernel
theorem i_161_259 : ins 161 259 = some (.getfield 149, 3) := by decide +kernel
theorem i_161_262 : ins 161 262 = some (.iload 8, 2) := by decide +kernel
