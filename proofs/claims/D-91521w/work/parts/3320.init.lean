/-! the constructors of component and reference (printed by genblk.py) -/
set_option maxRecDepth 100000
theorem i_0_0 : ins 0 0 = some (.aload_n 0, 1) := by decide +kernel
theorem v_0_3 : inv 0 3 = some (0, 0, 4, 0) := by decide +kernel
theorem i_0_1 : ins 0 1 = some (.invokespecial 3, 3) := by decide +kernel
theorem i_0_4 : ins 0 4 = some (.aload_n 0, 1) := by decide +kernel
theorem i_0_5 : ins 0 5 = some (.bipush 12, 2) := by decide +kernel
theorem s_0_7 : site 0 7 = some 22020289 := by decide +kernel
theorem i_0_7 : ins 0 7 = some (.newarray .int, 2) := by decide +kernel
theorem f_0_9 : fld 0 9 = some (1048582, 1, 2) := by decide +kernel
theorem o_0_1048582_1 : putok 0 1048582 1 = true := by decide +kernel
theorem i_0_9 : ins 0 9 = some (.putfield 9, 3) := by decide +kernel
theorem i_0_12 : ins 0 12 = some (.aload_n 0, 1) := by decide +kernel
theorem i_0_13 : ins 0 13 = some (.bipush 16, 2) := by decide +kernel
theorem i_0_15 : ins 0 15 = some (.bipush 16, 2) := by decide +kernel
theorem s_0_17 : site2 0 17 = some (13, 23068933, 24117505) := by decide +kernel
theorem i_0_17 : ins 0 17 = some (.multianewarray 13 2, 4) := by decide +kernel
theorem f_0_15 : fld 0 15 = some (1048582, 2, 2) := by decide +kernel
theorem o_0_1048582_2 : putok 0 1048582 2 = true := by decide +kernel
theorem i_0_21 : ins 0 21 = some (.putfield 15, 3) := by decide +kernel
theorem i_0_24 : ins 0 24 = some (.aload_n 0, 1) := by decide +kernel
theorem i_0_25 : ins 0 25 = some (.sipush 200, 3) := by decide +kernel
theorem s_0_28 : an 0 28 = some (18, 25169029) := by decide +kernel
theorem i_0_28 : ins 0 28 = some (.anewarray 18, 3) := by decide +kernel
theorem f_0_20 : fld 0 20 = some (1048582, 4, 2) := by decide +kernel
theorem o_0_1048582_4 : putok 0 1048582 4 = true := by decide +kernel
theorem i_0_31 : ins 0 31 = some (.putfield 20, 3) := by decide +kernel
theorem i_0_34 : ins 0 34 = some (.aload_n 0, 1) := by decide +kernel
theorem i_0_35 : ins 0 35 = some (.sipush 300, 3) := by decide +kernel
theorem s_0_38 : an 0 38 = some (24, 26219205) := by decide +kernel
theorem i_0_38 : ins 0 38 = some (.anewarray 24, 3) := by decide +kernel
theorem f_0_26 : fld 0 26 = some (1048582, 6, 2) := by decide +kernel
theorem o_0_1048582_6 : putok 0 1048582 6 = true := by decide +kernel
theorem i_0_41 : ins 0 41 = some (.putfield 26, 3) := by decide +kernel
theorem i_0_44 : ins 0 44 = some (.aload_n 0, 1) := by decide +kernel
theorem i_0_45 : ins 0 45 = some (.sipush 600, 3) := by decide +kernel
theorem s_0_48 : an 0 48 = some (30, 27272581) := by decide +kernel
theorem i_0_48 : ins 0 48 = some (.anewarray 30, 3) := by decide +kernel
theorem f_0_32 : fld 0 32 = some (1048582, 7, 2) := by decide +kernel
theorem o_0_1048582_7 : putok 0 1048582 7 = true := by decide +kernel
theorem i_0_51 : ins 0 51 = some (.putfield 32, 3) := by decide +kernel
theorem i_0_54 : ins 0 54 = some (.aload_n 0, 1) := by decide +kernel
theorem n_0_36 : newk 0 36 = some (2097174, 8) := by decide +kernel
theorem i_0_55 : ins 0 55 = some (.new 36, 3) := by decide +kernel
theorem i_0_58 : ins 0 58 = some (.dup, 1) := by decide +kernel
theorem v_0_38 : inv 0 38 = some (65, 0, 2, 0) := by decide +kernel
theorem i_0_59 : ins 0 59 = some (.invokespecial 38, 3) := by decide +kernel
theorem f_0_39 : fld 0 39 = some (1048582, 10, 2) := by decide +kernel
theorem o_0_1048582_10 : putok 0 1048582 10 = true := by decide +kernel
theorem i_0_62 : ins 0 62 = some (.putfield 39, 3) := by decide +kernel
theorem i_0_65 : ins 0 65 = some (.aload_n 0, 1) := by decide +kernel
theorem i_0_66 : ins 0 66 = some (.sipush 400, 3) := by decide +kernel
theorem s_0_69 : site 0 69 = some 28317954 := by decide +kernel
theorem i_0_69 : ins 0 69 = some (.newarray .byte, 2) := by decide +kernel
theorem f_0_43 : fld 0 43 = some (1048582, 11, 2) := by decide +kernel
theorem o_0_1048582_11 : putok 0 1048582 11 = true := by decide +kernel
theorem i_0_71 : ins 0 71 = some (.putfield 43, 3) := by decide +kernel
theorem i_0_74 : ins 0 74 = some (.aload_n 0, 1) := by decide +kernel
theorem i_0_75 : ins 0 75 = some (.bipush 13, 2) := by decide +kernel
theorem s_0_77 : an 0 77 = some (47, 29360341) := by decide +kernel
theorem i_0_77 : ins 0 77 = some (.anewarray 47, 3) := by decide +kernel
theorem i_0_80 : ins 0 80 = some (.dup, 1) := by decide +kernel
theorem i_0_81 : ins 0 81 = some (.iconst 0, 1) := by decide +kernel
theorem l_0_49 : ldcv 0 49 = some (vR (8, 0)) := rfl
theorem i_0_82 : ins 0 82 = some (.ldc 49, 2) := by decide +kernel
theorem eo_29360341 : elob 29360341 = true := by decide +kernel
theorem i_0_84 : ins 0 84 = some (.aastore, 1) := by decide +kernel
theorem i_0_85 : ins 0 85 = some (.dup, 1) := by decide +kernel
theorem i_0_86 : ins 0 86 = some (.iconst 1, 1) := by decide +kernel
theorem l_0_51 : ldcv 0 51 = some (vR (8, 1)) := rfl
theorem i_0_87 : ins 0 87 = some (.ldc 51, 2) := by decide +kernel
theorem i_0_89 : ins 0 89 = some (.aastore, 1) := by decide +kernel
theorem i_0_90 : ins 0 90 = some (.dup, 1) := by decide +kernel
theorem i_0_91 : ins 0 91 = some (.iconst 2, 1) := by decide +kernel
theorem l_0_53 : ldcv 0 53 = some (vR (8, 2)) := rfl
theorem i_0_92 : ins 0 92 = some (.ldc 53, 2) := by decide +kernel
theorem i_0_94 : ins 0 94 = some (.aastore, 1) := by decide +kernel
theorem i_0_95 : ins 0 95 = some (.dup, 1) := by decide +kernel
theorem i_0_96 : ins 0 96 = some (.iconst 3, 1) := by decide +kernel
theorem l_0_55 : ldcv 0 55 = some (vR (8, 3)) := rfl
theorem i_0_97 : ins 0 97 = some (.ldc 55, 2) := by decide +kernel
theorem i_0_99 : ins 0 99 = some (.aastore, 1) := by decide +kernel
theorem i_0_100 : ins 0 100 = some (.dup, 1) := by decide +kernel
theorem i_0_101 : ins 0 101 = some (.iconst 4, 1) := by decide +kernel
theorem l_0_57 : ldcv 0 57 = some (vR (8, 4)) := rfl
theorem i_0_102 : ins 0 102 = some (.ldc 57, 2) := by decide +kernel
theorem i_0_104 : ins 0 104 = some (.aastore, 1) := by decide +kernel
theorem i_0_105 : ins 0 105 = some (.dup, 1) := by decide +kernel
theorem i_0_106 : ins 0 106 = some (.iconst 5, 1) := by decide +kernel
theorem l_0_59 : ldcv 0 59 = some (vR (8, 5)) := rfl
theorem i_0_107 : ins 0 107 = some (.ldc 59, 2) := by decide +kernel
theorem i_0_109 : ins 0 109 = some (.aastore, 1) := by decide +kernel
theorem i_0_110 : ins 0 110 = some (.dup, 1) := by decide +kernel
theorem i_0_111 : ins 0 111 = some (.bipush 6, 2) := by decide +kernel
theorem l_0_61 : ldcv 0 61 = some (vR (8, 6)) := rfl
theorem i_0_113 : ins 0 113 = some (.ldc 61, 2) := by decide +kernel
theorem i_0_115 : ins 0 115 = some (.aastore, 1) := by decide +kernel
theorem i_0_116 : ins 0 116 = some (.dup, 1) := by decide +kernel
theorem i_0_117 : ins 0 117 = some (.bipush 7, 2) := by decide +kernel
theorem l_0_63 : ldcv 0 63 = some (vR (8, 7)) := rfl
theorem i_0_119 : ins 0 119 = some (.ldc 63, 2) := by decide +kernel
theorem i_0_121 : ins 0 121 = some (.aastore, 1) := by decide +kernel
theorem i_0_122 : ins 0 122 = some (.dup, 1) := by decide +kernel
theorem i_0_123 : ins 0 123 = some (.bipush 8, 2) := by decide +kernel
theorem l_0_65 : ldcv 0 65 = some (vR (8, 8)) := rfl
theorem i_0_125 : ins 0 125 = some (.ldc 65, 2) := by decide +kernel
theorem i_0_127 : ins 0 127 = some (.aastore, 1) := by decide +kernel
theorem i_0_128 : ins 0 128 = some (.dup, 1) := by decide +kernel
theorem i_0_129 : ins 0 129 = some (.bipush 9, 2) := by decide +kernel
theorem l_0_67 : ldcv 0 67 = some (vR (8, 9)) := rfl
theorem i_0_131 : ins 0 131 = some (.ldc 67, 2) := by decide +kernel
theorem i_0_133 : ins 0 133 = some (.aastore, 1) := by decide +kernel
theorem i_0_134 : ins 0 134 = some (.dup, 1) := by decide +kernel
theorem i_0_135 : ins 0 135 = some (.bipush 10, 2) := by decide +kernel
theorem l_0_69 : ldcv 0 69 = some (vR (8, 10)) := rfl
theorem i_0_137 : ins 0 137 = some (.ldc 69, 2) := by decide +kernel
theorem i_0_139 : ins 0 139 = some (.aastore, 1) := by decide +kernel
theorem i_0_140 : ins 0 140 = some (.dup, 1) := by decide +kernel
theorem i_0_141 : ins 0 141 = some (.bipush 11, 2) := by decide +kernel
theorem l_0_70 : ldcv 0 70 = some (vR (8, 11)) := rfl
theorem i_0_143 : ins 0 143 = some (.ldc 70, 2) := by decide +kernel
theorem i_0_145 : ins 0 145 = some (.aastore, 1) := by decide +kernel
theorem i_0_146 : ins 0 146 = some (.dup, 1) := by decide +kernel
theorem i_0_147 : ins 0 147 = some (.bipush 12, 2) := by decide +kernel
theorem l_0_72 : ldcv 0 72 = some (vR (8, 12)) := rfl
theorem i_0_149 : ins 0 149 = some (.ldc 72, 2) := by decide +kernel
theorem i_0_151 : ins 0 151 = some (.aastore, 1) := by decide +kernel
theorem f_0_74 : fld 0 74 = some (1048582, 13, 2) := by decide +kernel
theorem o_0_1048582_13 : putok 0 1048582 13 = true := by decide +kernel
theorem i_0_152 : ins 0 152 = some (.putfield 74, 3) := by decide +kernel
theorem i_0_155 : ins 0 155 = some (.aload_n 0, 1) := by decide +kernel
theorem i_0_156 : ins 0 156 = some (.iconst 4, 1) := by decide +kernel
theorem s_0_157 : an 0 157 = some (47, 30408773) := by decide +kernel
theorem i_0_157 : ins 0 157 = some (.anewarray 47, 3) := by decide +kernel
theorem i_0_160 : ins 0 160 = some (.dup, 1) := by decide +kernel
theorem i_0_161 : ins 0 161 = some (.iconst 0, 1) := by decide +kernel
theorem l_0_78 : ldcv 0 78 = some (vR (8, 13)) := rfl
theorem i_0_162 : ins 0 162 = some (.ldc 78, 2) := by decide +kernel
theorem eo_30408773 : elob 30408773 = true := by decide +kernel
theorem i_0_164 : ins 0 164 = some (.aastore, 1) := by decide +kernel
theorem i_0_165 : ins 0 165 = some (.dup, 1) := by decide +kernel
theorem i_0_166 : ins 0 166 = some (.iconst 1, 1) := by decide +kernel
theorem l_0_80 : ldcv 0 80 = some (vR (8, 14)) := rfl
theorem i_0_167 : ins 0 167 = some (.ldc 80, 2) := by decide +kernel
theorem i_0_169 : ins 0 169 = some (.aastore, 1) := by decide +kernel
theorem i_0_170 : ins 0 170 = some (.dup, 1) := by decide +kernel
theorem i_0_171 : ins 0 171 = some (.iconst 2, 1) := by decide +kernel
theorem l_0_82 : ldcv 0 82 = some (vR (8, 15)) := rfl
theorem i_0_172 : ins 0 172 = some (.ldc 82, 2) := by decide +kernel
theorem i_0_174 : ins 0 174 = some (.aastore, 1) := by decide +kernel
theorem i_0_175 : ins 0 175 = some (.dup, 1) := by decide +kernel
theorem i_0_176 : ins 0 176 = some (.iconst 3, 1) := by decide +kernel
theorem l_0_84 : ldcv 0 84 = some (vR (8, 16)) := rfl
theorem i_0_177 : ins 0 177 = some (.ldc 84, 2) := by decide +kernel
theorem i_0_179 : ins 0 179 = some (.aastore, 1) := by decide +kernel
theorem f_0_86 : fld 0 86 = some (1048582, 14, 2) := by decide +kernel
theorem o_0_1048582_14 : putok 0 1048582 14 = true := by decide +kernel
theorem i_0_180 : ins 0 180 = some (.putfield 86, 3) := by decide +kernel
theorem i_0_183 : ins 0 183 = some (.aload_n 0, 1) := by decide +kernel
theorem i_0_184 : ins 0 184 = some (.bipush 10, 2) := by decide +kernel
theorem s_0_186 : an 0 186 = some (89, 31457445) := by decide +kernel
theorem i_0_186 : ins 0 186 = some (.anewarray 89, 3) := by decide +kernel
theorem f_0_91 : fld 0 91 = some (1048582, 15, 2) := by decide +kernel
theorem o_0_1048582_15 : putok 0 1048582 15 = true := by decide +kernel
theorem i_0_189 : ins 0 189 = some (.putfield 91, 3) := by decide +kernel
theorem i_0_192 : ins 0 192 = some (.aload_n 0, 1) := by decide +kernel
theorem n_0_89 : newk 0 89 = some (3145766, 8) := by decide +kernel
theorem i_0_193 : ins 0 193 = some (.new 89, 3) := by decide +kernel
theorem i_0_196 : ins 0 196 = some (.dup, 1) := by decide +kernel
theorem v_0_95 : inv 0 95 = some (66, 0, 2, 0) := by decide +kernel
theorem i_0_197 : ins 0 197 = some (.invokespecial 95, 3) := by decide +kernel
theorem f_0_96 : fld 0 96 = some (1048582, 16, 2) := by decide +kernel
theorem o_0_1048582_16 : putok 0 1048582 16 = true := by decide +kernel
theorem i_0_200 : ins 0 200 = some (.putfield 96, 3) := by decide +kernel
theorem i_0_203 : ins 0 203 = some (.aload_n 0, 1) := by decide +kernel
theorem n_0_100 : newk 0 100 = some (4194358, 12) := by decide +kernel
theorem i_0_204 : ins 0 204 = some (.new 100, 3) := by decide +kernel
theorem i_0_207 : ins 0 207 = some (.dup, 1) := by decide +kernel
theorem i_0_208 : ins 0 208 = some (.aload_n 0, 1) := by decide +kernel
theorem v_0_102 : inv 0 102 = some (69, 1, 2, 0) := by decide +kernel
theorem i_0_209 : ins 0 209 = some (.invokespecial 102, 3) := by decide +kernel
theorem f_0_105 : fld 0 105 = some (1048582, 18, 2) := by decide +kernel
theorem o_0_1048582_18 : putok 0 1048582 18 = true := by decide +kernel
theorem i_0_212 : ins 0 212 = some (.putfield 105, 3) := by decide +kernel
theorem i_0_215 : ins 0 215 = some (.aload_n 0, 1) := by decide +kernel
theorem i_0_216 : ins 0 216 = some (.iconst (-1), 1) := by decide +kernel
theorem f_0_109 : fld 0 109 = some (1048582, 19, 0) := by decide +kernel
theorem o_0_1048582_19 : putok 0 1048582 19 = true := by decide +kernel
theorem i_0_217 : ins 0 217 = some (.putfield 109, 3) := by decide +kernel
theorem i_0_220 : ins 0 220 = some (.aload_n 0, 1) := by decide +kernel
theorem i_0_221 : ins 0 221 = some (.iconst (-1), 1) := by decide +kernel
theorem f_0_113 : fld 0 113 = some (1048582, 20, 0) := by decide +kernel
theorem o_0_1048582_20 : putok 0 1048582 20 = true := by decide +kernel
theorem i_0_222 : ins 0 222 = some (.putfield 113, 3) := by decide +kernel
theorem i_0_225 : ins 0 225 = some (.aload_n 0, 1) := by decide +kernel
theorem i_0_226 : ins 0 226 = some (.sipush 2144, 3) := by decide +kernel
theorem s_0_229 : site 0 229 = some 32540164 := by decide +kernel
theorem i_0_229 : ins 0 229 = some (.newarray .long, 2) := by decide +kernel
theorem f_0_116 : fld 0 116 = some (1048582, 24, 2) := by decide +kernel
theorem o_0_1048582_24 : putok 0 1048582 24 = true := by decide +kernel
theorem i_0_231 : ins 0 231 = some (.putfield 116, 3) := by decide +kernel
theorem i_0_234 : ins 0 234 = some (.aload_n 0, 1) := by decide +kernel
theorem i_0_235 : ins 0 235 = some (.sipush 2144, 3) := by decide +kernel
theorem s_0_238 : site 0 238 = some 33588740 := by decide +kernel
theorem i_0_238 : ins 0 238 = some (.newarray .long, 2) := by decide +kernel
theorem f_0_120 : fld 0 120 = some (1048582, 25, 2) := by decide +kernel
theorem o_0_1048582_25 : putok 0 1048582 25 = true := by decide +kernel
theorem i_0_240 : ins 0 240 = some (.putfield 120, 3) := by decide +kernel
theorem i_0_243 : ins 0 243 = some (.aload_n 0, 1) := by decide +kernel
theorem n_0_123 : newk 0 123 = some (6291542, 8) := by decide +kernel
theorem i_0_244 : ins 0 244 = some (.new 123, 3) := by decide +kernel
theorem i_0_247 : ins 0 247 = some (.dup, 1) := by decide +kernel
theorem i_0_248 : ins 0 248 = some (.aload_n 0, 1) := by decide +kernel
theorem v_0_125 : inv 0 125 = some (84, 1, 2, 0) := by decide +kernel
theorem i_0_249 : ins 0 249 = some (.invokespecial 125, 3) := by decide +kernel
theorem f_0_126 : fld 0 126 = some (1048582, 26, 2) := by decide +kernel
theorem o_0_1048582_26 : putok 0 1048582 26 = true := by decide +kernel
theorem i_0_252 : ins 0 252 = some (.putfield 126, 3) := by decide +kernel
theorem i_0_255 : ins 0 255 = some (.aload_n 0, 1) := by decide +kernel
theorem i_0_256 : ins 0 256 = some (.bipush 8, 2) := by decide +kernel
theorem i_0_258 : ins 0 258 = some (.iconst 2, 1) := by decide +kernel
theorem s_0_259 : site2 0 259 = some (13, 34603141, 35651617) := by decide +kernel
theorem i_0_259 : ins 0 259 = some (.multianewarray 13 2, 4) := by decide +kernel
theorem f_0_130 : fld 0 130 = some (1048582, 29, 2) := by decide +kernel
theorem o_0_1048582_29 : putok 0 1048582 29 = true := by decide +kernel
theorem i_0_263 : ins 0 263 = some (.putfield 130, 3) := by decide +kernel
theorem i_0_266 : ins 0 266 = some (.aload_n 0, 1) := by decide +kernel
theorem i_0_267 : ins 0 267 = some (.iconst 3, 1) := by decide +kernel
theorem s_0_268 : site 0 268 = some 36700212 := by decide +kernel
theorem i_0_268 : ins 0 268 = some (.newarray .long, 2) := by decide +kernel
theorem f_0_133 : fld 0 133 = some (1048582, 30, 2) := by decide +kernel
theorem o_0_1048582_30 : putok 0 1048582 30 = true := by decide +kernel
theorem i_0_270 : ins 0 270 = some (.putfield 133, 3) := by decide +kernel
theorem i_0_273 : ins 0 273 = some (.aload_n 0, 1) := by decide +kernel
theorem i_0_274 : ins 0 274 = some (.bipush 12, 2) := by decide +kernel
theorem i_0_276 : ins 0 276 = some (.bipush 10, 2) := by decide +kernel
theorem s_0_278 : site2 0 278 = some (136, 37748933, 38797477) := by decide +kernel
theorem i_0_278 : ins 0 278 = some (.multianewarray 136 2, 4) := by decide +kernel
theorem f_0_138 : fld 0 138 = some (1048582, 31, 2) := by decide +kernel
theorem o_0_1048582_31 : putok 0 1048582 31 = true := by decide +kernel
theorem i_0_282 : ins 0 282 = some (.putfield 138, 3) := by decide +kernel
theorem i_0_285 : ins 0 285 = some (.aload_n 0, 1) := by decide +kernel
theorem i_0_286 : ins 0 286 = some (.bipush 12, 2) := by decide +kernel
theorem s_0_288 : site 0 288 = some 39846081 := by decide +kernel
theorem i_0_288 : ins 0 288 = some (.newarray .int, 2) := by decide +kernel
theorem f_0_141 : fld 0 141 = some (1048582, 32, 2) := by decide +kernel
theorem o_0_1048582_32 : putok 0 1048582 32 = true := by decide +kernel
theorem i_0_290 : ins 0 290 = some (.putfield 141, 3) := by decide +kernel
theorem i_0_293 : ins 0 293 = some (.aload_n 0, 1) := by decide +kernel
theorem i_0_294 : ins 0 294 = some (.bipush 30, 2) := by decide +kernel
theorem s_0_296 : site 0 296 = some 40894945 := by decide +kernel
theorem i_0_296 : ins 0 296 = some (.newarray .int, 2) := by decide +kernel
theorem f_0_144 : fld 0 144 = some (1048582, 33, 2) := by decide +kernel
theorem o_0_1048582_33 : putok 0 1048582 33 = true := by decide +kernel
theorem i_0_298 : ins 0 298 = some (.putfield 144, 3) := by decide +kernel
theorem i_0_301 : ins 0 301 = some (.aload_n 0, 1) := by decide +kernel
theorem i_0_302 : ins 0 302 = some (.iconst 3, 1) := by decide +kernel
theorem s_0_303 : site 0 303 = some 41943089 := by decide +kernel
theorem i_0_303 : ins 0 303 = some (.newarray .int, 2) := by decide +kernel
theorem f_0_147 : fld 0 147 = some (1048582, 34, 2) := by decide +kernel
theorem o_0_1048582_34 : putok 0 1048582 34 = true := by decide +kernel
theorem i_0_305 : ins 0 305 = some (.putfield 147, 3) := by decide +kernel
theorem i_0_308 : ins 0 308 = some (.aload_n 0, 1) := by decide +kernel
theorem i_0_309 : ins 0 309 = some (.iconst 3, 1) := by decide +kernel
theorem s_0_310 : site 0 310 = some 42991665 := by decide +kernel
theorem i_0_310 : ins 0 310 = some (.newarray .int, 2) := by decide +kernel
theorem f_0_150 : fld 0 150 = some (1048582, 35, 2) := by decide +kernel
theorem o_0_1048582_35 : putok 0 1048582 35 = true := by decide +kernel
theorem i_0_312 : ins 0 312 = some (.putfield 150, 3) := by decide +kernel
theorem i_0_315 : ins 0 315 = some (.aload_n 0, 1) := by decide +kernel
theorem i_0_316 : ins 0 316 = some (.bipush 10, 2) := by decide +kernel
theorem s_0_318 : site 0 318 = some 44040353 := by decide +kernel
theorem i_0_318 : ins 0 318 = some (.newarray .int, 2) := by decide +kernel
theorem f_0_153 : fld 0 153 = some (1048582, 36, 2) := by decide +kernel
theorem o_0_1048582_36 : putok 0 1048582 36 = true := by decide +kernel
theorem i_0_320 : ins 0 320 = some (.putfield 153, 3) := by decide +kernel
theorem i_0_323 : ins 0 323 = some (.aload_n 0, 1) := by decide +kernel
theorem i_0_324 : ins 0 324 = some (.bipush 8, 2) := by decide +kernel
theorem i_0_326 : ins 0 326 = some (.bipush 8, 2) := by decide +kernel
theorem s_0_328 : site2 0 328 = some (156, 45088901, 46137476) := by decide +kernel
theorem i_0_328 : ins 0 328 = some (.multianewarray 156 2, 4) := by decide +kernel
theorem f_0_158 : fld 0 158 = some (1048582, 38, 2) := by decide +kernel
theorem o_0_1048582_38 : putok 0 1048582 38 = true := by decide +kernel
theorem i_0_332 : ins 0 332 = some (.putfield 158, 3) := by decide +kernel
theorem i_0_335 : ins 0 335 = some (.aload_n 0, 1) := by decide +kernel
theorem i_0_336 : ins 0 336 = some (.bipush 8, 2) := by decide +kernel
theorem s_0_338 : site 0 338 = some 47186049 := by decide +kernel
theorem i_0_338 : ins 0 338 = some (.newarray .int, 2) := by decide +kernel
theorem f_0_161 : fld 0 161 = some (1048582, 39, 2) := by decide +kernel
theorem o_0_1048582_39 : putok 0 1048582 39 = true := by decide +kernel
theorem i_0_340 : ins 0 340 = some (.putfield 161, 3) := by decide +kernel
theorem i_0_343 : ins 0 343 = some (.aload_n 0, 1) := by decide +kernel
theorem i_0_344 : ins 0 344 = some (.iconst 4, 1) := by decide +kernel
theorem s_0_345 : site 0 345 = some 48234561 := by decide +kernel
theorem i_0_345 : ins 0 345 = some (.newarray .int, 2) := by decide +kernel
theorem f_0_164 : fld 0 164 = some (1048582, 41, 2) := by decide +kernel
theorem o_0_1048582_41 : putok 0 1048582 41 = true := by decide +kernel
theorem i_0_347 : ins 0 347 = some (.putfield 164, 3) := by decide +kernel
theorem i_0_350 : ins 0 350 = some (.aload_n 0, 1) := by decide +kernel
theorem i_0_351 : ins 0 351 = some (.iconst 4, 1) := by decide +kernel
theorem s_0_352 : site 0 352 = some 49283137 := by decide +kernel
theorem i_0_352 : ins 0 352 = some (.newarray .int, 2) := by decide +kernel
theorem f_0_167 : fld 0 167 = some (1048582, 42, 2) := by decide +kernel
theorem o_0_1048582_42 : putok 0 1048582 42 = true := by decide +kernel
theorem i_0_354 : ins 0 354 = some (.putfield 167, 3) := by decide +kernel
theorem i_0_357 : ins 0 357 = some (.aload_n 0, 1) := by decide +kernel
theorem i_0_358 : ins 0 358 = some (.bipush 60, 2) := by decide +kernel
theorem s_0_360 : site 0 360 = some 50332609 := by decide +kernel
theorem i_0_360 : ins 0 360 = some (.newarray .int, 2) := by decide +kernel
theorem f_0_170 : fld 0 170 = some (1048582, 45, 2) := by decide +kernel
theorem o_0_1048582_45 : putok 0 1048582 45 = true := by decide +kernel
theorem i_0_362 : ins 0 362 = some (.putfield 170, 3) := by decide +kernel
theorem i_0_365 : ins 0 365 = some (.aload_n 0, 1) := by decide +kernel
theorem i_0_366 : ins 0 366 = some (.bipush 60, 2) := by decide +kernel
theorem s_0_368 : site 0 368 = some 51381185 := by decide +kernel
theorem i_0_368 : ins 0 368 = some (.newarray .int, 2) := by decide +kernel
theorem f_0_173 : fld 0 173 = some (1048582, 46, 2) := by decide +kernel
theorem o_0_1048582_46 : putok 0 1048582 46 = true := by decide +kernel
theorem i_0_370 : ins 0 370 = some (.putfield 173, 3) := by decide +kernel
theorem i_0_373 : ins 0 373 = some (.aload_n 0, 1) := by decide +kernel
theorem i_0_374 : ins 0 374 = some (.bipush 60, 2) := by decide +kernel
theorem s_0_376 : site 0 376 = some 52429761 := by decide +kernel
theorem i_0_376 : ins 0 376 = some (.newarray .int, 2) := by decide +kernel
theorem f_0_176 : fld 0 176 = some (1048582, 47, 2) := by decide +kernel
theorem o_0_1048582_47 : putok 0 1048582 47 = true := by decide +kernel
theorem i_0_378 : ins 0 378 = some (.putfield 176, 3) := by decide +kernel
theorem i_0_381 : ins 0 381 = some (.aload_n 0, 1) := by decide +kernel
theorem i_0_382 : ins 0 382 = some (.bipush 60, 2) := by decide +kernel
theorem s_0_384 : site 0 384 = some 53478337 := by decide +kernel
theorem i_0_384 : ins 0 384 = some (.newarray .int, 2) := by decide +kernel
theorem f_0_179 : fld 0 179 = some (1048582, 48, 2) := by decide +kernel
theorem o_0_1048582_48 : putok 0 1048582 48 = true := by decide +kernel
theorem i_0_386 : ins 0 386 = some (.putfield 179, 3) := by decide +kernel
theorem i_0_389 : ins 0 389 = some (.aload_n 0, 1) := by decide +kernel
theorem i_0_390 : ins 0 390 = some (.bipush 60, 2) := by decide +kernel
theorem s_0_392 : site 0 392 = some 54526913 := by decide +kernel
theorem i_0_392 : ins 0 392 = some (.newarray .int, 2) := by decide +kernel
theorem f_0_182 : fld 0 182 = some (1048582, 49, 2) := by decide +kernel
theorem o_0_1048582_49 : putok 0 1048582 49 = true := by decide +kernel
theorem i_0_394 : ins 0 394 = some (.putfield 182, 3) := by decide +kernel
theorem i_0_397 : ins 0 397 = some (.aload_n 0, 1) := by decide +kernel
theorem i_0_398 : ins 0 398 = some (.bipush 100, 2) := by decide +kernel
theorem s_0_400 : an 0 400 = some (185, 55576133) := by decide +kernel
theorem i_0_400 : ins 0 400 = some (.anewarray 185, 3) := by decide +kernel
theorem f_0_187 : fld 0 187 = some (1048582, 51, 2) := by decide +kernel
theorem o_0_1048582_51 : putok 0 1048582 51 = true := by decide +kernel
theorem i_0_403 : ins 0 403 = some (.putfield 187, 3) := by decide +kernel
theorem i_0_406 : ins 0 406 = some (.aload_n 0, 1) := by decide +kernel
theorem n_0_191 : newk 0 191 = some (5242950, 7) := by decide +kernel
theorem i_0_407 : ins 0 407 = some (.new 191, 3) := by decide +kernel
theorem i_0_410 : ins 0 410 = some (.dup, 1) := by decide +kernel
theorem i_0_411 : ins 0 411 = some (.aload_n 0, 1) := by decide +kernel
theorem v_0_193 : inv 0 193 = some (78, 1, 2, 0) := by decide +kernel
theorem i_0_412 : ins 0 412 = some (.invokespecial 193, 3) := by decide +kernel
theorem f_0_194 : fld 0 194 = some (1048582, 52, 2) := by decide +kernel
theorem o_0_1048582_52 : putok 0 1048582 52 = true := by decide +kernel
theorem i_0_415 : ins 0 415 = some (.putfield 194, 3) := by decide +kernel
theorem i_0_418 : ins 0 418 = some (.aload_n 0, 1) := by decide +kernel
theorem i_0_419 : ins 0 419 = some (.sipush 200, 3) := by decide +kernel
theorem s_0_422 : an 0 422 = some (198, 56626309) := by decide +kernel
theorem i_0_422 : ins 0 422 = some (.anewarray 198, 3) := by decide +kernel
theorem f_0_200 : fld 0 200 = some (1048582, 54, 2) := by decide +kernel
theorem o_0_1048582_54 : putok 0 1048582 54 = true := by decide +kernel
theorem i_0_425 : ins 0 425 = some (.putfield 200, 3) := by decide +kernel
theorem i_0_428 : ins 0 428 = some (.iconst 0, 1) := by decide +kernel
theorem i_0_429 : ins 0 429 = some (.istore_n 1, 1) := by decide +kernel
theorem i_0_430 : ins 0 430 = some (.iload_n 1, 1) := by decide +kernel
theorem i_0_431 : ins 0 431 = some (.bipush 16, 2) := by decide +kernel
theorem i_0_433 : ins 0 433 = some (.if_icmp .ge 42, 3) := by decide +kernel
theorem t_433_475 : tg 433 (42) = some 475 := by decide +kernel
theorem i_0_436 : ins 0 436 = some (.iconst 0, 1) := by decide +kernel
theorem i_0_437 : ins 0 437 = some (.istore_n 2, 1) := by decide +kernel
theorem i_0_438 : ins 0 438 = some (.iload_n 2, 1) := by decide +kernel
theorem i_0_439 : ins 0 439 = some (.bipush 16, 2) := by decide +kernel
theorem i_0_441 : ins 0 441 = some (.if_icmp .ge 28, 3) := by decide +kernel
theorem t_441_469 : tg 441 (28) = some 469 := by decide +kernel
theorem i_0_444 : ins 0 444 = some (.aload_n 0, 1) := by decide +kernel
theorem i_0_445 : ins 0 445 = some (.getfield 15, 3) := by decide +kernel
theorem i_0_448 : ins 0 448 = some (.iload_n 1, 1) := by decide +kernel
theorem i_0_449 : ins 0 449 = some (.aaload, 1) := by decide +kernel
theorem i_0_450 : ins 0 450 = some (.iload_n 2, 1) := by decide +kernel
theorem i_0_451 : ins 0 451 = some (.iload_n 1, 1) := by decide +kernel
theorem i_0_452 : ins 0 452 = some (.iload_n 2, 1) := by decide +kernel
theorem i_0_453 : ins 0 453 = some (.if_icmp .ne 7, 3) := by decide +kernel
theorem i_0_456 : ins 0 456 = some (.iconst 0, 1) := by decide +kernel
theorem i_0_457 : ins 0 457 = some (.goto 5, 3) := by decide +kernel
theorem t_457_462 : tg 457 (5) = some 462 := by decide +kernel
theorem i_0_460 : ins 0 460 = some (.bipush 9, 2) := by decide +kernel
theorem i_0_462 : ins 0 462 = some (.iastore, 1) := by decide +kernel
theorem i_0_463 : ins 0 463 = some (.iinc 2 1, 3) := by decide +kernel
theorem i_0_466 : ins 0 466 = some (.goto (-28), 3) := by decide +kernel
theorem t_466_438 : tg 466 (-28) = some 438 := by decide +kernel
theorem i_0_469 : ins 0 469 = some (.iinc 1 1, 3) := by decide +kernel
theorem i_0_472 : ins 0 472 = some (.goto (-42), 3) := by decide +kernel
theorem t_472_430 : tg 472 (-42) = some 430 := by decide +kernel
theorem i_0_475 : ins 0 475 = some (.return_, 1) := by decide +kernel
theorem r_0 : mret 0 = 0 := by decide +kernel
theorem i_92_0 : ins 92 0 = some (.aload_n 0, 1) := by decide +kernel
theorem v_92_1 : inv 92 1 = some (0, 0, 4, 0) := by decide +kernel
theorem i_92_1 : ins 92 1 = some (.invokespecial 1, 3) := by decide +kernel
theorem i_92_4 : ins 92 4 = some (.aload_n 0, 1) := by decide +kernel
theorem i_92_5 : ins 92 5 = some (.bipush 12, 2) := by decide +kernel
theorem s_92_7 : site 92 7 = some 76546241 := by decide +kernel
theorem i_92_7 : ins 92 7 = some (.newarray .int, 2) := by decide +kernel
theorem f_92_9 : fld 92 9 = some (7340134, 4, 2) := by decide +kernel
theorem o_92_7340134_4 : putok 92 7340134 4 = true := by decide +kernel
theorem i_92_9 : ins 92 9 = some (.putfield 9, 3) := by decide +kernel
theorem i_92_12 : ins 92 12 = some (.aload_n 0, 1) := by decide +kernel
theorem kS_256 : (Int16.ofInt (256)).toInt32 = nI 256 := by decide +kernel
theorem i_92_13 : ins 92 13 = some (.sipush 256, 3) := by decide +kernel
theorem s_92_16 : site 92 16 = some 77598721 := by decide +kernel
theorem i_92_16 : ins 92 16 = some (.newarray .int, 2) := by decide +kernel
theorem f_92_13 : fld 92 13 = some (7340134, 5, 2) := by decide +kernel
theorem o_92_7340134_5 : putok 92 7340134 5 = true := by decide +kernel
theorem i_92_18 : ins 92 18 = some (.putfield 13, 3) := by decide +kernel
theorem i_92_21 : ins 92 21 = some (.aload_n 0, 1) := by decide +kernel
theorem i_92_22 : ins 92 22 = some (.sipush 200, 3) := by decide +kernel
theorem s_92_25 : site 92 25 = some 78646401 := by decide +kernel
theorem i_92_25 : ins 92 25 = some (.newarray .int, 2) := by decide +kernel
theorem f_92_16 : fld 92 16 = some (7340134, 6, 2) := by decide +kernel
theorem o_92_7340134_6 : putok 92 7340134 6 = true := by decide +kernel
theorem i_92_27 : ins 92 27 = some (.putfield 16, 3) := by decide +kernel
theorem i_92_30 : ins 92 30 = some (.aload_n 0, 1) := by decide +kernel
theorem i_92_31 : ins 92 31 = some (.sipush 200, 3) := by decide +kernel
theorem s_92_34 : site 92 34 = some 79694977 := by decide +kernel
theorem i_92_34 : ins 92 34 = some (.newarray .int, 2) := by decide +kernel
theorem f_92_19 : fld 92 19 = some (7340134, 7, 2) := by decide +kernel
theorem o_92_7340134_7 : putok 92 7340134 7 = true := by decide +kernel
theorem i_92_36 : ins 92 36 = some (.putfield 19, 3) := by decide +kernel
theorem i_92_39 : ins 92 39 = some (.aload_n 0, 1) := by decide +kernel
theorem i_92_40 : ins 92 40 = some (.sipush 200, 3) := by decide +kernel
theorem s_92_43 : site 92 43 = some 80743553 := by decide +kernel
theorem i_92_43 : ins 92 43 = some (.newarray .int, 2) := by decide +kernel
theorem f_92_22 : fld 92 22 = some (7340134, 8, 2) := by decide +kernel
theorem o_92_7340134_8 : putok 92 7340134 8 = true := by decide +kernel
theorem i_92_45 : ins 92 45 = some (.putfield 22, 3) := by decide +kernel
theorem i_92_48 : ins 92 48 = some (.aload_n 0, 1) := by decide +kernel
theorem i_92_49 : ins 92 49 = some (.sipush 200, 3) := by decide +kernel
theorem s_92_52 : site 92 52 = some 81792129 := by decide +kernel
theorem i_92_52 : ins 92 52 = some (.newarray .int, 2) := by decide +kernel
theorem f_92_25 : fld 92 25 = some (7340134, 9, 2) := by decide +kernel
theorem o_92_7340134_9 : putok 92 7340134 9 = true := by decide +kernel
theorem i_92_54 : ins 92 54 = some (.putfield 25, 3) := by decide +kernel
theorem i_92_57 : ins 92 57 = some (.aload_n 0, 1) := by decide +kernel
theorem i_92_58 : ins 92 58 = some (.sipush 200, 3) := by decide +kernel
theorem s_92_61 : site 92 61 = some 82840705 := by decide +kernel
theorem i_92_61 : ins 92 61 = some (.newarray .int, 2) := by decide +kernel
theorem f_92_28 : fld 92 28 = some (7340134, 10, 2) := by decide +kernel
theorem o_92_7340134_10 : putok 92 7340134 10 = true := by decide +kernel
theorem i_92_63 : ins 92 63 = some (.putfield 28, 3) := by decide +kernel
theorem i_92_66 : ins 92 66 = some (.aload_n 0, 1) := by decide +kernel
theorem i_92_67 : ins 92 67 = some (.sipush 300, 3) := by decide +kernel
theorem s_92_70 : site 92 70 = some 83890881 := by decide +kernel
theorem i_92_70 : ins 92 70 = some (.newarray .int, 2) := by decide +kernel
theorem f_92_31 : fld 92 31 = some (7340134, 13, 2) := by decide +kernel
theorem o_92_7340134_13 : putok 92 7340134 13 = true := by decide +kernel
theorem i_92_72 : ins 92 72 = some (.putfield 31, 3) := by decide +kernel
theorem i_92_75 : ins 92 75 = some (.aload_n 0, 1) := by decide +kernel
theorem i_92_76 : ins 92 76 = some (.sipush 300, 3) := by decide +kernel
theorem s_92_79 : site 92 79 = some 84939457 := by decide +kernel
theorem i_92_79 : ins 92 79 = some (.newarray .int, 2) := by decide +kernel
theorem f_92_34 : fld 92 34 = some (7340134, 14, 2) := by decide +kernel
theorem o_92_7340134_14 : putok 92 7340134 14 = true := by decide +kernel
theorem i_92_81 : ins 92 81 = some (.putfield 34, 3) := by decide +kernel
theorem i_92_84 : ins 92 84 = some (.aload_n 0, 1) := by decide +kernel
theorem i_92_85 : ins 92 85 = some (.sipush 300, 3) := by decide +kernel
theorem s_92_88 : site 92 88 = some 85988033 := by decide +kernel
theorem i_92_88 : ins 92 88 = some (.newarray .int, 2) := by decide +kernel
theorem f_92_37 : fld 92 37 = some (7340134, 15, 2) := by decide +kernel
theorem o_92_7340134_15 : putok 92 7340134 15 = true := by decide +kernel
theorem i_92_90 : ins 92 90 = some (.putfield 37, 3) := by decide +kernel
theorem i_92_93 : ins 92 93 = some (.aload_n 0, 1) := by decide +kernel
theorem i_92_94 : ins 92 94 = some (.sipush 300, 3) := by decide +kernel
theorem s_92_97 : site 92 97 = some 87036609 := by decide +kernel
theorem i_92_97 : ins 92 97 = some (.newarray .int, 2) := by decide +kernel
theorem f_92_40 : fld 92 40 = some (7340134, 16, 2) := by decide +kernel
theorem o_92_7340134_16 : putok 92 7340134 16 = true := by decide +kernel
theorem i_92_99 : ins 92 99 = some (.putfield 40, 3) := by decide +kernel
theorem i_92_102 : ins 92 102 = some (.aload_n 0, 1) := by decide +kernel
theorem i_92_103 : ins 92 103 = some (.sipush 300, 3) := by decide +kernel
theorem s_92_106 : site 92 106 = some 88085185 := by decide +kernel
theorem i_92_106 : ins 92 106 = some (.newarray .int, 2) := by decide +kernel
theorem f_92_43 : fld 92 43 = some (7340134, 17, 2) := by decide +kernel
theorem o_92_7340134_17 : putok 92 7340134 17 = true := by decide +kernel
theorem i_92_108 : ins 92 108 = some (.putfield 43, 3) := by decide +kernel
theorem i_92_111 : ins 92 111 = some (.aload_n 0, 1) := by decide +kernel
theorem i_92_112 : ins 92 112 = some (.sipush 300, 3) := by decide +kernel
theorem s_92_115 : site 92 115 = some 89133761 := by decide +kernel
theorem i_92_115 : ins 92 115 = some (.newarray .int, 2) := by decide +kernel
theorem f_92_46 : fld 92 46 = some (7340134, 18, 2) := by decide +kernel
theorem o_92_7340134_18 : putok 92 7340134 18 = true := by decide +kernel
theorem i_92_117 : ins 92 117 = some (.putfield 46, 3) := by decide +kernel
theorem i_92_120 : ins 92 120 = some (.aload_n 0, 1) := by decide +kernel
theorem i_92_121 : ins 92 121 = some (.sipush 300, 3) := by decide +kernel
theorem s_92_124 : site 92 124 = some 90182337 := by decide +kernel
theorem i_92_124 : ins 92 124 = some (.newarray .int, 2) := by decide +kernel
theorem f_92_49 : fld 92 49 = some (7340134, 19, 2) := by decide +kernel
theorem o_92_7340134_19 : putok 92 7340134 19 = true := by decide +kernel
theorem i_92_126 : ins 92 126 = some (.putfield 49, 3) := by decide +kernel
theorem i_92_129 : ins 92 129 = some (.aload_n 0, 1) := by decide +kernel
theorem i_92_130 : ins 92 130 = some (.sipush 300, 3) := by decide +kernel
theorem s_92_133 : site 92 133 = some 91230915 := by decide +kernel
theorem i_92_133 : ins 92 133 = some (.newarray .boolean, 2) := by decide +kernel
theorem f_92_52 : fld 92 52 = some (7340134, 20, 2) := by decide +kernel
theorem o_92_7340134_20 : putok 92 7340134 20 = true := by decide +kernel
theorem i_92_135 : ins 92 135 = some (.putfield 52, 3) := by decide +kernel
theorem i_92_138 : ins 92 138 = some (.aload_n 0, 1) := by decide +kernel
theorem i_92_139 : ins 92 139 = some (.sipush 300, 3) := by decide +kernel
theorem s_92_142 : site 92 142 = some 92279491 := by decide +kernel
theorem i_92_142 : ins 92 142 = some (.newarray .boolean, 2) := by decide +kernel
theorem f_92_56 : fld 92 56 = some (7340134, 21, 2) := by decide +kernel
theorem o_92_7340134_21 : putok 92 7340134 21 = true := by decide +kernel
theorem i_92_144 : ins 92 144 = some (.putfield 56, 3) := by decide +kernel
theorem i_92_147 : ins 92 147 = some (.aload_n 0, 1) := by decide +kernel
theorem i_92_148 : ins 92 148 = some (.sipush 600, 3) := by decide +kernel
theorem s_92_151 : site 92 151 = some 93332865 := by decide +kernel
theorem i_92_151 : ins 92 151 = some (.newarray .int, 2) := by decide +kernel
theorem f_92_59 : fld 92 59 = some (7340134, 22, 2) := by decide +kernel
theorem o_92_7340134_22 : putok 92 7340134 22 = true := by decide +kernel
theorem i_92_153 : ins 92 153 = some (.putfield 59, 3) := by decide +kernel
theorem i_92_156 : ins 92 156 = some (.aload_n 0, 1) := by decide +kernel
theorem i_92_157 : ins 92 157 = some (.sipush 600, 3) := by decide +kernel
theorem s_92_160 : site 92 160 = some 94381441 := by decide +kernel
theorem i_92_160 : ins 92 160 = some (.newarray .int, 2) := by decide +kernel
theorem f_92_62 : fld 92 62 = some (7340134, 23, 2) := by decide +kernel
theorem o_92_7340134_23 : putok 92 7340134 23 = true := by decide +kernel
theorem i_92_162 : ins 92 162 = some (.putfield 62, 3) := by decide +kernel
theorem i_92_165 : ins 92 165 = some (.aload_n 0, 1) := by decide +kernel
theorem i_92_166 : ins 92 166 = some (.sipush 600, 3) := by decide +kernel
theorem s_92_169 : site 92 169 = some 95430017 := by decide +kernel
theorem i_92_169 : ins 92 169 = some (.newarray .int, 2) := by decide +kernel
theorem f_92_65 : fld 92 65 = some (7340134, 24, 2) := by decide +kernel
theorem o_92_7340134_24 : putok 92 7340134 24 = true := by decide +kernel
theorem i_92_171 : ins 92 171 = some (.putfield 65, 3) := by decide +kernel
theorem i_92_174 : ins 92 174 = some (.aload_n 0, 1) := by decide +kernel
theorem i_92_175 : ins 92 175 = some (.sipush 600, 3) := by decide +kernel
theorem s_92_178 : site 92 178 = some 96478593 := by decide +kernel
theorem i_92_178 : ins 92 178 = some (.newarray .int, 2) := by decide +kernel
theorem f_92_68 : fld 92 68 = some (7340134, 25, 2) := by decide +kernel
theorem o_92_7340134_25 : putok 92 7340134 25 = true := by decide +kernel
theorem i_92_180 : ins 92 180 = some (.putfield 68, 3) := by decide +kernel
theorem i_92_183 : ins 92 183 = some (.aload_n 0, 1) := by decide +kernel
theorem i_92_184 : ins 92 184 = some (.sipush 600, 3) := by decide +kernel
theorem s_92_187 : site 92 187 = some 97527171 := by decide +kernel
theorem i_92_187 : ins 92 187 = some (.newarray .boolean, 2) := by decide +kernel
theorem f_92_71 : fld 92 71 = some (7340134, 26, 2) := by decide +kernel
theorem o_92_7340134_26 : putok 92 7340134 26 = true := by decide +kernel
theorem i_92_189 : ins 92 189 = some (.putfield 71, 3) := by decide +kernel
theorem i_92_192 : ins 92 192 = some (.aload_n 0, 1) := by decide +kernel
theorem i_92_193 : ins 92 193 = some (.sipush 400, 3) := by decide +kernel
theorem s_92_196 : site 92 196 = some 98572546 := by decide +kernel
theorem i_92_196 : ins 92 196 = some (.newarray .byte, 2) := by decide +kernel
theorem f_92_74 : fld 92 74 = some (7340134, 27, 2) := by decide +kernel
theorem o_92_7340134_27 : putok 92 7340134 27 = true := by decide +kernel
theorem i_92_198 : ins 92 198 = some (.putfield 74, 3) := by decide +kernel
theorem i_92_201 : ins 92 201 = some (.aload_n 0, 1) := by decide +kernel
theorem i_92_202 : ins 92 202 = some (.bipush 10, 2) := by decide +kernel
theorem s_92_204 : site 92 204 = some 99614881 := by decide +kernel
theorem i_92_204 : ins 92 204 = some (.newarray .int, 2) := by decide +kernel
theorem f_92_78 : fld 92 78 = some (7340134, 36, 2) := by decide +kernel
theorem o_92_7340134_36 : putok 92 7340134 36 = true := by decide +kernel
theorem i_92_206 : ins 92 206 = some (.putfield 78, 3) := by decide +kernel
theorem i_92_209 : ins 92 209 = some (.aload_n 0, 1) := by decide +kernel
theorem i_92_210 : ins 92 210 = some (.bipush 10, 2) := by decide +kernel
theorem s_92_212 : site 92 212 = some 100663457 := by decide +kernel
theorem i_92_212 : ins 92 212 = some (.newarray .int, 2) := by decide +kernel
theorem f_92_81 : fld 92 81 = some (7340134, 37, 2) := by decide +kernel
theorem o_92_7340134_37 : putok 92 7340134 37 = true := by decide +kernel
theorem i_92_214 : ins 92 214 = some (.putfield 81, 3) := by decide +kernel
theorem i_92_217 : ins 92 217 = some (.aload_n 0, 1) := by decide +kernel
theorem kB_120 : (Int8.ofInt (120)).toInt32 = nI 120 := by decide +kernel
theorem i_92_218 : ins 92 218 = some (.bipush 120, 2) := by decide +kernel
theorem s_92_220 : site 92 220 = some 101713793 := by decide +kernel
theorem i_92_220 : ins 92 220 = some (.newarray .int, 2) := by decide +kernel
theorem f_92_84 : fld 92 84 = some (7340134, 38, 2) := by decide +kernel
theorem o_92_7340134_38 : putok 92 7340134 38 = true := by decide +kernel
theorem i_92_222 : ins 92 222 = some (.putfield 84, 3) := by decide +kernel
theorem i_92_225 : ins 92 225 = some (.aload_n 0, 1) := by decide +kernel
theorem i_92_226 : ins 92 226 = some (.bipush 120, 2) := by decide +kernel
theorem s_92_228 : site 92 228 = some 102762369 := by decide +kernel
theorem i_92_228 : ins 92 228 = some (.newarray .int, 2) := by decide +kernel
theorem f_92_87 : fld 92 87 = some (7340134, 39, 2) := by decide +kernel
theorem o_92_7340134_39 : putok 92 7340134 39 = true := by decide +kernel
theorem i_92_230 : ins 92 230 = some (.putfield 87, 3) := by decide +kernel
theorem i_92_233 : ins 92 233 = some (.aload_n 0, 1) := by decide +kernel
theorem i_92_234 : ins 92 234 = some (.bipush 120, 2) := by decide +kernel
theorem s_92_236 : site 92 236 = some 103810945 := by decide +kernel
theorem i_92_236 : ins 92 236 = some (.newarray .int, 2) := by decide +kernel
theorem f_92_90 : fld 92 90 = some (7340134, 40, 2) := by decide +kernel
theorem o_92_7340134_40 : putok 92 7340134 40 = true := by decide +kernel
theorem i_92_238 : ins 92 238 = some (.putfield 90, 3) := by decide +kernel
theorem i_92_241 : ins 92 241 = some (.aload_n 0, 1) := by decide +kernel
theorem i_92_242 : ins 92 242 = some (.bipush 120, 2) := by decide +kernel
theorem s_92_244 : site 92 244 = some 104859521 := by decide +kernel
theorem i_92_244 : ins 92 244 = some (.newarray .int, 2) := by decide +kernel
theorem f_92_93 : fld 92 93 = some (7340134, 41, 2) := by decide +kernel
theorem o_92_7340134_41 : putok 92 7340134 41 = true := by decide +kernel
theorem i_92_246 : ins 92 246 = some (.putfield 93, 3) := by decide +kernel
theorem i_92_249 : ins 92 249 = some (.aload_n 0, 1) := by decide +kernel
theorem i_92_250 : ins 92 250 = some (.sipush 4000, 3) := by decide +kernel
theorem s_92_253 : site 92 253 = some 105970177 := by decide +kernel
theorem i_92_253 : ins 92 253 = some (.newarray .int, 2) := by decide +kernel
theorem f_92_96 : fld 92 96 = some (7340134, 42, 2) := by decide +kernel
theorem o_92_7340134_42 : putok 92 7340134 42 = true := by decide +kernel
theorem i_92_255 : ins 92 255 = some (.putfield 96, 3) := by decide +kernel
theorem i_92_258 : ins 92 258 = some (.aload_n 0, 1) := by decide +kernel
theorem i_92_259 : ins 92 259 = some (.sipush 4000, 3) := by decide +kernel
theorem s_92_262 : site 92 262 = some 107018753 := by decide +kernel
theorem i_92_262 : ins 92 262 = some (.newarray .int, 2) := by decide +kernel
theorem f_92_99 : fld 92 99 = some (7340134, 43, 2) := by decide +kernel
theorem o_92_7340134_43 : putok 92 7340134 43 = true := by decide +kernel
theorem i_92_264 : ins 92 264 = some (.putfield 99, 3) := by decide +kernel
theorem i_92_267 : ins 92 267 = some (.aload_n 0, 1) := by decide +kernel
theorem i_92_268 : ins 92 268 = some (.sipush 400, 3) := by decide +kernel
theorem s_92_271 : site 92 271 = some 108009729 := by decide +kernel
theorem i_92_271 : ins 92 271 = some (.newarray .int, 2) := by decide +kernel
theorem f_92_102 : fld 92 102 = some (7340134, 46, 2) := by decide +kernel
theorem o_92_7340134_46 : putok 92 7340134 46 = true := by decide +kernel
theorem i_92_273 : ins 92 273 = some (.putfield 102, 3) := by decide +kernel
theorem i_92_276 : ins 92 276 = some (.aload_n 0, 1) := by decide +kernel
theorem i_92_277 : ins 92 277 = some (.sipush 400, 3) := by decide +kernel
theorem s_92_280 : site 92 280 = some 109058308 := by decide +kernel
theorem i_92_280 : ins 92 280 = some (.newarray .long, 2) := by decide +kernel
theorem f_92_105 : fld 92 105 = some (7340134, 47, 2) := by decide +kernel
theorem o_92_7340134_47 : putok 92 7340134 47 = true := by decide +kernel
theorem i_92_282 : ins 92 282 = some (.putfield 105, 3) := by decide +kernel
theorem i_92_285 : ins 92 285 = some (.aload_n 0, 1) := by decide +kernel
theorem i_92_286 : ins 92 286 = some (.bipush 13, 2) := by decide +kernel
theorem s_92_288 : site 92 288 = some 110100692 := by decide +kernel
theorem i_92_288 : ins 92 288 = some (.newarray .long, 2) := by decide +kernel
theorem f_92_109 : fld 92 109 = some (7340134, 48, 2) := by decide +kernel
theorem o_92_7340134_48 : putok 92 7340134 48 = true := by decide +kernel
theorem i_92_290 : ins 92 290 = some (.putfield 109, 3) := by decide +kernel
theorem i_92_293 : ins 92 293 = some (.aload_n 0, 1) := by decide +kernel
theorem i_92_294 : ins 92 294 = some (.sipush 1800, 3) := by decide +kernel
theorem s_92_297 : site 92 297 = some 111177857 := by decide +kernel
theorem i_92_297 : ins 92 297 = some (.newarray .int, 2) := by decide +kernel
theorem f_92_112 : fld 92 112 = some (7340134, 52, 2) := by decide +kernel
theorem o_92_7340134_52 : putok 92 7340134 52 = true := by decide +kernel
theorem i_92_299 : ins 92 299 = some (.putfield 112, 3) := by decide +kernel
theorem i_92_302 : ins 92 302 = some (.aload_n 0, 1) := by decide +kernel
theorem i_92_303 : ins 92 303 = some (.sipush 300, 3) := by decide +kernel
theorem s_92_306 : site 92 306 = some 112202433 := by decide +kernel
theorem i_92_306 : ins 92 306 = some (.newarray .int, 2) := by decide +kernel
theorem f_92_115 : fld 92 115 = some (7340134, 53, 2) := by decide +kernel
theorem o_92_7340134_53 : putok 92 7340134 53 = true := by decide +kernel
theorem i_92_308 : ins 92 308 = some (.putfield 115, 3) := by decide +kernel
theorem i_92_311 : ins 92 311 = some (.aload_n 0, 1) := by decide +kernel
theorem i_92_312 : ins 92 312 = some (.sipush 300, 3) := by decide +kernel
theorem s_92_315 : site 92 315 = some 113251011 := by decide +kernel
theorem i_92_315 : ins 92 315 = some (.newarray .boolean, 2) := by decide +kernel
theorem f_92_118 : fld 92 118 = some (7340134, 54, 2) := by decide +kernel
theorem o_92_7340134_54 : putok 92 7340134 54 = true := by decide +kernel
theorem i_92_317 : ins 92 317 = some (.putfield 118, 3) := by decide +kernel
theorem i_92_320 : ins 92 320 = some (.aload_n 0, 1) := by decide +kernel
theorem i_92_321 : ins 92 321 = some (.sipush 300, 3) := by decide +kernel
theorem s_92_324 : site 92 324 = some 114299587 := by decide +kernel
theorem i_92_324 : ins 92 324 = some (.newarray .boolean, 2) := by decide +kernel
theorem f_92_121 : fld 92 121 = some (7340134, 55, 2) := by decide +kernel
theorem o_92_7340134_55 : putok 92 7340134 55 = true := by decide +kernel
theorem i_92_326 : ins 92 326 = some (.putfield 121, 3) := by decide +kernel
theorem i_92_329 : ins 92 329 = some (.aload_n 0, 1) := by decide +kernel
theorem i_92_330 : ins 92 330 = some (.sipush 2144, 3) := by decide +kernel
theorem s_92_333 : site 92 333 = some 115377668 := by decide +kernel
theorem i_92_333 : ins 92 333 = some (.newarray .long, 2) := by decide +kernel
theorem f_92_124 : fld 92 124 = some (7340134, 56, 2) := by decide +kernel
theorem o_92_7340134_56 : putok 92 7340134 56 = true := by decide +kernel
theorem i_92_335 : ins 92 335 = some (.putfield 124, 3) := by decide +kernel
theorem i_92_338 : ins 92 338 = some (.aload_n 0, 1) := by decide +kernel
theorem i_92_339 : ins 92 339 = some (.sipush 2144, 3) := by decide +kernel
theorem s_92_342 : site 92 342 = some 116426244 := by decide +kernel
theorem i_92_342 : ins 92 342 = some (.newarray .long, 2) := by decide +kernel
theorem f_92_127 : fld 92 127 = some (7340134, 57, 2) := by decide +kernel
theorem o_92_7340134_57 : putok 92 7340134 57 = true := by decide +kernel
theorem i_92_344 : ins 92 344 = some (.putfield 127, 3) := by decide +kernel
theorem i_92_347 : ins 92 347 = some (.aload_n 0, 1) := by decide +kernel
theorem i_92_348 : ins 92 348 = some (.iconst (-1), 1) := by decide +kernel
theorem f_92_130 : fld 92 130 = some (7340134, 58, 0) := by decide +kernel
theorem o_92_7340134_58 : putok 92 7340134 58 = true := by decide +kernel
theorem i_92_349 : ins 92 349 = some (.putfield 130, 3) := by decide +kernel
theorem i_92_352 : ins 92 352 = some (.aload_n 0, 1) := by decide +kernel
theorem i_92_353 : ins 92 353 = some (.iconst (-1), 1) := by decide +kernel
theorem f_92_134 : fld 92 134 = some (7340134, 59, 0) := by decide +kernel
theorem o_92_7340134_59 : putok 92 7340134 59 = true := by decide +kernel
theorem i_92_354 : ins 92 354 = some (.putfield 134, 3) := by decide +kernel
theorem i_92_357 : ins 92 357 = some (.aload_n 0, 1) := by decide +kernel
theorem i_92_358 : ins 92 358 = some (.iconst (-1), 1) := by decide +kernel
theorem f_92_137 : fld 92 137 = some (7340134, 60, 0) := by decide +kernel
theorem o_92_7340134_60 : putok 92 7340134 60 = true := by decide +kernel
theorem i_92_359 : ins 92 359 = some (.putfield 137, 3) := by decide +kernel
theorem i_92_362 : ins 92 362 = some (.aload_n 0, 1) := by decide +kernel
theorem i_92_363 : ins 92 363 = some (.iconst (-1), 1) := by decide +kernel
theorem f_92_140 : fld 92 140 = some (7340134, 61, 0) := by decide +kernel
theorem o_92_7340134_61 : putok 92 7340134 61 = true := by decide +kernel
theorem i_92_364 : ins 92 364 = some (.putfield 140, 3) := by decide +kernel
theorem i_92_367 : ins 92 367 = some (.aload_n 0, 1) := by decide +kernel
theorem i_92_368 : ins 92 368 = some (.sipush 2144, 3) := by decide +kernel
theorem s_92_371 : site 92 371 = some 117474820 := by decide +kernel
theorem i_92_371 : ins 92 371 = some (.newarray .long, 2) := by decide +kernel
theorem f_92_143 : fld 92 143 = some (7340134, 64, 2) := by decide +kernel
theorem o_92_7340134_64 : putok 92 7340134 64 = true := by decide +kernel
theorem i_92_373 : ins 92 373 = some (.putfield 143, 3) := by decide +kernel
theorem i_92_376 : ins 92 376 = some (.aload_n 0, 1) := by decide +kernel
theorem i_92_377 : ins 92 377 = some (.iconst (-1), 1) := by decide +kernel
theorem f_92_146 : fld 92 146 = some (7340134, 65, 0) := by decide +kernel
theorem o_92_7340134_65 : putok 92 7340134 65 = true := by decide +kernel
theorem i_92_378 : ins 92 378 = some (.putfield 146, 3) := by decide +kernel
theorem i_92_381 : ins 92 381 = some (.aload_n 0, 1) := by decide +kernel
theorem i_92_382 : ins 92 382 = some (.bipush 8, 2) := by decide +kernel
theorem s_92_384 : site 92 384 = some 118489217 := by decide +kernel
theorem i_92_384 : ins 92 384 = some (.newarray .int, 2) := by decide +kernel
theorem f_92_149 : fld 92 149 = some (7340134, 66, 2) := by decide +kernel
theorem o_92_7340134_66 : putok 92 7340134 66 = true := by decide +kernel
theorem i_92_386 : ins 92 386 = some (.putfield 149, 3) := by decide +kernel
theorem i_92_389 : ins 92 389 = some (.aload_n 0, 1) := by decide +kernel
theorem i_92_390 : ins 92 390 = some (.bipush 10, 2) := by decide +kernel
theorem s_92_392 : site 92 392 = some 119537825 := by decide +kernel
theorem i_92_392 : ins 92 392 = some (.newarray .int, 2) := by decide +kernel
theorem f_92_152 : fld 92 152 = some (7340134, 67, 2) := by decide +kernel
theorem o_92_7340134_67 : putok 92 7340134 67 = true := by decide +kernel
theorem i_92_394 : ins 92 394 = some (.putfield 152, 3) := by decide +kernel
theorem i_92_397 : ins 92 397 = some (.aload_n 0, 1) := by decide +kernel
theorem i_92_398 : ins 92 398 = some (.bipush 8, 2) := by decide +kernel
theorem kl_120586369 : klen 120586369 = 8 := by decide +kernel
theorem s_92_400 : site 92 400 = some 120586369 := by decide +kernel
theorem i_92_400 : ins 92 400 = some (.newarray .int, 2) := by decide +kernel
theorem f_92_155 : fld 92 155 = some (7340134, 68, 2) := by decide +kernel
theorem o_92_7340134_68 : putok 92 7340134 68 = true := by decide +kernel
theorem i_92_402 : ins 92 402 = some (.putfield 155, 3) := by decide +kernel
theorem i_92_405 : ins 92 405 = some (.aload_n 0, 1) := by decide +kernel
theorem i_92_406 : ins 92 406 = some (.bipush 8, 2) := by decide +kernel
theorem s_92_408 : site 92 408 = some 121634945 := by decide +kernel
theorem i_92_408 : ins 92 408 = some (.newarray .int, 2) := by decide +kernel
theorem f_92_158 : fld 92 158 = some (7340134, 69, 2) := by decide +kernel
theorem o_92_7340134_69 : putok 92 7340134 69 = true := by decide +kernel
theorem i_92_410 : ins 92 410 = some (.putfield 158, 3) := by decide +kernel
theorem i_92_413 : ins 92 413 = some (.aload_n 0, 1) := by decide +kernel
theorem i_92_414 : ins 92 414 = some (.bipush 8, 2) := by decide +kernel
theorem s_92_416 : site 92 416 = some 122683521 := by decide +kernel
theorem i_92_416 : ins 92 416 = some (.newarray .int, 2) := by decide +kernel
theorem f_92_161 : fld 92 161 = some (7340134, 70, 2) := by decide +kernel
theorem o_92_7340134_70 : putok 92 7340134 70 = true := by decide +kernel
theorem i_92_418 : ins 92 418 = some (.putfield 161, 3) := by decide +kernel
theorem i_92_421 : ins 92 421 = some (.aload_n 0, 1) := by decide +kernel
theorem kS_9216 : (Int16.ofInt (9216)).toInt32 = nI 9216 := by decide +kernel
theorem i_92_422 : ins 92 422 = some (.sipush 9216, 3) := by decide +kernel
theorem s_92_425 : site 92 425 = some 123879428 := by decide +kernel
theorem i_92_425 : ins 92 425 = some (.newarray .long, 2) := by decide +kernel
theorem f_92_164 : fld 92 164 = some (7340134, 71, 2) := by decide +kernel
theorem o_92_7340134_71 : putok 92 7340134 71 = true := by decide +kernel
theorem i_92_427 : ins 92 427 = some (.putfield 164, 3) := by decide +kernel
theorem i_92_430 : ins 92 430 = some (.aload_n 0, 1) := by decide +kernel
theorem i_92_431 : ins 92 431 = some (.iconst 3, 1) := by decide +kernel
theorem s_92_432 : site 92 432 = some 124780596 := by decide +kernel
theorem i_92_432 : ins 92 432 = some (.newarray .long, 2) := by decide +kernel
theorem f_92_167 : fld 92 167 = some (7340134, 72, 2) := by decide +kernel
theorem o_92_7340134_72 : putok 92 7340134 72 = true := by decide +kernel
theorem i_92_434 : ins 92 434 = some (.putfield 167, 3) := by decide +kernel
theorem i_92_437 : ins 92 437 = some (.aload_n 0, 1) := by decide +kernel
theorem i_92_438 : ins 92 438 = some (.bipush 12, 2) := by decide +kernel
theorem s_92_440 : site 92 440 = some 125829313 := by decide +kernel
theorem i_92_440 : ins 92 440 = some (.newarray .int, 2) := by decide +kernel
theorem f_92_170 : fld 92 170 = some (7340134, 73, 2) := by decide +kernel
theorem o_92_7340134_73 : putok 92 7340134 73 = true := by decide +kernel
theorem i_92_442 : ins 92 442 = some (.putfield 170, 3) := by decide +kernel
theorem i_92_445 : ins 92 445 = some (.aload_n 0, 1) := by decide +kernel
theorem i_92_446 : ins 92 446 = some (.bipush 120, 2) := by decide +kernel
theorem s_92_448 : site 92 448 = some 126879617 := by decide +kernel
theorem i_92_448 : ins 92 448 = some (.newarray .int, 2) := by decide +kernel
theorem f_92_173 : fld 92 173 = some (7340134, 74, 2) := by decide +kernel
theorem o_92_7340134_74 : putok 92 7340134 74 = true := by decide +kernel
theorem i_92_450 : ins 92 450 = some (.putfield 173, 3) := by decide +kernel
theorem i_92_453 : ins 92 453 = some (.aload_n 0, 1) := by decide +kernel
theorem i_92_454 : ins 92 454 = some (.bipush 120, 2) := by decide +kernel
theorem s_92_456 : site 92 456 = some 127928193 := by decide +kernel
theorem i_92_456 : ins 92 456 = some (.newarray .int, 2) := by decide +kernel
theorem f_92_176 : fld 92 176 = some (7340134, 75, 2) := by decide +kernel
theorem o_92_7340134_75 : putok 92 7340134 75 = true := by decide +kernel
theorem i_92_458 : ins 92 458 = some (.putfield 176, 3) := by decide +kernel
theorem i_92_461 : ins 92 461 = some (.aload_n 0, 1) := by decide +kernel
theorem i_92_462 : ins 92 462 = some (.bipush 120, 2) := by decide +kernel
theorem s_92_464 : site 92 464 = some 128976769 := by decide +kernel
theorem i_92_464 : ins 92 464 = some (.newarray .int, 2) := by decide +kernel
theorem f_92_179 : fld 92 179 = some (7340134, 76, 2) := by decide +kernel
theorem o_92_7340134_76 : putok 92 7340134 76 = true := by decide +kernel
theorem i_92_466 : ins 92 466 = some (.putfield 179, 3) := by decide +kernel
theorem i_92_469 : ins 92 469 = some (.aload_n 0, 1) := by decide +kernel
theorem i_92_470 : ins 92 470 = some (.bipush 120, 2) := by decide +kernel
theorem s_92_472 : site 92 472 = some 130025345 := by decide +kernel
theorem i_92_472 : ins 92 472 = some (.newarray .int, 2) := by decide +kernel
theorem f_92_182 : fld 92 182 = some (7340134, 77, 2) := by decide +kernel
theorem o_92_7340134_77 : putok 92 7340134 77 = true := by decide +kernel
theorem i_92_474 : ins 92 474 = some (.putfield 182, 3) := by decide +kernel
theorem i_92_477 : ins 92 477 = some (.aload_n 0, 1) := by decide +kernel
theorem i_92_478 : ins 92 478 = some (.bipush 10, 2) := by decide +kernel
theorem s_92_480 : site 92 480 = some 131072161 := by decide +kernel
theorem i_92_480 : ins 92 480 = some (.newarray .int, 2) := by decide +kernel
theorem f_92_185 : fld 92 185 = some (7340134, 78, 2) := by decide +kernel
theorem o_92_7340134_78 : putok 92 7340134 78 = true := by decide +kernel
theorem i_92_482 : ins 92 482 = some (.putfield 185, 3) := by decide +kernel
theorem i_92_485 : ins 92 485 = some (.aload_n 0, 1) := by decide +kernel
theorem i_92_486 : ins 92 486 = some (.bipush 30, 2) := by decide +kernel
theorem s_92_488 : site 92 488 = some 132121057 := by decide +kernel
theorem i_92_488 : ins 92 488 = some (.newarray .int, 2) := by decide +kernel
theorem f_92_188 : fld 92 188 = some (7340134, 79, 2) := by decide +kernel
theorem o_92_7340134_79 : putok 92 7340134 79 = true := by decide +kernel
theorem i_92_490 : ins 92 490 = some (.putfield 188, 3) := by decide +kernel
theorem i_92_493 : ins 92 493 = some (.aload_n 0, 1) := by decide +kernel
theorem i_92_494 : ins 92 494 = some (.iconst 3, 1) := by decide +kernel
theorem s_92_495 : site 92 495 = some 133169201 := by decide +kernel
theorem i_92_495 : ins 92 495 = some (.newarray .int, 2) := by decide +kernel
theorem f_92_191 : fld 92 191 = some (7340134, 80, 2) := by decide +kernel
theorem o_92_7340134_80 : putok 92 7340134 80 = true := by decide +kernel
theorem i_92_497 : ins 92 497 = some (.putfield 191, 3) := by decide +kernel
theorem i_92_500 : ins 92 500 = some (.aload_n 0, 1) := by decide +kernel
theorem i_92_501 : ins 92 501 = some (.bipush 120, 2) := by decide +kernel
theorem s_92_503 : site 92 503 = some 134219651 := by decide +kernel
theorem i_92_503 : ins 92 503 = some (.newarray .boolean, 2) := by decide +kernel
theorem f_92_194 : fld 92 194 = some (7340134, 81, 2) := by decide +kernel
theorem o_92_7340134_81 : putok 92 7340134 81 = true := by decide +kernel
theorem i_92_505 : ins 92 505 = some (.putfield 194, 3) := by decide +kernel
theorem i_92_508 : ins 92 508 = some (.aload_n 0, 1) := by decide +kernel
theorem i_92_509 : ins 92 509 = some (.iconst (-1), 1) := by decide +kernel
theorem f_92_197 : fld 92 197 = some (7340134, 82, 0) := by decide +kernel
theorem o_92_7340134_82 : putok 92 7340134 82 = true := by decide +kernel
theorem i_92_510 : ins 92 510 = some (.putfield 197, 3) := by decide +kernel
theorem i_92_513 : ins 92 513 = some (.aload_n 0, 1) := by decide +kernel
theorem kB_64 : (Int8.ofInt (64)).toInt32 = nI 64 := by decide +kernel
theorem i_92_514 : ins 92 514 = some (.bipush 64, 2) := by decide +kernel
theorem s_92_516 : site 92 516 = some 135267329 := by decide +kernel
theorem i_92_516 : ins 92 516 = some (.newarray .int, 2) := by decide +kernel
theorem f_92_200 : fld 92 200 = some (7340134, 85, 2) := by decide +kernel
theorem o_92_7340134_85 : putok 92 7340134 85 = true := by decide +kernel
theorem i_92_518 : ins 92 518 = some (.putfield 200, 3) := by decide +kernel
theorem i_92_521 : ins 92 521 = some (.aload_n 0, 1) := by decide +kernel
theorem i_92_522 : ins 92 522 = some (.bipush 8, 2) := by decide +kernel
theorem s_92_524 : site 92 524 = some 136315009 := by decide +kernel
theorem i_92_524 : ins 92 524 = some (.newarray .int, 2) := by decide +kernel
theorem f_92_203 : fld 92 203 = some (7340134, 86, 2) := by decide +kernel
theorem o_92_7340134_86 : putok 92 7340134 86 = true := by decide +kernel
theorem i_92_526 : ins 92 526 = some (.putfield 203, 3) := by decide +kernel
theorem i_92_529 : ins 92 529 = some (.aload_n 0, 1) := by decide +kernel
theorem i_92_530 : ins 92 530 = some (.iconst 4, 1) := by decide +kernel
theorem s_92_531 : site 92 531 = some 137363521 := by decide +kernel
theorem i_92_531 : ins 92 531 = some (.newarray .int, 2) := by decide +kernel
theorem f_92_206 : fld 92 206 = some (7340134, 87, 2) := by decide +kernel
theorem o_92_7340134_87 : putok 92 7340134 87 = true := by decide +kernel
theorem i_92_533 : ins 92 533 = some (.putfield 206, 3) := by decide +kernel
theorem i_92_536 : ins 92 536 = some (.aload_n 0, 1) := by decide +kernel
theorem i_92_537 : ins 92 537 = some (.bipush 8, 2) := by decide +kernel
theorem s_92_539 : site 92 539 = some 138412161 := by decide +kernel
theorem i_92_539 : ins 92 539 = some (.newarray .int, 2) := by decide +kernel
theorem f_92_209 : fld 92 209 = some (7340134, 88, 2) := by decide +kernel
theorem o_92_7340134_88 : putok 92 7340134 88 = true := by decide +kernel
theorem i_92_541 : ins 92 541 = some (.putfield 209, 3) := by decide +kernel
theorem i_92_544 : ins 92 544 = some (.aload_n 0, 1) := by decide +kernel
theorem i_92_545 : ins 92 545 = some (.bipush 8, 2) := by decide +kernel
theorem s_92_547 : site 92 547 = some 139460737 := by decide +kernel
theorem i_92_547 : ins 92 547 = some (.newarray .int, 2) := by decide +kernel
theorem f_92_212 : fld 92 212 = some (7340134, 89, 2) := by decide +kernel
theorem o_92_7340134_89 : putok 92 7340134 89 = true := by decide +kernel
theorem i_92_549 : ins 92 549 = some (.putfield 212, 3) := by decide +kernel
theorem i_92_552 : ins 92 552 = some (.aload_n 0, 1) := by decide +kernel
theorem i_92_553 : ins 92 553 = some (.bipush 60, 2) := by decide +kernel
theorem s_92_555 : site 92 555 = some 140510145 := by decide +kernel
theorem i_92_555 : ins 92 555 = some (.newarray .int, 2) := by decide +kernel
theorem f_92_215 : fld 92 215 = some (7340134, 91, 2) := by decide +kernel
theorem o_92_7340134_91 : putok 92 7340134 91 = true := by decide +kernel
theorem i_92_557 : ins 92 557 = some (.putfield 215, 3) := by decide +kernel
theorem i_92_560 : ins 92 560 = some (.aload_n 0, 1) := by decide +kernel
theorem i_92_561 : ins 92 561 = some (.bipush 60, 2) := by decide +kernel
theorem s_92_563 : site 92 563 = some 141558721 := by decide +kernel
theorem i_92_563 : ins 92 563 = some (.newarray .int, 2) := by decide +kernel
theorem f_92_218 : fld 92 218 = some (7340134, 92, 2) := by decide +kernel
theorem o_92_7340134_92 : putok 92 7340134 92 = true := by decide +kernel
theorem i_92_565 : ins 92 565 = some (.putfield 218, 3) := by decide +kernel
theorem i_92_568 : ins 92 568 = some (.aload_n 0, 1) := by decide +kernel
theorem i_92_569 : ins 92 569 = some (.bipush 60, 2) := by decide +kernel
theorem s_92_571 : site 92 571 = some 142607297 := by decide +kernel
theorem i_92_571 : ins 92 571 = some (.newarray .int, 2) := by decide +kernel
theorem f_92_221 : fld 92 221 = some (7340134, 93, 2) := by decide +kernel
theorem o_92_7340134_93 : putok 92 7340134 93 = true := by decide +kernel
theorem i_92_573 : ins 92 573 = some (.putfield 221, 3) := by decide +kernel
theorem i_92_576 : ins 92 576 = some (.aload_n 0, 1) := by decide +kernel
theorem i_92_577 : ins 92 577 = some (.bipush 60, 2) := by decide +kernel
theorem s_92_579 : site 92 579 = some 143655873 := by decide +kernel
theorem i_92_579 : ins 92 579 = some (.newarray .int, 2) := by decide +kernel
theorem f_92_224 : fld 92 224 = some (7340134, 94, 2) := by decide +kernel
theorem o_92_7340134_94 : putok 92 7340134 94 = true := by decide +kernel
theorem i_92_581 : ins 92 581 = some (.putfield 224, 3) := by decide +kernel
theorem i_92_584 : ins 92 584 = some (.aload_n 0, 1) := by decide +kernel
theorem i_92_585 : ins 92 585 = some (.bipush 100, 2) := by decide +kernel
theorem s_92_587 : site 92 587 = some 144705089 := by decide +kernel
theorem i_92_587 : ins 92 587 = some (.newarray .int, 2) := by decide +kernel
theorem f_92_227 : fld 92 227 = some (7340134, 97, 2) := by decide +kernel
theorem o_92_7340134_97 : putok 92 7340134 97 = true := by decide +kernel
theorem i_92_589 : ins 92 589 = some (.putfield 227, 3) := by decide +kernel
theorem i_92_592 : ins 92 592 = some (.aload_n 0, 1) := by decide +kernel
theorem i_92_593 : ins 92 593 = some (.bipush 100, 2) := by decide +kernel
theorem s_92_595 : site 92 595 = some 145753665 := by decide +kernel
theorem i_92_595 : ins 92 595 = some (.newarray .int, 2) := by decide +kernel
theorem f_92_230 : fld 92 230 = some (7340134, 98, 2) := by decide +kernel
theorem o_92_7340134_98 : putok 92 7340134 98 = true := by decide +kernel
theorem i_92_597 : ins 92 597 = some (.putfield 230, 3) := by decide +kernel
theorem i_92_600 : ins 92 600 = some (.aload_n 0, 1) := by decide +kernel
theorem i_92_601 : ins 92 601 = some (.bipush 100, 2) := by decide +kernel
theorem s_92_603 : site 92 603 = some 146802241 := by decide +kernel
theorem i_92_603 : ins 92 603 = some (.newarray .int, 2) := by decide +kernel
theorem f_92_233 : fld 92 233 = some (7340134, 99, 2) := by decide +kernel
theorem o_92_7340134_99 : putok 92 7340134 99 = true := by decide +kernel
theorem i_92_605 : ins 92 605 = some (.putfield 233, 3) := by decide +kernel
theorem i_92_608 : ins 92 608 = some (.aload_n 0, 1) := by decide +kernel
theorem i_92_609 : ins 92 609 = some (.sipush 200, 3) := by decide +kernel
theorem s_92_612 : site 92 612 = some 147852417 := by decide +kernel
theorem i_92_612 : ins 92 612 = some (.newarray .int, 2) := by decide +kernel
theorem f_92_236 : fld 92 236 = some (7340134, 100, 2) := by decide +kernel
theorem o_92_7340134_100 : putok 92 7340134 100 = true := by decide +kernel
theorem i_92_614 : ins 92 614 = some (.putfield 236, 3) := by decide +kernel
theorem i_92_617 : ins 92 617 = some (.aload_n 0, 1) := by decide +kernel
theorem i_92_618 : ins 92 618 = some (.sipush 200, 3) := by decide +kernel
theorem s_92_621 : site 92 621 = some 148900993 := by decide +kernel
theorem i_92_621 : ins 92 621 = some (.newarray .int, 2) := by decide +kernel
theorem f_92_239 : fld 92 239 = some (7340134, 101, 2) := by decide +kernel
theorem o_92_7340134_101 : putok 92 7340134 101 = true := by decide +kernel
theorem i_92_623 : ins 92 623 = some (.putfield 239, 3) := by decide +kernel
theorem i_92_626 : ins 92 626 = some (.aload_n 0, 1) := by decide +kernel
theorem i_92_627 : ins 92 627 = some (.sipush 200, 3) := by decide +kernel
theorem s_92_630 : site 92 630 = some 149949569 := by decide +kernel
theorem i_92_630 : ins 92 630 = some (.newarray .int, 2) := by decide +kernel
theorem f_92_242 : fld 92 242 = some (7340134, 102, 2) := by decide +kernel
theorem o_92_7340134_102 : putok 92 7340134 102 = true := by decide +kernel
theorem i_92_632 : ins 92 632 = some (.putfield 242, 3) := by decide +kernel
theorem i_92_635 : ins 92 635 = some (.aload_n 0, 1) := by decide +kernel
theorem i_92_636 : ins 92 636 = some (.sipush 200, 3) := by decide +kernel
theorem s_92_639 : site 92 639 = some 150998145 := by decide +kernel
theorem i_92_639 : ins 92 639 = some (.newarray .int, 2) := by decide +kernel
theorem f_92_245 : fld 92 245 = some (7340134, 103, 2) := by decide +kernel
theorem o_92_7340134_103 : putok 92 7340134 103 = true := by decide +kernel
theorem i_92_641 : ins 92 641 = some (.putfield 245, 3) := by decide +kernel
theorem i_92_644 : ins 92 644 = some (.aload_n 0, 1) := by decide +kernel
theorem i_92_645 : ins 92 645 = some (.bipush 100, 2) := by decide +kernel
theorem s_92_647 : site 92 647 = some 152045124 := by decide +kernel
theorem i_92_647 : ins 92 647 = some (.newarray .long, 2) := by decide +kernel
theorem f_92_248 : fld 92 248 = some (7340134, 104, 2) := by decide +kernel
theorem o_92_7340134_104 : putok 92 7340134 104 = true := by decide +kernel
theorem i_92_649 : ins 92 649 = some (.putfield 248, 3) := by decide +kernel
theorem i_92_652 : ins 92 652 = some (.aload_n 0, 1) := by decide +kernel
theorem i_92_653 : ins 92 653 = some (.bipush 100, 2) := by decide +kernel
theorem s_92_655 : site 92 655 = some 153093699 := by decide +kernel
theorem i_92_655 : ins 92 655 = some (.newarray .boolean, 2) := by decide +kernel
theorem f_92_251 : fld 92 251 = some (7340134, 105, 2) := by decide +kernel
theorem o_92_7340134_105 : putok 92 7340134 105 = true := by decide +kernel
theorem i_92_657 : ins 92 657 = some (.putfield 251, 3) := by decide +kernel
theorem i_92_660 : ins 92 660 = some (.aload_n 0, 1) := by decide +kernel
theorem i_92_661 : ins 92 661 = some (.sipush 200, 3) := by decide +kernel
theorem s_92_664 : site 92 664 = some 154143875 := by decide +kernel
theorem i_92_664 : ins 92 664 = some (.newarray .boolean, 2) := by decide +kernel
theorem f_92_254 : fld 92 254 = some (7340134, 106, 2) := by decide +kernel
theorem o_92_7340134_106 : putok 92 7340134 106 = true := by decide +kernel
theorem i_92_666 : ins 92 666 = some (.putfield 254, 3) := by decide +kernel
theorem i_92_669 : ins 92 669 = some (.iconst 0, 1) := by decide +kernel
theorem i_92_670 : ins 92 670 = some (.istore_n 1, 1) := by decide +kernel
theorem i_92_671 : ins 92 671 = some (.iload_n 1, 1) := by decide +kernel
theorem i_92_672 : ins 92 672 = some (.bipush 16, 2) := by decide +kernel
theorem i_92_674 : ins 92 674 = some (.if_icmp .ge 45, 3) := by decide +kernel
theorem t_674_719 : tg 674 (45) = some 719 := by decide +kernel
theorem i_92_677 : ins 92 677 = some (.iconst 0, 1) := by decide +kernel
theorem i_92_678 : ins 92 678 = some (.istore_n 2, 1) := by decide +kernel
theorem i_92_679 : ins 92 679 = some (.iload_n 2, 1) := by decide +kernel
theorem i_92_680 : ins 92 680 = some (.bipush 16, 2) := by decide +kernel
theorem i_92_682 : ins 92 682 = some (.if_icmp .ge 31, 3) := by decide +kernel
theorem t_682_713 : tg 682 (31) = some 713 := by decide +kernel
theorem i_92_685 : ins 92 685 = some (.aload_n 0, 1) := by decide +kernel
theorem i_92_686 : ins 92 686 = some (.getfield 13, 3) := by decide +kernel
theorem i_92_689 : ins 92 689 = some (.bipush 16, 2) := by decide +kernel
theorem i_92_691 : ins 92 691 = some (.iload_n 1, 1) := by decide +kernel
theorem i_92_692 : ins 92 692 = some (.imul, 1) := by decide +kernel
theorem i_92_693 : ins 92 693 = some (.iload_n 2, 1) := by decide +kernel
theorem i_92_694 : ins 92 694 = some (.iadd, 1) := by decide +kernel
theorem i_92_695 : ins 92 695 = some (.iload_n 1, 1) := by decide +kernel
theorem i_92_696 : ins 92 696 = some (.iload_n 2, 1) := by decide +kernel
theorem i_92_697 : ins 92 697 = some (.if_icmp .ne 7, 3) := by decide +kernel
theorem t_697_704 : tg 697 (7) = some 704 := by decide +kernel
theorem i_92_700 : ins 92 700 = some (.iconst 0, 1) := by decide +kernel
theorem i_92_701 : ins 92 701 = some (.goto 5, 3) := by decide +kernel
theorem t_701_706 : tg 701 (5) = some 706 := by decide +kernel
theorem i_92_704 : ins 92 704 = some (.bipush 9, 2) := by decide +kernel
theorem i_92_706 : ins 92 706 = some (.iastore, 1) := by decide +kernel
theorem i_92_707 : ins 92 707 = some (.iinc 2 1, 3) := by decide +kernel
theorem i_92_710 : ins 92 710 = some (.goto (-31), 3) := by decide +kernel
theorem t_710_679 : tg 710 (-31) = some 679 := by decide +kernel
theorem i_92_713 : ins 92 713 = some (.iinc 1 1, 3) := by decide +kernel
theorem i_92_716 : ins 92 716 = some (.goto (-45), 3) := by decide +kernel
theorem t_716_671 : tg 716 (-45) = some 671 := by decide +kernel
theorem i_92_719 : ins 92 719 = some (.return_, 1) := by decide +kernel
theorem r_92 : mret 92 = 0 := by decide +kernel
-- X0_init
theorem b_0_0 {d : Nat} {u1 : V} {u2 : V} {h : HS} {Q : (List V ⊕ Pn) × HS → Prop} : X d 0 0 [vR (1048582, 0), u1, u2] [] h Q ↔ (nc h + 1 ≤ NCL ∧ ns h + 12 ≤ NSL) ∧ X d 0 12 [vR (1048582, 0), u1, u2] [] (sR (al h 22020289 12) 1048582 0 1 (22020289, (cn h 22020289))) Q :=
  (X_pure i_0_0 rfl).trans ((X_oi i_0_1 v_0_3 (Nat.le_of_ble_eq_true rfl) rfl).trans ((X_pure i_0_4 rfl).trans ((X_icB i_0_5 kB_12).trans ((X_newac i_0_7 s_0_7 kl_22020289 rfl rfl (rfl)).trans (ac ((X_putR i_0_9 f_0_9 o_0_1048582_1).trans (Iff.rfl)))))))
theorem b_0_12 {d : Nat} {u1 : V} {u2 : V} {h : HS} {Q : (List V ⊕ Pn) × HS → Prop} : X d 0 12 [vR (1048582, 0), u1, u2] [] h Q ↔ (nc h + 1 + 16 ≤ NCL ∧ ns h + 16 + 16 * 16 ≤ NSL) ∧ X d 0 24 [vR (1048582, 0), u1, u2] [] (sR (al2 h 23068933 16 24117505 16) 1048582 0 2 (23068933, (cn h 23068933))) Q :=
  (X_pure i_0_12 rfl).trans ((X_icB i_0_13 kB_16).trans ((X_icB i_0_15 kB_16).trans ((X_mul2c i_0_17 s_0_17 kl_23068933 kl_24117505 rfl rfl (rfl)).trans (ac ((X_putR i_0_21 f_0_15 o_0_1048582_2).trans (Iff.rfl))))))
theorem b_0_24 {d : Nat} {u1 : V} {u2 : V} {h : HS} {Q : (List V ⊕ Pn) × HS → Prop} : X d 0 24 [vR (1048582, 0), u1, u2] [] h Q ↔ (nc h + 1 ≤ NCL ∧ ns h + 200 ≤ NSL) ∧ X d 0 34 [vR (1048582, 0), u1, u2] [] (sR (al h 25169029 200) 1048582 0 4 (25169029, (cn h 25169029))) Q :=
  (X_pure i_0_24 rfl).trans ((X_icS i_0_25 kS_200).trans ((X_anewc i_0_28 s_0_28 kl_25169029 rfl (rfl)).trans (ac ((X_putR i_0_31 f_0_20 o_0_1048582_4).trans (Iff.rfl)))))
theorem b_0_34 {d : Nat} {u1 : V} {u2 : V} {h : HS} {Q : (List V ⊕ Pn) × HS → Prop} : X d 0 34 [vR (1048582, 0), u1, u2] [] h Q ↔ (nc h + 1 ≤ NCL ∧ ns h + 300 ≤ NSL) ∧ X d 0 44 [vR (1048582, 0), u1, u2] [] (sR (al h 26219205 300) 1048582 0 6 (26219205, (cn h 26219205))) Q :=
  (X_pure i_0_34 rfl).trans ((X_icS i_0_35 kS_300).trans ((X_anewc i_0_38 s_0_38 kl_26219205 rfl (rfl)).trans (ac ((X_putR i_0_41 f_0_26 o_0_1048582_6).trans (Iff.rfl)))))
theorem b_0_44 {d : Nat} {u1 : V} {u2 : V} {h : HS} {Q : (List V ⊕ Pn) × HS → Prop} : X d 0 44 [vR (1048582, 0), u1, u2] [] h Q ↔ (nc h + 1 ≤ NCL ∧ ns h + 600 ≤ NSL) ∧ X d 0 54 [vR (1048582, 0), u1, u2] [] (sR (al h 27272581 600) 1048582 0 7 (27272581, (cn h 27272581))) Q :=
  (X_pure i_0_44 rfl).trans ((X_icS i_0_45 kS_600).trans ((X_anewc i_0_48 s_0_48 kl_27272581 rfl (rfl)).trans (ac ((X_putR i_0_51 f_0_32 o_0_1048582_7).trans (Iff.rfl)))))
theorem b_0_54 {d : Nat} {u1 : V} {u2 : V} {h : HS} {Q : (List V ⊕ Pn) × HS → Prop} (hd : 1 ≤ d) : X d 0 54 [vR (1048582, 0), u1, u2] [] h Q ↔ (nc h + 1 ≤ NCL ∧ ns h + 8 ≤ NSL) ∧ Ev (d - 1) 65 [vR (2097174, (cn h 2097174))] (al h 2097174 8) (XB d 0 59 3 [vR (1048582, 0), u1, u2] [vR (2097174, (cn h 2097174)), vR (1048582, 0)] Q) :=
  (X_pure i_0_54 rfl).trans ((X_newc i_0_55 n_0_36 (rfl)).trans (ac ((X_pure i_0_58 rfl).trans (X_ci hd i_0_59 v_0_38 rfl (Nat.le_of_ble_eq_true rfl) rfl rfl ⟨rfl, rfl⟩))))
theorem b_0_62 {d : Nat} {u1 : V} {u2 : V} {js1 : Nat} {h : HS} {Q : (List V ⊕ Pn) × HS → Prop} : X d 0 62 [vR (1048582, 0), u1, u2] [vR (2097174, js1), vR (1048582, 0)] h Q ↔ X d 0 65 [vR (1048582, 0), u1, u2] [] (sR h 1048582 0 10 (2097174, js1)) Q :=
  (X_putR i_0_62 f_0_39 o_0_1048582_10).trans (Iff.rfl)
theorem b_0_65 {d : Nat} {u1 : V} {u2 : V} {h : HS} {Q : (List V ⊕ Pn) × HS → Prop} : X d 0 65 [vR (1048582, 0), u1, u2] [] h Q ↔ (nc h + 1 ≤ NCL ∧ ns h + 400 ≤ NSL) ∧ X d 0 74 [vR (1048582, 0), u1, u2] [] (sR (al h 28317954 400) 1048582 0 11 (28317954, (cn h 28317954))) Q :=
  (X_pure i_0_65 rfl).trans ((X_icS i_0_66 kS_400).trans ((X_newac i_0_69 s_0_69 kl_28317954 rfl rfl (rfl)).trans (ac ((X_putR i_0_71 f_0_43 o_0_1048582_11).trans (Iff.rfl)))))
theorem b_0_74 {d : Nat} {u1 : V} {u2 : V} {h : HS} {Q : (List V ⊕ Pn) × HS → Prop} : X d 0 74 [vR (1048582, 0), u1, u2] [] h Q ↔ (nc h + 1 ≤ NCL ∧ ns h + 13 ≤ NSL) ∧ (inb (nI 0) 13 ∧ ((8, 0).1 = 0 ∨ elok 29360341 (8, 0).1 = true)) ∧ (inb (nI 1) 13 ∧ ((8, 1).1 = 0 ∨ elok 29360341 (8, 1).1 = true)) ∧ (inb (nI 2) 13 ∧ ((8, 2).1 = 0 ∨ elok 29360341 (8, 2).1 = true)) ∧ (inb (nI 3) 13 ∧ ((8, 3).1 = 0 ∨ elok 29360341 (8, 3).1 = true)) ∧ (inb (nI 4) 13 ∧ ((8, 4).1 = 0 ∨ elok 29360341 (8, 4).1 = true)) ∧ (inb (nI 5) 13 ∧ ((8, 5).1 = 0 ∨ elok 29360341 (8, 5).1 = true)) ∧ (inb (nI 6) 13 ∧ ((8, 6).1 = 0 ∨ elok 29360341 (8, 6).1 = true)) ∧ (inb (nI 7) 13 ∧ ((8, 7).1 = 0 ∨ elok 29360341 (8, 7).1 = true)) ∧ (inb (nI 8) 13 ∧ ((8, 8).1 = 0 ∨ elok 29360341 (8, 8).1 = true)) ∧ (inb (nI 9) 13 ∧ ((8, 9).1 = 0 ∨ elok 29360341 (8, 9).1 = true)) ∧ (inb (nI 10) 13 ∧ ((8, 10).1 = 0 ∨ elok 29360341 (8, 10).1 = true)) ∧ (inb (nI 11) 13 ∧ ((8, 11).1 = 0 ∨ elok 29360341 (8, 11).1 = true)) ∧ (inb (nI 12) 13 ∧ ((8, 12).1 = 0 ∨ elok 29360341 (8, 12).1 = true)) ∧ X d 0 155 [vR (1048582, 0), u1, u2] [] (sR (sR (sR (sR (sR (sR (sR (sR (sR (sR (sR (sR (sR (sR (al h 29360341 13) 29360341 (cn h 29360341) (ix (nI 0)) (8, 0)) 29360341 (cn h 29360341) (ix (nI 1)) (8, 1)) 29360341 (cn h 29360341) (ix (nI 2)) (8, 2)) 29360341 (cn h 29360341) (ix (nI 3)) (8, 3)) 29360341 (cn h 29360341) (ix (nI 4)) (8, 4)) 29360341 (cn h 29360341) (ix (nI 5)) (8, 5)) 29360341 (cn h 29360341) (ix (nI 6)) (8, 6)) 29360341 (cn h 29360341) (ix (nI 7)) (8, 7)) 29360341 (cn h 29360341) (ix (nI 8)) (8, 8)) 29360341 (cn h 29360341) (ix (nI 9)) (8, 9)) 29360341 (cn h 29360341) (ix (nI 10)) (8, 10)) 29360341 (cn h 29360341) (ix (nI 11)) (8, 11)) 29360341 (cn h 29360341) (ix (nI 12)) (8, 12)) 1048582 0 13 (29360341, (cn h 29360341))) Q :=
  (X_pure i_0_74 rfl).trans ((X_icB i_0_75 kB_13).trans ((X_anewc i_0_77 s_0_77 kl_29360341 rfl (rfl)).trans (ac ((X_pure i_0_80 rfl).trans ((X_icI i_0_81 kI_0).trans ((X_ldc i_0_82 l_0_49 rfl).trans ((X_aast i_0_84 kl_29360341 (by decide) eo_29360341).trans (ac ((X_pure i_0_85 rfl).trans ((X_icI i_0_86 kI_1).trans ((X_ldc i_0_87 l_0_51 rfl).trans ((X_aast i_0_89 kl_29360341 (by decide) eo_29360341).trans (ac ((X_pure i_0_90 rfl).trans ((X_icI i_0_91 kI_2).trans ((X_ldc i_0_92 l_0_53 rfl).trans ((X_aast i_0_94 kl_29360341 (by decide) eo_29360341).trans (ac ((X_pure i_0_95 rfl).trans ((X_icI i_0_96 kI_3).trans ((X_ldc i_0_97 l_0_55 rfl).trans ((X_aast i_0_99 kl_29360341 (by decide) eo_29360341).trans (ac ((X_pure i_0_100 rfl).trans ((X_icI i_0_101 kI_4).trans ((X_ldc i_0_102 l_0_57 rfl).trans ((X_aast i_0_104 kl_29360341 (by decide) eo_29360341).trans (ac ((X_pure i_0_105 rfl).trans ((X_icI i_0_106 kI_5).trans ((X_ldc i_0_107 l_0_59 rfl).trans ((X_aast i_0_109 kl_29360341 (by decide) eo_29360341).trans (ac ((X_pure i_0_110 rfl).trans ((X_icB i_0_111 kB_6).trans ((X_ldc i_0_113 l_0_61 rfl).trans ((X_aast i_0_115 kl_29360341 (by decide) eo_29360341).trans (ac ((X_pure i_0_116 rfl).trans ((X_icB i_0_117 kB_7).trans ((X_ldc i_0_119 l_0_63 rfl).trans ((X_aast i_0_121 kl_29360341 (by decide) eo_29360341).trans (ac ((X_pure i_0_122 rfl).trans ((X_icB i_0_123 kB_8).trans ((X_ldc i_0_125 l_0_65 rfl).trans ((X_aast i_0_127 kl_29360341 (by decide) eo_29360341).trans (ac ((X_pure i_0_128 rfl).trans ((X_icB i_0_129 kB_9).trans ((X_ldc i_0_131 l_0_67 rfl).trans ((X_aast i_0_133 kl_29360341 (by decide) eo_29360341).trans (ac ((X_pure i_0_134 rfl).trans ((X_icB i_0_135 kB_10).trans ((X_ldc i_0_137 l_0_69 rfl).trans ((X_aast i_0_139 kl_29360341 (by decide) eo_29360341).trans (ac ((X_pure i_0_140 rfl).trans ((X_icB i_0_141 kB_11).trans ((X_ldc i_0_143 l_0_70 rfl).trans ((X_aast i_0_145 kl_29360341 (by decide) eo_29360341).trans (ac ((X_pure i_0_146 rfl).trans ((X_icB i_0_147 kB_12).trans ((X_ldc i_0_149 l_0_72 rfl).trans ((X_aast i_0_151 kl_29360341 (by decide) eo_29360341).trans (ac ((X_putR i_0_152 f_0_74 o_0_1048582_13).trans (Iff.rfl))))))))))))))))))))))))))))))))))))))))))))))))))))))))))))))))))))))
theorem b_0_155 {d : Nat} {u1 : V} {u2 : V} {h : HS} {Q : (List V ⊕ Pn) × HS → Prop} : X d 0 155 [vR (1048582, 0), u1, u2] [] h Q ↔ (nc h + 1 ≤ NCL ∧ ns h + 4 ≤ NSL) ∧ (inb (nI 0) 4 ∧ ((8, 13).1 = 0 ∨ elok 30408773 (8, 13).1 = true)) ∧ (inb (nI 1) 4 ∧ ((8, 14).1 = 0 ∨ elok 30408773 (8, 14).1 = true)) ∧ (inb (nI 2) 4 ∧ ((8, 15).1 = 0 ∨ elok 30408773 (8, 15).1 = true)) ∧ (inb (nI 3) 4 ∧ ((8, 16).1 = 0 ∨ elok 30408773 (8, 16).1 = true)) ∧ X d 0 183 [vR (1048582, 0), u1, u2] [] (sR (sR (sR (sR (sR (al h 30408773 4) 30408773 (cn h 30408773) (ix (nI 0)) (8, 13)) 30408773 (cn h 30408773) (ix (nI 1)) (8, 14)) 30408773 (cn h 30408773) (ix (nI 2)) (8, 15)) 30408773 (cn h 30408773) (ix (nI 3)) (8, 16)) 1048582 0 14 (30408773, (cn h 30408773))) Q :=
  (X_pure i_0_155 rfl).trans ((X_icI i_0_156 kI_4).trans ((X_anewc i_0_157 s_0_157 kl_30408773 rfl (rfl)).trans (ac ((X_pure i_0_160 rfl).trans ((X_icI i_0_161 kI_0).trans ((X_ldc i_0_162 l_0_78 rfl).trans ((X_aast i_0_164 kl_30408773 (by decide) eo_30408773).trans (ac ((X_pure i_0_165 rfl).trans ((X_icI i_0_166 kI_1).trans ((X_ldc i_0_167 l_0_80 rfl).trans ((X_aast i_0_169 kl_30408773 (by decide) eo_30408773).trans (ac ((X_pure i_0_170 rfl).trans ((X_icI i_0_171 kI_2).trans ((X_ldc i_0_172 l_0_82 rfl).trans ((X_aast i_0_174 kl_30408773 (by decide) eo_30408773).trans (ac ((X_pure i_0_175 rfl).trans ((X_icI i_0_176 kI_3).trans ((X_ldc i_0_177 l_0_84 rfl).trans ((X_aast i_0_179 kl_30408773 (by decide) eo_30408773).trans (ac ((X_putR i_0_180 f_0_86 o_0_1048582_14).trans (Iff.rfl)))))))))))))))))))))))))
theorem b_0_183 {d : Nat} {u1 : V} {u2 : V} {h : HS} {Q : (List V ⊕ Pn) × HS → Prop} : X d 0 183 [vR (1048582, 0), u1, u2] [] h Q ↔ (nc h + 1 ≤ NCL ∧ ns h + 10 ≤ NSL) ∧ X d 0 192 [vR (1048582, 0), u1, u2] [] (sR (al h 31457445 10) 1048582 0 15 (31457445, (cn h 31457445))) Q :=
  (X_pure i_0_183 rfl).trans ((X_icB i_0_184 kB_10).trans ((X_anewc i_0_186 s_0_186 kl_31457445 rfl (rfl)).trans (ac ((X_putR i_0_189 f_0_91 o_0_1048582_15).trans (Iff.rfl)))))
theorem b_0_192 {d : Nat} {u1 : V} {u2 : V} {h : HS} {Q : (List V ⊕ Pn) × HS → Prop} (hd : 1 ≤ d) : X d 0 192 [vR (1048582, 0), u1, u2] [] h Q ↔ (nc h + 1 ≤ NCL ∧ ns h + 8 ≤ NSL) ∧ Ev (d - 1) 66 [vR (3145766, (cn h 3145766))] (al h 3145766 8) (XB d 0 197 3 [vR (1048582, 0), u1, u2] [vR (3145766, (cn h 3145766)), vR (1048582, 0)] Q) :=
  (X_pure i_0_192 rfl).trans ((X_newc i_0_193 n_0_89 (rfl)).trans (ac ((X_pure i_0_196 rfl).trans (X_ci hd i_0_197 v_0_95 rfl (Nat.le_of_ble_eq_true rfl) rfl rfl ⟨rfl, rfl⟩))))
theorem b_0_200 {d : Nat} {u1 : V} {u2 : V} {js1 : Nat} {h : HS} {Q : (List V ⊕ Pn) × HS → Prop} : X d 0 200 [vR (1048582, 0), u1, u2] [vR (3145766, js1), vR (1048582, 0)] h Q ↔ X d 0 203 [vR (1048582, 0), u1, u2] [] (sR h 1048582 0 16 (3145766, js1)) Q :=
  (X_putR i_0_200 f_0_96 o_0_1048582_16).trans (Iff.rfl)
theorem b_0_203 {d : Nat} {u1 : V} {u2 : V} {h : HS} {Q : (List V ⊕ Pn) × HS → Prop} (hd : 1 ≤ d) : X d 0 203 [vR (1048582, 0), u1, u2] [] h Q ↔ (nc h + 1 ≤ NCL ∧ ns h + 12 ≤ NSL) ∧ Ev (d - 1) 69 [vR (4194358, (cn h 4194358)), vR (1048582, 0)] (al h 4194358 12) (XB d 0 209 3 [vR (1048582, 0), u1, u2] [vR (4194358, (cn h 4194358)), vR (1048582, 0)] Q) :=
  (X_pure i_0_203 rfl).trans ((X_newc i_0_204 n_0_100 (rfl)).trans (ac ((X_pure i_0_207 rfl).trans ((X_pure i_0_208 rfl).trans (X_ci hd i_0_209 v_0_102 rfl (Nat.le_of_ble_eq_true rfl) rfl rfl ⟨rfl, rfl⟩)))))
theorem b_0_212 {d : Nat} {u1 : V} {u2 : V} {js1 : Nat} {h : HS} {Q : (List V ⊕ Pn) × HS → Prop} : X d 0 212 [vR (1048582, 0), u1, u2] [vR (4194358, js1), vR (1048582, 0)] h Q ↔ X d 0 215 [vR (1048582, 0), u1, u2] [] (sR h 1048582 0 18 (4194358, js1)) Q :=
  (X_putR i_0_212 f_0_105 o_0_1048582_18).trans (Iff.rfl)
theorem b_0_215 {d : Nat} {u1 : V} {u2 : V} {h : HS} {Q : (List V ⊕ Pn) × HS → Prop} : X d 0 215 [vR (1048582, 0), u1, u2] [] h Q ↔ X d 0 220 [vR (1048582, 0), u1, u2] [] (sI h 1048582 0 19 (-1)) Q :=
  (X_pure i_0_215 rfl).trans ((X_icI i_0_216 kI_m1).trans ((X_putI i_0_217 f_0_109 o_0_1048582_19).trans (Iff.rfl)))
theorem b_0_220 {d : Nat} {u1 : V} {u2 : V} {h : HS} {Q : (List V ⊕ Pn) × HS → Prop} : X d 0 220 [vR (1048582, 0), u1, u2] [] h Q ↔ X d 0 225 [vR (1048582, 0), u1, u2] [] (sI h 1048582 0 20 (-1)) Q :=
  (X_pure i_0_220 rfl).trans ((X_icI i_0_221 kI_m1).trans ((X_putI i_0_222 f_0_113 o_0_1048582_20).trans (Iff.rfl)))
theorem b_0_225 {d : Nat} {u1 : V} {u2 : V} {h : HS} {Q : (List V ⊕ Pn) × HS → Prop} : X d 0 225 [vR (1048582, 0), u1, u2] [] h Q ↔ (nc h + 1 ≤ NCL ∧ ns h + 2144 ≤ NSL) ∧ X d 0 234 [vR (1048582, 0), u1, u2] [] (sR (al h 32540164 2144) 1048582 0 24 (32540164, (cn h 32540164))) Q :=
  (X_pure i_0_225 rfl).trans ((X_icS i_0_226 kS_2144).trans ((X_newac i_0_229 s_0_229 kl_32540164 rfl rfl (rfl)).trans (ac ((X_putR i_0_231 f_0_116 o_0_1048582_24).trans (Iff.rfl)))))
theorem b_0_234 {d : Nat} {u1 : V} {u2 : V} {h : HS} {Q : (List V ⊕ Pn) × HS → Prop} : X d 0 234 [vR (1048582, 0), u1, u2] [] h Q ↔ (nc h + 1 ≤ NCL ∧ ns h + 2144 ≤ NSL) ∧ X d 0 243 [vR (1048582, 0), u1, u2] [] (sR (al h 33588740 2144) 1048582 0 25 (33588740, (cn h 33588740))) Q :=
  (X_pure i_0_234 rfl).trans ((X_icS i_0_235 kS_2144).trans ((X_newac i_0_238 s_0_238 kl_33588740 rfl rfl (rfl)).trans (ac ((X_putR i_0_240 f_0_120 o_0_1048582_25).trans (Iff.rfl)))))
theorem b_0_243 {d : Nat} {u1 : V} {u2 : V} {h : HS} {Q : (List V ⊕ Pn) × HS → Prop} (hd : 1 ≤ d) : X d 0 243 [vR (1048582, 0), u1, u2] [] h Q ↔ (nc h + 1 ≤ NCL ∧ ns h + 8 ≤ NSL) ∧ Ev (d - 1) 84 [vR (6291542, (cn h 6291542)), vR (1048582, 0)] (al h 6291542 8) (XB d 0 249 3 [vR (1048582, 0), u1, u2] [vR (6291542, (cn h 6291542)), vR (1048582, 0)] Q) :=
  (X_pure i_0_243 rfl).trans ((X_newc i_0_244 n_0_123 (rfl)).trans (ac ((X_pure i_0_247 rfl).trans ((X_pure i_0_248 rfl).trans (X_ci hd i_0_249 v_0_125 rfl (Nat.le_of_ble_eq_true rfl) rfl rfl ⟨rfl, rfl⟩)))))
theorem b_0_252 {d : Nat} {u1 : V} {u2 : V} {js1 : Nat} {h : HS} {Q : (List V ⊕ Pn) × HS → Prop} : X d 0 252 [vR (1048582, 0), u1, u2] [vR (6291542, js1), vR (1048582, 0)] h Q ↔ X d 0 255 [vR (1048582, 0), u1, u2] [] (sR h 1048582 0 26 (6291542, js1)) Q :=
  (X_putR i_0_252 f_0_126 o_0_1048582_26).trans (Iff.rfl)
theorem b_0_255 {d : Nat} {u1 : V} {u2 : V} {h : HS} {Q : (List V ⊕ Pn) × HS → Prop} : X d 0 255 [vR (1048582, 0), u1, u2] [] h Q ↔ (nc h + 1 + 8 ≤ NCL ∧ ns h + 8 + 8 * 2 ≤ NSL) ∧ X d 0 266 [vR (1048582, 0), u1, u2] [] (sR (al2 h 34603141 8 35651617 2) 1048582 0 29 (34603141, (cn h 34603141))) Q :=
  (X_pure i_0_255 rfl).trans ((X_icB i_0_256 kB_8).trans ((X_icI i_0_258 kI_2).trans ((X_mul2c i_0_259 s_0_259 kl_34603141 kl_35651617 rfl rfl (rfl)).trans (ac ((X_putR i_0_263 f_0_130 o_0_1048582_29).trans (Iff.rfl))))))
theorem b_0_266 {d : Nat} {u1 : V} {u2 : V} {h : HS} {Q : (List V ⊕ Pn) × HS → Prop} : X d 0 266 [vR (1048582, 0), u1, u2] [] h Q ↔ (nc h + 1 ≤ NCL ∧ ns h + 3 ≤ NSL) ∧ X d 0 273 [vR (1048582, 0), u1, u2] [] (sR (al h 36700212 3) 1048582 0 30 (36700212, (cn h 36700212))) Q :=
  (X_pure i_0_266 rfl).trans ((X_icI i_0_267 kI_3).trans ((X_newac i_0_268 s_0_268 kl_36700212 rfl rfl (rfl)).trans (ac ((X_putR i_0_270 f_0_133 o_0_1048582_30).trans (Iff.rfl)))))
theorem b_0_273 {d : Nat} {u1 : V} {u2 : V} {h : HS} {Q : (List V ⊕ Pn) × HS → Prop} : X d 0 273 [vR (1048582, 0), u1, u2] [] h Q ↔ (nc h + 1 + 12 ≤ NCL ∧ ns h + 12 + 12 * 10 ≤ NSL) ∧ X d 0 285 [vR (1048582, 0), u1, u2] [] (sR (al2 h 37748933 12 38797477 10) 1048582 0 31 (37748933, (cn h 37748933))) Q :=
  (X_pure i_0_273 rfl).trans ((X_icB i_0_274 kB_12).trans ((X_icB i_0_276 kB_10).trans ((X_mul2c i_0_278 s_0_278 kl_37748933 kl_38797477 rfl rfl (rfl)).trans (ac ((X_putR i_0_282 f_0_138 o_0_1048582_31).trans (Iff.rfl))))))
theorem b_0_285 {d : Nat} {u1 : V} {u2 : V} {h : HS} {Q : (List V ⊕ Pn) × HS → Prop} : X d 0 285 [vR (1048582, 0), u1, u2] [] h Q ↔ (nc h + 1 ≤ NCL ∧ ns h + 12 ≤ NSL) ∧ X d 0 293 [vR (1048582, 0), u1, u2] [] (sR (al h 39846081 12) 1048582 0 32 (39846081, (cn h 39846081))) Q :=
  (X_pure i_0_285 rfl).trans ((X_icB i_0_286 kB_12).trans ((X_newac i_0_288 s_0_288 kl_39846081 rfl rfl (rfl)).trans (ac ((X_putR i_0_290 f_0_141 o_0_1048582_32).trans (Iff.rfl)))))
theorem b_0_293 {d : Nat} {u1 : V} {u2 : V} {h : HS} {Q : (List V ⊕ Pn) × HS → Prop} : X d 0 293 [vR (1048582, 0), u1, u2] [] h Q ↔ (nc h + 1 ≤ NCL ∧ ns h + 30 ≤ NSL) ∧ X d 0 301 [vR (1048582, 0), u1, u2] [] (sR (al h 40894945 30) 1048582 0 33 (40894945, (cn h 40894945))) Q :=
  (X_pure i_0_293 rfl).trans ((X_icB i_0_294 kB_30).trans ((X_newac i_0_296 s_0_296 kl_40894945 rfl rfl (rfl)).trans (ac ((X_putR i_0_298 f_0_144 o_0_1048582_33).trans (Iff.rfl)))))
theorem b_0_301 {d : Nat} {u1 : V} {u2 : V} {h : HS} {Q : (List V ⊕ Pn) × HS → Prop} : X d 0 301 [vR (1048582, 0), u1, u2] [] h Q ↔ (nc h + 1 ≤ NCL ∧ ns h + 3 ≤ NSL) ∧ X d 0 308 [vR (1048582, 0), u1, u2] [] (sR (al h 41943089 3) 1048582 0 34 (41943089, (cn h 41943089))) Q :=
  (X_pure i_0_301 rfl).trans ((X_icI i_0_302 kI_3).trans ((X_newac i_0_303 s_0_303 kl_41943089 rfl rfl (rfl)).trans (ac ((X_putR i_0_305 f_0_147 o_0_1048582_34).trans (Iff.rfl)))))
theorem b_0_308 {d : Nat} {u1 : V} {u2 : V} {h : HS} {Q : (List V ⊕ Pn) × HS → Prop} : X d 0 308 [vR (1048582, 0), u1, u2] [] h Q ↔ (nc h + 1 ≤ NCL ∧ ns h + 3 ≤ NSL) ∧ X d 0 315 [vR (1048582, 0), u1, u2] [] (sR (al h 42991665 3) 1048582 0 35 (42991665, (cn h 42991665))) Q :=
  (X_pure i_0_308 rfl).trans ((X_icI i_0_309 kI_3).trans ((X_newac i_0_310 s_0_310 kl_42991665 rfl rfl (rfl)).trans (ac ((X_putR i_0_312 f_0_150 o_0_1048582_35).trans (Iff.rfl)))))
theorem b_0_315 {d : Nat} {u1 : V} {u2 : V} {h : HS} {Q : (List V ⊕ Pn) × HS → Prop} : X d 0 315 [vR (1048582, 0), u1, u2] [] h Q ↔ (nc h + 1 ≤ NCL ∧ ns h + 10 ≤ NSL) ∧ X d 0 323 [vR (1048582, 0), u1, u2] [] (sR (al h 44040353 10) 1048582 0 36 (44040353, (cn h 44040353))) Q :=
  (X_pure i_0_315 rfl).trans ((X_icB i_0_316 kB_10).trans ((X_newac i_0_318 s_0_318 kl_44040353 rfl rfl (rfl)).trans (ac ((X_putR i_0_320 f_0_153 o_0_1048582_36).trans (Iff.rfl)))))
theorem b_0_323 {d : Nat} {u1 : V} {u2 : V} {h : HS} {Q : (List V ⊕ Pn) × HS → Prop} : X d 0 323 [vR (1048582, 0), u1, u2] [] h Q ↔ (nc h + 1 + 8 ≤ NCL ∧ ns h + 8 + 8 * 8 ≤ NSL) ∧ X d 0 335 [vR (1048582, 0), u1, u2] [] (sR (al2 h 45088901 8 46137476 8) 1048582 0 38 (45088901, (cn h 45088901))) Q :=
  (X_pure i_0_323 rfl).trans ((X_icB i_0_324 kB_8).trans ((X_icB i_0_326 kB_8).trans ((X_mul2c i_0_328 s_0_328 kl_45088901 kl_46137476 rfl rfl (rfl)).trans (ac ((X_putR i_0_332 f_0_158 o_0_1048582_38).trans (Iff.rfl))))))
theorem b_0_335 {d : Nat} {u1 : V} {u2 : V} {h : HS} {Q : (List V ⊕ Pn) × HS → Prop} : X d 0 335 [vR (1048582, 0), u1, u2] [] h Q ↔ (nc h + 1 ≤ NCL ∧ ns h + 8 ≤ NSL) ∧ X d 0 343 [vR (1048582, 0), u1, u2] [] (sR (al h 47186049 8) 1048582 0 39 (47186049, (cn h 47186049))) Q :=
  (X_pure i_0_335 rfl).trans ((X_icB i_0_336 kB_8).trans ((X_newac i_0_338 s_0_338 kl_47186049 rfl rfl (rfl)).trans (ac ((X_putR i_0_340 f_0_161 o_0_1048582_39).trans (Iff.rfl)))))
theorem b_0_343 {d : Nat} {u1 : V} {u2 : V} {h : HS} {Q : (List V ⊕ Pn) × HS → Prop} : X d 0 343 [vR (1048582, 0), u1, u2] [] h Q ↔ (nc h + 1 ≤ NCL ∧ ns h + 4 ≤ NSL) ∧ X d 0 350 [vR (1048582, 0), u1, u2] [] (sR (al h 48234561 4) 1048582 0 41 (48234561, (cn h 48234561))) Q :=
  (X_pure i_0_343 rfl).trans ((X_icI i_0_344 kI_4).trans ((X_newac i_0_345 s_0_345 kl_48234561 rfl rfl (rfl)).trans (ac ((X_putR i_0_347 f_0_164 o_0_1048582_41).trans (Iff.rfl)))))
theorem b_0_350 {d : Nat} {u1 : V} {u2 : V} {h : HS} {Q : (List V ⊕ Pn) × HS → Prop} : X d 0 350 [vR (1048582, 0), u1, u2] [] h Q ↔ (nc h + 1 ≤ NCL ∧ ns h + 4 ≤ NSL) ∧ X d 0 357 [vR (1048582, 0), u1, u2] [] (sR (al h 49283137 4) 1048582 0 42 (49283137, (cn h 49283137))) Q :=
  (X_pure i_0_350 rfl).trans ((X_icI i_0_351 kI_4).trans ((X_newac i_0_352 s_0_352 kl_49283137 rfl rfl (rfl)).trans (ac ((X_putR i_0_354 f_0_167 o_0_1048582_42).trans (Iff.rfl)))))
theorem b_0_357 {d : Nat} {u1 : V} {u2 : V} {h : HS} {Q : (List V ⊕ Pn) × HS → Prop} : X d 0 357 [vR (1048582, 0), u1, u2] [] h Q ↔ (nc h + 1 ≤ NCL ∧ ns h + 60 ≤ NSL) ∧ X d 0 365 [vR (1048582, 0), u1, u2] [] (sR (al h 50332609 60) 1048582 0 45 (50332609, (cn h 50332609))) Q :=
  (X_pure i_0_357 rfl).trans ((X_icB i_0_358 kB_60).trans ((X_newac i_0_360 s_0_360 kl_50332609 rfl rfl (rfl)).trans (ac ((X_putR i_0_362 f_0_170 o_0_1048582_45).trans (Iff.rfl)))))
theorem b_0_365 {d : Nat} {u1 : V} {u2 : V} {h : HS} {Q : (List V ⊕ Pn) × HS → Prop} : X d 0 365 [vR (1048582, 0), u1, u2] [] h Q ↔ (nc h + 1 ≤ NCL ∧ ns h + 60 ≤ NSL) ∧ X d 0 373 [vR (1048582, 0), u1, u2] [] (sR (al h 51381185 60) 1048582 0 46 (51381185, (cn h 51381185))) Q :=
  (X_pure i_0_365 rfl).trans ((X_icB i_0_366 kB_60).trans ((X_newac i_0_368 s_0_368 kl_51381185 rfl rfl (rfl)).trans (ac ((X_putR i_0_370 f_0_173 o_0_1048582_46).trans (Iff.rfl)))))
theorem b_0_373 {d : Nat} {u1 : V} {u2 : V} {h : HS} {Q : (List V ⊕ Pn) × HS → Prop} : X d 0 373 [vR (1048582, 0), u1, u2] [] h Q ↔ (nc h + 1 ≤ NCL ∧ ns h + 60 ≤ NSL) ∧ X d 0 381 [vR (1048582, 0), u1, u2] [] (sR (al h 52429761 60) 1048582 0 47 (52429761, (cn h 52429761))) Q :=
  (X_pure i_0_373 rfl).trans ((X_icB i_0_374 kB_60).trans ((X_newac i_0_376 s_0_376 kl_52429761 rfl rfl (rfl)).trans (ac ((X_putR i_0_378 f_0_176 o_0_1048582_47).trans (Iff.rfl)))))
theorem b_0_381 {d : Nat} {u1 : V} {u2 : V} {h : HS} {Q : (List V ⊕ Pn) × HS → Prop} : X d 0 381 [vR (1048582, 0), u1, u2] [] h Q ↔ (nc h + 1 ≤ NCL ∧ ns h + 60 ≤ NSL) ∧ X d 0 389 [vR (1048582, 0), u1, u2] [] (sR (al h 53478337 60) 1048582 0 48 (53478337, (cn h 53478337))) Q :=
  (X_pure i_0_381 rfl).trans ((X_icB i_0_382 kB_60).trans ((X_newac i_0_384 s_0_384 kl_53478337 rfl rfl (rfl)).trans (ac ((X_putR i_0_386 f_0_179 o_0_1048582_48).trans (Iff.rfl)))))
theorem b_0_389 {d : Nat} {u1 : V} {u2 : V} {h : HS} {Q : (List V ⊕ Pn) × HS → Prop} : X d 0 389 [vR (1048582, 0), u1, u2] [] h Q ↔ (nc h + 1 ≤ NCL ∧ ns h + 60 ≤ NSL) ∧ X d 0 397 [vR (1048582, 0), u1, u2] [] (sR (al h 54526913 60) 1048582 0 49 (54526913, (cn h 54526913))) Q :=
  (X_pure i_0_389 rfl).trans ((X_icB i_0_390 kB_60).trans ((X_newac i_0_392 s_0_392 kl_54526913 rfl rfl (rfl)).trans (ac ((X_putR i_0_394 f_0_182 o_0_1048582_49).trans (Iff.rfl)))))
theorem b_0_397 {d : Nat} {u1 : V} {u2 : V} {h : HS} {Q : (List V ⊕ Pn) × HS → Prop} : X d 0 397 [vR (1048582, 0), u1, u2] [] h Q ↔ (nc h + 1 ≤ NCL ∧ ns h + 100 ≤ NSL) ∧ X d 0 406 [vR (1048582, 0), u1, u2] [] (sR (al h 55576133 100) 1048582 0 51 (55576133, (cn h 55576133))) Q :=
  (X_pure i_0_397 rfl).trans ((X_icB i_0_398 kB_100).trans ((X_anewc i_0_400 s_0_400 kl_55576133 rfl (rfl)).trans (ac ((X_putR i_0_403 f_0_187 o_0_1048582_51).trans (Iff.rfl)))))
theorem b_0_406 {d : Nat} {u1 : V} {u2 : V} {h : HS} {Q : (List V ⊕ Pn) × HS → Prop} (hd : 1 ≤ d) : X d 0 406 [vR (1048582, 0), u1, u2] [] h Q ↔ (nc h + 1 ≤ NCL ∧ ns h + 7 ≤ NSL) ∧ Ev (d - 1) 78 [vR (5242950, (cn h 5242950)), vR (1048582, 0)] (al h 5242950 7) (XB d 0 412 3 [vR (1048582, 0), u1, u2] [vR (5242950, (cn h 5242950)), vR (1048582, 0)] Q) :=
  (X_pure i_0_406 rfl).trans ((X_newc i_0_407 n_0_191 (rfl)).trans (ac ((X_pure i_0_410 rfl).trans ((X_pure i_0_411 rfl).trans (X_ci hd i_0_412 v_0_193 rfl (Nat.le_of_ble_eq_true rfl) rfl rfl ⟨rfl, rfl⟩)))))
theorem b_0_415 {d : Nat} {u1 : V} {u2 : V} {js1 : Nat} {h : HS} {Q : (List V ⊕ Pn) × HS → Prop} : X d 0 415 [vR (1048582, 0), u1, u2] [vR (5242950, js1), vR (1048582, 0)] h Q ↔ X d 0 418 [vR (1048582, 0), u1, u2] [] (sR h 1048582 0 52 (5242950, js1)) Q :=
  (X_putR i_0_415 f_0_194 o_0_1048582_52).trans (Iff.rfl)
theorem b_0_418 {d : Nat} {u1 : V} {u2 : V} {h : HS} {Q : (List V ⊕ Pn) × HS → Prop} : X d 0 418 [vR (1048582, 0), u1, u2] [] h Q ↔ (nc h + 1 ≤ NCL ∧ ns h + 200 ≤ NSL) ∧ X d 0 428 [vR (1048582, 0), u1, u2] [] (sR (al h 56626309 200) 1048582 0 54 (56626309, (cn h 56626309))) Q :=
  (X_pure i_0_418 rfl).trans ((X_icS i_0_419 kS_200).trans ((X_anewc i_0_422 s_0_422 kl_56626309 rfl (rfl)).trans (ac ((X_putR i_0_425 f_0_200 o_0_1048582_54).trans (Iff.rfl)))))
theorem b_0_428 {d : Nat} {u1 : V} {u2 : V} {h : HS} {Q : (List V ⊕ Pn) × HS → Prop} (nu1 : nl u1 = true) : X d 0 428 [vR (1048582, 0), u1, u2] [] h Q ↔ X d 0 430 [vR (1048582, 0), vI (nI 0), u2] [] h Q :=
  (X_icI i_0_428 kI_0).trans ((X_soI i_0_429 rfl rfl nu1 rfl).trans (Iff.rfl))
theorem b_0_430 {d : Nat} {x1 : Int32} {u2 : V} {h : HS} {Q : (List V ⊕ Pn) × HS → Prop} : X d 0 430 [vR (1048582, 0), vI x1, u2] [] h Q ↔ if x1 < (nI 16) then X d 0 436 [vR (1048582, 0), vI x1, u2] [] h Q else X d 0 475 [vR (1048582, 0), vI x1, u2] [] h Q :=
  (X_pure i_0_430 rfl).trans ((X_icB i_0_431 kB_16).trans (X_ic_ge i_0_433 t_433_475))
theorem b_0_436 {d : Nat} {x1 : Int32} {u2 : V} {h : HS} {Q : (List V ⊕ Pn) × HS → Prop} (nu2 : nl u2 = true) : X d 0 436 [vR (1048582, 0), vI x1, u2] [] h Q ↔ X d 0 438 [vR (1048582, 0), vI x1, vI (nI 0)] [] h Q :=
  (X_icI i_0_436 kI_0).trans ((X_soI i_0_437 rfl rfl nu2 rfl).trans (Iff.rfl))
theorem b_0_438 {d : Nat} {x1 : Int32} {x2 : Int32} {h : HS} {Q : (List V ⊕ Pn) × HS → Prop} : X d 0 438 [vR (1048582, 0), vI x1, vI x2] [] h Q ↔ if x2 < (nI 16) then X d 0 444 [vR (1048582, 0), vI x1, vI x2] [] h Q else X d 0 469 [vR (1048582, 0), vI x1, vI x2] [] h Q :=
  (X_pure i_0_438 rfl).trans ((X_icB i_0_439 kB_16).trans (X_ic_ge i_0_441 t_441_469))
theorem b_0_444 {d : Nat} {x1 : Int32} {x2 : Int32} {h : HS} {Q : (List V ⊕ Pn) × HS → Prop} (hS : Sh h) : X d 0 444 [vR (1048582, 0), vI x1, vI x2] [] h Q ↔ inb x1 16 ∧ (if x1 = x2 then X d 0 456 [vR (1048582, 0), vI x1, vI x2] [vI x2, vR (24117505, (ix x1))] h Q else X d 0 460 [vR (1048582, 0), vI x1, vI x2] [vI x2, vR (24117505, (ix x1))] h Q) :=
  (X_pure i_0_444 rfl).trans ((X_getS i_0_445 f_0_15 (sh_1 hS)).trans ((X_pure i_0_448 rfl).trans ((X_aldS i_0_449 kl_23068933 (by decide) (fun z => shr_0 hS z)).trans (ac ((X_pure i_0_450 rfl).trans ((X_pure i_0_451 rfl).trans ((X_pure i_0_452 rfl).trans (X_ic_ne i_0_453 t_453_460))))))))
theorem b_0_456 {d : Nat} {x1 : Int32} {x2 : Int32} {js0 : Nat} {xs1 : Int32} {h : HS} {Q : (List V ⊕ Pn) × HS → Prop} : X d 0 456 [vR (1048582, 0), vI x1, vI x2] [vI xs1, vR (24117505, js0)] h Q ↔ X d 0 462 [vR (1048582, 0), vI x1, vI x2] [vI (nI 0), vI xs1, vR (24117505, js0)] h Q :=
  (X_icI i_0_456 kI_0).trans ((X_go i_0_457 t_457_462).trans (Iff.rfl))
theorem b_0_460 {d : Nat} {x1 : Int32} {x2 : Int32} {js0 : Nat} {xs1 : Int32} {h : HS} {Q : (List V ⊕ Pn) × HS → Prop} : X d 0 460 [vR (1048582, 0), vI x1, vI x2] [vI xs1, vR (24117505, js0)] h Q ↔ X d 0 462 [vR (1048582, 0), vI x1, vI x2] [vI (nI 9), vI xs1, vR (24117505, js0)] h Q :=
  (X_icB i_0_460 kB_9).trans (Iff.rfl)
theorem b_0_462 {d : Nat} {x1 : Int32} {x2 : Int32} {js0 : Nat} {xs1 : Int32} {xs2 : Int32} {h : HS} {Q : (List V ⊕ Pn) × HS → Prop} : X d 0 462 [vR (1048582, 0), vI x1, vI x2] [vI xs2, vI xs1, vR (24117505, js0)] h Q ↔ inb xs1 16 ∧ X d 0 438 [vR (1048582, 0), vI x1, vI (x2 + nI 1)] [] (sI h 24117505 js0 (ix xs1) xs2) Q :=
  (X_iast i_0_462 kl_24117505 (by decide)).trans (ac ((X_inc (x := x2) i_0_463 rfl kI_1 rfl).trans ((X_go i_0_466 t_466_438).trans (Iff.rfl))))
theorem b_0_469 {d : Nat} {x1 : Int32} {x2 : Int32} {h : HS} {Q : (List V ⊕ Pn) × HS → Prop} : X d 0 469 [vR (1048582, 0), vI x1, vI x2] [] h Q ↔ X d 0 430 [vR (1048582, 0), vI (x1 + nI 1), vI x2] [] h Q :=
  (X_inc (x := x1) i_0_469 rfl kI_1 rfl).trans ((X_go i_0_472 t_472_430).trans (Iff.rfl))
theorem b_0_475 {d : Nat} {x1 : Int32} {u2 : V} {h : HS} {Q : (List V ⊕ Pn) × HS → Prop} : X d 0 475 [vR (1048582, 0), vI x1, u2] [] h Q ↔ Q (.inl [], h) :=
  X_rv i_0_475 r_0
theorem c_0_59 {d : Nat} {L S : List V} {h : HS} {Q : (List V ⊕ Pn) × HS → Prop} : XB d 0 59 3 L S Q (.inl [], h) ↔ X d 0 62 L S h Q := Iff.rfl
theorem c_0_197 {d : Nat} {L S : List V} {h : HS} {Q : (List V ⊕ Pn) × HS → Prop} : XB d 0 197 3 L S Q (.inl [], h) ↔ X d 0 200 L S h Q := Iff.rfl
theorem c_0_209 {d : Nat} {L S : List V} {h : HS} {Q : (List V ⊕ Pn) × HS → Prop} : XB d 0 209 3 L S Q (.inl [], h) ↔ X d 0 212 L S h Q := Iff.rfl
theorem c_0_249 {d : Nat} {L S : List V} {h : HS} {Q : (List V ⊕ Pn) × HS → Prop} : XB d 0 249 3 L S Q (.inl [], h) ↔ X d 0 252 L S h Q := Iff.rfl
theorem c_0_412 {d : Nat} {L S : List V} {h : HS} {Q : (List V ⊕ Pn) × HS → Prop} : XB d 0 412 3 L S Q (.inl [], h) ↔ X d 0 415 L S h Q := Iff.rfl
theorem e_0 {d : Nat}  {h : HS} {Q : (List V ⊕ Pn) × HS → Prop} : Ev d 0 [vR (1048582, 0)] h Q ↔ X d 0 0 [vR (1048582, 0), vU, vU] [] h Q := Iff.rfl
-- X6_init
theorem b_92_0 {d : Nat} {u1 : V} {u2 : V} {h : HS} {Q : (List V ⊕ Pn) × HS → Prop} : X d 92 0 [vR (7340134, 0), u1, u2] [] h Q ↔ (nc h + 1 ≤ NCL ∧ ns h + 12 ≤ NSL) ∧ X d 92 12 [vR (7340134, 0), u1, u2] [] (sR (al h 76546241 12) 7340134 0 4 (76546241, (cn h 76546241))) Q :=
  (X_pure i_92_0 rfl).trans ((X_oi i_92_1 v_92_1 (Nat.le_of_ble_eq_true rfl) rfl).trans ((X_pure i_92_4 rfl).trans ((X_icB i_92_5 kB_12).trans ((X_newac i_92_7 s_92_7 kl_76546241 rfl rfl (rfl)).trans (ac ((X_putR i_92_9 f_92_9 o_92_7340134_4).trans (Iff.rfl)))))))
theorem b_92_12 {d : Nat} {u1 : V} {u2 : V} {h : HS} {Q : (List V ⊕ Pn) × HS → Prop} : X d 92 12 [vR (7340134, 0), u1, u2] [] h Q ↔ (nc h + 1 ≤ NCL ∧ ns h + 256 ≤ NSL) ∧ X d 92 21 [vR (7340134, 0), u1, u2] [] (sR (al h 77598721 256) 7340134 0 5 (77598721, (cn h 77598721))) Q :=
  (X_pure i_92_12 rfl).trans ((X_icS i_92_13 kS_256).trans ((X_newac i_92_16 s_92_16 kl_77598721 rfl rfl (rfl)).trans (ac ((X_putR i_92_18 f_92_13 o_92_7340134_5).trans (Iff.rfl)))))
theorem b_92_21 {d : Nat} {u1 : V} {u2 : V} {h : HS} {Q : (List V ⊕ Pn) × HS → Prop} : X d 92 21 [vR (7340134, 0), u1, u2] [] h Q ↔ (nc h + 1 ≤ NCL ∧ ns h + 200 ≤ NSL) ∧ X d 92 30 [vR (7340134, 0), u1, u2] [] (sR (al h 78646401 200) 7340134 0 6 (78646401, (cn h 78646401))) Q :=
  (X_pure i_92_21 rfl).trans ((X_icS i_92_22 kS_200).trans ((X_newac i_92_25 s_92_25 kl_78646401 rfl rfl (rfl)).trans (ac ((X_putR i_92_27 f_92_16 o_92_7340134_6).trans (Iff.rfl)))))
theorem b_92_30 {d : Nat} {u1 : V} {u2 : V} {h : HS} {Q : (List V ⊕ Pn) × HS → Prop} : X d 92 30 [vR (7340134, 0), u1, u2] [] h Q ↔ (nc h + 1 ≤ NCL ∧ ns h + 200 ≤ NSL) ∧ X d 92 39 [vR (7340134, 0), u1, u2] [] (sR (al h 79694977 200) 7340134 0 7 (79694977, (cn h 79694977))) Q :=
  (X_pure i_92_30 rfl).trans ((X_icS i_92_31 kS_200).trans ((X_newac i_92_34 s_92_34 kl_79694977 rfl rfl (rfl)).trans (ac ((X_putR i_92_36 f_92_19 o_92_7340134_7).trans (Iff.rfl)))))
theorem b_92_39 {d : Nat} {u1 : V} {u2 : V} {h : HS} {Q : (List V ⊕ Pn) × HS → Prop} : X d 92 39 [vR (7340134, 0), u1, u2] [] h Q ↔ (nc h + 1 ≤ NCL ∧ ns h + 200 ≤ NSL) ∧ X d 92 48 [vR (7340134, 0), u1, u2] [] (sR (al h 80743553 200) 7340134 0 8 (80743553, (cn h 80743553))) Q :=
  (X_pure i_92_39 rfl).trans ((X_icS i_92_40 kS_200).trans ((X_newac i_92_43 s_92_43 kl_80743553 rfl rfl (rfl)).trans (ac ((X_putR i_92_45 f_92_22 o_92_7340134_8).trans (Iff.rfl)))))
theorem b_92_48 {d : Nat} {u1 : V} {u2 : V} {h : HS} {Q : (List V ⊕ Pn) × HS → Prop} : X d 92 48 [vR (7340134, 0), u1, u2] [] h Q ↔ (nc h + 1 ≤ NCL ∧ ns h + 200 ≤ NSL) ∧ X d 92 57 [vR (7340134, 0), u1, u2] [] (sR (al h 81792129 200) 7340134 0 9 (81792129, (cn h 81792129))) Q :=
  (X_pure i_92_48 rfl).trans ((X_icS i_92_49 kS_200).trans ((X_newac i_92_52 s_92_52 kl_81792129 rfl rfl (rfl)).trans (ac ((X_putR i_92_54 f_92_25 o_92_7340134_9).trans (Iff.rfl)))))
theorem b_92_57 {d : Nat} {u1 : V} {u2 : V} {h : HS} {Q : (List V ⊕ Pn) × HS → Prop} : X d 92 57 [vR (7340134, 0), u1, u2] [] h Q ↔ (nc h + 1 ≤ NCL ∧ ns h + 200 ≤ NSL) ∧ X d 92 66 [vR (7340134, 0), u1, u2] [] (sR (al h 82840705 200) 7340134 0 10 (82840705, (cn h 82840705))) Q :=
  (X_pure i_92_57 rfl).trans ((X_icS i_92_58 kS_200).trans ((X_newac i_92_61 s_92_61 kl_82840705 rfl rfl (rfl)).trans (ac ((X_putR i_92_63 f_92_28 o_92_7340134_10).trans (Iff.rfl)))))
theorem b_92_66 {d : Nat} {u1 : V} {u2 : V} {h : HS} {Q : (List V ⊕ Pn) × HS → Prop} : X d 92 66 [vR (7340134, 0), u1, u2] [] h Q ↔ (nc h + 1 ≤ NCL ∧ ns h + 300 ≤ NSL) ∧ X d 92 75 [vR (7340134, 0), u1, u2] [] (sR (al h 83890881 300) 7340134 0 13 (83890881, (cn h 83890881))) Q :=
  (X_pure i_92_66 rfl).trans ((X_icS i_92_67 kS_300).trans ((X_newac i_92_70 s_92_70 kl_83890881 rfl rfl (rfl)).trans (ac ((X_putR i_92_72 f_92_31 o_92_7340134_13).trans (Iff.rfl)))))
theorem b_92_75 {d : Nat} {u1 : V} {u2 : V} {h : HS} {Q : (List V ⊕ Pn) × HS → Prop} : X d 92 75 [vR (7340134, 0), u1, u2] [] h Q ↔ (nc h + 1 ≤ NCL ∧ ns h + 300 ≤ NSL) ∧ X d 92 84 [vR (7340134, 0), u1, u2] [] (sR (al h 84939457 300) 7340134 0 14 (84939457, (cn h 84939457))) Q :=
  (X_pure i_92_75 rfl).trans ((X_icS i_92_76 kS_300).trans ((X_newac i_92_79 s_92_79 kl_84939457 rfl rfl (rfl)).trans (ac ((X_putR i_92_81 f_92_34 o_92_7340134_14).trans (Iff.rfl)))))
theorem b_92_84 {d : Nat} {u1 : V} {u2 : V} {h : HS} {Q : (List V ⊕ Pn) × HS → Prop} : X d 92 84 [vR (7340134, 0), u1, u2] [] h Q ↔ (nc h + 1 ≤ NCL ∧ ns h + 300 ≤ NSL) ∧ X d 92 93 [vR (7340134, 0), u1, u2] [] (sR (al h 85988033 300) 7340134 0 15 (85988033, (cn h 85988033))) Q :=
  (X_pure i_92_84 rfl).trans ((X_icS i_92_85 kS_300).trans ((X_newac i_92_88 s_92_88 kl_85988033 rfl rfl (rfl)).trans (ac ((X_putR i_92_90 f_92_37 o_92_7340134_15).trans (Iff.rfl)))))
theorem b_92_93 {d : Nat} {u1 : V} {u2 : V} {h : HS} {Q : (List V ⊕ Pn) × HS → Prop} : X d 92 93 [vR (7340134, 0), u1, u2] [] h Q ↔ (nc h + 1 ≤ NCL ∧ ns h + 300 ≤ NSL) ∧ X d 92 102 [vR (7340134, 0), u1, u2] [] (sR (al h 87036609 300) 7340134 0 16 (87036609, (cn h 87036609))) Q :=
  (X_pure i_92_93 rfl).trans ((X_icS i_92_94 kS_300).trans ((X_newac i_92_97 s_92_97 kl_87036609 rfl rfl (rfl)).trans (ac ((X_putR i_92_99 f_92_40 o_92_7340134_16).trans (Iff.rfl)))))
theorem b_92_102 {d : Nat} {u1 : V} {u2 : V} {h : HS} {Q : (List V ⊕ Pn) × HS → Prop} : X d 92 102 [vR (7340134, 0), u1, u2] [] h Q ↔ (nc h + 1 ≤ NCL ∧ ns h + 300 ≤ NSL) ∧ X d 92 111 [vR (7340134, 0), u1, u2] [] (sR (al h 88085185 300) 7340134 0 17 (88085185, (cn h 88085185))) Q :=
  (X_pure i_92_102 rfl).trans ((X_icS i_92_103 kS_300).trans ((X_newac i_92_106 s_92_106 kl_88085185 rfl rfl (rfl)).trans (ac ((X_putR i_92_108 f_92_43 o_92_7340134_17).trans (Iff.rfl)))))
theorem b_92_111 {d : Nat} {u1 : V} {u2 : V} {h : HS} {Q : (List V ⊕ Pn) × HS → Prop} : X d 92 111 [vR (7340134, 0), u1, u2] [] h Q ↔ (nc h + 1 ≤ NCL ∧ ns h + 300 ≤ NSL) ∧ X d 92 120 [vR (7340134, 0), u1, u2] [] (sR (al h 89133761 300) 7340134 0 18 (89133761, (cn h 89133761))) Q :=
  (X_pure i_92_111 rfl).trans ((X_icS i_92_112 kS_300).trans ((X_newac i_92_115 s_92_115 kl_89133761 rfl rfl (rfl)).trans (ac ((X_putR i_92_117 f_92_46 o_92_7340134_18).trans (Iff.rfl)))))
theorem b_92_120 {d : Nat} {u1 : V} {u2 : V} {h : HS} {Q : (List V ⊕ Pn) × HS → Prop} : X d 92 120 [vR (7340134, 0), u1, u2] [] h Q ↔ (nc h + 1 ≤ NCL ∧ ns h + 300 ≤ NSL) ∧ X d 92 129 [vR (7340134, 0), u1, u2] [] (sR (al h 90182337 300) 7340134 0 19 (90182337, (cn h 90182337))) Q :=
  (X_pure i_92_120 rfl).trans ((X_icS i_92_121 kS_300).trans ((X_newac i_92_124 s_92_124 kl_90182337 rfl rfl (rfl)).trans (ac ((X_putR i_92_126 f_92_49 o_92_7340134_19).trans (Iff.rfl)))))
theorem b_92_129 {d : Nat} {u1 : V} {u2 : V} {h : HS} {Q : (List V ⊕ Pn) × HS → Prop} : X d 92 129 [vR (7340134, 0), u1, u2] [] h Q ↔ (nc h + 1 ≤ NCL ∧ ns h + 300 ≤ NSL) ∧ X d 92 138 [vR (7340134, 0), u1, u2] [] (sR (al h 91230915 300) 7340134 0 20 (91230915, (cn h 91230915))) Q :=
  (X_pure i_92_129 rfl).trans ((X_icS i_92_130 kS_300).trans ((X_newac i_92_133 s_92_133 kl_91230915 rfl rfl (rfl)).trans (ac ((X_putR i_92_135 f_92_52 o_92_7340134_20).trans (Iff.rfl)))))
theorem b_92_138 {d : Nat} {u1 : V} {u2 : V} {h : HS} {Q : (List V ⊕ Pn) × HS → Prop} : X d 92 138 [vR (7340134, 0), u1, u2] [] h Q ↔ (nc h + 1 ≤ NCL ∧ ns h + 300 ≤ NSL) ∧ X d 92 147 [vR (7340134, 0), u1, u2] [] (sR (al h 92279491 300) 7340134 0 21 (92279491, (cn h 92279491))) Q :=
  (X_pure i_92_138 rfl).trans ((X_icS i_92_139 kS_300).trans ((X_newac i_92_142 s_92_142 kl_92279491 rfl rfl (rfl)).trans (ac ((X_putR i_92_144 f_92_56 o_92_7340134_21).trans (Iff.rfl)))))
theorem b_92_147 {d : Nat} {u1 : V} {u2 : V} {h : HS} {Q : (List V ⊕ Pn) × HS → Prop} : X d 92 147 [vR (7340134, 0), u1, u2] [] h Q ↔ (nc h + 1 ≤ NCL ∧ ns h + 600 ≤ NSL) ∧ X d 92 156 [vR (7340134, 0), u1, u2] [] (sR (al h 93332865 600) 7340134 0 22 (93332865, (cn h 93332865))) Q :=
  (X_pure i_92_147 rfl).trans ((X_icS i_92_148 kS_600).trans ((X_newac i_92_151 s_92_151 kl_93332865 rfl rfl (rfl)).trans (ac ((X_putR i_92_153 f_92_59 o_92_7340134_22).trans (Iff.rfl)))))
theorem b_92_156 {d : Nat} {u1 : V} {u2 : V} {h : HS} {Q : (List V ⊕ Pn) × HS → Prop} : X d 92 156 [vR (7340134, 0), u1, u2] [] h Q ↔ (nc h + 1 ≤ NCL ∧ ns h + 600 ≤ NSL) ∧ X d 92 165 [vR (7340134, 0), u1, u2] [] (sR (al h 94381441 600) 7340134 0 23 (94381441, (cn h 94381441))) Q :=
  (X_pure i_92_156 rfl).trans ((X_icS i_92_157 kS_600).trans ((X_newac i_92_160 s_92_160 kl_94381441 rfl rfl (rfl)).trans (ac ((X_putR i_92_162 f_92_62 o_92_7340134_23).trans (Iff.rfl)))))
theorem b_92_165 {d : Nat} {u1 : V} {u2 : V} {h : HS} {Q : (List V ⊕ Pn) × HS → Prop} : X d 92 165 [vR (7340134, 0), u1, u2] [] h Q ↔ (nc h + 1 ≤ NCL ∧ ns h + 600 ≤ NSL) ∧ X d 92 174 [vR (7340134, 0), u1, u2] [] (sR (al h 95430017 600) 7340134 0 24 (95430017, (cn h 95430017))) Q :=
  (X_pure i_92_165 rfl).trans ((X_icS i_92_166 kS_600).trans ((X_newac i_92_169 s_92_169 kl_95430017 rfl rfl (rfl)).trans (ac ((X_putR i_92_171 f_92_65 o_92_7340134_24).trans (Iff.rfl)))))
theorem b_92_174 {d : Nat} {u1 : V} {u2 : V} {h : HS} {Q : (List V ⊕ Pn) × HS → Prop} : X d 92 174 [vR (7340134, 0), u1, u2] [] h Q ↔ (nc h + 1 ≤ NCL ∧ ns h + 600 ≤ NSL) ∧ X d 92 183 [vR (7340134, 0), u1, u2] [] (sR (al h 96478593 600) 7340134 0 25 (96478593, (cn h 96478593))) Q :=
  (X_pure i_92_174 rfl).trans ((X_icS i_92_175 kS_600).trans ((X_newac i_92_178 s_92_178 kl_96478593 rfl rfl (rfl)).trans (ac ((X_putR i_92_180 f_92_68 o_92_7340134_25).trans (Iff.rfl)))))
theorem b_92_183 {d : Nat} {u1 : V} {u2 : V} {h : HS} {Q : (List V ⊕ Pn) × HS → Prop} : X d 92 183 [vR (7340134, 0), u1, u2] [] h Q ↔ (nc h + 1 ≤ NCL ∧ ns h + 600 ≤ NSL) ∧ X d 92 192 [vR (7340134, 0), u1, u2] [] (sR (al h 97527171 600) 7340134 0 26 (97527171, (cn h 97527171))) Q :=
  (X_pure i_92_183 rfl).trans ((X_icS i_92_184 kS_600).trans ((X_newac i_92_187 s_92_187 kl_97527171 rfl rfl (rfl)).trans (ac ((X_putR i_92_189 f_92_71 o_92_7340134_26).trans (Iff.rfl)))))
theorem b_92_192 {d : Nat} {u1 : V} {u2 : V} {h : HS} {Q : (List V ⊕ Pn) × HS → Prop} : X d 92 192 [vR (7340134, 0), u1, u2] [] h Q ↔ (nc h + 1 ≤ NCL ∧ ns h + 400 ≤ NSL) ∧ X d 92 201 [vR (7340134, 0), u1, u2] [] (sR (al h 98572546 400) 7340134 0 27 (98572546, (cn h 98572546))) Q :=
  (X_pure i_92_192 rfl).trans ((X_icS i_92_193 kS_400).trans ((X_newac i_92_196 s_92_196 kl_98572546 rfl rfl (rfl)).trans (ac ((X_putR i_92_198 f_92_74 o_92_7340134_27).trans (Iff.rfl)))))
theorem b_92_201 {d : Nat} {u1 : V} {u2 : V} {h : HS} {Q : (List V ⊕ Pn) × HS → Prop} : X d 92 201 [vR (7340134, 0), u1, u2] [] h Q ↔ (nc h + 1 ≤ NCL ∧ ns h + 10 ≤ NSL) ∧ X d 92 209 [vR (7340134, 0), u1, u2] [] (sR (al h 99614881 10) 7340134 0 36 (99614881, (cn h 99614881))) Q :=
  (X_pure i_92_201 rfl).trans ((X_icB i_92_202 kB_10).trans ((X_newac i_92_204 s_92_204 kl_99614881 rfl rfl (rfl)).trans (ac ((X_putR i_92_206 f_92_78 o_92_7340134_36).trans (Iff.rfl)))))
theorem b_92_209 {d : Nat} {u1 : V} {u2 : V} {h : HS} {Q : (List V ⊕ Pn) × HS → Prop} : X d 92 209 [vR (7340134, 0), u1, u2] [] h Q ↔ (nc h + 1 ≤ NCL ∧ ns h + 10 ≤ NSL) ∧ X d 92 217 [vR (7340134, 0), u1, u2] [] (sR (al h 100663457 10) 7340134 0 37 (100663457, (cn h 100663457))) Q :=
  (X_pure i_92_209 rfl).trans ((X_icB i_92_210 kB_10).trans ((X_newac i_92_212 s_92_212 kl_100663457 rfl rfl (rfl)).trans (ac ((X_putR i_92_214 f_92_81 o_92_7340134_37).trans (Iff.rfl)))))
theorem b_92_217 {d : Nat} {u1 : V} {u2 : V} {h : HS} {Q : (List V ⊕ Pn) × HS → Prop} : X d 92 217 [vR (7340134, 0), u1, u2] [] h Q ↔ (nc h + 1 ≤ NCL ∧ ns h + 120 ≤ NSL) ∧ X d 92 225 [vR (7340134, 0), u1, u2] [] (sR (al h 101713793 120) 7340134 0 38 (101713793, (cn h 101713793))) Q :=
  (X_pure i_92_217 rfl).trans ((X_icB i_92_218 kB_120).trans ((X_newac i_92_220 s_92_220 kl_101713793 rfl rfl (rfl)).trans (ac ((X_putR i_92_222 f_92_84 o_92_7340134_38).trans (Iff.rfl)))))
theorem b_92_225 {d : Nat} {u1 : V} {u2 : V} {h : HS} {Q : (List V ⊕ Pn) × HS → Prop} : X d 92 225 [vR (7340134, 0), u1, u2] [] h Q ↔ (nc h + 1 ≤ NCL ∧ ns h + 120 ≤ NSL) ∧ X d 92 233 [vR (7340134, 0), u1, u2] [] (sR (al h 102762369 120) 7340134 0 39 (102762369, (cn h 102762369))) Q :=
  (X_pure i_92_225 rfl).trans ((X_icB i_92_226 kB_120).trans ((X_newac i_92_228 s_92_228 kl_102762369 rfl rfl (rfl)).trans (ac ((X_putR i_92_230 f_92_87 o_92_7340134_39).trans (Iff.rfl)))))
theorem b_92_233 {d : Nat} {u1 : V} {u2 : V} {h : HS} {Q : (List V ⊕ Pn) × HS → Prop} : X d 92 233 [vR (7340134, 0), u1, u2] [] h Q ↔ (nc h + 1 ≤ NCL ∧ ns h + 120 ≤ NSL) ∧ X d 92 241 [vR (7340134, 0), u1, u2] [] (sR (al h 103810945 120) 7340134 0 40 (103810945, (cn h 103810945))) Q :=
  (X_pure i_92_233 rfl).trans ((X_icB i_92_234 kB_120).trans ((X_newac i_92_236 s_92_236 kl_103810945 rfl rfl (rfl)).trans (ac ((X_putR i_92_238 f_92_90 o_92_7340134_40).trans (Iff.rfl)))))
theorem b_92_241 {d : Nat} {u1 : V} {u2 : V} {h : HS} {Q : (List V ⊕ Pn) × HS → Prop} : X d 92 241 [vR (7340134, 0), u1, u2] [] h Q ↔ (nc h + 1 ≤ NCL ∧ ns h + 120 ≤ NSL) ∧ X d 92 249 [vR (7340134, 0), u1, u2] [] (sR (al h 104859521 120) 7340134 0 41 (104859521, (cn h 104859521))) Q :=
  (X_pure i_92_241 rfl).trans ((X_icB i_92_242 kB_120).trans ((X_newac i_92_244 s_92_244 kl_104859521 rfl rfl (rfl)).trans (ac ((X_putR i_92_246 f_92_93 o_92_7340134_41).trans (Iff.rfl)))))
theorem b_92_249 {d : Nat} {u1 : V} {u2 : V} {h : HS} {Q : (List V ⊕ Pn) × HS → Prop} : X d 92 249 [vR (7340134, 0), u1, u2] [] h Q ↔ (nc h + 1 ≤ NCL ∧ ns h + 4000 ≤ NSL) ∧ X d 92 258 [vR (7340134, 0), u1, u2] [] (sR (al h 105970177 4000) 7340134 0 42 (105970177, (cn h 105970177))) Q :=
  (X_pure i_92_249 rfl).trans ((X_icS i_92_250 kS_4000).trans ((X_newac i_92_253 s_92_253 kl_105970177 rfl rfl (rfl)).trans (ac ((X_putR i_92_255 f_92_96 o_92_7340134_42).trans (Iff.rfl)))))
theorem b_92_258 {d : Nat} {u1 : V} {u2 : V} {h : HS} {Q : (List V ⊕ Pn) × HS → Prop} : X d 92 258 [vR (7340134, 0), u1, u2] [] h Q ↔ (nc h + 1 ≤ NCL ∧ ns h + 4000 ≤ NSL) ∧ X d 92 267 [vR (7340134, 0), u1, u2] [] (sR (al h 107018753 4000) 7340134 0 43 (107018753, (cn h 107018753))) Q :=
  (X_pure i_92_258 rfl).trans ((X_icS i_92_259 kS_4000).trans ((X_newac i_92_262 s_92_262 kl_107018753 rfl rfl (rfl)).trans (ac ((X_putR i_92_264 f_92_99 o_92_7340134_43).trans (Iff.rfl)))))
theorem b_92_267 {d : Nat} {u1 : V} {u2 : V} {h : HS} {Q : (List V ⊕ Pn) × HS → Prop} : X d 92 267 [vR (7340134, 0), u1, u2] [] h Q ↔ (nc h + 1 ≤ NCL ∧ ns h + 400 ≤ NSL) ∧ X d 92 276 [vR (7340134, 0), u1, u2] [] (sR (al h 108009729 400) 7340134 0 46 (108009729, (cn h 108009729))) Q :=
  (X_pure i_92_267 rfl).trans ((X_icS i_92_268 kS_400).trans ((X_newac i_92_271 s_92_271 kl_108009729 rfl rfl (rfl)).trans (ac ((X_putR i_92_273 f_92_102 o_92_7340134_46).trans (Iff.rfl)))))
theorem b_92_276 {d : Nat} {u1 : V} {u2 : V} {h : HS} {Q : (List V ⊕ Pn) × HS → Prop} : X d 92 276 [vR (7340134, 0), u1, u2] [] h Q ↔ (nc h + 1 ≤ NCL ∧ ns h + 400 ≤ NSL) ∧ X d 92 285 [vR (7340134, 0), u1, u2] [] (sR (al h 109058308 400) 7340134 0 47 (109058308, (cn h 109058308))) Q :=
  (X_pure i_92_276 rfl).trans ((X_icS i_92_277 kS_400).trans ((X_newac i_92_280 s_92_280 kl_109058308 rfl rfl (rfl)).trans (ac ((X_putR i_92_282 f_92_105 o_92_7340134_47).trans (Iff.rfl)))))
theorem b_92_285 {d : Nat} {u1 : V} {u2 : V} {h : HS} {Q : (List V ⊕ Pn) × HS → Prop} : X d 92 285 [vR (7340134, 0), u1, u2] [] h Q ↔ (nc h + 1 ≤ NCL ∧ ns h + 13 ≤ NSL) ∧ X d 92 293 [vR (7340134, 0), u1, u2] [] (sR (al h 110100692 13) 7340134 0 48 (110100692, (cn h 110100692))) Q :=
  (X_pure i_92_285 rfl).trans ((X_icB i_92_286 kB_13).trans ((X_newac i_92_288 s_92_288 kl_110100692 rfl rfl (rfl)).trans (ac ((X_putR i_92_290 f_92_109 o_92_7340134_48).trans (Iff.rfl)))))
theorem b_92_293 {d : Nat} {u1 : V} {u2 : V} {h : HS} {Q : (List V ⊕ Pn) × HS → Prop} : X d 92 293 [vR (7340134, 0), u1, u2] [] h Q ↔ (nc h + 1 ≤ NCL ∧ ns h + 1800 ≤ NSL) ∧ X d 92 302 [vR (7340134, 0), u1, u2] [] (sR (al h 111177857 1800) 7340134 0 52 (111177857, (cn h 111177857))) Q :=
  (X_pure i_92_293 rfl).trans ((X_icS i_92_294 kS_1800).trans ((X_newac i_92_297 s_92_297 kl_111177857 rfl rfl (rfl)).trans (ac ((X_putR i_92_299 f_92_112 o_92_7340134_52).trans (Iff.rfl)))))
theorem b_92_302 {d : Nat} {u1 : V} {u2 : V} {h : HS} {Q : (List V ⊕ Pn) × HS → Prop} : X d 92 302 [vR (7340134, 0), u1, u2] [] h Q ↔ (nc h + 1 ≤ NCL ∧ ns h + 300 ≤ NSL) ∧ X d 92 311 [vR (7340134, 0), u1, u2] [] (sR (al h 112202433 300) 7340134 0 53 (112202433, (cn h 112202433))) Q :=
  (X_pure i_92_302 rfl).trans ((X_icS i_92_303 kS_300).trans ((X_newac i_92_306 s_92_306 kl_112202433 rfl rfl (rfl)).trans (ac ((X_putR i_92_308 f_92_115 o_92_7340134_53).trans (Iff.rfl)))))
theorem b_92_311 {d : Nat} {u1 : V} {u2 : V} {h : HS} {Q : (List V ⊕ Pn) × HS → Prop} : X d 92 311 [vR (7340134, 0), u1, u2] [] h Q ↔ (nc h + 1 ≤ NCL ∧ ns h + 300 ≤ NSL) ∧ X d 92 320 [vR (7340134, 0), u1, u2] [] (sR (al h 113251011 300) 7340134 0 54 (113251011, (cn h 113251011))) Q :=
  (X_pure i_92_311 rfl).trans ((X_icS i_92_312 kS_300).trans ((X_newac i_92_315 s_92_315 kl_113251011 rfl rfl (rfl)).trans (ac ((X_putR i_92_317 f_92_118 o_92_7340134_54).trans (Iff.rfl)))))
theorem b_92_320 {d : Nat} {u1 : V} {u2 : V} {h : HS} {Q : (List V ⊕ Pn) × HS → Prop} : X d 92 320 [vR (7340134, 0), u1, u2] [] h Q ↔ (nc h + 1 ≤ NCL ∧ ns h + 300 ≤ NSL) ∧ X d 92 329 [vR (7340134, 0), u1, u2] [] (sR (al h 114299587 300) 7340134 0 55 (114299587, (cn h 114299587))) Q :=
  (X_pure i_92_320 rfl).trans ((X_icS i_92_321 kS_300).trans ((X_newac i_92_324 s_92_324 kl_114299587 rfl rfl (rfl)).trans (ac ((X_putR i_92_326 f_92_121 o_92_7340134_55).trans (Iff.rfl)))))
theorem b_92_329 {d : Nat} {u1 : V} {u2 : V} {h : HS} {Q : (List V ⊕ Pn) × HS → Prop} : X d 92 329 [vR (7340134, 0), u1, u2] [] h Q ↔ (nc h + 1 ≤ NCL ∧ ns h + 2144 ≤ NSL) ∧ X d 92 338 [vR (7340134, 0), u1, u2] [] (sR (al h 115377668 2144) 7340134 0 56 (115377668, (cn h 115377668))) Q :=
  (X_pure i_92_329 rfl).trans ((X_icS i_92_330 kS_2144).trans ((X_newac i_92_333 s_92_333 kl_115377668 rfl rfl (rfl)).trans (ac ((X_putR i_92_335 f_92_124 o_92_7340134_56).trans (Iff.rfl)))))
theorem b_92_338 {d : Nat} {u1 : V} {u2 : V} {h : HS} {Q : (List V ⊕ Pn) × HS → Prop} : X d 92 338 [vR (7340134, 0), u1, u2] [] h Q ↔ (nc h + 1 ≤ NCL ∧ ns h + 2144 ≤ NSL) ∧ X d 92 347 [vR (7340134, 0), u1, u2] [] (sR (al h 116426244 2144) 7340134 0 57 (116426244, (cn h 116426244))) Q :=
  (X_pure i_92_338 rfl).trans ((X_icS i_92_339 kS_2144).trans ((X_newac i_92_342 s_92_342 kl_116426244 rfl rfl (rfl)).trans (ac ((X_putR i_92_344 f_92_127 o_92_7340134_57).trans (Iff.rfl)))))
theorem b_92_347 {d : Nat} {u1 : V} {u2 : V} {h : HS} {Q : (List V ⊕ Pn) × HS → Prop} : X d 92 347 [vR (7340134, 0), u1, u2] [] h Q ↔ X d 92 352 [vR (7340134, 0), u1, u2] [] (sI h 7340134 0 58 (-1)) Q :=
  (X_pure i_92_347 rfl).trans ((X_icI i_92_348 kI_m1).trans ((X_putI i_92_349 f_92_130 o_92_7340134_58).trans (Iff.rfl)))
theorem b_92_352 {d : Nat} {u1 : V} {u2 : V} {h : HS} {Q : (List V ⊕ Pn) × HS → Prop} : X d 92 352 [vR (7340134, 0), u1, u2] [] h Q ↔ X d 92 357 [vR (7340134, 0), u1, u2] [] (sI h 7340134 0 59 (-1)) Q :=
  (X_pure i_92_352 rfl).trans ((X_icI i_92_353 kI_m1).trans ((X_putI i_92_354 f_92_134 o_92_7340134_59).trans (Iff.rfl)))
theorem b_92_357 {d : Nat} {u1 : V} {u2 : V} {h : HS} {Q : (List V ⊕ Pn) × HS → Prop} : X d 92 357 [vR (7340134, 0), u1, u2] [] h Q ↔ X d 92 362 [vR (7340134, 0), u1, u2] [] (sI h 7340134 0 60 (-1)) Q :=
  (X_pure i_92_357 rfl).trans ((X_icI i_92_358 kI_m1).trans ((X_putI i_92_359 f_92_137 o_92_7340134_60).trans (Iff.rfl)))
theorem b_92_362 {d : Nat} {u1 : V} {u2 : V} {h : HS} {Q : (List V ⊕ Pn) × HS → Prop} : X d 92 362 [vR (7340134, 0), u1, u2] [] h Q ↔ X d 92 367 [vR (7340134, 0), u1, u2] [] (sI h 7340134 0 61 (-1)) Q :=
  (X_pure i_92_362 rfl).trans ((X_icI i_92_363 kI_m1).trans ((X_putI i_92_364 f_92_140 o_92_7340134_61).trans (Iff.rfl)))
theorem b_92_367 {d : Nat} {u1 : V} {u2 : V} {h : HS} {Q : (List V ⊕ Pn) × HS → Prop} : X d 92 367 [vR (7340134, 0), u1, u2] [] h Q ↔ (nc h + 1 ≤ NCL ∧ ns h + 2144 ≤ NSL) ∧ X d 92 376 [vR (7340134, 0), u1, u2] [] (sR (al h 117474820 2144) 7340134 0 64 (117474820, (cn h 117474820))) Q :=
  (X_pure i_92_367 rfl).trans ((X_icS i_92_368 kS_2144).trans ((X_newac i_92_371 s_92_371 kl_117474820 rfl rfl (rfl)).trans (ac ((X_putR i_92_373 f_92_143 o_92_7340134_64).trans (Iff.rfl)))))
theorem b_92_376 {d : Nat} {u1 : V} {u2 : V} {h : HS} {Q : (List V ⊕ Pn) × HS → Prop} : X d 92 376 [vR (7340134, 0), u1, u2] [] h Q ↔ X d 92 381 [vR (7340134, 0), u1, u2] [] (sI h 7340134 0 65 (-1)) Q :=
  (X_pure i_92_376 rfl).trans ((X_icI i_92_377 kI_m1).trans ((X_putI i_92_378 f_92_146 o_92_7340134_65).trans (Iff.rfl)))
theorem b_92_381 {d : Nat} {u1 : V} {u2 : V} {h : HS} {Q : (List V ⊕ Pn) × HS → Prop} : X d 92 381 [vR (7340134, 0), u1, u2] [] h Q ↔ (nc h + 1 ≤ NCL ∧ ns h + 8 ≤ NSL) ∧ X d 92 389 [vR (7340134, 0), u1, u2] [] (sR (al h 118489217 8) 7340134 0 66 (118489217, (cn h 118489217))) Q :=
  (X_pure i_92_381 rfl).trans ((X_icB i_92_382 kB_8).trans ((X_newac i_92_384 s_92_384 kl_118489217 rfl rfl (rfl)).trans (ac ((X_putR i_92_386 f_92_149 o_92_7340134_66).trans (Iff.rfl)))))
theorem b_92_389 {d : Nat} {u1 : V} {u2 : V} {h : HS} {Q : (List V ⊕ Pn) × HS → Prop} : X d 92 389 [vR (7340134, 0), u1, u2] [] h Q ↔ (nc h + 1 ≤ NCL ∧ ns h + 10 ≤ NSL) ∧ X d 92 397 [vR (7340134, 0), u1, u2] [] (sR (al h 119537825 10) 7340134 0 67 (119537825, (cn h 119537825))) Q :=
  (X_pure i_92_389 rfl).trans ((X_icB i_92_390 kB_10).trans ((X_newac i_92_392 s_92_392 kl_119537825 rfl rfl (rfl)).trans (ac ((X_putR i_92_394 f_92_152 o_92_7340134_67).trans (Iff.rfl)))))
theorem b_92_397 {d : Nat} {u1 : V} {u2 : V} {h : HS} {Q : (List V ⊕ Pn) × HS → Prop} : X d 92 397 [vR (7340134, 0), u1, u2] [] h Q ↔ (nc h + 1 ≤ NCL ∧ ns h + 8 ≤ NSL) ∧ X d 92 405 [vR (7340134, 0), u1, u2] [] (sR (al h 120586369 8) 7340134 0 68 (120586369, (cn h 120586369))) Q :=
  (X_pure i_92_397 rfl).trans ((X_icB i_92_398 kB_8).trans ((X_newac i_92_400 s_92_400 kl_120586369 rfl rfl (rfl)).trans (ac ((X_putR i_92_402 f_92_155 o_92_7340134_68).trans (Iff.rfl)))))
theorem b_92_405 {d : Nat} {u1 : V} {u2 : V} {h : HS} {Q : (List V ⊕ Pn) × HS → Prop} : X d 92 405 [vR (7340134, 0), u1, u2] [] h Q ↔ (nc h + 1 ≤ NCL ∧ ns h + 8 ≤ NSL) ∧ X d 92 413 [vR (7340134, 0), u1, u2] [] (sR (al h 121634945 8) 7340134 0 69 (121634945, (cn h 121634945))) Q :=
  (X_pure i_92_405 rfl).trans ((X_icB i_92_406 kB_8).trans ((X_newac i_92_408 s_92_408 kl_121634945 rfl rfl (rfl)).trans (ac ((X_putR i_92_410 f_92_158 o_92_7340134_69).trans (Iff.rfl)))))
theorem b_92_413 {d : Nat} {u1 : V} {u2 : V} {h : HS} {Q : (List V ⊕ Pn) × HS → Prop} : X d 92 413 [vR (7340134, 0), u1, u2] [] h Q ↔ (nc h + 1 ≤ NCL ∧ ns h + 8 ≤ NSL) ∧ X d 92 421 [vR (7340134, 0), u1, u2] [] (sR (al h 122683521 8) 7340134 0 70 (122683521, (cn h 122683521))) Q :=
  (X_pure i_92_413 rfl).trans ((X_icB i_92_414 kB_8).trans ((X_newac i_92_416 s_92_416 kl_122683521 rfl rfl (rfl)).trans (ac ((X_putR i_92_418 f_92_161 o_92_7340134_70).trans (Iff.rfl)))))
theorem b_92_421 {d : Nat} {u1 : V} {u2 : V} {h : HS} {Q : (List V ⊕ Pn) × HS → Prop} : X d 92 421 [vR (7340134, 0), u1, u2] [] h Q ↔ (nc h + 1 ≤ NCL ∧ ns h + 9216 ≤ NSL) ∧ X d 92 430 [vR (7340134, 0), u1, u2] [] (sR (al h 123879428 9216) 7340134 0 71 (123879428, (cn h 123879428))) Q :=
  (X_pure i_92_421 rfl).trans ((X_icS i_92_422 kS_9216).trans ((X_newac i_92_425 s_92_425 kl_123879428 rfl rfl (rfl)).trans (ac ((X_putR i_92_427 f_92_164 o_92_7340134_71).trans (Iff.rfl)))))
theorem b_92_430 {d : Nat} {u1 : V} {u2 : V} {h : HS} {Q : (List V ⊕ Pn) × HS → Prop} : X d 92 430 [vR (7340134, 0), u1, u2] [] h Q ↔ (nc h + 1 ≤ NCL ∧ ns h + 3 ≤ NSL) ∧ X d 92 437 [vR (7340134, 0), u1, u2] [] (sR (al h 124780596 3) 7340134 0 72 (124780596, (cn h 124780596))) Q :=
  (X_pure i_92_430 rfl).trans ((X_icI i_92_431 kI_3).trans ((X_newac i_92_432 s_92_432 kl_124780596 rfl rfl (rfl)).trans (ac ((X_putR i_92_434 f_92_167 o_92_7340134_72).trans (Iff.rfl)))))
theorem b_92_437 {d : Nat} {u1 : V} {u2 : V} {h : HS} {Q : (List V ⊕ Pn) × HS → Prop} : X d 92 437 [vR (7340134, 0), u1, u2] [] h Q ↔ (nc h + 1 ≤ NCL ∧ ns h + 12 ≤ NSL) ∧ X d 92 445 [vR (7340134, 0), u1, u2] [] (sR (al h 125829313 12) 7340134 0 73 (125829313, (cn h 125829313))) Q :=
  (X_pure i_92_437 rfl).trans ((X_icB i_92_438 kB_12).trans ((X_newac i_92_440 s_92_440 kl_125829313 rfl rfl (rfl)).trans (ac ((X_putR i_92_442 f_92_170 o_92_7340134_73).trans (Iff.rfl)))))
theorem b_92_445 {d : Nat} {u1 : V} {u2 : V} {h : HS} {Q : (List V ⊕ Pn) × HS → Prop} : X d 92 445 [vR (7340134, 0), u1, u2] [] h Q ↔ (nc h + 1 ≤ NCL ∧ ns h + 120 ≤ NSL) ∧ X d 92 453 [vR (7340134, 0), u1, u2] [] (sR (al h 126879617 120) 7340134 0 74 (126879617, (cn h 126879617))) Q :=
  (X_pure i_92_445 rfl).trans ((X_icB i_92_446 kB_120).trans ((X_newac i_92_448 s_92_448 kl_126879617 rfl rfl (rfl)).trans (ac ((X_putR i_92_450 f_92_173 o_92_7340134_74).trans (Iff.rfl)))))
theorem b_92_453 {d : Nat} {u1 : V} {u2 : V} {h : HS} {Q : (List V ⊕ Pn) × HS → Prop} : X d 92 453 [vR (7340134, 0), u1, u2] [] h Q ↔ (nc h + 1 ≤ NCL ∧ ns h + 120 ≤ NSL) ∧ X d 92 461 [vR (7340134, 0), u1, u2] [] (sR (al h 127928193 120) 7340134 0 75 (127928193, (cn h 127928193))) Q :=
  (X_pure i_92_453 rfl).trans ((X_icB i_92_454 kB_120).trans ((X_newac i_92_456 s_92_456 kl_127928193 rfl rfl (rfl)).trans (ac ((X_putR i_92_458 f_92_176 o_92_7340134_75).trans (Iff.rfl)))))
theorem b_92_461 {d : Nat} {u1 : V} {u2 : V} {h : HS} {Q : (List V ⊕ Pn) × HS → Prop} : X d 92 461 [vR (7340134, 0), u1, u2] [] h Q ↔ (nc h + 1 ≤ NCL ∧ ns h + 120 ≤ NSL) ∧ X d 92 469 [vR (7340134, 0), u1, u2] [] (sR (al h 128976769 120) 7340134 0 76 (128976769, (cn h 128976769))) Q :=
  (X_pure i_92_461 rfl).trans ((X_icB i_92_462 kB_120).trans ((X_newac i_92_464 s_92_464 kl_128976769 rfl rfl (rfl)).trans (ac ((X_putR i_92_466 f_92_179 o_92_7340134_76).trans (Iff.rfl)))))
theorem b_92_469 {d : Nat} {u1 : V} {u2 : V} {h : HS} {Q : (List V ⊕ Pn) × HS → Prop} : X d 92 469 [vR (7340134, 0), u1, u2] [] h Q ↔ (nc h + 1 ≤ NCL ∧ ns h + 120 ≤ NSL) ∧ X d 92 477 [vR (7340134, 0), u1, u2] [] (sR (al h 130025345 120) 7340134 0 77 (130025345, (cn h 130025345))) Q :=
  (X_pure i_92_469 rfl).trans ((X_icB i_92_470 kB_120).trans ((X_newac i_92_472 s_92_472 kl_130025345 rfl rfl (rfl)).trans (ac ((X_putR i_92_474 f_92_182 o_92_7340134_77).trans (Iff.rfl)))))
theorem b_92_477 {d : Nat} {u1 : V} {u2 : V} {h : HS} {Q : (List V ⊕ Pn) × HS → Prop} : X d 92 477 [vR (7340134, 0), u1, u2] [] h Q ↔ (nc h + 1 ≤ NCL ∧ ns h + 10 ≤ NSL) ∧ X d 92 485 [vR (7340134, 0), u1, u2] [] (sR (al h 131072161 10) 7340134 0 78 (131072161, (cn h 131072161))) Q :=
  (X_pure i_92_477 rfl).trans ((X_icB i_92_478 kB_10).trans ((X_newac i_92_480 s_92_480 kl_131072161 rfl rfl (rfl)).trans (ac ((X_putR i_92_482 f_92_185 o_92_7340134_78).trans (Iff.rfl)))))
theorem b_92_485 {d : Nat} {u1 : V} {u2 : V} {h : HS} {Q : (List V ⊕ Pn) × HS → Prop} : X d 92 485 [vR (7340134, 0), u1, u2] [] h Q ↔ (nc h + 1 ≤ NCL ∧ ns h + 30 ≤ NSL) ∧ X d 92 493 [vR (7340134, 0), u1, u2] [] (sR (al h 132121057 30) 7340134 0 79 (132121057, (cn h 132121057))) Q :=
  (X_pure i_92_485 rfl).trans ((X_icB i_92_486 kB_30).trans ((X_newac i_92_488 s_92_488 kl_132121057 rfl rfl (rfl)).trans (ac ((X_putR i_92_490 f_92_188 o_92_7340134_79).trans (Iff.rfl)))))
theorem b_92_493 {d : Nat} {u1 : V} {u2 : V} {h : HS} {Q : (List V ⊕ Pn) × HS → Prop} : X d 92 493 [vR (7340134, 0), u1, u2] [] h Q ↔ (nc h + 1 ≤ NCL ∧ ns h + 3 ≤ NSL) ∧ X d 92 500 [vR (7340134, 0), u1, u2] [] (sR (al h 133169201 3) 7340134 0 80 (133169201, (cn h 133169201))) Q :=
  (X_pure i_92_493 rfl).trans ((X_icI i_92_494 kI_3).trans ((X_newac i_92_495 s_92_495 kl_133169201 rfl rfl (rfl)).trans (ac ((X_putR i_92_497 f_92_191 o_92_7340134_80).trans (Iff.rfl)))))
theorem b_92_500 {d : Nat} {u1 : V} {u2 : V} {h : HS} {Q : (List V ⊕ Pn) × HS → Prop} : X d 92 500 [vR (7340134, 0), u1, u2] [] h Q ↔ (nc h + 1 ≤ NCL ∧ ns h + 120 ≤ NSL) ∧ X d 92 508 [vR (7340134, 0), u1, u2] [] (sR (al h 134219651 120) 7340134 0 81 (134219651, (cn h 134219651))) Q :=
  (X_pure i_92_500 rfl).trans ((X_icB i_92_501 kB_120).trans ((X_newac i_92_503 s_92_503 kl_134219651 rfl rfl (rfl)).trans (ac ((X_putR i_92_505 f_92_194 o_92_7340134_81).trans (Iff.rfl)))))
theorem b_92_508 {d : Nat} {u1 : V} {u2 : V} {h : HS} {Q : (List V ⊕ Pn) × HS → Prop} : X d 92 508 [vR (7340134, 0), u1, u2] [] h Q ↔ X d 92 513 [vR (7340134, 0), u1, u2] [] (sI h 7340134 0 82 (-1)) Q :=
  (X_pure i_92_508 rfl).trans ((X_icI i_92_509 kI_m1).trans ((X_putI i_92_510 f_92_197 o_92_7340134_82).trans (Iff.rfl)))
theorem b_92_513 {d : Nat} {u1 : V} {u2 : V} {h : HS} {Q : (List V ⊕ Pn) × HS → Prop} : X d 92 513 [vR (7340134, 0), u1, u2] [] h Q ↔ (nc h + 1 ≤ NCL ∧ ns h + 64 ≤ NSL) ∧ X d 92 521 [vR (7340134, 0), u1, u2] [] (sR (al h 135267329 64) 7340134 0 85 (135267329, (cn h 135267329))) Q :=
  (X_pure i_92_513 rfl).trans ((X_icB i_92_514 kB_64).trans ((X_newac i_92_516 s_92_516 kl_135267329 rfl rfl (rfl)).trans (ac ((X_putR i_92_518 f_92_200 o_92_7340134_85).trans (Iff.rfl)))))
theorem b_92_521 {d : Nat} {u1 : V} {u2 : V} {h : HS} {Q : (List V ⊕ Pn) × HS → Prop} : X d 92 521 [vR (7340134, 0), u1, u2] [] h Q ↔ (nc h + 1 ≤ NCL ∧ ns h + 8 ≤ NSL) ∧ X d 92 529 [vR (7340134, 0), u1, u2] [] (sR (al h 136315009 8) 7340134 0 86 (136315009, (cn h 136315009))) Q :=
  (X_pure i_92_521 rfl).trans ((X_icB i_92_522 kB_8).trans ((X_newac i_92_524 s_92_524 kl_136315009 rfl rfl (rfl)).trans (ac ((X_putR i_92_526 f_92_203 o_92_7340134_86).trans (Iff.rfl)))))
theorem b_92_529 {d : Nat} {u1 : V} {u2 : V} {h : HS} {Q : (List V ⊕ Pn) × HS → Prop} : X d 92 529 [vR (7340134, 0), u1, u2] [] h Q ↔ (nc h + 1 ≤ NCL ∧ ns h + 4 ≤ NSL) ∧ X d 92 536 [vR (7340134, 0), u1, u2] [] (sR (al h 137363521 4) 7340134 0 87 (137363521, (cn h 137363521))) Q :=
  (X_pure i_92_529 rfl).trans ((X_icI i_92_530 kI_4).trans ((X_newac i_92_531 s_92_531 kl_137363521 rfl rfl (rfl)).trans (ac ((X_putR i_92_533 f_92_206 o_92_7340134_87).trans (Iff.rfl)))))
theorem b_92_536 {d : Nat} {u1 : V} {u2 : V} {h : HS} {Q : (List V ⊕ Pn) × HS → Prop} : X d 92 536 [vR (7340134, 0), u1, u2] [] h Q ↔ (nc h + 1 ≤ NCL ∧ ns h + 8 ≤ NSL) ∧ X d 92 544 [vR (7340134, 0), u1, u2] [] (sR (al h 138412161 8) 7340134 0 88 (138412161, (cn h 138412161))) Q :=
  (X_pure i_92_536 rfl).trans ((X_icB i_92_537 kB_8).trans ((X_newac i_92_539 s_92_539 kl_138412161 rfl rfl (rfl)).trans (ac ((X_putR i_92_541 f_92_209 o_92_7340134_88).trans (Iff.rfl)))))
theorem b_92_544 {d : Nat} {u1 : V} {u2 : V} {h : HS} {Q : (List V ⊕ Pn) × HS → Prop} : X d 92 544 [vR (7340134, 0), u1, u2] [] h Q ↔ (nc h + 1 ≤ NCL ∧ ns h + 8 ≤ NSL) ∧ X d 92 552 [vR (7340134, 0), u1, u2] [] (sR (al h 139460737 8) 7340134 0 89 (139460737, (cn h 139460737))) Q :=
  (X_pure i_92_544 rfl).trans ((X_icB i_92_545 kB_8).trans ((X_newac i_92_547 s_92_547 kl_139460737 rfl rfl (rfl)).trans (ac ((X_putR i_92_549 f_92_212 o_92_7340134_89).trans (Iff.rfl)))))
theorem b_92_552 {d : Nat} {u1 : V} {u2 : V} {h : HS} {Q : (List V ⊕ Pn) × HS → Prop} : X d 92 552 [vR (7340134, 0), u1, u2] [] h Q ↔ (nc h + 1 ≤ NCL ∧ ns h + 60 ≤ NSL) ∧ X d 92 560 [vR (7340134, 0), u1, u2] [] (sR (al h 140510145 60) 7340134 0 91 (140510145, (cn h 140510145))) Q :=
  (X_pure i_92_552 rfl).trans ((X_icB i_92_553 kB_60).trans ((X_newac i_92_555 s_92_555 kl_140510145 rfl rfl (rfl)).trans (ac ((X_putR i_92_557 f_92_215 o_92_7340134_91).trans (Iff.rfl)))))
theorem b_92_560 {d : Nat} {u1 : V} {u2 : V} {h : HS} {Q : (List V ⊕ Pn) × HS → Prop} : X d 92 560 [vR (7340134, 0), u1, u2] [] h Q ↔ (nc h + 1 ≤ NCL ∧ ns h + 60 ≤ NSL) ∧ X d 92 568 [vR (7340134, 0), u1, u2] [] (sR (al h 141558721 60) 7340134 0 92 (141558721, (cn h 141558721))) Q :=
  (X_pure i_92_560 rfl).trans ((X_icB i_92_561 kB_60).trans ((X_newac i_92_563 s_92_563 kl_141558721 rfl rfl (rfl)).trans (ac ((X_putR i_92_565 f_92_218 o_92_7340134_92).trans (Iff.rfl)))))
theorem b_92_568 {d : Nat} {u1 : V} {u2 : V} {h : HS} {Q : (List V ⊕ Pn) × HS → Prop} : X d 92 568 [vR (7340134, 0), u1, u2] [] h Q ↔ (nc h + 1 ≤ NCL ∧ ns h + 60 ≤ NSL) ∧ X d 92 576 [vR (7340134, 0), u1, u2] [] (sR (al h 142607297 60) 7340134 0 93 (142607297, (cn h 142607297))) Q :=
  (X_pure i_92_568 rfl).trans ((X_icB i_92_569 kB_60).trans ((X_newac i_92_571 s_92_571 kl_142607297 rfl rfl (rfl)).trans (ac ((X_putR i_92_573 f_92_221 o_92_7340134_93).trans (Iff.rfl)))))
theorem b_92_576 {d : Nat} {u1 : V} {u2 : V} {h : HS} {Q : (List V ⊕ Pn) × HS → Prop} : X d 92 576 [vR (7340134, 0), u1, u2] [] h Q ↔ (nc h + 1 ≤ NCL ∧ ns h + 60 ≤ NSL) ∧ X d 92 584 [vR (7340134, 0), u1, u2] [] (sR (al h 143655873 60) 7340134 0 94 (143655873, (cn h 143655873))) Q :=
  (X_pure i_92_576 rfl).trans ((X_icB i_92_577 kB_60).trans ((X_newac i_92_579 s_92_579 kl_143655873 rfl rfl (rfl)).trans (ac ((X_putR i_92_581 f_92_224 o_92_7340134_94).trans (Iff.rfl)))))
theorem b_92_584 {d : Nat} {u1 : V} {u2 : V} {h : HS} {Q : (List V ⊕ Pn) × HS → Prop} : X d 92 584 [vR (7340134, 0), u1, u2] [] h Q ↔ (nc h + 1 ≤ NCL ∧ ns h + 100 ≤ NSL) ∧ X d 92 592 [vR (7340134, 0), u1, u2] [] (sR (al h 144705089 100) 7340134 0 97 (144705089, (cn h 144705089))) Q :=
  (X_pure i_92_584 rfl).trans ((X_icB i_92_585 kB_100).trans ((X_newac i_92_587 s_92_587 kl_144705089 rfl rfl (rfl)).trans (ac ((X_putR i_92_589 f_92_227 o_92_7340134_97).trans (Iff.rfl)))))
theorem b_92_592 {d : Nat} {u1 : V} {u2 : V} {h : HS} {Q : (List V ⊕ Pn) × HS → Prop} : X d 92 592 [vR (7340134, 0), u1, u2] [] h Q ↔ (nc h + 1 ≤ NCL ∧ ns h + 100 ≤ NSL) ∧ X d 92 600 [vR (7340134, 0), u1, u2] [] (sR (al h 145753665 100) 7340134 0 98 (145753665, (cn h 145753665))) Q :=
  (X_pure i_92_592 rfl).trans ((X_icB i_92_593 kB_100).trans ((X_newac i_92_595 s_92_595 kl_145753665 rfl rfl (rfl)).trans (ac ((X_putR i_92_597 f_92_230 o_92_7340134_98).trans (Iff.rfl)))))
theorem b_92_600 {d : Nat} {u1 : V} {u2 : V} {h : HS} {Q : (List V ⊕ Pn) × HS → Prop} : X d 92 600 [vR (7340134, 0), u1, u2] [] h Q ↔ (nc h + 1 ≤ NCL ∧ ns h + 100 ≤ NSL) ∧ X d 92 608 [vR (7340134, 0), u1, u2] [] (sR (al h 146802241 100) 7340134 0 99 (146802241, (cn h 146802241))) Q :=
  (X_pure i_92_600 rfl).trans ((X_icB i_92_601 kB_100).trans ((X_newac i_92_603 s_92_603 kl_146802241 rfl rfl (rfl)).trans (ac ((X_putR i_92_605 f_92_233 o_92_7340134_99).trans (Iff.rfl)))))
theorem b_92_608 {d : Nat} {u1 : V} {u2 : V} {h : HS} {Q : (List V ⊕ Pn) × HS → Prop} : X d 92 608 [vR (7340134, 0), u1, u2] [] h Q ↔ (nc h + 1 ≤ NCL ∧ ns h + 200 ≤ NSL) ∧ X d 92 617 [vR (7340134, 0), u1, u2] [] (sR (al h 147852417 200) 7340134 0 100 (147852417, (cn h 147852417))) Q :=
  (X_pure i_92_608 rfl).trans ((X_icS i_92_609 kS_200).trans ((X_newac i_92_612 s_92_612 kl_147852417 rfl rfl (rfl)).trans (ac ((X_putR i_92_614 f_92_236 o_92_7340134_100).trans (Iff.rfl)))))
theorem b_92_617 {d : Nat} {u1 : V} {u2 : V} {h : HS} {Q : (List V ⊕ Pn) × HS → Prop} : X d 92 617 [vR (7340134, 0), u1, u2] [] h Q ↔ (nc h + 1 ≤ NCL ∧ ns h + 200 ≤ NSL) ∧ X d 92 626 [vR (7340134, 0), u1, u2] [] (sR (al h 148900993 200) 7340134 0 101 (148900993, (cn h 148900993))) Q :=
  (X_pure i_92_617 rfl).trans ((X_icS i_92_618 kS_200).trans ((X_newac i_92_621 s_92_621 kl_148900993 rfl rfl (rfl)).trans (ac ((X_putR i_92_623 f_92_239 o_92_7340134_101).trans (Iff.rfl)))))
theorem b_92_626 {d : Nat} {u1 : V} {u2 : V} {h : HS} {Q : (List V ⊕ Pn) × HS → Prop} : X d 92 626 [vR (7340134, 0), u1, u2] [] h Q ↔ (nc h + 1 ≤ NCL ∧ ns h + 200 ≤ NSL) ∧ X d 92 635 [vR (7340134, 0), u1, u2] [] (sR (al h 149949569 200) 7340134 0 102 (149949569, (cn h 149949569))) Q :=
  (X_pure i_92_626 rfl).trans ((X_icS i_92_627 kS_200).trans ((X_newac i_92_630 s_92_630 kl_149949569 rfl rfl (rfl)).trans (ac ((X_putR i_92_632 f_92_242 o_92_7340134_102).trans (Iff.rfl)))))
theorem b_92_635 {d : Nat} {u1 : V} {u2 : V} {h : HS} {Q : (List V ⊕ Pn) × HS → Prop} : X d 92 635 [vR (7340134, 0), u1, u2] [] h Q ↔ (nc h + 1 ≤ NCL ∧ ns h + 200 ≤ NSL) ∧ X d 92 644 [vR (7340134, 0), u1, u2] [] (sR (al h 150998145 200) 7340134 0 103 (150998145, (cn h 150998145))) Q :=
  (X_pure i_92_635 rfl).trans ((X_icS i_92_636 kS_200).trans ((X_newac i_92_639 s_92_639 kl_150998145 rfl rfl (rfl)).trans (ac ((X_putR i_92_641 f_92_245 o_92_7340134_103).trans (Iff.rfl)))))
theorem b_92_644 {d : Nat} {u1 : V} {u2 : V} {h : HS} {Q : (List V ⊕ Pn) × HS → Prop} : X d 92 644 [vR (7340134, 0), u1, u2] [] h Q ↔ (nc h + 1 ≤ NCL ∧ ns h + 100 ≤ NSL) ∧ X d 92 652 [vR (7340134, 0), u1, u2] [] (sR (al h 152045124 100) 7340134 0 104 (152045124, (cn h 152045124))) Q :=
  (X_pure i_92_644 rfl).trans ((X_icB i_92_645 kB_100).trans ((X_newac i_92_647 s_92_647 kl_152045124 rfl rfl (rfl)).trans (ac ((X_putR i_92_649 f_92_248 o_92_7340134_104).trans (Iff.rfl)))))
theorem b_92_652 {d : Nat} {u1 : V} {u2 : V} {h : HS} {Q : (List V ⊕ Pn) × HS → Prop} : X d 92 652 [vR (7340134, 0), u1, u2] [] h Q ↔ (nc h + 1 ≤ NCL ∧ ns h + 100 ≤ NSL) ∧ X d 92 660 [vR (7340134, 0), u1, u2] [] (sR (al h 153093699 100) 7340134 0 105 (153093699, (cn h 153093699))) Q :=
  (X_pure i_92_652 rfl).trans ((X_icB i_92_653 kB_100).trans ((X_newac i_92_655 s_92_655 kl_153093699 rfl rfl (rfl)).trans (ac ((X_putR i_92_657 f_92_251 o_92_7340134_105).trans (Iff.rfl)))))
theorem b_92_660 {d : Nat} {u1 : V} {u2 : V} {h : HS} {Q : (List V ⊕ Pn) × HS → Prop} : X d 92 660 [vR (7340134, 0), u1, u2] [] h Q ↔ (nc h + 1 ≤ NCL ∧ ns h + 200 ≤ NSL) ∧ X d 92 669 [vR (7340134, 0), u1, u2] [] (sR (al h 154143875 200) 7340134 0 106 (154143875, (cn h 154143875))) Q :=
  (X_pure i_92_660 rfl).trans ((X_icS i_92_661 kS_200).trans ((X_newac i_92_664 s_92_664 kl_154143875 rfl rfl (rfl)).trans (ac ((X_putR i_92_666 f_92_254 o_92_7340134_106).trans (Iff.rfl)))))
theorem b_92_669 {d : Nat} {u1 : V} {u2 : V} {h : HS} {Q : (List V ⊕ Pn) × HS → Prop} (nu1 : nl u1 = true) : X d 92 669 [vR (7340134, 0), u1, u2] [] h Q ↔ X d 92 671 [vR (7340134, 0), vI (nI 0), u2] [] h Q :=
  (X_icI i_92_669 kI_0).trans ((X_soI i_92_670 rfl rfl nu1 rfl).trans (Iff.rfl))
theorem b_92_671 {d : Nat} {x1 : Int32} {u2 : V} {h : HS} {Q : (List V ⊕ Pn) × HS → Prop} : X d 92 671 [vR (7340134, 0), vI x1, u2] [] h Q ↔ if x1 < (nI 16) then X d 92 677 [vR (7340134, 0), vI x1, u2] [] h Q else X d 92 719 [vR (7340134, 0), vI x1, u2] [] h Q :=
  (X_pure i_92_671 rfl).trans ((X_icB i_92_672 kB_16).trans (X_ic_ge i_92_674 t_674_719))
theorem b_92_677 {d : Nat} {x1 : Int32} {u2 : V} {h : HS} {Q : (List V ⊕ Pn) × HS → Prop} (nu2 : nl u2 = true) : X d 92 677 [vR (7340134, 0), vI x1, u2] [] h Q ↔ X d 92 679 [vR (7340134, 0), vI x1, vI (nI 0)] [] h Q :=
  (X_icI i_92_677 kI_0).trans ((X_soI i_92_678 rfl rfl nu2 rfl).trans (Iff.rfl))
theorem b_92_679 {d : Nat} {x1 : Int32} {x2 : Int32} {h : HS} {Q : (List V ⊕ Pn) × HS → Prop} : X d 92 679 [vR (7340134, 0), vI x1, vI x2] [] h Q ↔ if x2 < (nI 16) then X d 92 685 [vR (7340134, 0), vI x1, vI x2] [] h Q else X d 92 713 [vR (7340134, 0), vI x1, vI x2] [] h Q :=
  (X_pure i_92_679 rfl).trans ((X_icB i_92_680 kB_16).trans (X_ic_ge i_92_682 t_682_713))
theorem b_92_685 {d : Nat} {x1 : Int32} {x2 : Int32} {h : HS} {Q : (List V ⊕ Pn) × HS → Prop} (hS : Sh h) : X d 92 685 [vR (7340134, 0), vI x1, vI x2] [] h Q ↔ if x1 = x2 then X d 92 700 [vR (7340134, 0), vI x1, vI x2] [vI (((nI 16) * x1) + x2), vR (77598721, 0)] h Q else X d 92 704 [vR (7340134, 0), vI x1, vI x2] [vI (((nI 16) * x1) + x2), vR (77598721, 0)] h Q :=
  (X_pure i_92_685 rfl).trans ((X_getS i_92_686 f_92_13 (sh_48 hS)).trans ((X_icB i_92_689 kB_16).trans ((X_pure i_92_691 rfl).trans ((X_pure i_92_692 rfl).trans ((X_pure i_92_693 rfl).trans ((X_pure i_92_694 rfl).trans ((X_pure i_92_695 rfl).trans ((X_pure i_92_696 rfl).trans (X_ic_ne i_92_697 t_697_704)))))))))
theorem b_92_700 {d : Nat} {x1 : Int32} {x2 : Int32} {xs1 : Int32} {h : HS} {Q : (List V ⊕ Pn) × HS → Prop} : X d 92 700 [vR (7340134, 0), vI x1, vI x2] [vI xs1, vR (77598721, 0)] h Q ↔ X d 92 706 [vR (7340134, 0), vI x1, vI x2] [vI (nI 0), vI xs1, vR (77598721, 0)] h Q :=
  (X_icI i_92_700 kI_0).trans ((X_go i_92_701 t_701_706).trans (Iff.rfl))
theorem b_92_704 {d : Nat} {x1 : Int32} {x2 : Int32} {xs1 : Int32} {h : HS} {Q : (List V ⊕ Pn) × HS → Prop} : X d 92 704 [vR (7340134, 0), vI x1, vI x2] [vI xs1, vR (77598721, 0)] h Q ↔ X d 92 706 [vR (7340134, 0), vI x1, vI x2] [vI (nI 9), vI xs1, vR (77598721, 0)] h Q :=
  (X_icB i_92_704 kB_9).trans (Iff.rfl)
theorem b_92_706 {d : Nat} {x1 : Int32} {x2 : Int32} {xs1 : Int32} {xs2 : Int32} {h : HS} {Q : (List V ⊕ Pn) × HS → Prop} : X d 92 706 [vR (7340134, 0), vI x1, vI x2] [vI xs2, vI xs1, vR (77598721, 0)] h Q ↔ inb xs1 256 ∧ X d 92 679 [vR (7340134, 0), vI x1, vI (x2 + nI 1)] [] (sI h 77598721 0 (ix xs1) xs2) Q :=
  (X_iast i_92_706 kl_77598721 (by decide)).trans (ac ((X_inc (x := x2) i_92_707 rfl kI_1 rfl).trans ((X_go i_92_710 t_710_679).trans (Iff.rfl))))
theorem b_92_713 {d : Nat} {x1 : Int32} {x2 : Int32} {h : HS} {Q : (List V ⊕ Pn) × HS → Prop} : X d 92 713 [vR (7340134, 0), vI x1, vI x2] [] h Q ↔ X d 92 671 [vR (7340134, 0), vI (x1 + nI 1), vI x2] [] h Q :=
  (X_inc (x := x1) i_92_713 rfl kI_1 rfl).trans ((X_go i_92_716 t_716_671).trans (Iff.rfl))
theorem b_92_719 {d : Nat} {x1 : Int32} {u2 : V} {h : HS} {Q : (List V ⊕ Pn) × HS → Prop} : X d 92 719 [vR (7340134, 0), vI x1, u2] [] h Q ↔ Q (.inl [], h) :=
  X_rv i_92_719 r_92
theorem e_92 {d : Nat}  {h : HS} {Q : (List V ⊕ Pn) × HS → Prop} : Ev d 92 [vR (7340134, 0)] h Q ↔ X d 92 0 [vR (7340134, 0), vU, vU] [] h Q := Iff.rfl
