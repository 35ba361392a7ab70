/-! facts for the blocks (printed by genblk.py) -/
set_option maxRecDepth 100000
theorem i_1_0 : ins 1 0 = some (.iload_n 1, 1) := by decide +kernel
theorem i_1_1 : ins 1 1 = some (.i2l, 1) := by decide +kernel
theorem i_1_2 : ins 1 2 = some (.aload_n 0, 1) := by decide +kernel
theorem f_1_204 : fld 1 204 = some (1048582, 0, 0) := by decide +kernel
theorem i_1_3 : ins 1 3 = some (.getfield 204, 3) := by decide +kernel
theorem i_1_6 : ins 1 6 = some (.i2l, 1) := by decide +kernel
theorem l_1_207 : ldcv 1 207 = some (vL (3999)) := rfl
theorem i_1_7 : ins 1 7 = some (.ldc2_w 207, 3) := by decide +kernel
theorem v_1_209 : inv 1 209 = some (2, 3, 0, 0) := by decide +kernel
theorem i_1_10 : ins 1 10 = some (.invokestatic 209, 3) := by decide +kernel
theorem i_1_13 : ins 1 13 = some (.ifCond .ne 5, 3) := by decide +kernel
theorem t_13_18 : tg 13 (5) = some 18 := by decide +kernel
theorem kI_0 : Int32.ofInt (0) = nI 0 := by decide +kernel
theorem i_1_16 : ins 1 16 = some (.iconst 0, 1) := by decide +kernel
theorem r_1 : mret 1 = 2 := by decide +kernel
theorem i_1_17 : ins 1 17 = some (.ireturn, 1) := by decide +kernel
theorem i_1_18 : ins 1 18 = some (.aload_n 0, 1) := by decide +kernel
theorem i_1_19 : ins 1 19 = some (.iload_n 1, 1) := by decide +kernel
theorem o_1_1048582_0 : putok 1 1048582 0 = true := by decide +kernel
theorem i_1_20 : ins 1 20 = some (.putfield 204, 3) := by decide +kernel
theorem kI_1 : Int32.ofInt (1) = nI 1 := by decide +kernel
theorem i_1_23 : ins 1 23 = some (.iconst 1, 1) := by decide +kernel
theorem i_1_24 : ins 1 24 = some (.ireturn, 1) := by decide +kernel
theorem i_2_0 : ins 2 0 = some (.lload_n 0, 1) := by decide +kernel
theorem i_2_1 : ins 2 1 = some (.lload_n 2, 1) := by decide +kernel
theorem t_3_17 : tg 3 (14) = some 17 := by decide +kernel
theorem i_2_2 : ins 2 2 = some (.lcmp, 1) := by decide +kernel
theorem i_2_3 : ins 2 3 = some (.ifCond .lt 14, 3) := by decide +kernel
theorem i_2_6 : ins 2 6 = some (.lload_n 0, 1) := by decide +kernel
theorem i_2_7 : ins 2 7 = some (.lload 4, 2) := by decide +kernel
theorem t_10_17 : tg 10 (7) = some 17 := by decide +kernel
theorem i_2_9 : ins 2 9 = some (.lcmp, 1) := by decide +kernel
theorem i_2_10 : ins 2 10 = some (.ifCond .gt 7, 3) := by decide +kernel
theorem i_2_13 : ins 2 13 = some (.iconst 1, 1) := by decide +kernel
theorem i_2_14 : ins 2 14 = some (.goto 4, 3) := by decide +kernel
theorem t_14_18 : tg 14 (4) = some 18 := by decide +kernel
theorem i_2_17 : ins 2 17 = some (.iconst 0, 1) := by decide +kernel
theorem r_2 : mret 2 = 2 := by decide +kernel
theorem i_2_18 : ins 2 18 = some (.ireturn, 1) := by decide +kernel
theorem i_3_0 : ins 3 0 = some (.aload_n 0, 1) := by decide +kernel
theorem f_3_213 : fld 3 213 = some (1048582, 3, 0) := by decide +kernel
theorem i_3_1 : ins 3 1 = some (.getfield 213, 3) := by decide +kernel
theorem kB_12 : (Int8.ofInt (12)).toInt32 = nI 12 := by decide +kernel
theorem i_3_4 : ins 3 4 = some (.bipush 12, 2) := by decide +kernel
theorem i_3_6 : ins 3 6 = some (.if_icmp .eq 15, 3) := by decide +kernel
theorem t_6_21 : tg 6 (15) = some 21 := by decide +kernel
theorem i_3_9 : ins 3 9 = some (.iload_n 1, 1) := by decide +kernel
theorem i_3_10 : ins 3 10 = some (.i2l, 1) := by decide +kernel
theorem i_3_11 : ins 3 11 = some (.lconst 0, 1) := by decide +kernel
theorem l_3_216 : ldcv 3 216 = some (vL (7)) := rfl
theorem i_3_12 : ins 3 12 = some (.ldc2_w 216, 3) := by decide +kernel
theorem v_3_209 : inv 3 209 = some (2, 3, 0, 0) := by decide +kernel
theorem i_3_15 : ins 3 15 = some (.invokestatic 209, 3) := by decide +kernel
theorem i_3_18 : ins 3 18 = some (.ifCond .ne 5, 3) := by decide +kernel
theorem t_18_23 : tg 18 (5) = some 23 := by decide +kernel
theorem kI_m1 : Int32.ofInt (-1) = (-1) := by decide +kernel
theorem i_3_21 : ins 3 21 = some (.iconst (-1), 1) := by decide +kernel
theorem r_3 : mret 3 = 1 := by decide +kernel
theorem i_3_22 : ins 3 22 = some (.ireturn, 1) := by decide +kernel
theorem i_3_23 : ins 3 23 = some (.aload_n 0, 1) := by decide +kernel
theorem f_3_9 : fld 3 9 = some (1048582, 1, 2) := by decide +kernel
theorem i_3_24 : ins 3 24 = some (.getfield 9, 3) := by decide +kernel
theorem i_3_27 : ins 3 27 = some (.aload_n 0, 1) := by decide +kernel
theorem i_3_28 : ins 3 28 = some (.getfield 213, 3) := by decide +kernel
theorem i_3_31 : ins 3 31 = some (.iload_n 1, 1) := by decide +kernel
theorem kl_22020289 : klen 22020289 = 12 := by decide +kernel
theorem i_3_32 : ins 3 32 = some (.iastore, 1) := by decide +kernel
theorem i_3_33 : ins 3 33 = some (.aload_n 0, 1) := by decide +kernel
theorem i_3_34 : ins 3 34 = some (.dup, 1) := by decide +kernel
theorem i_3_35 : ins 3 35 = some (.getfield 213, 3) := by decide +kernel
theorem i_3_38 : ins 3 38 = some (.iconst 1, 1) := by decide +kernel
theorem i_3_39 : ins 3 39 = some (.iadd, 1) := by decide +kernel
theorem o_3_1048582_3 : putok 3 1048582 3 = true := by decide +kernel
theorem i_3_40 : ins 3 40 = some (.putfield 213, 3) := by decide +kernel
theorem i_3_43 : ins 3 43 = some (.aload_n 0, 1) := by decide +kernel
theorem i_3_44 : ins 3 44 = some (.getfield 213, 3) := by decide +kernel
theorem i_3_47 : ins 3 47 = some (.iconst 1, 1) := by decide +kernel
theorem i_3_48 : ins 3 48 = some (.isub, 1) := by decide +kernel
theorem i_3_49 : ins 3 49 = some (.ireturn, 1) := by decide +kernel
theorem i_4_0 : ins 4 0 = some (.iload_n 1, 1) := by decide +kernel
theorem v_4_218 : inv 4 218 = some (5, 1, 0, 0) := by decide +kernel
theorem i_4_1 : ins 4 1 = some (.invokestatic 218, 3) := by decide +kernel
theorem i_4_4 : ins 4 4 = some (.ifCond .eq 27, 3) := by decide +kernel
theorem t_4_31 : tg 4 (27) = some 31 := by decide +kernel
theorem i_4_7 : ins 4 7 = some (.iload_n 2, 1) := by decide +kernel
theorem i_4_8 : ins 4 8 = some (.invokestatic 218, 3) := by decide +kernel
theorem i_4_11 : ins 4 11 = some (.ifCond .eq 20, 3) := by decide +kernel
theorem t_11_31 : tg 11 (20) = some 31 := by decide +kernel
theorem i_4_14 : ins 4 14 = some (.iload_n 1, 1) := by decide +kernel
theorem i_4_15 : ins 4 15 = some (.iload_n 2, 1) := by decide +kernel
theorem i_4_16 : ins 4 16 = some (.if_icmp .eq 15, 3) := by decide +kernel
theorem t_16_31 : tg 16 (15) = some 31 := by decide +kernel
theorem i_4_19 : ins 4 19 = some (.iload_n 3, 1) := by decide +kernel
theorem i_4_20 : ins 4 20 = some (.i2l, 1) := by decide +kernel
theorem i_4_21 : ins 4 21 = some (.lconst 0, 1) := by decide +kernel
theorem l_4_222 : ldcv 4 222 = some (vL (9)) := rfl
theorem i_4_22 : ins 4 22 = some (.ldc2_w 222, 3) := by decide +kernel
theorem v_4_209 : inv 4 209 = some (2, 3, 0, 0) := by decide +kernel
theorem i_4_25 : ins 4 25 = some (.invokestatic 209, 3) := by decide +kernel
theorem i_4_28 : ins 4 28 = some (.ifCond .ne 5, 3) := by decide +kernel
theorem t_28_33 : tg 28 (5) = some 33 := by decide +kernel
theorem i_4_31 : ins 4 31 = some (.iconst (-1), 1) := by decide +kernel
theorem r_4 : mret 4 = 1 := by decide +kernel
theorem i_4_32 : ins 4 32 = some (.ireturn, 1) := by decide +kernel
theorem i_4_33 : ins 4 33 = some (.aload_n 0, 1) := by decide +kernel
theorem f_4_15 : fld 4 15 = some (1048582, 2, 2) := by decide +kernel
theorem i_4_34 : ins 4 34 = some (.getfield 15, 3) := by decide +kernel
theorem i_4_37 : ins 4 37 = some (.iload_n 1, 1) := by decide +kernel
theorem kl_23068933 : klen 23068933 = 16 := by decide +kernel
theorem i_4_38 : ins 4 38 = some (.aaload, 1) := by decide +kernel
theorem i_4_39 : ins 4 39 = some (.iload_n 2, 1) := by decide +kernel
theorem kl_24117505 : klen 24117505 = 16 := by decide +kernel
theorem i_4_40 : ins 4 40 = some (.iaload, 1) := by decide +kernel
theorem i_4_41 : ins 4 41 = some (.istore 4, 2) := by decide +kernel
theorem i_4_43 : ins 4 43 = some (.aload_n 0, 1) := by decide +kernel
theorem i_4_44 : ins 4 44 = some (.getfield 15, 3) := by decide +kernel
theorem i_4_47 : ins 4 47 = some (.iload_n 1, 1) := by decide +kernel
theorem i_4_48 : ins 4 48 = some (.aaload, 1) := by decide +kernel
theorem i_4_49 : ins 4 49 = some (.iload_n 2, 1) := by decide +kernel
theorem i_4_50 : ins 4 50 = some (.iload_n 3, 1) := by decide +kernel
theorem i_4_51 : ins 4 51 = some (.iastore, 1) := by decide +kernel
theorem i_4_52 : ins 4 52 = some (.aload_n 0, 1) := by decide +kernel
theorem i_4_53 : ins 4 53 = some (.getfield 15, 3) := by decide +kernel
theorem i_4_56 : ins 4 56 = some (.iload_n 2, 1) := by decide +kernel
theorem i_4_57 : ins 4 57 = some (.aaload, 1) := by decide +kernel
theorem i_4_58 : ins 4 58 = some (.iload_n 1, 1) := by decide +kernel
theorem i_4_59 : ins 4 59 = some (.iload_n 3, 1) := by decide +kernel
theorem i_4_60 : ins 4 60 = some (.iastore, 1) := by decide +kernel
theorem i_4_61 : ins 4 61 = some (.iload 4, 2) := by decide +kernel
theorem i_4_63 : ins 4 63 = some (.ireturn, 1) := by decide +kernel
theorem i_5_0 : ins 5 0 = some (.iload_n 0, 1) := by decide +kernel
theorem i_5_1 : ins 5 1 = some (.ifCond .lt 13, 3) := by decide +kernel
theorem t_1_14 : tg 1 (13) = some 14 := by decide +kernel
theorem i_5_4 : ins 5 4 = some (.iload_n 0, 1) := by decide +kernel
theorem kB_16 : (Int8.ofInt (16)).toInt32 = nI 16 := by decide +kernel
theorem i_5_5 : ins 5 5 = some (.bipush 16, 2) := by decide +kernel
theorem i_5_7 : ins 5 7 = some (.if_icmp .ge 7, 3) := by decide +kernel
theorem t_7_14 : tg 7 (7) = some 14 := by decide +kernel
theorem i_5_10 : ins 5 10 = some (.iconst 1, 1) := by decide +kernel
theorem i_5_11 : ins 5 11 = some (.goto 4, 3) := by decide +kernel
theorem t_11_15 : tg 11 (4) = some 15 := by decide +kernel
theorem i_5_14 : ins 5 14 = some (.iconst 0, 1) := by decide +kernel
theorem r_5 : mret 5 = 2 := by decide +kernel
theorem i_5_15 : ins 5 15 = some (.ireturn, 1) := by decide +kernel
theorem i_6_0 : ins 6 0 = some (.aload_n 0, 1) := by decide +kernel
theorem f_6_224 : fld 6 224 = some (1048582, 5, 0) := by decide +kernel
theorem i_6_1 : ins 6 1 = some (.getfield 224, 3) := by decide +kernel
theorem kS_200 : (Int16.ofInt (200)).toInt32 = nI 200 := by decide +kernel
theorem i_6_4 : ins 6 4 = some (.sipush 200, 3) := by decide +kernel
theorem i_6_7 : ins 6 7 = some (.if_icmp .eq 38, 3) := by decide +kernel
theorem t_7_45 : tg 7 (38) = some 45 := by decide +kernel
theorem i_6_10 : ins 6 10 = some (.aload_n 0, 1) := by decide +kernel
theorem i_6_11 : ins 6 11 = some (.iload_n 1, 1) := by decide +kernel
theorem v_6_227 : inv 6 227 = some (7, 1, 1, 1048582) := by decide +kernel
theorem i_6_12 : ins 6 12 = some (.invokevirtual 227, 3) := by decide +kernel
theorem i_6_15 : ins 6 15 = some (.ifCond .eq 30, 3) := by decide +kernel
theorem t_15_45 : tg 15 (30) = some 45 := by decide +kernel
theorem i_6_18 : ins 6 18 = some (.iload_n 2, 1) := by decide +kernel
theorem v_6_218 : inv 6 218 = some (5, 1, 0, 0) := by decide +kernel
theorem i_6_19 : ins 6 19 = some (.invokestatic 218, 3) := by decide +kernel
theorem i_6_22 : ins 6 22 = some (.ifCond .eq 23, 3) := by decide +kernel
theorem t_22_45 : tg 22 (23) = some 45 := by decide +kernel
theorem i_6_25 : ins 6 25 = some (.iload_n 3, 1) := by decide +kernel
theorem v_6_230 : inv 6 230 = some (8, 1, 0, 0) := by decide +kernel
theorem i_6_26 : ins 6 26 = some (.invokestatic 230, 3) := by decide +kernel
theorem i_6_29 : ins 6 29 = some (.ifCond .eq 16, 3) := by decide +kernel
theorem t_29_45 : tg 29 (16) = some 45 := by decide +kernel
theorem i_6_32 : ins 6 32 = some (.iload 4, 2) := by decide +kernel
theorem i_6_34 : ins 6 34 = some (.i2l, 1) := by decide +kernel
theorem i_6_35 : ins 6 35 = some (.lconst 0, 1) := by decide +kernel
theorem l_6_233 : ldcv 6 233 = some (vL (9999)) := rfl
theorem i_6_36 : ins 6 36 = some (.ldc2_w 233, 3) := by decide +kernel
theorem v_6_209 : inv 6 209 = some (2, 3, 0, 0) := by decide +kernel
theorem i_6_39 : ins 6 39 = some (.invokestatic 209, 3) := by decide +kernel
theorem i_6_42 : ins 6 42 = some (.ifCond .ne 5, 3) := by decide +kernel
theorem t_42_47 : tg 42 (5) = some 47 := by decide +kernel
theorem i_6_45 : ins 6 45 = some (.iconst (-1), 1) := by decide +kernel
theorem r_6 : mret 6 = 1 := by decide +kernel
theorem i_6_46 : ins 6 46 = some (.ireturn, 1) := by decide +kernel
theorem i_6_47 : ins 6 47 = some (.aload_n 0, 1) := by decide +kernel
theorem f_6_20 : fld 6 20 = some (1048582, 4, 2) := by decide +kernel
theorem i_6_48 : ins 6 48 = some (.getfield 20, 3) := by decide +kernel
theorem i_6_51 : ins 6 51 = some (.aload_n 0, 1) := by decide +kernel
theorem i_6_52 : ins 6 52 = some (.getfield 224, 3) := by decide +kernel
theorem n_6_18 : newk 6 18 = some (8388726, 5) := by decide +kernel
theorem i_6_55 : ins 6 55 = some (.new 18, 3) := by decide +kernel
theorem i_6_58 : ins 6 58 = some (.dup, 1) := by decide +kernel
theorem i_6_59 : ins 6 59 = some (.iload_n 1, 1) := by decide +kernel
theorem i_6_60 : ins 6 60 = some (.iload_n 2, 1) := by decide +kernel
theorem i_6_61 : ins 6 61 = some (.iload_n 3, 1) := by decide +kernel
theorem i_6_62 : ins 6 62 = some (.iload 4, 2) := by decide +kernel
theorem i_6_64 : ins 6 64 = some (.aload_n 0, 1) := by decide +kernel
theorem f_6_204 : fld 6 204 = some (1048582, 0, 0) := by decide +kernel
theorem i_6_65 : ins 6 65 = some (.getfield 204, 3) := by decide +kernel
theorem v_6_235 : inv 6 235 = some (198, 5, 2, 0) := by decide +kernel
theorem i_6_68 : ins 6 68 = some (.invokespecial 235, 3) := by decide +kernel
theorem kl_25169029 : klen 25169029 = 200 := by decide +kernel
theorem eo_25169029 : elob 25169029 = true := by decide +kernel
theorem i_6_71 : ins 6 71 = some (.aastore, 1) := by decide +kernel
theorem i_6_72 : ins 6 72 = some (.aload_n 0, 1) := by decide +kernel
theorem i_6_73 : ins 6 73 = some (.dup, 1) := by decide +kernel
theorem i_6_74 : ins 6 74 = some (.getfield 224, 3) := by decide +kernel
theorem i_6_77 : ins 6 77 = some (.iconst 1, 1) := by decide +kernel
theorem i_6_78 : ins 6 78 = some (.iadd, 1) := by decide +kernel
theorem o_6_1048582_5 : putok 6 1048582 5 = true := by decide +kernel
theorem i_6_79 : ins 6 79 = some (.putfield 224, 3) := by decide +kernel
theorem i_6_82 : ins 6 82 = some (.aload_n 0, 1) := by decide +kernel
theorem i_6_83 : ins 6 83 = some (.getfield 224, 3) := by decide +kernel
theorem i_6_86 : ins 6 86 = some (.ireturn, 1) := by decide +kernel
theorem i_7_0 : ins 7 0 = some (.iload_n 1, 1) := by decide +kernel
theorem i_7_1 : ins 7 1 = some (.ifCond .lt 15, 3) := by decide +kernel
theorem t_1_16 : tg 1 (15) = some 16 := by decide +kernel
theorem i_7_4 : ins 7 4 = some (.iload_n 1, 1) := by decide +kernel
theorem i_7_5 : ins 7 5 = some (.aload_n 0, 1) := by decide +kernel
theorem f_7_213 : fld 7 213 = some (1048582, 3, 0) := by decide +kernel
theorem i_7_6 : ins 7 6 = some (.getfield 213, 3) := by decide +kernel
theorem i_7_9 : ins 7 9 = some (.if_icmp .ge 7, 3) := by decide +kernel
theorem t_9_16 : tg 9 (7) = some 16 := by decide +kernel
theorem i_7_12 : ins 7 12 = some (.iconst 1, 1) := by decide +kernel
theorem i_7_13 : ins 7 13 = some (.goto 4, 3) := by decide +kernel
theorem t_13_17 : tg 13 (4) = some 17 := by decide +kernel
theorem i_7_16 : ins 7 16 = some (.iconst 0, 1) := by decide +kernel
theorem r_7 : mret 7 = 2 := by decide +kernel
theorem i_7_17 : ins 7 17 = some (.ireturn, 1) := by decide +kernel
theorem i_8_0 : ins 8 0 = some (.iload_n 0, 1) := by decide +kernel
theorem i_8_1 : ins 8 1 = some (.ifCond .lt 14, 3) := by decide +kernel
theorem t_1_15 : tg 1 (14) = some 15 := by decide +kernel
theorem i_8_4 : ins 8 4 = some (.iload_n 0, 1) := by decide +kernel
theorem kS_134 : (Int16.ofInt (134)).toInt32 = nI 134 := by decide +kernel
theorem i_8_5 : ins 8 5 = some (.sipush 134, 3) := by decide +kernel
theorem i_8_8 : ins 8 8 = some (.if_icmp .ge 7, 3) := by decide +kernel
theorem t_8_15 : tg 8 (7) = some 15 := by decide +kernel
theorem i_8_11 : ins 8 11 = some (.iconst 1, 1) := by decide +kernel
theorem i_8_12 : ins 8 12 = some (.goto 4, 3) := by decide +kernel
theorem t_12_16 : tg 12 (4) = some 16 := by decide +kernel
theorem i_8_15 : ins 8 15 = some (.iconst 0, 1) := by decide +kernel
theorem r_8 : mret 8 = 2 := by decide +kernel
theorem i_8_16 : ins 8 16 = some (.ireturn, 1) := by decide +kernel
theorem i_9_0 : ins 9 0 = some (.aload_n 0, 1) := by decide +kernel
theorem i_9_1 : ins 9 1 = some (.iload_n 1, 1) := by decide +kernel
theorem v_9_227 : inv 9 227 = some (7, 1, 1, 1048582) := by decide +kernel
theorem i_9_2 : ins 9 2 = some (.invokevirtual 227, 3) := by decide +kernel
theorem i_9_5 : ins 9 5 = some (.ifCond .eq 37, 3) := by decide +kernel
theorem t_5_42 : tg 5 (37) = some 42 := by decide +kernel
theorem i_9_8 : ins 9 8 = some (.iload_n 2, 1) := by decide +kernel
theorem v_9_218 : inv 9 218 = some (5, 1, 0, 0) := by decide +kernel
theorem i_9_9 : ins 9 9 = some (.invokestatic 218, 3) := by decide +kernel
theorem i_9_12 : ins 9 12 = some (.ifCond .eq 30, 3) := by decide +kernel
theorem t_12_42 : tg 12 (30) = some 42 := by decide +kernel
theorem i_9_15 : ins 9 15 = some (.iload_n 3, 1) := by decide +kernel
theorem v_9_230 : inv 9 230 = some (8, 1, 0, 0) := by decide +kernel
theorem i_9_16 : ins 9 16 = some (.invokestatic 230, 3) := by decide +kernel
theorem i_9_19 : ins 9 19 = some (.ifCond .eq 23, 3) := by decide +kernel
theorem t_19_42 : tg 19 (23) = some 42 := by decide +kernel
theorem i_9_22 : ins 9 22 = some (.iload 4, 2) := by decide +kernel
theorem v_9_250 : inv 9 250 = some (10, 1, 0, 0) := by decide +kernel
theorem i_9_24 : ins 9 24 = some (.invokestatic 250, 3) := by decide +kernel
theorem i_9_27 : ins 9 27 = some (.ifCond .eq 15, 3) := by decide +kernel
theorem t_27_42 : tg 27 (15) = some 42 := by decide +kernel
theorem i_9_30 : ins 9 30 = some (.aload_n 0, 1) := by decide +kernel
theorem i_9_31 : ins 9 31 = some (.iload_n 1, 1) := by decide +kernel
theorem i_9_32 : ins 9 32 = some (.iload_n 2, 1) := by decide +kernel
theorem i_9_33 : ins 9 33 = some (.iload_n 3, 1) := by decide +kernel
theorem i_9_34 : ins 9 34 = some (.iload 4, 2) := by decide +kernel
theorem v_9_253 : inv 9 253 = some (11, 4, 1, 1048582) := by decide +kernel
theorem i_9_36 : ins 9 36 = some (.invokevirtual 253, 3) := by decide +kernel
theorem i_9_39 : ins 9 39 = some (.goto 4, 3) := by decide +kernel
theorem t_39_43 : tg 39 (4) = some 43 := by decide +kernel
theorem i_9_42 : ins 9 42 = some (.iconst (-1), 1) := by decide +kernel
theorem r_9 : mret 9 = 1 := by decide +kernel
theorem i_9_43 : ins 9 43 = some (.ireturn, 1) := by decide +kernel
theorem i_10_0 : ins 10 0 = some (.iload_n 0, 1) := by decide +kernel
theorem i_10_1 : ins 10 1 = some (.ifCond .lt 14, 3) := by decide +kernel
theorem i_10_4 : ins 10 4 = some (.iload_n 0, 1) := by decide +kernel
theorem kS_4000 : (Int16.ofInt (4000)).toInt32 = nI 4000 := by decide +kernel
theorem i_10_5 : ins 10 5 = some (.sipush 4000, 3) := by decide +kernel
theorem i_10_8 : ins 10 8 = some (.if_icmp .ge 7, 3) := by decide +kernel
theorem i_10_11 : ins 10 11 = some (.iconst 1, 1) := by decide +kernel
theorem i_10_12 : ins 10 12 = some (.goto 4, 3) := by decide +kernel
theorem i_10_15 : ins 10 15 = some (.iconst 0, 1) := by decide +kernel
theorem r_10 : mret 10 = 2 := by decide +kernel
theorem i_10_16 : ins 10 16 = some (.ireturn, 1) := by decide +kernel
theorem i_11_0 : ins 11 0 = some (.aconst_null, 1) := by decide +kernel
theorem i_11_1 : ins 11 1 = some (.astore 5, 2) := by decide +kernel
theorem i_11_3 : ins 11 3 = some (.iconst 0, 1) := by decide +kernel
theorem i_11_4 : ins 11 4 = some (.istore 6, 2) := by decide +kernel
theorem i_11_6 : ins 11 6 = some (.iload 6, 2) := by decide +kernel
theorem i_11_8 : ins 11 8 = some (.aload_n 0, 1) := by decide +kernel
theorem f_11_224 : fld 11 224 = some (1048582, 5, 0) := by decide +kernel
theorem i_11_9 : ins 11 9 = some (.getfield 224, 3) := by decide +kernel
theorem i_11_12 : ins 11 12 = some (.if_icmp .ge 77, 3) := by decide +kernel
theorem t_12_89 : tg 12 (77) = some 89 := by decide +kernel
theorem i_11_15 : ins 11 15 = some (.aload_n 0, 1) := by decide +kernel
theorem f_11_20 : fld 11 20 = some (1048582, 4, 2) := by decide +kernel
theorem i_11_16 : ins 11 16 = some (.getfield 20, 3) := by decide +kernel
theorem i_11_19 : ins 11 19 = some (.iload 6, 2) := by decide +kernel
theorem i_11_21 : ins 11 21 = some (.aaload, 1) := by decide +kernel
theorem i_11_22 : ins 11 22 = some (.astore 7, 2) := by decide +kernel
theorem i_11_24 : ins 11 24 = some (.aload 7, 2) := by decide +kernel
theorem f_11_238 : fld 11 238 = some (8388726, 0, 0) := by decide +kernel
theorem i_11_26 : ins 11 26 = some (.getfield 238, 3) := by decide +kernel
theorem i_11_29 : ins 11 29 = some (.iload_n 1, 1) := by decide +kernel
theorem i_11_30 : ins 11 30 = some (.if_icmp .ne 53, 3) := by decide +kernel
theorem t_30_83 : tg 30 (53) = some 83 := by decide +kernel
theorem i_11_33 : ins 11 33 = some (.aload 7, 2) := by decide +kernel
theorem f_11_241 : fld 11 241 = some (8388726, 1, 0) := by decide +kernel
theorem i_11_35 : ins 11 35 = some (.getfield 241, 3) := by decide +kernel
theorem i_11_38 : ins 11 38 = some (.iload_n 2, 1) := by decide +kernel
theorem i_11_39 : ins 11 39 = some (.if_icmp .ne 44, 3) := by decide +kernel
theorem t_39_83 : tg 39 (44) = some 83 := by decide +kernel
theorem i_11_42 : ins 11 42 = some (.aload 7, 2) := by decide +kernel
theorem f_11_243 : fld 11 243 = some (8388726, 2, 0) := by decide +kernel
theorem i_11_44 : ins 11 44 = some (.getfield 243, 3) := by decide +kernel
theorem i_11_47 : ins 11 47 = some (.iload_n 3, 1) := by decide +kernel
theorem i_11_48 : ins 11 48 = some (.if_icmp .gt 35, 3) := by decide +kernel
theorem t_48_83 : tg 48 (35) = some 83 := by decide +kernel
theorem i_11_51 : ins 11 51 = some (.aload 7, 2) := by decide +kernel
theorem f_11_245 : fld 11 245 = some (8388726, 4, 0) := by decide +kernel
theorem i_11_53 : ins 11 53 = some (.getfield 245, 3) := by decide +kernel
theorem i_11_56 : ins 11 56 = some (.iload 4, 2) := by decide +kernel
theorem i_11_58 : ins 11 58 = some (.if_icmp .gt 25, 3) := by decide +kernel
theorem t_58_83 : tg 58 (25) = some 83 := by decide +kernel
theorem i_11_61 : ins 11 61 = some (.aload 5, 2) := by decide +kernel
theorem i_11_63 : ins 11 63 = some (.ifnull 16, 3) := by decide +kernel
theorem t_63_79 : tg 63 (16) = some 79 := by decide +kernel
theorem i_11_66 : ins 11 66 = some (.aload 7, 2) := by decide +kernel
theorem i_11_68 : ins 11 68 = some (.getfield 243, 3) := by decide +kernel
theorem i_11_71 : ins 11 71 = some (.aload 5, 2) := by decide +kernel
theorem i_11_73 : ins 11 73 = some (.getfield 243, 3) := by decide +kernel
theorem i_11_76 : ins 11 76 = some (.if_icmp .lt 7, 3) := by decide +kernel
theorem t_76_83 : tg 76 (7) = some 83 := by decide +kernel
theorem i_11_79 : ins 11 79 = some (.aload 7, 2) := by decide +kernel
theorem i_11_81 : ins 11 81 = some (.astore 5, 2) := by decide +kernel
theorem i_11_83 : ins 11 83 = some (.iinc 6 1, 3) := by decide +kernel
theorem i_11_86 : ins 11 86 = some (.goto (-80), 3) := by decide +kernel
theorem t_86_6 : tg 86 (-80) = some 6 := by decide +kernel
theorem i_11_89 : ins 11 89 = some (.aload 5, 2) := by decide +kernel
theorem i_11_91 : ins 11 91 = some (.ifnonnull 7, 3) := by decide +kernel
theorem t_91_98 : tg 91 (7) = some 98 := by decide +kernel
theorem i_11_94 : ins 11 94 = some (.iconst (-1), 1) := by decide +kernel
theorem i_11_95 : ins 11 95 = some (.goto 8, 3) := by decide +kernel
theorem t_95_103 : tg 95 (8) = some 103 := by decide +kernel
theorem i_11_98 : ins 11 98 = some (.aload 5, 2) := by decide +kernel
theorem f_11_248 : fld 11 248 = some (8388726, 3, 0) := by decide +kernel
theorem i_11_100 : ins 11 100 = some (.getfield 248, 3) := by decide +kernel
theorem r_11 : mret 11 = 1 := by decide +kernel
theorem i_11_103 : ins 11 103 = some (.ireturn, 1) := by decide +kernel
theorem i_12_0 : ins 12 0 = some (.aload_n 0, 1) := by decide +kernel
theorem f_12_257 : fld 12 257 = some (1048582, 8, 0) := by decide +kernel
theorem i_12_1 : ins 12 1 = some (.getfield 257, 3) := by decide +kernel
theorem kS_300 : (Int16.ofInt (300)).toInt32 = nI 300 := by decide +kernel
theorem i_12_4 : ins 12 4 = some (.sipush 300, 3) := by decide +kernel
theorem i_12_7 : ins 12 7 = some (.if_icmp .eq 59, 3) := by decide +kernel
theorem t_7_66 : tg 7 (59) = some 66 := by decide +kernel
theorem i_12_10 : ins 12 10 = some (.aload_n 0, 1) := by decide +kernel
theorem i_12_11 : ins 12 11 = some (.iload_n 1, 1) := by decide +kernel
theorem v_12_227 : inv 12 227 = some (7, 1, 1, 1048582) := by decide +kernel
theorem i_12_12 : ins 12 12 = some (.invokevirtual 227, 3) := by decide +kernel
theorem i_12_15 : ins 12 15 = some (.ifCond .eq 51, 3) := by decide +kernel
theorem t_15_66 : tg 15 (51) = some 66 := by decide +kernel
theorem i_12_18 : ins 12 18 = some (.iload_n 3, 1) := by decide +kernel
theorem v_12_218 : inv 12 218 = some (5, 1, 0, 0) := by decide +kernel
theorem i_12_19 : ins 12 19 = some (.invokestatic 218, 3) := by decide +kernel
theorem i_12_22 : ins 12 22 = some (.ifCond .eq 44, 3) := by decide +kernel
theorem t_22_66 : tg 22 (44) = some 66 := by decide +kernel
theorem i_12_25 : ins 12 25 = some (.iload 4, 2) := by decide +kernel
theorem i_12_27 : ins 12 27 = some (.i2l, 1) := by decide +kernel
theorem i_12_28 : ins 12 28 = some (.lconst 0, 1) := by decide +kernel
theorem i_12_29 : ins 12 29 = some (.aload_n 0, 1) := by decide +kernel
theorem f_12_204 : fld 12 204 = some (1048582, 0, 0) := by decide +kernel
theorem i_12_30 : ins 12 30 = some (.getfield 204, 3) := by decide +kernel
theorem i_12_33 : ins 12 33 = some (.i2l, 1) := by decide +kernel
theorem v_12_209 : inv 12 209 = some (2, 3, 0, 0) := by decide +kernel
theorem i_12_34 : ins 12 34 = some (.invokestatic 209, 3) := by decide +kernel
theorem i_12_37 : ins 12 37 = some (.ifCond .eq 29, 3) := by decide +kernel
theorem t_37_66 : tg 37 (29) = some 66 := by decide +kernel
theorem i_12_40 : ins 12 40 = some (.iload 5, 2) := by decide +kernel
theorem i_12_42 : ins 12 42 = some (.i2l, 1) := by decide +kernel
theorem i_12_43 : ins 12 43 = some (.lconst 1, 1) := by decide +kernel
theorem l_12_260 : ldcv 12 260 = some (vL (999)) := rfl
theorem i_12_44 : ins 12 44 = some (.ldc2_w 260, 3) := by decide +kernel
theorem i_12_47 : ins 12 47 = some (.invokestatic 209, 3) := by decide +kernel
theorem i_12_50 : ins 12 50 = some (.ifCond .eq 16, 3) := by decide +kernel
theorem t_50_66 : tg 50 (16) = some 66 := by decide +kernel
theorem i_12_53 : ins 12 53 = some (.iload 6, 2) := by decide +kernel
theorem i_12_55 : ins 12 55 = some (.i2l, 1) := by decide +kernel
theorem i_12_56 : ins 12 56 = some (.lconst 1, 1) := by decide +kernel
theorem l_12_233 : ldcv 12 233 = some (vL (9999)) := rfl
theorem i_12_57 : ins 12 57 = some (.ldc2_w 233, 3) := by decide +kernel
theorem i_12_60 : ins 12 60 = some (.invokestatic 209, 3) := by decide +kernel
theorem i_12_63 : ins 12 63 = some (.ifCond .ne 5, 3) := by decide +kernel
theorem t_63_68 : tg 63 (5) = some 68 := by decide +kernel
theorem i_12_66 : ins 12 66 = some (.iconst (-1), 1) := by decide +kernel
theorem r_12 : mret 12 = 1 := by decide +kernel
theorem i_12_67 : ins 12 67 = some (.ireturn, 1) := by decide +kernel
theorem i_12_68 : ins 12 68 = some (.aload_n 0, 1) := by decide +kernel
theorem f_12_26 : fld 12 26 = some (1048582, 6, 2) := by decide +kernel
theorem i_12_69 : ins 12 69 = some (.getfield 26, 3) := by decide +kernel
theorem i_12_72 : ins 12 72 = some (.aload_n 0, 1) := by decide +kernel
theorem i_12_73 : ins 12 73 = some (.getfield 257, 3) := by decide +kernel
theorem n_12_24 : newk 12 24 = some (9437318, 10) := by decide +kernel
theorem i_12_76 : ins 12 76 = some (.new 24, 3) := by decide +kernel
theorem i_12_79 : ins 12 79 = some (.dup, 1) := by decide +kernel
theorem i_12_80 : ins 12 80 = some (.iload_n 1, 1) := by decide +kernel
theorem i_12_81 : ins 12 81 = some (.iload_n 2, 1) := by decide +kernel
theorem i_12_82 : ins 12 82 = some (.iload_n 3, 1) := by decide +kernel
theorem i_12_83 : ins 12 83 = some (.iload 4, 2) := by decide +kernel
theorem i_12_85 : ins 12 85 = some (.iload 5, 2) := by decide +kernel
theorem i_12_87 : ins 12 87 = some (.iload 6, 2) := by decide +kernel
theorem i_12_89 : ins 12 89 = some (.iload 7, 2) := by decide +kernel
theorem i_12_91 : ins 12 91 = some (.aload_n 0, 1) := by decide +kernel
theorem i_12_92 : ins 12 92 = some (.getfield 204, 3) := by decide +kernel
theorem v_12_262 : inv 12 262 = some (199, 8, 2, 0) := by decide +kernel
theorem i_12_95 : ins 12 95 = some (.invokespecial 262, 3) := by decide +kernel
theorem kl_26219205 : klen 26219205 = 300 := by decide +kernel
theorem eo_26219205 : elob 26219205 = true := by decide +kernel
theorem i_12_98 : ins 12 98 = some (.aastore, 1) := by decide +kernel
theorem i_12_99 : ins 12 99 = some (.aload_n 0, 1) := by decide +kernel
theorem i_12_100 : ins 12 100 = some (.dup, 1) := by decide +kernel
theorem i_12_101 : ins 12 101 = some (.getfield 257, 3) := by decide +kernel
theorem i_12_104 : ins 12 104 = some (.iconst 1, 1) := by decide +kernel
theorem i_12_105 : ins 12 105 = some (.iadd, 1) := by decide +kernel
theorem o_12_1048582_8 : putok 12 1048582 8 = true := by decide +kernel
theorem i_12_106 : ins 12 106 = some (.putfield 257, 3) := by decide +kernel
theorem i_12_109 : ins 12 109 = some (.aload_n 0, 1) := by decide +kernel
theorem i_12_110 : ins 12 110 = some (.getfield 257, 3) := by decide +kernel
theorem i_12_113 : ins 12 113 = some (.iconst 1, 1) := by decide +kernel
theorem i_12_114 : ins 12 114 = some (.isub, 1) := by decide +kernel
theorem i_12_115 : ins 12 115 = some (.ireturn, 1) := by decide +kernel
theorem i_13_0 : ins 13 0 = some (.aload_n 0, 1) := by decide +kernel
theorem i_13_1 : ins 13 1 = some (.iload_n 1, 1) := by decide +kernel
theorem v_13_265 : inv 13 265 = some (14, 1, 1, 1048582) := by decide +kernel
theorem i_13_2 : ins 13 2 = some (.invokevirtual 265, 3) := by decide +kernel
theorem i_13_5 : ins 13 5 = some (.ifCond .eq 16, 3) := by decide +kernel
theorem t_5_21 : tg 5 (16) = some 21 := by decide +kernel
theorem i_13_8 : ins 13 8 = some (.aload_n 0, 1) := by decide +kernel
theorem f_13_26 : fld 13 26 = some (1048582, 6, 2) := by decide +kernel
theorem i_13_9 : ins 13 9 = some (.getfield 26, 3) := by decide +kernel
theorem i_13_12 : ins 13 12 = some (.iload_n 1, 1) := by decide +kernel
theorem i_13_13 : ins 13 13 = some (.aaload, 1) := by decide +kernel
theorem f_13_268 : fld 13 268 = some (9437318, 9, 0) := by decide +kernel
theorem i_13_14 : ins 13 14 = some (.getfield 268, 3) := by decide +kernel
theorem i_13_17 : ins 13 17 = some (.iconst (-1), 1) := by decide +kernel
theorem i_13_18 : ins 13 18 = some (.if_icmp .eq 5, 3) := by decide +kernel
theorem i_13_21 : ins 13 21 = some (.iconst 0, 1) := by decide +kernel
theorem r_13 : mret 13 = 2 := by decide +kernel
theorem i_13_22 : ins 13 22 = some (.ireturn, 1) := by decide +kernel
theorem i_13_23 : ins 13 23 = some (.aload_n 0, 1) := by decide +kernel
theorem i_13_24 : ins 13 24 = some (.getfield 26, 3) := by decide +kernel
theorem i_13_27 : ins 13 27 = some (.iload_n 1, 1) := by decide +kernel
theorem i_13_28 : ins 13 28 = some (.aaload, 1) := by decide +kernel
theorem i_13_29 : ins 13 29 = some (.aload_n 0, 1) := by decide +kernel
theorem f_13_204 : fld 13 204 = some (1048582, 0, 0) := by decide +kernel
theorem i_13_30 : ins 13 30 = some (.getfield 204, 3) := by decide +kernel
theorem o_13_9437318_9 : putok 13 9437318 9 = true := by decide +kernel
theorem i_13_33 : ins 13 33 = some (.putfield 268, 3) := by decide +kernel
theorem i_13_36 : ins 13 36 = some (.iconst 1, 1) := by decide +kernel
theorem i_13_37 : ins 13 37 = some (.ireturn, 1) := by decide +kernel
theorem i_14_0 : ins 14 0 = some (.iload_n 1, 1) := by decide +kernel
theorem i_14_1 : ins 14 1 = some (.ifCond .lt 15, 3) := by decide +kernel
theorem i_14_4 : ins 14 4 = some (.iload_n 1, 1) := by decide +kernel
theorem i_14_5 : ins 14 5 = some (.aload_n 0, 1) := by decide +kernel
theorem f_14_257 : fld 14 257 = some (1048582, 8, 0) := by decide +kernel
theorem i_14_6 : ins 14 6 = some (.getfield 257, 3) := by decide +kernel
theorem i_14_9 : ins 14 9 = some (.if_icmp .ge 7, 3) := by decide +kernel
theorem i_14_12 : ins 14 12 = some (.iconst 1, 1) := by decide +kernel
theorem i_14_13 : ins 14 13 = some (.goto 4, 3) := by decide +kernel
theorem i_14_16 : ins 14 16 = some (.iconst 0, 1) := by decide +kernel
theorem r_14 : mret 14 = 2 := by decide +kernel
theorem i_14_17 : ins 14 17 = some (.ireturn, 1) := by decide +kernel
theorem i_15_0 : ins 15 0 = some (.aload_n 0, 1) := by decide +kernel
theorem f_15_271 : fld 15 271 = some (1048582, 9, 0) := by decide +kernel
theorem i_15_1 : ins 15 1 = some (.getfield 271, 3) := by decide +kernel
theorem kS_600 : (Int16.ofInt (600)).toInt32 = nI 600 := by decide +kernel
theorem i_15_4 : ins 15 4 = some (.sipush 600, 3) := by decide +kernel
theorem i_15_7 : ins 15 7 = some (.if_icmp .eq 37, 3) := by decide +kernel
theorem t_7_44 : tg 7 (37) = some 44 := by decide +kernel
theorem i_15_10 : ins 15 10 = some (.aload_n 0, 1) := by decide +kernel
theorem i_15_11 : ins 15 11 = some (.iload_n 1, 1) := by decide +kernel
theorem v_15_265 : inv 15 265 = some (14, 1, 1, 1048582) := by decide +kernel
theorem i_15_12 : ins 15 12 = some (.invokevirtual 265, 3) := by decide +kernel
theorem i_15_15 : ins 15 15 = some (.ifCond .eq 29, 3) := by decide +kernel
theorem t_15_44 : tg 15 (29) = some 44 := by decide +kernel
theorem i_15_18 : ins 15 18 = some (.iload_n 2, 1) := by decide +kernel
theorem i_15_19 : ins 15 19 = some (.i2l, 1) := by decide +kernel
theorem i_15_20 : ins 15 20 = some (.lconst 0, 1) := by decide +kernel
theorem l_15_274 : ldcv 15 274 = some (vL (5)) := rfl
theorem i_15_21 : ins 15 21 = some (.ldc2_w 274, 3) := by decide +kernel
theorem v_15_209 : inv 15 209 = some (2, 3, 0, 0) := by decide +kernel
theorem i_15_24 : ins 15 24 = some (.invokestatic 209, 3) := by decide +kernel
theorem i_15_27 : ins 15 27 = some (.ifCond .eq 17, 3) := by decide +kernel
theorem t_27_44 : tg 27 (17) = some 44 := by decide +kernel
theorem i_15_30 : ins 15 30 = some (.iload_n 3, 1) := by decide +kernel
theorem i_15_31 : ins 15 31 = some (.i2l, 1) := by decide +kernel
theorem l_15_276 : ldcv 15 276 = some (vL (-999)) := rfl
theorem i_15_32 : ins 15 32 = some (.ldc2_w 276, 3) := by decide +kernel
theorem l_15_260 : ldcv 15 260 = some (vL (999)) := rfl
theorem i_15_35 : ins 15 35 = some (.ldc2_w 260, 3) := by decide +kernel
theorem i_15_38 : ins 15 38 = some (.invokestatic 209, 3) := by decide +kernel
theorem i_15_41 : ins 15 41 = some (.ifCond .ne 5, 3) := by decide +kernel
theorem t_41_46 : tg 41 (5) = some 46 := by decide +kernel
theorem i_15_44 : ins 15 44 = some (.iconst (-1), 1) := by decide +kernel
theorem r_15 : mret 15 = 1 := by decide +kernel
theorem i_15_45 : ins 15 45 = some (.ireturn, 1) := by decide +kernel
theorem i_15_46 : ins 15 46 = some (.aload_n 0, 1) := by decide +kernel
theorem f_15_32 : fld 15 32 = some (1048582, 7, 2) := by decide +kernel
theorem i_15_47 : ins 15 47 = some (.getfield 32, 3) := by decide +kernel
theorem i_15_50 : ins 15 50 = some (.aload_n 0, 1) := by decide +kernel
theorem i_15_51 : ins 15 51 = some (.getfield 271, 3) := by decide +kernel
theorem n_15_30 : newk 15 30 = some (10485910, 5) := by decide +kernel
theorem i_15_54 : ins 15 54 = some (.new 30, 3) := by decide +kernel
theorem i_15_57 : ins 15 57 = some (.dup, 1) := by decide +kernel
theorem i_15_58 : ins 15 58 = some (.iload_n 1, 1) := by decide +kernel
theorem i_15_59 : ins 15 59 = some (.iload_n 2, 1) := by decide +kernel
theorem i_15_60 : ins 15 60 = some (.iload_n 3, 1) := by decide +kernel
theorem i_15_61 : ins 15 61 = some (.iload 4, 2) := by decide +kernel
theorem i_15_63 : ins 15 63 = some (.aload_n 0, 1) := by decide +kernel
theorem f_15_204 : fld 15 204 = some (1048582, 0, 0) := by decide +kernel
theorem i_15_64 : ins 15 64 = some (.getfield 204, 3) := by decide +kernel
theorem v_15_278 : inv 15 278 = some (201, 5, 2, 0) := by decide +kernel
theorem i_15_67 : ins 15 67 = some (.invokespecial 278, 3) := by decide +kernel
theorem kl_27272581 : klen 27272581 = 600 := by decide +kernel
theorem eo_27272581 : elob 27272581 = true := by decide +kernel
theorem i_15_70 : ins 15 70 = some (.aastore, 1) := by decide +kernel
theorem i_15_71 : ins 15 71 = some (.aload_n 0, 1) := by decide +kernel
theorem i_15_72 : ins 15 72 = some (.dup, 1) := by decide +kernel
theorem i_15_73 : ins 15 73 = some (.getfield 271, 3) := by decide +kernel
theorem i_15_76 : ins 15 76 = some (.iconst 1, 1) := by decide +kernel
theorem i_15_77 : ins 15 77 = some (.iadd, 1) := by decide +kernel
theorem o_15_1048582_9 : putok 15 1048582 9 = true := by decide +kernel
theorem i_15_78 : ins 15 78 = some (.putfield 271, 3) := by decide +kernel
theorem i_15_81 : ins 15 81 = some (.aload_n 0, 1) := by decide +kernel
theorem i_15_82 : ins 15 82 = some (.getfield 271, 3) := by decide +kernel
theorem i_15_85 : ins 15 85 = some (.ireturn, 1) := by decide +kernel
theorem i_16_0 : ins 16 0 = some (.aload_n 0, 1) := by decide +kernel
theorem f_16_281 : fld 16 281 = some (1048582, 12, 0) := by decide +kernel
theorem i_16_1 : ins 16 1 = some (.getfield 281, 3) := by decide +kernel
theorem kB_20 : (Int8.ofInt (20)).toInt32 = nI 20 := by decide +kernel
theorem i_16_4 : ins 16 4 = some (.bipush 20, 2) := by decide +kernel
theorem i_16_6 : ins 16 6 = some (.iadd, 1) := by decide +kernel
theorem kS_400 : (Int16.ofInt (400)).toInt32 = nI 400 := by decide +kernel
theorem i_16_7 : ins 16 7 = some (.sipush 400, 3) := by decide +kernel
theorem i_16_10 : ins 16 10 = some (.if_icmp .le 5, 3) := by decide +kernel
theorem t_10_15 : tg 10 (5) = some 15 := by decide +kernel
theorem i_16_13 : ins 16 13 = some (.iconst (-1), 1) := by decide +kernel
theorem r_16 : mret 16 = 1 := by decide +kernel
theorem i_16_14 : ins 16 14 = some (.ireturn, 1) := by decide +kernel
theorem i_16_15 : ins 16 15 = some (.aload_n 0, 1) := by decide +kernel
theorem i_16_16 : ins 16 16 = some (.iload_n 1, 1) := by decide +kernel
theorem v_16_284 : inv 16 284 = some (17, 1, 1, 1048582) := by decide +kernel
theorem i_16_17 : ins 16 17 = some (.invokevirtual 284, 3) := by decide +kernel
theorem i_16_20 : ins 16 20 = some (.aload_n 0, 1) := by decide +kernel
theorem i_16_21 : ins 16 21 = some (.iload_n 2, 1) := by decide +kernel
theorem i_16_22 : ins 16 22 = some (.invokevirtual 284, 3) := by decide +kernel
theorem i_16_25 : ins 16 25 = some (.aload_n 0, 1) := by decide +kernel
theorem i_16_26 : ins 16 26 = some (.iload_n 3, 1) := by decide +kernel
theorem i_16_27 : ins 16 27 = some (.invokevirtual 284, 3) := by decide +kernel
theorem i_16_30 : ins 16 30 = some (.aload_n 0, 1) := by decide +kernel
theorem i_16_31 : ins 16 31 = some (.iload 4, 2) := by decide +kernel
theorem i_16_33 : ins 16 33 = some (.invokevirtual 284, 3) := by decide +kernel
theorem i_16_36 : ins 16 36 = some (.aload_n 0, 1) := by decide +kernel
theorem i_16_37 : ins 16 37 = some (.iload 5, 2) := by decide +kernel
theorem i_16_39 : ins 16 39 = some (.invokevirtual 284, 3) := by decide +kernel
theorem i_16_42 : ins 16 42 = some (.aload_n 0, 1) := by decide +kernel
theorem i_16_43 : ins 16 43 = some (.getfield 281, 3) := by decide +kernel
theorem i_16_46 : ins 16 46 = some (.ireturn, 1) := by decide +kernel
theorem kB_24 : (Int8.ofInt (24)).toInt32 = nI 24 := by decide +kernel
theorem i_17_0 : ins 17 0 = some (.bipush 24, 2) := by decide +kernel
theorem i_17_2 : ins 17 2 = some (.istore_n 2, 1) := by decide +kernel
theorem i_17_3 : ins 17 3 = some (.iload_n 2, 1) := by decide +kernel
theorem i_17_4 : ins 17 4 = some (.ifCond .lt 32, 3) := by decide +kernel
theorem t_4_36 : tg 4 (32) = some 36 := by decide +kernel
theorem i_17_7 : ins 17 7 = some (.aload_n 0, 1) := by decide +kernel
theorem f_17_43 : fld 17 43 = some (1048582, 11, 2) := by decide +kernel
theorem i_17_8 : ins 17 8 = some (.getfield 43, 3) := by decide +kernel
theorem i_17_11 : ins 17 11 = some (.aload_n 0, 1) := by decide +kernel
theorem f_17_281 : fld 17 281 = some (1048582, 12, 0) := by decide +kernel
theorem i_17_12 : ins 17 12 = some (.getfield 281, 3) := by decide +kernel
theorem i_17_15 : ins 17 15 = some (.iload_n 1, 1) := by decide +kernel
theorem i_17_16 : ins 17 16 = some (.iload_n 2, 1) := by decide +kernel
theorem i_17_17 : ins 17 17 = some (.ishr, 1) := by decide +kernel
theorem i_17_18 : ins 17 18 = some (.i2b, 1) := by decide +kernel
theorem kl_28317954 : klen 28317954 = 400 := by decide +kernel
theorem i_17_19 : ins 17 19 = some (.bastore, 1) := by decide +kernel
theorem i_17_20 : ins 17 20 = some (.aload_n 0, 1) := by decide +kernel
theorem i_17_21 : ins 17 21 = some (.dup, 1) := by decide +kernel
theorem i_17_22 : ins 17 22 = some (.getfield 281, 3) := by decide +kernel
theorem i_17_25 : ins 17 25 = some (.iconst 1, 1) := by decide +kernel
theorem i_17_26 : ins 17 26 = some (.iadd, 1) := by decide +kernel
theorem o_17_1048582_12 : putok 17 1048582 12 = true := by decide +kernel
theorem i_17_27 : ins 17 27 = some (.putfield 281, 3) := by decide +kernel
theorem kI_m8 : Int32.ofInt (-8) = (-8) := by decide +kernel
theorem i_17_30 : ins 17 30 = some (.iinc 2 (-8), 3) := by decide +kernel
theorem i_17_33 : ins 17 33 = some (.goto (-30), 3) := by decide +kernel
theorem t_33_3 : tg 33 (-30) = some 3 := by decide +kernel
theorem i_17_36 : ins 17 36 = some (.return_, 1) := by decide +kernel
theorem r_17 : mret 17 = 0 := by decide +kernel
theorem i_18_0 : ins 18 0 = some (.iload_n 1, 1) := by decide +kernel
theorem i_18_1 : ins 18 1 = some (.ifCond .lt 11, 3) := by decide +kernel
theorem t_1_12 : tg 1 (11) = some 12 := by decide +kernel
theorem i_18_4 : ins 18 4 = some (.iload_n 1, 1) := by decide +kernel
theorem i_18_5 : ins 18 5 = some (.aload_n 0, 1) := by decide +kernel
theorem f_18_281 : fld 18 281 = some (1048582, 12, 0) := by decide +kernel
theorem i_18_6 : ins 18 6 = some (.getfield 281, 3) := by decide +kernel
theorem i_18_9 : ins 18 9 = some (.if_icmp .le 5, 3) := by decide +kernel
theorem t_9_14 : tg 9 (5) = some 14 := by decide +kernel
theorem i_18_12 : ins 18 12 = some (.iconst (-1), 1) := by decide +kernel
theorem r_18 : mret 18 = 1 := by decide +kernel
theorem i_18_13 : ins 18 13 = some (.ireturn, 1) := by decide +kernel
theorem i_18_14 : ins 18 14 = some (.aload_n 0, 1) := by decide +kernel
theorem i_18_15 : ins 18 15 = some (.iload_n 1, 1) := by decide +kernel
theorem o_18_1048582_12 : putok 18 1048582 12 = true := by decide +kernel
theorem i_18_16 : ins 18 16 = some (.putfield 281, 3) := by decide +kernel
theorem i_18_19 : ins 18 19 = some (.iload_n 1, 1) := by decide +kernel
theorem i_18_20 : ins 18 20 = some (.ireturn, 1) := by decide +kernel
theorem i_19_0 : ins 19 0 = some (.aload_n 0, 1) := by decide +kernel
theorem f_19_288 : fld 19 288 = some (1048582, 17, 0) := by decide +kernel
theorem i_19_1 : ins 19 1 = some (.getfield 288, 3) := by decide +kernel
theorem kB_10 : (Int8.ofInt (10)).toInt32 = nI 10 := by decide +kernel
theorem i_19_4 : ins 19 4 = some (.bipush 10, 2) := by decide +kernel
theorem i_19_6 : ins 19 6 = some (.if_icmp .eq 19, 3) := by decide +kernel
theorem t_6_25 : tg 6 (19) = some 25 := by decide +kernel
theorem i_19_9 : ins 19 9 = some (.iload_n 1, 1) := by decide +kernel
theorem i_19_10 : ins 19 10 = some (.i2l, 1) := by decide +kernel
theorem i_19_11 : ins 19 11 = some (.aload_n 0, 1) := by decide +kernel
theorem f_19_204 : fld 19 204 = some (1048582, 0, 0) := by decide +kernel
theorem i_19_12 : ins 19 12 = some (.getfield 204, 3) := by decide +kernel
theorem i_19_15 : ins 19 15 = some (.i2l, 1) := by decide +kernel
theorem l_19_207 : ldcv 19 207 = some (vL (3999)) := rfl
theorem i_19_16 : ins 19 16 = some (.ldc2_w 207, 3) := by decide +kernel
theorem v_19_209 : inv 19 209 = some (2, 3, 0, 0) := by decide +kernel
theorem i_19_19 : ins 19 19 = some (.invokestatic 209, 3) := by decide +kernel
theorem i_19_22 : ins 19 22 = some (.ifCond .ne 5, 3) := by decide +kernel
theorem t_22_27 : tg 22 (5) = some 27 := by decide +kernel
theorem i_19_25 : ins 19 25 = some (.iconst (-1), 1) := by decide +kernel
theorem r_19 : mret 19 = 1 := by decide +kernel
theorem i_19_26 : ins 19 26 = some (.ireturn, 1) := by decide +kernel
theorem i_19_27 : ins 19 27 = some (.aload_n 0, 1) := by decide +kernel
theorem i_19_28 : ins 19 28 = some (.getfield 288, 3) := by decide +kernel
theorem i_19_31 : ins 19 31 = some (.istore_n 2, 1) := by decide +kernel
theorem n_19_291 : newk 19 291 = some (11534502, 7) := by decide +kernel
theorem i_19_32 : ins 19 32 = some (.new 291, 3) := by decide +kernel
theorem i_19_35 : ins 19 35 = some (.dup, 1) := by decide +kernel
theorem i_19_36 : ins 19 36 = some (.aload_n 0, 1) := by decide +kernel
theorem v_19_293 : inv 19 293 = some (202, 1, 2, 0) := by decide +kernel
theorem i_19_37 : ins 19 37 = some (.invokespecial 293, 3) := by decide +kernel
theorem v_19_294 : inv 19 294 = some (203, 0, 1, 11534502) := by decide +kernel
theorem i_19_40 : ins 19 40 = some (.invokevirtual 294, 3) := by decide +kernel
theorem i_19_43 : ins 19 43 = some (.astore_n 3, 1) := by decide +kernel
theorem i_19_44 : ins 19 44 = some (.aload_n 3, 1) := by decide +kernel
theorem i_19_45 : ins 19 45 = some (.iload_n 1, 1) := by decide +kernel
theorem f_19_298 : fld 19 298 = some (3145766, 5, 0) := by decide +kernel
theorem o_19_3145766_5 : putok 19 3145766 5 = true := by decide +kernel
theorem i_19_46 : ins 19 46 = some (.putfield 298, 3) := by decide +kernel
theorem i_19_49 : ins 19 49 = some (.aload_n 0, 1) := by decide +kernel
theorem f_19_91 : fld 19 91 = some (1048582, 15, 2) := by decide +kernel
theorem i_19_50 : ins 19 50 = some (.getfield 91, 3) := by decide +kernel
theorem i_19_53 : ins 19 53 = some (.aload_n 0, 1) := by decide +kernel
theorem i_19_54 : ins 19 54 = some (.getfield 288, 3) := by decide +kernel
theorem i_19_57 : ins 19 57 = some (.aload_n 3, 1) := by decide +kernel
theorem kl_31457445 : klen 31457445 = 10 := by decide +kernel
theorem eo_31457445 : elob 31457445 = true := by decide +kernel
theorem i_19_58 : ins 19 58 = some (.aastore, 1) := by decide +kernel
theorem i_19_59 : ins 19 59 = some (.aload_n 0, 1) := by decide +kernel
theorem i_19_60 : ins 19 60 = some (.dup, 1) := by decide +kernel
theorem i_19_61 : ins 19 61 = some (.getfield 288, 3) := by decide +kernel
theorem i_19_64 : ins 19 64 = some (.iconst 1, 1) := by decide +kernel
theorem i_19_65 : ins 19 65 = some (.iadd, 1) := by decide +kernel
theorem o_19_1048582_17 : putok 19 1048582 17 = true := by decide +kernel
theorem i_19_66 : ins 19 66 = some (.putfield 288, 3) := by decide +kernel
theorem i_19_69 : ins 19 69 = some (.goto 22, 3) := by decide +kernel
theorem t_69_91 : tg 69 (22) = some 91 := by decide +kernel
theorem i_19_72 : ins 19 72 = some (.astore_n 3, 1) := by decide +kernel
theorem kB_m2 : (Int8.ofInt (-2)).toInt32 = (-2) := by decide +kernel
theorem i_19_73 : ins 19 73 = some (.bipush (-2), 2) := by decide +kernel
theorem i_19_75 : ins 19 75 = some (.iconst 1, 1) := by decide +kernel
theorem kB_8 : (Int8.ofInt (8)).toInt32 = nI 8 := by decide +kernel
theorem i_19_76 : ins 19 76 = some (.bipush 8, 2) := by decide +kernel
theorem i_19_78 : ins 19 78 = some (.aload_n 3, 1) := by decide +kernel
theorem f_19_301 : fld 19 301 = some (2097174, 7, 0) := by decide +kernel
theorem i_19_79 : ins 19 79 = some (.getfield 301, 3) := by decide +kernel
theorem i_19_82 : ins 19 82 = some (.imul, 1) := by decide +kernel
theorem i_19_83 : ins 19 83 = some (.iadd, 1) := by decide +kernel
theorem i_19_84 : ins 19 84 = some (.aload_n 3, 1) := by decide +kernel
theorem f_19_304 : fld 19 304 = some (2097174, 6, 0) := by decide +kernel
theorem i_19_85 : ins 19 85 = some (.getfield 304, 3) := by decide +kernel
theorem i_19_88 : ins 19 88 = some (.iadd, 1) := by decide +kernel
theorem i_19_89 : ins 19 89 = some (.isub, 1) := by decide +kernel
theorem i_19_90 : ins 19 90 = some (.istore_n 2, 1) := by decide +kernel
theorem i_19_91 : ins 19 91 = some (.aload_n 0, 1) := by decide +kernel
theorem i_19_92 : ins 19 92 = some (.iconst 0, 1) := by decide +kernel
theorem f_19_281 : fld 19 281 = some (1048582, 12, 0) := by decide +kernel
theorem o_19_1048582_12 : putok 19 1048582 12 = true := by decide +kernel
theorem i_19_93 : ins 19 93 = some (.putfield 281, 3) := by decide +kernel
theorem i_19_96 : ins 19 96 = some (.iload_n 2, 1) := by decide +kernel
theorem i_19_97 : ins 19 97 = some (.ireturn, 1) := by decide +kernel
theorem i_20_0 : ins 20 0 = some (.iload_n 1, 1) := by decide +kernel
theorem v_20_250 : inv 20 250 = some (10, 1, 0, 0) := by decide +kernel
theorem i_20_1 : ins 20 1 = some (.invokestatic 250, 3) := by decide +kernel
theorem i_20_4 : ins 20 4 = some (.ifCond .eq 15, 3) := by decide +kernel
theorem t_4_19 : tg 4 (15) = some 19 := by decide +kernel
theorem i_20_7 : ins 20 7 = some (.iload_n 2, 1) := by decide +kernel
theorem i_20_8 : ins 20 8 = some (.i2l, 1) := by decide +kernel
theorem i_20_9 : ins 20 9 = some (.lconst 0, 1) := by decide +kernel
theorem l_20_274 : ldcv 20 274 = some (vL (5)) := rfl
theorem i_20_10 : ins 20 10 = some (.ldc2_w 274, 3) := by decide +kernel
theorem v_20_209 : inv 20 209 = some (2, 3, 0, 0) := by decide +kernel
theorem i_20_13 : ins 20 13 = some (.invokestatic 209, 3) := by decide +kernel
theorem i_20_16 : ins 20 16 = some (.ifCond .ne 5, 3) := by decide +kernel
theorem t_16_21 : tg 16 (5) = some 21 := by decide +kernel
theorem i_20_19 : ins 20 19 = some (.iconst (-1), 1) := by decide +kernel
theorem r_20 : mret 20 = 1 := by decide +kernel
theorem i_20_20 : ins 20 20 = some (.ireturn, 1) := by decide +kernel
theorem i_20_21 : ins 20 21 = some (.aload_n 0, 1) := by decide +kernel
theorem i_20_22 : ins 20 22 = some (.iload_n 1, 1) := by decide +kernel
theorem v_20_311 : inv 20 311 = some (21, 1, 1, 1048582) := by decide +kernel
theorem i_20_23 : ins 20 23 = some (.invokevirtual 311, 3) := by decide +kernel
theorem i_20_26 : ins 20 26 = some (.astore_n 3, 1) := by decide +kernel
theorem i_20_27 : ins 20 27 = some (.iload_n 2, 1) := by decide +kernel
theorem i_20_28 : ins 20 28 = some (.ifCond .ne 11, 3) := by decide +kernel
theorem t_28_39 : tg 28 (11) = some 39 := by decide +kernel
theorem i_20_31 : ins 20 31 = some (.aload_n 0, 1) := by decide +kernel
theorem i_20_32 : ins 20 32 = some (.iload_n 1, 1) := by decide +kernel
theorem v_20_307 : inv 20 307 = some (22, 1, 1, 1048582) := by decide +kernel
theorem i_20_33 : ins 20 33 = some (.invokevirtual 307, 3) := by decide +kernel
theorem i_20_36 : ins 20 36 = some (.goto 31, 3) := by decide +kernel
theorem t_36_67 : tg 36 (31) = some 67 := by decide +kernel
theorem i_20_39 : ins 20 39 = some (.iload_n 2, 1) := by decide +kernel
theorem kI_5 : Int32.ofInt (5) = nI 5 := by decide +kernel
theorem i_20_40 : ins 20 40 = some (.iconst 5, 1) := by decide +kernel
theorem i_20_41 : ins 20 41 = some (.if_icmp .ne 18, 3) := by decide +kernel
theorem t_41_59 : tg 41 (18) = some 59 := by decide +kernel
theorem i_20_44 : ins 20 44 = some (.aload_n 3, 1) := by decide +kernel
theorem f_20_315 : fld 20 315 = some (3145766, 6, 5) := by decide +kernel
theorem i_20_45 : ins 20 45 = some (.getfield 315, 3) := by decide +kernel
theorem i_20_48 : ins 20 48 = some (.ifCond .eq 7, 3) := by decide +kernel
theorem t_48_55 : tg 48 (7) = some 55 := by decide +kernel
theorem i_20_51 : ins 20 51 = some (.iconst 1, 1) := by decide +kernel
theorem i_20_52 : ins 20 52 = some (.goto 15, 3) := by decide +kernel
theorem t_52_67 : tg 52 (15) = some 67 := by decide +kernel
theorem i_20_55 : ins 20 55 = some (.iconst 0, 1) := by decide +kernel
theorem i_20_56 : ins 20 56 = some (.goto 11, 3) := by decide +kernel
theorem t_56_67 : tg 56 (11) = some 67 := by decide +kernel
theorem i_20_59 : ins 20 59 = some (.aload_n 3, 1) := by decide +kernel
theorem f_20_319 : fld 20 319 = some (3145766, 3, 2) := by decide +kernel
theorem i_20_60 : ins 20 60 = some (.getfield 319, 3) := by decide +kernel
theorem i_20_63 : ins 20 63 = some (.iload_n 2, 1) := by decide +kernel
theorem i_20_64 : ins 20 64 = some (.iconst 1, 1) := by decide +kernel
theorem i_20_65 : ins 20 65 = some (.isub, 1) := by decide +kernel
theorem kl_62914625 : klen 62914625 = 4 := by decide +kernel
theorem i_20_66 : ins 20 66 = some (.iaload, 1) := by decide +kernel
theorem i_20_67 : ins 20 67 = some (.ireturn, 1) := by decide +kernel
theorem i_21_0 : ins 21 0 = some (.aload_n 0, 1) := by decide +kernel
theorem i_21_1 : ins 21 1 = some (.iload_n 1, 1) := by decide +kernel
theorem v_21_307 : inv 21 307 = some (22, 1, 1, 1048582) := by decide +kernel
theorem i_21_2 : ins 21 2 = some (.invokevirtual 307, 3) := by decide +kernel
theorem i_21_5 : ins 21 5 = some (.istore_n 2, 1) := by decide +kernel
theorem i_21_6 : ins 21 6 = some (.iload_n 2, 1) := by decide +kernel
theorem i_21_7 : ins 21 7 = some (.iconst (-1), 1) := by decide +kernel
theorem i_21_8 : ins 21 8 = some (.if_icmp .ne 10, 3) := by decide +kernel
theorem t_8_18 : tg 8 (10) = some 18 := by decide +kernel
theorem i_21_11 : ins 21 11 = some (.aload_n 0, 1) := by decide +kernel
theorem f_21_96 : fld 21 96 = some (1048582, 16, 2) := by decide +kernel
theorem i_21_12 : ins 21 12 = some (.getfield 96, 3) := by decide +kernel
theorem i_21_15 : ins 21 15 = some (.goto 9, 3) := by decide +kernel
theorem t_15_24 : tg 15 (9) = some 24 := by decide +kernel
theorem i_21_18 : ins 21 18 = some (.aload_n 0, 1) := by decide +kernel
theorem f_21_91 : fld 21 91 = some (1048582, 15, 2) := by decide +kernel
theorem i_21_19 : ins 21 19 = some (.getfield 91, 3) := by decide +kernel
theorem i_21_22 : ins 21 22 = some (.iload_n 2, 1) := by decide +kernel
theorem i_21_23 : ins 21 23 = some (.aaload, 1) := by decide +kernel
theorem i_21_24 : ins 21 24 = some (.areturn, 1) := by decide +kernel
theorem r_21 : mret 21 = 6 := by decide +kernel
theorem i_22_0 : ins 22 0 = some (.iconst (-1), 1) := by decide +kernel
theorem i_22_1 : ins 22 1 = some (.istore_n 2, 1) := by decide +kernel
theorem i_22_2 : ins 22 2 = some (.iconst 0, 1) := by decide +kernel
theorem i_22_3 : ins 22 3 = some (.istore_n 3, 1) := by decide +kernel
theorem i_22_4 : ins 22 4 = some (.iload_n 3, 1) := by decide +kernel
theorem i_22_5 : ins 22 5 = some (.aload_n 0, 1) := by decide +kernel
theorem f_22_288 : fld 22 288 = some (1048582, 17, 0) := by decide +kernel
theorem i_22_6 : ins 22 6 = some (.getfield 288, 3) := by decide +kernel
theorem i_22_9 : ins 22 9 = some (.if_icmp .ge 50, 3) := by decide +kernel
theorem t_9_59 : tg 9 (50) = some 59 := by decide +kernel
theorem i_22_12 : ins 22 12 = some (.aload_n 0, 1) := by decide +kernel
theorem f_22_91 : fld 22 91 = some (1048582, 15, 2) := by decide +kernel
theorem i_22_13 : ins 22 13 = some (.getfield 91, 3) := by decide +kernel
theorem i_22_16 : ins 22 16 = some (.iload_n 3, 1) := by decide +kernel
theorem i_22_17 : ins 22 17 = some (.aaload, 1) := by decide +kernel
theorem f_22_298 : fld 22 298 = some (3145766, 5, 0) := by decide +kernel
theorem i_22_18 : ins 22 18 = some (.getfield 298, 3) := by decide +kernel
theorem i_22_21 : ins 22 21 = some (.iload_n 1, 1) := by decide +kernel
theorem i_22_22 : ins 22 22 = some (.if_icmp .gt 31, 3) := by decide +kernel
theorem t_22_53 : tg 22 (31) = some 53 := by decide +kernel
theorem i_22_25 : ins 22 25 = some (.iload_n 2, 1) := by decide +kernel
theorem i_22_26 : ins 22 26 = some (.iconst (-1), 1) := by decide +kernel
theorem i_22_27 : ins 22 27 = some (.if_icmp .eq 24, 3) := by decide +kernel
theorem t_27_51 : tg 27 (24) = some 51 := by decide +kernel
theorem i_22_30 : ins 22 30 = some (.aload_n 0, 1) := by decide +kernel
theorem i_22_31 : ins 22 31 = some (.getfield 91, 3) := by decide +kernel
theorem i_22_34 : ins 22 34 = some (.iload_n 3, 1) := by decide +kernel
theorem i_22_35 : ins 22 35 = some (.aaload, 1) := by decide +kernel
theorem i_22_36 : ins 22 36 = some (.getfield 298, 3) := by decide +kernel
theorem i_22_39 : ins 22 39 = some (.aload_n 0, 1) := by decide +kernel
theorem i_22_40 : ins 22 40 = some (.getfield 91, 3) := by decide +kernel
theorem i_22_43 : ins 22 43 = some (.iload_n 2, 1) := by decide +kernel
theorem i_22_44 : ins 22 44 = some (.aaload, 1) := by decide +kernel
theorem i_22_45 : ins 22 45 = some (.getfield 298, 3) := by decide +kernel
theorem i_22_48 : ins 22 48 = some (.if_icmp .lt 5, 3) := by decide +kernel
theorem t_48_53 : tg 48 (5) = some 53 := by decide +kernel
theorem i_22_51 : ins 22 51 = some (.iload_n 3, 1) := by decide +kernel
theorem i_22_52 : ins 22 52 = some (.istore_n 2, 1) := by decide +kernel
theorem i_22_53 : ins 22 53 = some (.iinc 3 1, 3) := by decide +kernel
theorem i_22_56 : ins 22 56 = some (.goto (-52), 3) := by decide +kernel
theorem t_56_4 : tg 56 (-52) = some 4 := by decide +kernel
theorem i_22_59 : ins 22 59 = some (.iload_n 2, 1) := by decide +kernel
theorem r_22 : mret 22 = 1 := by decide +kernel
theorem i_22_60 : ins 22 60 = some (.ireturn, 1) := by decide +kernel
theorem i_23_0 : ins 23 0 = some (.aload_n 0, 1) := by decide +kernel
theorem i_23_1 : ins 23 1 = some (.iload_n 1, 1) := by decide +kernel
theorem v_23_265 : inv 23 265 = some (14, 1, 1, 1048582) := by decide +kernel
theorem i_23_2 : ins 23 2 = some (.invokevirtual 265, 3) := by decide +kernel
theorem i_23_5 : ins 23 5 = some (.ifCond .eq 22, 3) := by decide +kernel
theorem t_5_27 : tg 5 (22) = some 27 := by decide +kernel
theorem i_23_8 : ins 23 8 = some (.iload_n 2, 1) := by decide +kernel
theorem v_23_250 : inv 23 250 = some (10, 1, 0, 0) := by decide +kernel
theorem i_23_9 : ins 23 9 = some (.invokestatic 250, 3) := by decide +kernel
theorem i_23_12 : ins 23 12 = some (.ifCond .eq 15, 3) := by decide +kernel
theorem t_12_27 : tg 12 (15) = some 27 := by decide +kernel
theorem i_23_15 : ins 23 15 = some (.iload_n 3, 1) := by decide +kernel
theorem i_23_16 : ins 23 16 = some (.i2l, 1) := by decide +kernel
theorem i_23_17 : ins 23 17 = some (.lconst 0, 1) := by decide +kernel
theorem l_23_322 : ldcv 23 322 = some (vL (2)) := rfl
theorem i_23_18 : ins 23 18 = some (.ldc2_w 322, 3) := by decide +kernel
theorem v_23_209 : inv 23 209 = some (2, 3, 0, 0) := by decide +kernel
theorem i_23_21 : ins 23 21 = some (.invokestatic 209, 3) := by decide +kernel
theorem i_23_24 : ins 23 24 = some (.ifCond .ne 5, 3) := by decide +kernel
theorem t_24_29 : tg 24 (5) = some 29 := by decide +kernel
theorem i_23_27 : ins 23 27 = some (.iconst (-1), 1) := by decide +kernel
theorem r_23 : mret 23 = 1 := by decide +kernel
theorem i_23_28 : ins 23 28 = some (.ireturn, 1) := by decide +kernel
theorem i_23_29 : ins 23 29 = some (.aload_n 0, 1) := by decide +kernel
theorem f_23_26 : fld 23 26 = some (1048582, 6, 2) := by decide +kernel
theorem i_23_30 : ins 23 30 = some (.getfield 26, 3) := by decide +kernel
theorem i_23_33 : ins 23 33 = some (.iload_n 1, 1) := by decide +kernel
theorem i_23_34 : ins 23 34 = some (.aaload, 1) := by decide +kernel
theorem i_23_35 : ins 23 35 = some (.iload_n 2, 1) := by decide +kernel
theorem v_23_324 : inv 23 324 = some (200, 1, 1, 9437318) := by decide +kernel
theorem i_23_36 : ins 23 36 = some (.invokevirtual 324, 3) := by decide +kernel
theorem i_23_39 : ins 23 39 = some (.istore 4, 2) := by decide +kernel
theorem i_23_41 : ins 23 41 = some (.iload_n 3, 1) := by decide +kernel
theorem i_23_42 : ins 23 42 = some (.iconst 1, 1) := by decide +kernel
theorem i_23_43 : ins 23 43 = some (.if_icmp .ne 14, 3) := by decide +kernel
theorem t_43_57 : tg 43 (14) = some 57 := by decide +kernel
theorem i_23_46 : ins 23 46 = some (.iload 4, 2) := by decide +kernel
theorem i_23_48 : ins 23 48 = some (.ifCond .eq 7, 3) := by decide +kernel
theorem i_23_51 : ins 23 51 = some (.iconst 1, 1) := by decide +kernel
theorem i_23_52 : ins 23 52 = some (.goto 4, 3) := by decide +kernel
theorem t_52_56 : tg 52 (4) = some 56 := by decide +kernel
theorem i_23_55 : ins 23 55 = some (.iconst 0, 1) := by decide +kernel
theorem i_23_56 : ins 23 56 = some (.ireturn, 1) := by decide +kernel
theorem i_23_57 : ins 23 57 = some (.iload 4, 2) := by decide +kernel
theorem i_23_59 : ins 23 59 = some (.ifCond .ne 5, 3) := by decide +kernel
theorem t_59_64 : tg 59 (5) = some 64 := by decide +kernel
theorem i_23_62 : ins 23 62 = some (.iconst (-1), 1) := by decide +kernel
theorem i_23_63 : ins 23 63 = some (.ireturn, 1) := by decide +kernel
theorem i_23_64 : ins 23 64 = some (.aload_n 0, 1) := by decide +kernel
theorem f_23_105 : fld 23 105 = some (1048582, 18, 2) := by decide +kernel
theorem i_23_65 : ins 23 65 = some (.getfield 105, 3) := by decide +kernel
theorem i_23_68 : ins 23 68 = some (.iload_n 2, 1) := by decide +kernel
theorem v_23_327 : inv 23 327 = some (70, 1, 1, 4194358) := by decide +kernel
theorem i_23_69 : ins 23 69 = some (.invokevirtual 327, 3) := by decide +kernel
theorem i_23_72 : ins 23 72 = some (.iload_n 3, 1) := by decide +kernel
theorem i_23_73 : ins 23 73 = some (.ifCond .ne 15, 3) := by decide +kernel
theorem t_73_88 : tg 73 (15) = some 88 := by decide +kernel
theorem i_23_76 : ins 23 76 = some (.aload_n 0, 1) := by decide +kernel
theorem i_23_77 : ins 23 77 = some (.getfield 105, 3) := by decide +kernel
theorem f_23_330 : fld 23 330 = some (4194358, 0, 2) := by decide +kernel
theorem i_23_80 : ins 23 80 = some (.getfield 330, 3) := by decide +kernel
theorem i_23_83 : ins 23 83 = some (.iload_n 1, 1) := by decide +kernel
theorem kl_63967937 : klen 63967937 = 300 := by decide +kernel
theorem i_23_84 : ins 23 84 = some (.iaload, 1) := by decide +kernel
theorem i_23_85 : ins 23 85 = some (.goto 20, 3) := by decide +kernel
theorem t_85_105 : tg 85 (20) = some 105 := by decide +kernel
theorem i_23_88 : ins 23 88 = some (.aload_n 0, 1) := by decide +kernel
theorem i_23_89 : ins 23 89 = some (.getfield 105, 3) := by decide +kernel
theorem f_23_333 : fld 23 333 = some (4194358, 1, 2) := by decide +kernel
theorem i_23_92 : ins 23 92 = some (.getfield 333, 3) := by decide +kernel
theorem i_23_95 : ins 23 95 = some (.iload_n 1, 1) := by decide +kernel
theorem kl_65016515 : klen 65016515 = 300 := by decide +kernel
theorem i_23_96 : ins 23 96 = some (.baload, 1) := by decide +kernel
theorem i_23_97 : ins 23 97 = some (.ifCond .eq 7, 3) := by decide +kernel
theorem t_97_104 : tg 97 (7) = some 104 := by decide +kernel
theorem i_23_100 : ins 23 100 = some (.iconst 1, 1) := by decide +kernel
theorem i_23_101 : ins 23 101 = some (.goto 4, 3) := by decide +kernel
theorem t_101_105 : tg 101 (4) = some 105 := by decide +kernel
theorem i_23_104 : ins 23 104 = some (.iconst 0, 1) := by decide +kernel
theorem i_23_105 : ins 23 105 = some (.ireturn, 1) := by decide +kernel
theorem i_24_0 : ins 24 0 = some (.iconst 0, 1) := by decide +kernel
theorem i_24_1 : ins 24 1 = some (.istore_n 3, 1) := by decide +kernel
theorem i_24_2 : ins 24 2 = some (.iconst 0, 1) := by decide +kernel
theorem i_24_3 : ins 24 3 = some (.istore 4, 2) := by decide +kernel
theorem i_24_5 : ins 24 5 = some (.iload 4, 2) := by decide +kernel
theorem i_24_7 : ins 24 7 = some (.aload_n 0, 1) := by decide +kernel
theorem f_24_141 : fld 24 141 = some (1048582, 32, 2) := by decide +kernel
theorem i_24_8 : ins 24 8 = some (.getfield 141, 3) := by decide +kernel
theorem i_24_11 : ins 24 11 = some (.iload_n 1, 1) := by decide +kernel
theorem kl_39846081 : klen 39846081 = 12 := by decide +kernel
theorem i_24_12 : ins 24 12 = some (.iaload, 1) := by decide +kernel
theorem i_24_13 : ins 24 13 = some (.if_icmp .ge 119, 3) := by decide +kernel
theorem t_13_132 : tg 13 (119) = some 132 := by decide +kernel
theorem i_24_16 : ins 24 16 = some (.aload_n 0, 1) := by decide +kernel
theorem f_24_138 : fld 24 138 = some (1048582, 31, 2) := by decide +kernel
theorem i_24_17 : ins 24 17 = some (.getfield 138, 3) := by decide +kernel
theorem i_24_20 : ins 24 20 = some (.iload_n 1, 1) := by decide +kernel
theorem kl_37748933 : klen 37748933 = 12 := by decide +kernel
theorem i_24_21 : ins 24 21 = some (.aaload, 1) := by decide +kernel
theorem i_24_22 : ins 24 22 = some (.iload 4, 2) := by decide +kernel
theorem kl_38797477 : klen 38797477 = 10 := by decide +kernel
theorem i_24_24 : ins 24 24 = some (.aaload, 1) := by decide +kernel
theorem i_24_25 : ins 24 25 = some (.astore 5, 2) := by decide +kernel
theorem i_24_27 : ins 24 27 = some (.aload_n 0, 1) := by decide +kernel
theorem f_24_153 : fld 24 153 = some (1048582, 36, 2) := by decide +kernel
theorem i_24_28 : ins 24 28 = some (.getfield 153, 3) := by decide +kernel
theorem i_24_31 : ins 24 31 = some (.iload 4, 2) := by decide +kernel
theorem i_24_33 : ins 24 33 = some (.aload 5, 2) := by decide +kernel
theorem f_24_435 : fld 24 435 = some (18874678, 4, 0) := by decide +kernel
theorem i_24_35 : ins 24 35 = some (.getfield 435, 3) := by decide +kernel
theorem i_24_38 : ins 24 38 = some (.ineg, 1) := by decide +kernel
theorem kl_44040353 : klen 44040353 = 10 := by decide +kernel
theorem i_24_39 : ins 24 39 = some (.iastore, 1) := by decide +kernel
theorem i_24_40 : ins 24 40 = some (.iconst 0, 1) := by decide +kernel
theorem i_24_41 : ins 24 41 = some (.istore 6, 2) := by decide +kernel
theorem i_24_43 : ins 24 43 = some (.iload 6, 2) := by decide +kernel
theorem i_24_45 : ins 24 45 = some (.aload_n 0, 1) := by decide +kernel
theorem f_24_257 : fld 24 257 = some (1048582, 8, 0) := by decide +kernel
theorem i_24_46 : ins 24 46 = some (.getfield 257, 3) := by decide +kernel
theorem i_24_49 : ins 24 49 = some (.if_icmp .ge 59, 3) := by decide +kernel
theorem t_49_108 : tg 49 (59) = some 108 := by decide +kernel
theorem i_24_52 : ins 24 52 = some (.aload_n 0, 1) := by decide +kernel
theorem f_24_26 : fld 24 26 = some (1048582, 6, 2) := by decide +kernel
theorem i_24_53 : ins 24 53 = some (.getfield 26, 3) := by decide +kernel
theorem i_24_56 : ins 24 56 = some (.iload 6, 2) := by decide +kernel
theorem i_24_58 : ins 24 58 = some (.aaload, 1) := by decide +kernel
theorem f_24_436 : fld 24 436 = some (9437318, 0, 0) := by decide +kernel
theorem i_24_59 : ins 24 59 = some (.getfield 436, 3) := by decide +kernel
theorem i_24_62 : ins 24 62 = some (.iload_n 1, 1) := by decide +kernel
theorem i_24_63 : ins 24 63 = some (.if_icmp .ne 39, 3) := by decide +kernel
theorem t_63_102 : tg 63 (39) = some 102 := by decide +kernel
theorem i_24_66 : ins 24 66 = some (.aload_n 0, 1) := by decide +kernel
theorem i_24_67 : ins 24 67 = some (.getfield 26, 3) := by decide +kernel
theorem i_24_70 : ins 24 70 = some (.iload 6, 2) := by decide +kernel
theorem i_24_72 : ins 24 72 = some (.aaload, 1) := by decide +kernel
theorem i_24_73 : ins 24 73 = some (.iload_n 2, 1) := by decide +kernel
theorem v_24_324 : inv 24 324 = some (200, 1, 1, 9437318) := by decide +kernel
theorem i_24_74 : ins 24 74 = some (.invokevirtual 324, 3) := by decide +kernel
theorem i_24_77 : ins 24 77 = some (.ifCond .eq 25, 3) := by decide +kernel
theorem t_77_102 : tg 77 (25) = some 102 := by decide +kernel
theorem i_24_80 : ins 24 80 = some (.aload_n 0, 1) := by decide +kernel
theorem i_24_81 : ins 24 81 = some (.getfield 153, 3) := by decide +kernel
theorem i_24_84 : ins 24 84 = some (.iload 4, 2) := by decide +kernel
theorem i_24_86 : ins 24 86 = some (.dup2, 1) := by decide +kernel
theorem i_24_87 : ins 24 87 = some (.iaload, 1) := by decide +kernel
theorem i_24_88 : ins 24 88 = some (.aload 5, 2) := by decide +kernel
theorem i_24_90 : ins 24 90 = some (.aload_n 0, 1) := by decide +kernel
theorem i_24_91 : ins 24 91 = some (.getfield 26, 3) := by decide +kernel
theorem i_24_94 : ins 24 94 = some (.iload 6, 2) := by decide +kernel
theorem i_24_96 : ins 24 96 = some (.aaload, 1) := by decide +kernel
theorem v_24_437 : inv 24 437 = some (239, 1, 1, 18874678) := by decide +kernel
theorem i_24_97 : ins 24 97 = some (.invokevirtual 437, 3) := by decide +kernel
theorem i_24_100 : ins 24 100 = some (.iadd, 1) := by decide +kernel
theorem i_24_101 : ins 24 101 = some (.iastore, 1) := by decide +kernel
theorem i_24_102 : ins 24 102 = some (.iinc 6 1, 3) := by decide +kernel
theorem i_24_105 : ins 24 105 = some (.goto (-62), 3) := by decide +kernel
theorem t_105_43 : tg 105 (-62) = some 43 := by decide +kernel
theorem i_24_108 : ins 24 108 = some (.iload_n 3, 1) := by decide +kernel
theorem i_24_109 : ins 24 109 = some (.aload_n 0, 1) := by decide +kernel
theorem i_24_110 : ins 24 110 = some (.getfield 153, 3) := by decide +kernel
theorem i_24_113 : ins 24 113 = some (.iload 4, 2) := by decide +kernel
theorem i_24_115 : ins 24 115 = some (.iaload, 1) := by decide +kernel
theorem i_24_116 : ins 24 116 = some (.ifCond .ne 7, 3) := by decide +kernel
theorem t_116_123 : tg 116 (7) = some 123 := by decide +kernel
theorem i_24_119 : ins 24 119 = some (.iconst 0, 1) := by decide +kernel
theorem i_24_120 : ins 24 120 = some (.goto 4, 3) := by decide +kernel
theorem t_120_124 : tg 120 (4) = some 124 := by decide +kernel
theorem i_24_123 : ins 24 123 = some (.iconst 1, 1) := by decide +kernel
theorem i_24_124 : ins 24 124 = some (.iadd, 1) := by decide +kernel
theorem i_24_125 : ins 24 125 = some (.istore_n 3, 1) := by decide +kernel
theorem i_24_126 : ins 24 126 = some (.iinc 4 1, 3) := by decide +kernel
theorem i_24_129 : ins 24 129 = some (.goto (-124), 3) := by decide +kernel
theorem t_129_5 : tg 129 (-124) = some 5 := by decide +kernel
theorem i_24_132 : ins 24 132 = some (.iload_n 3, 1) := by decide +kernel
theorem r_24 : mret 24 = 1 := by decide +kernel
theorem i_24_133 : ins 24 133 = some (.ireturn, 1) := by decide +kernel
theorem i_25_0 : ins 25 0 = some (.iconst 0, 1) := by decide +kernel
theorem i_25_1 : ins 25 1 = some (.istore_n 3, 1) := by decide +kernel
theorem i_25_2 : ins 25 2 = some (.iconst 0, 1) := by decide +kernel
theorem i_25_3 : ins 25 3 = some (.istore 4, 2) := by decide +kernel
theorem i_25_5 : ins 25 5 = some (.iload 4, 2) := by decide +kernel
theorem i_25_7 : ins 25 7 = some (.aload_n 0, 1) := by decide +kernel
theorem f_25_257 : fld 25 257 = some (1048582, 8, 0) := by decide +kernel
theorem i_25_8 : ins 25 8 = some (.getfield 257, 3) := by decide +kernel
theorem i_25_11 : ins 25 11 = some (.if_icmp .ge 58, 3) := by decide +kernel
theorem t_11_69 : tg 11 (58) = some 69 := by decide +kernel
theorem i_25_14 : ins 25 14 = some (.iload_n 3, 1) := by decide +kernel
theorem i_25_15 : ins 25 15 = some (.aload_n 0, 1) := by decide +kernel
theorem f_25_26 : fld 25 26 = some (1048582, 6, 2) := by decide +kernel
theorem i_25_16 : ins 25 16 = some (.getfield 26, 3) := by decide +kernel
theorem i_25_19 : ins 25 19 = some (.iload 4, 2) := by decide +kernel
theorem i_25_21 : ins 25 21 = some (.aaload, 1) := by decide +kernel
theorem f_25_436 : fld 25 436 = some (9437318, 0, 0) := by decide +kernel
theorem i_25_22 : ins 25 22 = some (.getfield 436, 3) := by decide +kernel
theorem i_25_25 : ins 25 25 = some (.iload_n 1, 1) := by decide +kernel
theorem i_25_26 : ins 25 26 = some (.if_icmp .ne 34, 3) := by decide +kernel
theorem t_26_60 : tg 26 (34) = some 60 := by decide +kernel
theorem i_25_29 : ins 25 29 = some (.aload_n 0, 1) := by decide +kernel
theorem i_25_30 : ins 25 30 = some (.getfield 26, 3) := by decide +kernel
theorem i_25_33 : ins 25 33 = some (.iload 4, 2) := by decide +kernel
theorem i_25_35 : ins 25 35 = some (.aaload, 1) := by decide +kernel
theorem f_25_440 : fld 25 440 = some (9437318, 7, 5) := by decide +kernel
theorem i_25_36 : ins 25 36 = some (.getfield 440, 3) := by decide +kernel
theorem i_25_39 : ins 25 39 = some (.ifCond .eq 21, 3) := by decide +kernel
theorem t_39_60 : tg 39 (21) = some 60 := by decide +kernel
theorem i_25_42 : ins 25 42 = some (.aload_n 0, 1) := by decide +kernel
theorem i_25_43 : ins 25 43 = some (.getfield 26, 3) := by decide +kernel
theorem i_25_46 : ins 25 46 = some (.iload 4, 2) := by decide +kernel
theorem i_25_48 : ins 25 48 = some (.aaload, 1) := by decide +kernel
theorem i_25_49 : ins 25 49 = some (.iload_n 2, 1) := by decide +kernel
theorem v_25_324 : inv 25 324 = some (200, 1, 1, 9437318) := by decide +kernel
theorem i_25_50 : ins 25 50 = some (.invokevirtual 324, 3) := by decide +kernel
theorem i_25_53 : ins 25 53 = some (.ifCond .eq 7, 3) := by decide +kernel
theorem t_53_60 : tg 53 (7) = some 60 := by decide +kernel
theorem i_25_56 : ins 25 56 = some (.iconst 1, 1) := by decide +kernel
theorem i_25_57 : ins 25 57 = some (.goto 4, 3) := by decide +kernel
theorem t_57_61 : tg 57 (4) = some 61 := by decide +kernel
theorem i_25_60 : ins 25 60 = some (.iconst 0, 1) := by decide +kernel
theorem i_25_61 : ins 25 61 = some (.iadd, 1) := by decide +kernel
theorem i_25_62 : ins 25 62 = some (.istore_n 3, 1) := by decide +kernel
theorem i_25_63 : ins 25 63 = some (.iinc 4 1, 3) := by decide +kernel
theorem i_25_66 : ins 25 66 = some (.goto (-61), 3) := by decide +kernel
theorem t_66_5 : tg 66 (-61) = some 5 := by decide +kernel
theorem i_25_69 : ins 25 69 = some (.iload_n 3, 1) := by decide +kernel
theorem r_25 : mret 25 = 1 := by decide +kernel
theorem i_25_70 : ins 25 70 = some (.ireturn, 1) := by decide +kernel
theorem i_26_0 : ins 26 0 = some (.aload_n 0, 1) := by decide +kernel
theorem i_26_1 : ins 26 1 = some (.iload_n 1, 1) := by decide +kernel
theorem v_26_227 : inv 26 227 = some (7, 1, 1, 1048582) := by decide +kernel
theorem i_26_2 : ins 26 2 = some (.invokevirtual 227, 3) := by decide +kernel
theorem i_26_5 : ins 26 5 = some (.ifCond .eq 25, 3) := by decide +kernel
theorem t_5_30 : tg 5 (25) = some 30 := by decide +kernel
theorem i_26_8 : ins 26 8 = some (.iload_n 2, 1) := by decide +kernel
theorem v_26_218 : inv 26 218 = some (5, 1, 0, 0) := by decide +kernel
theorem i_26_9 : ins 26 9 = some (.invokestatic 218, 3) := by decide +kernel
theorem i_26_12 : ins 26 12 = some (.ifCond .eq 18, 3) := by decide +kernel
theorem t_12_30 : tg 12 (18) = some 30 := by decide +kernel
theorem i_26_15 : ins 26 15 = some (.iload_n 3, 1) := by decide +kernel
theorem v_26_230 : inv 26 230 = some (8, 1, 0, 0) := by decide +kernel
theorem i_26_16 : ins 26 16 = some (.invokestatic 230, 3) := by decide +kernel
theorem i_26_19 : ins 26 19 = some (.ifCond .eq 11, 3) := by decide +kernel
theorem t_19_30 : tg 19 (11) = some 30 := by decide +kernel
theorem i_26_22 : ins 26 22 = some (.iload 4, 2) := by decide +kernel
theorem v_26_250 : inv 26 250 = some (10, 1, 0, 0) := by decide +kernel
theorem i_26_24 : ins 26 24 = some (.invokestatic 250, 3) := by decide +kernel
theorem i_26_27 : ins 26 27 = some (.ifCond .ne 5, 3) := by decide +kernel
theorem t_27_32 : tg 27 (5) = some 32 := by decide +kernel
theorem i_26_30 : ins 26 30 = some (.iconst (-1), 1) := by decide +kernel
theorem r_26 : mret 26 = 1 := by decide +kernel
theorem i_26_31 : ins 26 31 = some (.ireturn, 1) := by decide +kernel
theorem i_26_32 : ins 26 32 = some (.aload_n 0, 1) := by decide +kernel
theorem f_26_105 : fld 26 105 = some (1048582, 18, 2) := by decide +kernel
theorem i_26_33 : ins 26 33 = some (.getfield 105, 3) := by decide +kernel
theorem i_26_36 : ins 26 36 = some (.iload 4, 2) := by decide +kernel
theorem v_26_327 : inv 26 327 = some (70, 1, 1, 4194358) := by decide +kernel
theorem i_26_38 : ins 26 38 = some (.invokevirtual 327, 3) := by decide +kernel
theorem i_26_41 : ins 26 41 = some (.aload_n 0, 1) := by decide +kernel
theorem i_26_42 : ins 26 42 = some (.getfield 105, 3) := by decide +kernel
theorem i_26_45 : ins 26 45 = some (.iload_n 1, 1) := by decide +kernel
theorem v_26_337 : inv 26 337 = some (72, 1, 1, 4194358) := by decide +kernel
theorem i_26_46 : ins 26 46 = some (.invokevirtual 337, 3) := by decide +kernel
theorem i_26_49 : ins 26 49 = some (.aload_n 0, 1) := by decide +kernel
theorem i_26_50 : ins 26 50 = some (.getfield 105, 3) := by decide +kernel
theorem i_26_53 : ins 26 53 = some (.iload_n 2, 1) := by decide +kernel
theorem i_26_54 : ins 26 54 = some (.iload_n 3, 1) := by decide +kernel
theorem v_26_340 : inv 26 340 = some (75, 2, 1, 4194358) := by decide +kernel
theorem i_26_55 : ins 26 55 = some (.invokevirtual 340, 3) := by decide +kernel
theorem i_26_58 : ins 26 58 = some (.istore 5, 2) := by decide +kernel
theorem i_26_60 : ins 26 60 = some (.iload 5, 2) := by decide +kernel
theorem i_26_62 : ins 26 62 = some (.iconst (-1), 1) := by decide +kernel
theorem i_26_63 : ins 26 63 = some (.if_icmp .ne 5, 3) := by decide +kernel
theorem i_26_66 : ins 26 66 = some (.iconst (-1), 1) := by decide +kernel
theorem i_26_67 : ins 26 67 = some (.ireturn, 1) := by decide +kernel
theorem i_26_68 : ins 26 68 = some (.aload_n 0, 1) := by decide +kernel
theorem i_26_69 : ins 26 69 = some (.aload_n 0, 1) := by decide +kernel
theorem i_26_70 : ins 26 70 = some (.getfield 105, 3) := by decide +kernel
theorem f_26_344 : fld 26 344 = some (4194358, 9, 0) := by decide +kernel
theorem i_26_73 : ins 26 73 = some (.getfield 344, 3) := by decide +kernel
theorem f_26_109 : fld 26 109 = some (1048582, 19, 0) := by decide +kernel
theorem o_26_1048582_19 : putok 26 1048582 19 = true := by decide +kernel
theorem i_26_76 : ins 26 76 = some (.putfield 109, 3) := by decide +kernel
theorem i_26_79 : ins 26 79 = some (.aload_n 0, 1) := by decide +kernel
theorem i_26_80 : ins 26 80 = some (.aload_n 0, 1) := by decide +kernel
theorem i_26_81 : ins 26 81 = some (.getfield 105, 3) := by decide +kernel
theorem f_26_345 : fld 26 345 = some (4194358, 10, 0) := by decide +kernel
theorem i_26_84 : ins 26 84 = some (.getfield 345, 3) := by decide +kernel
theorem f_26_113 : fld 26 113 = some (1048582, 20, 0) := by decide +kernel
theorem o_26_1048582_20 : putok 26 1048582 20 = true := by decide +kernel
theorem i_26_87 : ins 26 87 = some (.putfield 113, 3) := by decide +kernel
theorem i_26_90 : ins 26 90 = some (.iload 5, 2) := by decide +kernel
theorem i_26_92 : ins 26 92 = some (.ireturn, 1) := by decide +kernel
theorem i_27_0 : ins 27 0 = some (.iload_n 1, 1) := by decide +kernel
theorem i_27_1 : ins 27 1 = some (.ifCond .ne 10, 3) := by decide +kernel
theorem t_1_11 : tg 1 (10) = some 11 := by decide +kernel
theorem i_27_4 : ins 27 4 = some (.aload_n 0, 1) := by decide +kernel
theorem f_27_109 : fld 27 109 = some (1048582, 19, 0) := by decide +kernel
theorem i_27_5 : ins 27 5 = some (.getfield 109, 3) := by decide +kernel
theorem i_27_8 : ins 27 8 = some (.goto 16, 3) := by decide +kernel
theorem t_8_24 : tg 8 (16) = some 24 := by decide +kernel
theorem i_27_11 : ins 27 11 = some (.iload_n 1, 1) := by decide +kernel
theorem i_27_12 : ins 27 12 = some (.iconst 1, 1) := by decide +kernel
theorem i_27_13 : ins 27 13 = some (.if_icmp .ne 10, 3) := by decide +kernel
theorem t_13_23 : tg 13 (10) = some 23 := by decide +kernel
theorem i_27_16 : ins 27 16 = some (.aload_n 0, 1) := by decide +kernel
theorem f_27_113 : fld 27 113 = some (1048582, 20, 0) := by decide +kernel
theorem i_27_17 : ins 27 17 = some (.getfield 113, 3) := by decide +kernel
theorem i_27_20 : ins 27 20 = some (.goto 4, 3) := by decide +kernel
theorem t_20_24 : tg 20 (4) = some 24 := by decide +kernel
theorem i_27_23 : ins 27 23 = some (.iconst (-1), 1) := by decide +kernel
theorem r_27 : mret 27 = 1 := by decide +kernel
theorem i_27_24 : ins 27 24 = some (.ireturn, 1) := by decide +kernel
theorem i_28_0 : ins 28 0 = some (.aload_n 0, 1) := by decide +kernel
theorem i_28_1 : ins 28 1 = some (.iload_n 1, 1) := by decide +kernel
theorem i_28_2 : ins 28 2 = some (.iload_n 2, 1) := by decide +kernel
theorem i_28_3 : ins 28 3 = some (.iload_n 3, 1) := by decide +kernel
theorem i_28_4 : ins 28 4 = some (.iload 5, 2) := by decide +kernel
theorem v_28_381 : inv 28 381 = some (29, 4, 1, 1048582) := by decide +kernel
theorem i_28_6 : ins 28 6 = some (.invokevirtual 381, 3) := by decide +kernel
theorem i_28_9 : ins 28 9 = some (.ifCond .eq 25, 3) := by decide +kernel
theorem t_9_34 : tg 9 (25) = some 34 := by decide +kernel
theorem i_28_12 : ins 28 12 = some (.iload 4, 2) := by decide +kernel
theorem i_28_14 : ins 28 14 = some (.i2l, 1) := by decide +kernel
theorem i_28_15 : ins 28 15 = some (.lconst 0, 1) := by decide +kernel
theorem i_28_16 : ins 28 16 = some (.lconst 1, 1) := by decide +kernel
theorem v_28_209 : inv 28 209 = some (2, 3, 0, 0) := by decide +kernel
theorem i_28_17 : ins 28 17 = some (.invokestatic 209, 3) := by decide +kernel
theorem i_28_20 : ins 28 20 = some (.ifCond .eq 14, 3) := by decide +kernel
theorem t_20_34 : tg 20 (14) = some 34 := by decide +kernel
theorem i_28_23 : ins 28 23 = some (.iload 6, 2) := by decide +kernel
theorem i_28_25 : ins 28 25 = some (.i2l, 1) := by decide +kernel
theorem i_28_26 : ins 28 26 = some (.lconst 0, 1) := by decide +kernel
theorem i_28_27 : ins 28 27 = some (.lconst 1, 1) := by decide +kernel
theorem i_28_28 : ins 28 28 = some (.invokestatic 209, 3) := by decide +kernel
theorem i_28_31 : ins 28 31 = some (.ifCond .ne 7, 3) := by decide +kernel
theorem t_31_38 : tg 31 (7) = some 38 := by decide +kernel
theorem l_28_384 : ldcv 28 384 = some (vL (-9000000000000000000)) := rfl
theorem i_28_34 : ins 28 34 = some (.ldc2_w 384, 3) := by decide +kernel
theorem i_28_37 : ins 28 37 = some (.lreturn, 1) := by decide +kernel
theorem r_28 : mret 28 = 5 := by decide +kernel
theorem i_28_38 : ins 28 38 = some (.aload_n 0, 1) := by decide +kernel
theorem f_28_105 : fld 28 105 = some (1048582, 18, 2) := by decide +kernel
theorem i_28_39 : ins 28 39 = some (.getfield 105, 3) := by decide +kernel
theorem i_28_42 : ins 28 42 = some (.iload 5, 2) := by decide +kernel
theorem v_28_327 : inv 28 327 = some (70, 1, 1, 4194358) := by decide +kernel
theorem i_28_44 : ins 28 44 = some (.invokevirtual 327, 3) := by decide +kernel
theorem i_28_47 : ins 28 47 = some (.aload_n 0, 1) := by decide +kernel
theorem i_28_48 : ins 28 48 = some (.iload_n 1, 1) := by decide +kernel
theorem i_28_49 : ins 28 49 = some (.iload_n 2, 1) := by decide +kernel
theorem i_28_50 : ins 28 50 = some (.iload_n 3, 1) := by decide +kernel
theorem i_28_51 : ins 28 51 = some (.iload 4, 2) := by decide +kernel
theorem v_28_386 : inv 28 386 = some (30, 4, 1, 1048582) := by decide +kernel
theorem i_28_53 : ins 28 53 = some (.invokevirtual 386, 3) := by decide +kernel
theorem i_28_56 : ins 28 56 = some (.aload_n 0, 1) := by decide +kernel
theorem f_28_360 : fld 28 360 = some (1048582, 22, 1) := by decide +kernel
theorem i_28_57 : ins 28 57 = some (.getfield 360, 3) := by decide +kernel
theorem i_28_60 : ins 28 60 = some (.lconst 0, 1) := by decide +kernel
theorem t_62_67 : tg 62 (5) = some 67 := by decide +kernel
theorem i_28_61 : ins 28 61 = some (.lcmp, 1) := by decide +kernel
theorem i_28_62 : ins 28 62 = some (.ifCond .ne 5, 3) := by decide +kernel
theorem i_28_65 : ins 28 65 = some (.lconst 0, 1) := by decide +kernel
theorem i_28_66 : ins 28 66 = some (.lreturn, 1) := by decide +kernel
theorem i_28_67 : ins 28 67 = some (.aload_n 0, 1) := by decide +kernel
theorem f_28_348 : fld 28 348 = some (1048582, 21, 1) := by decide +kernel
theorem i_28_68 : ins 28 68 = some (.getfield 348, 3) := by decide +kernel
theorem v_28_390 : inv 28 390 = some (250, 1, 0, 0) := by decide +kernel
theorem i_28_71 : ins 28 71 = some (.invokestatic 390, 3) := by decide +kernel
theorem i_28_74 : ins 28 74 = some (.aload_n 0, 1) := by decide +kernel
theorem i_28_75 : ins 28 75 = some (.getfield 360, 3) := by decide +kernel
theorem v_28_378 : inv 28 378 = some (32, 2, 0, 0) := by decide +kernel
theorem i_28_78 : ins 28 78 = some (.invokestatic 378, 3) := by decide +kernel
theorem i_28_81 : ins 28 81 = some (.lstore 7, 2) := by decide +kernel
theorem i_28_83 : ins 28 83 = some (.iload 6, 2) := by decide +kernel
theorem i_28_85 : ins 28 85 = some (.ifCond .ne 13, 3) := by decide +kernel
theorem t_85_98 : tg 85 (13) = some 98 := by decide +kernel
theorem i_28_88 : ins 28 88 = some (.aload_n 0, 1) := by decide +kernel
theorem i_28_89 : ins 28 89 = some (.getfield 348, 3) := by decide +kernel
theorem i_28_92 : ins 28 92 = some (.lload 7, 2) := by decide +kernel
theorem i_28_94 : ins 28 94 = some (.ldiv, 1) := by decide +kernel
theorem i_28_95 : ins 28 95 = some (.goto 10, 3) := by decide +kernel
theorem t_95_105 : tg 95 (10) = some 105 := by decide +kernel
theorem i_28_98 : ins 28 98 = some (.aload_n 0, 1) := by decide +kernel
theorem i_28_99 : ins 28 99 = some (.getfield 360, 3) := by decide +kernel
theorem i_28_102 : ins 28 102 = some (.lload 7, 2) := by decide +kernel
theorem i_28_104 : ins 28 104 = some (.ldiv, 1) := by decide +kernel
theorem i_28_105 : ins 28 105 = some (.lreturn, 1) := by decide +kernel
theorem i_29_0 : ins 29 0 = some (.aload_n 0, 1) := by decide +kernel
theorem i_29_1 : ins 29 1 = some (.iload_n 1, 1) := by decide +kernel
theorem v_29_227 : inv 29 227 = some (7, 1, 1, 1048582) := by decide +kernel
theorem i_29_2 : ins 29 2 = some (.invokevirtual 227, 3) := by decide +kernel
theorem i_29_5 : ins 29 5 = some (.ifCond .eq 33, 3) := by decide +kernel
theorem t_5_38 : tg 5 (33) = some 38 := by decide +kernel
theorem i_29_8 : ins 29 8 = some (.iload_n 3, 1) := by decide +kernel
theorem v_29_230 : inv 29 230 = some (8, 1, 0, 0) := by decide +kernel
theorem i_29_9 : ins 29 9 = some (.invokestatic 230, 3) := by decide +kernel
theorem i_29_12 : ins 29 12 = some (.ifCond .eq 26, 3) := by decide +kernel
theorem t_12_38 : tg 12 (26) = some 38 := by decide +kernel
theorem i_29_15 : ins 29 15 = some (.iload_n 2, 1) := by decide +kernel
theorem i_29_16 : ins 29 16 = some (.i2l, 1) := by decide +kernel
theorem i_29_17 : ins 29 17 = some (.lconst 0, 1) := by decide +kernel
theorem i_29_18 : ins 29 18 = some (.iload_n 3, 1) := by decide +kernel
theorem i_29_19 : ins 29 19 = some (.i2l, 1) := by decide +kernel
theorem v_29_209 : inv 29 209 = some (2, 3, 0, 0) := by decide +kernel
theorem i_29_20 : ins 29 20 = some (.invokestatic 209, 3) := by decide +kernel
theorem i_29_23 : ins 29 23 = some (.ifCond .eq 15, 3) := by decide +kernel
theorem t_23_38 : tg 23 (15) = some 38 := by decide +kernel
theorem i_29_26 : ins 29 26 = some (.iload 4, 2) := by decide +kernel
theorem v_29_250 : inv 29 250 = some (10, 1, 0, 0) := by decide +kernel
theorem i_29_28 : ins 29 28 = some (.invokestatic 250, 3) := by decide +kernel
theorem i_29_31 : ins 29 31 = some (.ifCond .eq 7, 3) := by decide +kernel
theorem i_29_34 : ins 29 34 = some (.iconst 1, 1) := by decide +kernel
theorem i_29_35 : ins 29 35 = some (.goto 4, 3) := by decide +kernel
theorem t_35_39 : tg 35 (4) = some 39 := by decide +kernel
theorem i_29_38 : ins 29 38 = some (.iconst 0, 1) := by decide +kernel
theorem r_29 : mret 29 = 2 := by decide +kernel
theorem i_29_39 : ins 29 39 = some (.ireturn, 1) := by decide +kernel
theorem i_30_0 : ins 30 0 = some (.aload_n 0, 1) := by decide +kernel
theorem f_30_105 : fld 30 105 = some (1048582, 18, 2) := by decide +kernel
theorem i_30_1 : ins 30 1 = some (.getfield 105, 3) := by decide +kernel
theorem i_30_4 : ins 30 4 = some (.iload_n 1, 1) := by decide +kernel
theorem v_30_337 : inv 30 337 = some (72, 1, 1, 4194358) := by decide +kernel
theorem i_30_5 : ins 30 5 = some (.invokevirtual 337, 3) := by decide +kernel
theorem i_30_8 : ins 30 8 = some (.aload_n 0, 1) := by decide +kernel
theorem i_30_9 : ins 30 9 = some (.lconst 0, 1) := by decide +kernel
theorem f_30_348 : fld 30 348 = some (1048582, 21, 1) := by decide +kernel
theorem o_30_1048582_21 : putok 30 1048582 21 = true := by decide +kernel
theorem i_30_10 : ins 30 10 = some (.putfield 348, 3) := by decide +kernel
theorem i_30_13 : ins 30 13 = some (.aload_n 0, 1) := by decide +kernel
theorem i_30_14 : ins 30 14 = some (.lconst 0, 1) := by decide +kernel
theorem f_30_360 : fld 30 360 = some (1048582, 22, 1) := by decide +kernel
theorem o_30_1048582_22 : putok 30 1048582 22 = true := by decide +kernel
theorem i_30_15 : ins 30 15 = some (.putfield 360, 3) := by decide +kernel
theorem i_30_18 : ins 30 18 = some (.aload_n 0, 1) := by decide +kernel
theorem i_30_19 : ins 30 19 = some (.iconst 0, 1) := by decide +kernel
theorem f_30_363 : fld 30 363 = some (1048582, 23, 0) := by decide +kernel
theorem o_30_1048582_23 : putok 30 1048582 23 = true := by decide +kernel
theorem i_30_20 : ins 30 20 = some (.putfield 363, 3) := by decide +kernel
theorem i_30_23 : ins 30 23 = some (.iconst 0, 1) := by decide +kernel
theorem i_30_24 : ins 30 24 = some (.istore 5, 2) := by decide +kernel
theorem i_30_26 : ins 30 26 = some (.iload 5, 2) := by decide +kernel
theorem i_30_28 : ins 30 28 = some (.aload_n 0, 1) := by decide +kernel
theorem f_30_116 : fld 30 116 = some (1048582, 24, 2) := by decide +kernel
theorem i_30_29 : ins 30 29 = some (.getfield 116, 3) := by decide +kernel
theorem i_30_32 : ins 30 32 = some (.arraylength, 1) := by decide +kernel
theorem kl_32540164 : klen 32540164 = 2144 := by decide +kernel
theorem i_30_33 : ins 30 33 = some (.if_icmp .ge 25, 3) := by decide +kernel
theorem t_33_58 : tg 33 (25) = some 58 := by decide +kernel
theorem i_30_36 : ins 30 36 = some (.aload_n 0, 1) := by decide +kernel
theorem i_30_37 : ins 30 37 = some (.getfield 116, 3) := by decide +kernel
theorem i_30_40 : ins 30 40 = some (.iload 5, 2) := by decide +kernel
theorem i_30_42 : ins 30 42 = some (.lconst 0, 1) := by decide +kernel
theorem i_30_43 : ins 30 43 = some (.lastore, 1) := by decide +kernel
theorem i_30_44 : ins 30 44 = some (.aload_n 0, 1) := by decide +kernel
theorem f_30_120 : fld 30 120 = some (1048582, 25, 2) := by decide +kernel
theorem i_30_45 : ins 30 45 = some (.getfield 120, 3) := by decide +kernel
theorem i_30_48 : ins 30 48 = some (.iload 5, 2) := by decide +kernel
theorem i_30_50 : ins 30 50 = some (.lconst 0, 1) := by decide +kernel
theorem kl_33588740 : klen 33588740 = 2144 := by decide +kernel
theorem i_30_51 : ins 30 51 = some (.lastore, 1) := by decide +kernel
theorem i_30_52 : ins 30 52 = some (.iinc 5 1, 3) := by decide +kernel
theorem i_30_55 : ins 30 55 = some (.goto (-29), 3) := by decide +kernel
theorem t_55_26 : tg 55 (-29) = some 26 := by decide +kernel
theorem i_30_58 : ins 30 58 = some (.iconst 0, 1) := by decide +kernel
theorem i_30_59 : ins 30 59 = some (.istore 5, 2) := by decide +kernel
theorem i_30_61 : ins 30 61 = some (.iload 5, 2) := by decide +kernel
theorem i_30_63 : ins 30 63 = some (.aload_n 0, 1) := by decide +kernel
theorem f_30_257 : fld 30 257 = some (1048582, 8, 0) := by decide +kernel
theorem i_30_64 : ins 30 64 = some (.getfield 257, 3) := by decide +kernel
theorem i_30_67 : ins 30 67 = some (.if_icmp .ge 184, 3) := by decide +kernel
theorem t_67_251 : tg 67 (184) = some 251 := by decide +kernel
theorem i_30_70 : ins 30 70 = some (.aload_n 0, 1) := by decide +kernel
theorem i_30_71 : ins 30 71 = some (.getfield 105, 3) := by decide +kernel
theorem i_30_74 : ins 30 74 = some (.iload 5, 2) := by decide +kernel
theorem i_30_76 : ins 30 76 = some (.iload_n 1, 1) := by decide +kernel
theorem i_30_77 : ins 30 77 = some (.iload_n 2, 1) := by decide +kernel
theorem i_30_78 : ins 30 78 = some (.iload_n 3, 1) := by decide +kernel
theorem v_30_366 : inv 30 366 = some (77, 4, 1, 4194358) := by decide +kernel
theorem i_30_79 : ins 30 79 = some (.invokevirtual 366, 3) := by decide +kernel
theorem i_30_82 : ins 30 82 = some (.ifCond .ne 6, 3) := by decide +kernel
theorem t_82_88 : tg 82 (6) = some 88 := by decide +kernel
theorem i_30_85 : ins 30 85 = some (.goto 160, 3) := by decide +kernel
theorem t_85_245 : tg 85 (160) = some 245 := by decide +kernel
theorem i_30_88 : ins 30 88 = some (.aload_n 0, 1) := by decide +kernel
theorem f_30_26 : fld 30 26 = some (1048582, 6, 2) := by decide +kernel
theorem i_30_89 : ins 30 89 = some (.getfield 26, 3) := by decide +kernel
theorem i_30_92 : ins 30 92 = some (.iload 5, 2) := by decide +kernel
theorem i_30_94 : ins 30 94 = some (.aaload, 1) := by decide +kernel
theorem i_30_95 : ins 30 95 = some (.astore 6, 2) := by decide +kernel
theorem i_30_97 : ins 30 97 = some (.aload_n 0, 1) := by decide +kernel
theorem i_30_98 : ins 30 98 = some (.getfield 105, 3) := by decide +kernel
theorem i_30_101 : ins 30 101 = some (.aload 6, 2) := by decide +kernel
theorem f_30_370 : fld 30 370 = some (9437318, 1, 0) := by decide +kernel
theorem i_30_103 : ins 30 103 = some (.getfield 370, 3) := by decide +kernel
theorem i_30_106 : ins 30 106 = some (.aload 6, 2) := by decide +kernel
theorem f_30_371 : fld 30 371 = some (9437318, 2, 0) := by decide +kernel
theorem i_30_108 : ins 30 108 = some (.getfield 371, 3) := by decide +kernel
theorem v_30_340 : inv 30 340 = some (75, 2, 1, 4194358) := by decide +kernel
theorem i_30_111 : ins 30 111 = some (.invokevirtual 340, 3) := by decide +kernel
theorem i_30_114 : ins 30 114 = some (.istore 7, 2) := by decide +kernel
theorem i_30_116 : ins 30 116 = some (.iload 7, 2) := by decide +kernel
theorem i_30_118 : ins 30 118 = some (.iconst (-1), 1) := by decide +kernel
theorem i_30_119 : ins 30 119 = some (.if_icmp .ne 16, 3) := by decide +kernel
theorem t_119_135 : tg 119 (16) = some 135 := by decide +kernel
theorem i_30_122 : ins 30 122 = some (.aload_n 0, 1) := by decide +kernel
theorem i_30_123 : ins 30 123 = some (.dup, 1) := by decide +kernel
theorem i_30_124 : ins 30 124 = some (.getfield 363, 3) := by decide +kernel
theorem i_30_127 : ins 30 127 = some (.iconst 1, 1) := by decide +kernel
theorem i_30_128 : ins 30 128 = some (.iadd, 1) := by decide +kernel
theorem i_30_129 : ins 30 129 = some (.putfield 363, 3) := by decide +kernel
theorem i_30_132 : ins 30 132 = some (.goto 113, 3) := by decide +kernel
theorem t_132_245 : tg 132 (113) = some 245 := by decide +kernel
theorem i_30_135 : ins 30 135 = some (.iload 4, 2) := by decide +kernel
theorem i_30_137 : ins 30 137 = some (.iconst 1, 1) := by decide +kernel
theorem i_30_138 : ins 30 138 = some (.if_icmp .ne 37, 3) := by decide +kernel
theorem t_138_175 : tg 138 (37) = some 175 := by decide +kernel
theorem i_30_141 : ins 30 141 = some (.aload_n 0, 1) := by decide +kernel
theorem i_30_142 : ins 30 142 = some (.iload 7, 2) := by decide +kernel
theorem i_30_144 : ins 30 144 = some (.i2l, 1) := by decide +kernel
theorem i_30_145 : ins 30 145 = some (.aload 6, 2) := by decide +kernel
theorem f_30_372 : fld 30 372 = some (9437318, 4, 0) := by decide +kernel
theorem i_30_147 : ins 30 147 = some (.getfield 372, 3) := by decide +kernel
theorem i_30_150 : ins 30 150 = some (.i2l, 1) := by decide +kernel
theorem i_30_151 : ins 30 151 = some (.aload 6, 2) := by decide +kernel
theorem i_30_153 : ins 30 153 = some (.getfield 372, 3) := by decide +kernel
theorem i_30_156 : ins 30 156 = some (.i2l, 1) := by decide +kernel
theorem i_30_157 : ins 30 157 = some (.aload_n 0, 1) := by decide +kernel
theorem i_30_158 : ins 30 158 = some (.getfield 105, 3) := by decide +kernel
theorem f_30_330 : fld 30 330 = some (4194358, 0, 2) := by decide +kernel
theorem i_30_161 : ins 30 161 = some (.getfield 330, 3) := by decide +kernel
theorem i_30_164 : ins 30 164 = some (.iload 5, 2) := by decide +kernel
theorem i_30_166 : ins 30 166 = some (.iaload, 1) := by decide +kernel
theorem i_30_167 : ins 30 167 = some (.i2l, 1) := by decide +kernel
theorem i_30_168 : ins 30 168 = some (.lmul, 1) := by decide +kernel
theorem v_30_374 : inv 30 374 = some (31, 3, 1, 1048582) := by decide +kernel
theorem i_30_169 : ins 30 169 = some (.invokevirtual 374, 3) := by decide +kernel
theorem i_30_172 : ins 30 172 = some (.goto 73, 3) := by decide +kernel
theorem t_172_245 : tg 172 (73) = some 245 := by decide +kernel
theorem i_30_175 : ins 30 175 = some (.aload_n 0, 1) := by decide +kernel
theorem i_30_176 : ins 30 176 = some (.getfield 116, 3) := by decide +kernel
theorem i_30_179 : ins 30 179 = some (.sipush 134, 3) := by decide +kernel
theorem i_30_182 : ins 30 182 = some (.aload 6, 2) := by decide +kernel
theorem i_30_184 : ins 30 184 = some (.getfield 370, 3) := by decide +kernel
theorem i_30_187 : ins 30 187 = some (.imul, 1) := by decide +kernel
theorem i_30_188 : ins 30 188 = some (.aload 6, 2) := by decide +kernel
theorem i_30_190 : ins 30 190 = some (.getfield 371, 3) := by decide +kernel
theorem i_30_193 : ins 30 193 = some (.iadd, 1) := by decide +kernel
theorem i_30_194 : ins 30 194 = some (.dup2, 1) := by decide +kernel
theorem i_30_195 : ins 30 195 = some (.laload, 1) := by decide +kernel
theorem i_30_196 : ins 30 196 = some (.aload 6, 2) := by decide +kernel
theorem i_30_198 : ins 30 198 = some (.getfield 372, 3) := by decide +kernel
theorem i_30_201 : ins 30 201 = some (.i2l, 1) := by decide +kernel
theorem i_30_202 : ins 30 202 = some (.aload_n 0, 1) := by decide +kernel
theorem i_30_203 : ins 30 203 = some (.getfield 105, 3) := by decide +kernel
theorem i_30_206 : ins 30 206 = some (.getfield 330, 3) := by decide +kernel
theorem i_30_209 : ins 30 209 = some (.iload 5, 2) := by decide +kernel
theorem i_30_211 : ins 30 211 = some (.iaload, 1) := by decide +kernel
theorem i_30_212 : ins 30 212 = some (.i2l, 1) := by decide +kernel
theorem i_30_213 : ins 30 213 = some (.lmul, 1) := by decide +kernel
theorem i_30_214 : ins 30 214 = some (.ladd, 1) := by decide +kernel
theorem i_30_215 : ins 30 215 = some (.lastore, 1) := by decide +kernel
theorem i_30_216 : ins 30 216 = some (.aload_n 0, 1) := by decide +kernel
theorem i_30_217 : ins 30 217 = some (.getfield 120, 3) := by decide +kernel
theorem i_30_220 : ins 30 220 = some (.sipush 134, 3) := by decide +kernel
theorem i_30_223 : ins 30 223 = some (.aload 6, 2) := by decide +kernel
theorem i_30_225 : ins 30 225 = some (.getfield 370, 3) := by decide +kernel
theorem i_30_228 : ins 30 228 = some (.imul, 1) := by decide +kernel
theorem i_30_229 : ins 30 229 = some (.aload 6, 2) := by decide +kernel
theorem i_30_231 : ins 30 231 = some (.getfield 371, 3) := by decide +kernel
theorem i_30_234 : ins 30 234 = some (.iadd, 1) := by decide +kernel
theorem i_30_235 : ins 30 235 = some (.dup2, 1) := by decide +kernel
theorem i_30_236 : ins 30 236 = some (.laload, 1) := by decide +kernel
theorem i_30_237 : ins 30 237 = some (.aload 6, 2) := by decide +kernel
theorem i_30_239 : ins 30 239 = some (.getfield 372, 3) := by decide +kernel
theorem i_30_242 : ins 30 242 = some (.i2l, 1) := by decide +kernel
theorem i_30_243 : ins 30 243 = some (.ladd, 1) := by decide +kernel
theorem i_30_244 : ins 30 244 = some (.lastore, 1) := by decide +kernel
theorem i_30_245 : ins 30 245 = some (.iinc 5 1, 3) := by decide +kernel
theorem i_30_248 : ins 30 248 = some (.goto (-187), 3) := by decide +kernel
theorem t_248_61 : tg 248 (-187) = some 61 := by decide +kernel
theorem i_30_251 : ins 30 251 = some (.iconst 0, 1) := by decide +kernel
theorem i_30_252 : ins 30 252 = some (.istore 5, 2) := by decide +kernel
theorem i_30_254 : ins 30 254 = some (.iload 5, 2) := by decide +kernel
theorem i_30_256 : ins 30 256 = some (.aload_n 0, 1) := by decide +kernel
theorem i_30_257 : ins 30 257 = some (.getfield 116, 3) := by decide +kernel
theorem i_30_260 : ins 30 260 = some (.arraylength, 1) := by decide +kernel
theorem i_30_261 : ins 30 261 = some (.if_icmp .ge 59, 3) := by decide +kernel
theorem t_261_320 : tg 261 (59) = some 320 := by decide +kernel
theorem i_30_264 : ins 30 264 = some (.aload_n 0, 1) := by decide +kernel
theorem i_30_265 : ins 30 265 = some (.getfield 120, 3) := by decide +kernel
theorem i_30_268 : ins 30 268 = some (.iload 5, 2) := by decide +kernel
theorem i_30_270 : ins 30 270 = some (.laload, 1) := by decide +kernel
theorem i_30_271 : ins 30 271 = some (.lconst 0, 1) := by decide +kernel
theorem t_273_314 : tg 273 (41) = some 314 := by decide +kernel
theorem i_30_272 : ins 30 272 = some (.lcmp, 1) := by decide +kernel
theorem i_30_273 : ins 30 273 = some (.ifCond .le 41, 3) := by decide +kernel
theorem i_30_276 : ins 30 276 = some (.aload_n 0, 1) := by decide +kernel
theorem i_30_277 : ins 30 277 = some (.aload_n 0, 1) := by decide +kernel
theorem i_30_278 : ins 30 278 = some (.getfield 105, 3) := by decide +kernel
theorem i_30_281 : ins 30 281 = some (.iload 5, 2) := by decide +kernel
theorem i_30_283 : ins 30 283 = some (.sipush 134, 3) := by decide +kernel
theorem nz_134 : ¬ nI 134 = 0 := by decide +kernel
theorem i_30_286 : ins 30 286 = some (.idiv, 1) := by decide +kernel
theorem i_30_287 : ins 30 287 = some (.iload 5, 2) := by decide +kernel
theorem i_30_289 : ins 30 289 = some (.sipush 134, 3) := by decide +kernel
theorem i_30_292 : ins 30 292 = some (.irem, 1) := by decide +kernel
theorem i_30_293 : ins 30 293 = some (.invokevirtual 340, 3) := by decide +kernel
theorem i_30_296 : ins 30 296 = some (.i2l, 1) := by decide +kernel
theorem i_30_297 : ins 30 297 = some (.aload_n 0, 1) := by decide +kernel
theorem i_30_298 : ins 30 298 = some (.getfield 120, 3) := by decide +kernel
theorem i_30_301 : ins 30 301 = some (.iload 5, 2) := by decide +kernel
theorem i_30_303 : ins 30 303 = some (.laload, 1) := by decide +kernel
theorem i_30_304 : ins 30 304 = some (.aload_n 0, 1) := by decide +kernel
theorem i_30_305 : ins 30 305 = some (.getfield 116, 3) := by decide +kernel
theorem i_30_308 : ins 30 308 = some (.iload 5, 2) := by decide +kernel
theorem i_30_310 : ins 30 310 = some (.laload, 1) := by decide +kernel
theorem i_30_311 : ins 30 311 = some (.invokevirtual 374, 3) := by decide +kernel
theorem i_30_314 : ins 30 314 = some (.iinc 5 1, 3) := by decide +kernel
theorem i_30_317 : ins 30 317 = some (.goto (-63), 3) := by decide +kernel
theorem t_317_254 : tg 317 (-63) = some 254 := by decide +kernel
theorem i_30_320 : ins 30 320 = some (.return_, 1) := by decide +kernel
theorem r_30 : mret 30 = 0 := by decide +kernel
theorem i_31_0 : ins 31 0 = some (.lload_n 1, 1) := by decide +kernel
theorem i_31_1 : ins 31 1 = some (.lload_n 3, 1) := by decide +kernel
theorem i_31_2 : ins 31 2 = some (.lmul, 1) := by decide +kernel
theorem l_31_346 : ldcv 31 346 = some (vL (100)) := rfl
theorem i_31_3 : ins 31 3 = some (.ldc2_w 346, 3) := by decide +kernel
theorem i_31_6 : ins 31 6 = some (.lload 5, 2) := by decide +kernel
theorem i_31_8 : ins 31 8 = some (.lmul, 1) := by decide +kernel
theorem i_31_9 : ins 31 9 = some (.lsub, 1) := by decide +kernel
theorem i_31_10 : ins 31 10 = some (.lstore 7, 2) := by decide +kernel
theorem i_31_12 : ins 31 12 = some (.aload_n 0, 1) := by decide +kernel
theorem i_31_13 : ins 31 13 = some (.dup, 1) := by decide +kernel
theorem f_31_348 : fld 31 348 = some (1048582, 21, 1) := by decide +kernel
theorem i_31_14 : ins 31 14 = some (.getfield 348, 3) := by decide +kernel
theorem i_31_17 : ins 31 17 = some (.aload_n 0, 1) := by decide +kernel
theorem f_31_105 : fld 31 105 = some (1048582, 18, 2) := by decide +kernel
theorem i_31_18 : ins 31 18 = some (.getfield 105, 3) := by decide +kernel
theorem f_31_352 : fld 31 352 = some (4194358, 6, 2) := by decide +kernel
theorem i_31_21 : ins 31 21 = some (.getfield 352, 3) := by decide +kernel
theorem f_31_315 : fld 31 315 = some (3145766, 6, 5) := by decide +kernel
theorem i_31_24 : ins 31 24 = some (.getfield 315, 3) := by decide +kernel
theorem i_31_27 : ins 31 27 = some (.ifCond .eq 12, 3) := by decide +kernel
theorem t_27_39 : tg 27 (12) = some 39 := by decide +kernel
theorem i_31_30 : ins 31 30 = some (.lconst 0, 1) := by decide +kernel
theorem i_31_31 : ins 31 31 = some (.lload 7, 2) := by decide +kernel
theorem v_31_354 : inv 31 354 = some (249, 2, 0, 0) := by decide +kernel
theorem i_31_33 : ins 31 33 = some (.invokestatic 354, 3) := by decide +kernel
theorem i_31_36 : ins 31 36 = some (.goto 5, 3) := by decide +kernel
theorem t_36_41 : tg 36 (5) = some 41 := by decide +kernel
theorem i_31_39 : ins 31 39 = some (.lload 7, 2) := by decide +kernel
theorem i_31_41 : ins 31 41 = some (.ladd, 1) := by decide +kernel
theorem o_31_1048582_21 : putok 31 1048582 21 = true := by decide +kernel
theorem i_31_42 : ins 31 42 = some (.putfield 348, 3) := by decide +kernel
theorem i_31_45 : ins 31 45 = some (.aload_n 0, 1) := by decide +kernel
theorem i_31_46 : ins 31 46 = some (.dup, 1) := by decide +kernel
theorem f_31_360 : fld 31 360 = some (1048582, 22, 1) := by decide +kernel
theorem i_31_47 : ins 31 47 = some (.getfield 360, 3) := by decide +kernel
theorem i_31_50 : ins 31 50 = some (.ldc2_w 346, 3) := by decide +kernel
theorem i_31_53 : ins 31 53 = some (.lload 5, 2) := by decide +kernel
theorem i_31_55 : ins 31 55 = some (.lmul, 1) := by decide +kernel
theorem i_31_56 : ins 31 56 = some (.ladd, 1) := by decide +kernel
theorem o_31_1048582_22 : putok 31 1048582 22 = true := by decide +kernel
theorem i_31_57 : ins 31 57 = some (.putfield 360, 3) := by decide +kernel
theorem i_31_60 : ins 31 60 = some (.return_, 1) := by decide +kernel
theorem r_31 : mret 31 = 0 := by decide +kernel
theorem i_32_0 : ins 32 0 = some (.lload_n 2, 1) := by decide +kernel
theorem i_32_1 : ins 32 1 = some (.lconst 0, 1) := by decide +kernel
theorem t_3_10 : tg 3 (7) = some 10 := by decide +kernel
theorem i_32_2 : ins 32 2 = some (.lcmp, 1) := by decide +kernel
theorem i_32_3 : ins 32 3 = some (.ifCond .ne 7, 3) := by decide +kernel
theorem i_32_6 : ins 32 6 = some (.lload_n 0, 1) := by decide +kernel
theorem i_32_7 : ins 32 7 = some (.goto 10, 3) := by decide +kernel
theorem t_7_17 : tg 7 (10) = some 17 := by decide +kernel
theorem i_32_10 : ins 32 10 = some (.lload_n 2, 1) := by decide +kernel
theorem i_32_11 : ins 32 11 = some (.lload_n 0, 1) := by decide +kernel
theorem i_32_12 : ins 32 12 = some (.lload_n 2, 1) := by decide +kernel
theorem i_32_13 : ins 32 13 = some (.lrem, 1) := by decide +kernel
theorem v_32_378 : inv 32 378 = some (32, 2, 0, 0) := by decide +kernel
theorem i_32_14 : ins 32 14 = some (.invokestatic 378, 3) := by decide +kernel
theorem i_32_17 : ins 32 17 = some (.lreturn, 1) := by decide +kernel
theorem r_32 : mret 32 = 5 := by decide +kernel
theorem i_33_0 : ins 33 0 = some (.aload_n 0, 1) := by decide +kernel
theorem i_33_1 : ins 33 1 = some (.iload_n 1, 1) := by decide +kernel
theorem i_33_2 : ins 33 2 = some (.iload_n 2, 1) := by decide +kernel
theorem i_33_3 : ins 33 3 = some (.iload_n 3, 1) := by decide +kernel
theorem i_33_4 : ins 33 4 = some (.iload 4, 2) := by decide +kernel
theorem v_33_381 : inv 33 381 = some (29, 4, 1, 1048582) := by decide +kernel
theorem i_33_6 : ins 33 6 = some (.invokevirtual 381, 3) := by decide +kernel
theorem i_33_9 : ins 33 9 = some (.ifCond .ne 5, 3) := by decide +kernel
theorem i_33_12 : ins 33 12 = some (.iconst (-1), 1) := by decide +kernel
theorem r_33 : mret 33 = 1 := by decide +kernel
theorem i_33_13 : ins 33 13 = some (.ireturn, 1) := by decide +kernel
theorem i_33_14 : ins 33 14 = some (.aload_n 0, 1) := by decide +kernel
theorem f_33_105 : fld 33 105 = some (1048582, 18, 2) := by decide +kernel
theorem i_33_15 : ins 33 15 = some (.getfield 105, 3) := by decide +kernel
theorem i_33_18 : ins 33 18 = some (.iload 4, 2) := by decide +kernel
theorem v_33_327 : inv 33 327 = some (70, 1, 1, 4194358) := by decide +kernel
theorem i_33_20 : ins 33 20 = some (.invokevirtual 327, 3) := by decide +kernel
theorem i_33_23 : ins 33 23 = some (.aload_n 0, 1) := by decide +kernel
theorem i_33_24 : ins 33 24 = some (.iload_n 1, 1) := by decide +kernel
theorem i_33_25 : ins 33 25 = some (.iload_n 2, 1) := by decide +kernel
theorem i_33_26 : ins 33 26 = some (.iload_n 3, 1) := by decide +kernel
theorem i_33_27 : ins 33 27 = some (.iconst 0, 1) := by decide +kernel
theorem v_33_386 : inv 33 386 = some (30, 4, 1, 1048582) := by decide +kernel
theorem i_33_28 : ins 33 28 = some (.invokevirtual 386, 3) := by decide +kernel
theorem i_33_31 : ins 33 31 = some (.aload_n 0, 1) := by decide +kernel
theorem f_33_363 : fld 33 363 = some (1048582, 23, 0) := by decide +kernel
theorem i_33_32 : ins 33 32 = some (.getfield 363, 3) := by decide +kernel
theorem i_33_35 : ins 33 35 = some (.ireturn, 1) := by decide +kernel
theorem i_34_0 : ins 34 0 = some (.aload_n 0, 1) := by decide +kernel
theorem i_34_1 : ins 34 1 = some (.iload_n 1, 1) := by decide +kernel
theorem i_34_2 : ins 34 2 = some (.iload_n 2, 1) := by decide +kernel
theorem i_34_3 : ins 34 3 = some (.iload_n 3, 1) := by decide +kernel
theorem i_34_4 : ins 34 4 = some (.iload 5, 2) := by decide +kernel
theorem v_34_381 : inv 34 381 = some (29, 4, 1, 1048582) := by decide +kernel
theorem i_34_6 : ins 34 6 = some (.invokevirtual 381, 3) := by decide +kernel
theorem i_34_9 : ins 34 9 = some (.ifCond .ne 5, 3) := by decide +kernel
theorem i_34_12 : ins 34 12 = some (.iconst (-1), 1) := by decide +kernel
theorem r_34 : mret 34 = 1 := by decide +kernel
theorem i_34_13 : ins 34 13 = some (.ireturn, 1) := by decide +kernel
theorem i_34_14 : ins 34 14 = some (.aload_n 0, 1) := by decide +kernel
theorem f_34_105 : fld 34 105 = some (1048582, 18, 2) := by decide +kernel
theorem i_34_15 : ins 34 15 = some (.getfield 105, 3) := by decide +kernel
theorem i_34_18 : ins 34 18 = some (.iload 5, 2) := by decide +kernel
theorem v_34_327 : inv 34 327 = some (70, 1, 1, 4194358) := by decide +kernel
theorem i_34_20 : ins 34 20 = some (.invokevirtual 327, 3) := by decide +kernel
theorem i_34_23 : ins 34 23 = some (.aload_n 0, 1) := by decide +kernel
theorem f_34_126 : fld 34 126 = some (1048582, 26, 2) := by decide +kernel
theorem i_34_24 : ins 34 24 = some (.getfield 126, 3) := by decide +kernel
theorem i_34_27 : ins 34 27 = some (.iload_n 1, 1) := by decide +kernel
theorem i_34_28 : ins 34 28 = some (.iload_n 2, 1) := by decide +kernel
theorem i_34_29 : ins 34 29 = some (.iload_n 3, 1) := by decide +kernel
theorem i_34_30 : ins 34 30 = some (.iload 4, 2) := by decide +kernel
theorem v_34_394 : inv 34 394 = some (85, 4, 1, 6291542) := by decide +kernel
theorem i_34_32 : ins 34 32 = some (.invokevirtual 394, 3) := by decide +kernel
theorem i_34_35 : ins 34 35 = some (.istore 6, 2) := by decide +kernel
theorem i_34_37 : ins 34 37 = some (.aload_n 0, 1) := by decide +kernel
theorem i_34_38 : ins 34 38 = some (.iconst 1, 1) := by decide +kernel
theorem f_34_398 : fld 34 398 = some (1048582, 27, 5) := by decide +kernel
theorem o_34_1048582_27 : putok 34 1048582 27 = true := by decide +kernel
theorem i_34_39 : ins 34 39 = some (.putfield 398, 3) := by decide +kernel
theorem i_34_42 : ins 34 42 = some (.aload_n 0, 1) := by decide +kernel
theorem i_34_43 : ins 34 43 = some (.aload_n 0, 1) := by decide +kernel
theorem i_34_44 : ins 34 44 = some (.getfield 126, 3) := by decide +kernel
theorem f_34_401 : fld 34 401 = some (6291542, 4, 0) := by decide +kernel
theorem i_34_47 : ins 34 47 = some (.getfield 401, 3) := by decide +kernel
theorem f_34_404 : fld 34 404 = some (1048582, 28, 0) := by decide +kernel
theorem o_34_1048582_28 : putok 34 1048582 28 = true := by decide +kernel
theorem i_34_50 : ins 34 50 = some (.putfield 404, 3) := by decide +kernel
theorem i_34_53 : ins 34 53 = some (.iconst 0, 1) := by decide +kernel
theorem i_34_54 : ins 34 54 = some (.istore 7, 2) := by decide +kernel
theorem i_34_56 : ins 34 56 = some (.iload 7, 2) := by decide +kernel
theorem kI_3 : Int32.ofInt (3) = nI 3 := by decide +kernel
theorem i_34_58 : ins 34 58 = some (.iconst 3, 1) := by decide +kernel
theorem i_34_59 : ins 34 59 = some (.if_icmp .ge 17, 3) := by decide +kernel
theorem t_59_76 : tg 59 (17) = some 76 := by decide +kernel
theorem i_34_62 : ins 34 62 = some (.aload_n 0, 1) := by decide +kernel
theorem f_34_133 : fld 34 133 = some (1048582, 30, 2) := by decide +kernel
theorem i_34_63 : ins 34 63 = some (.getfield 133, 3) := by decide +kernel
theorem i_34_66 : ins 34 66 = some (.iload 7, 2) := by decide +kernel
theorem i_34_68 : ins 34 68 = some (.lconst 0, 1) := by decide +kernel
theorem kl_36700212 : klen 36700212 = 3 := by decide +kernel
theorem i_34_69 : ins 34 69 = some (.lastore, 1) := by decide +kernel
theorem i_34_70 : ins 34 70 = some (.iinc 7 1, 3) := by decide +kernel
theorem i_34_73 : ins 34 73 = some (.goto (-17), 3) := by decide +kernel
theorem t_73_56 : tg 73 (-17) = some 56 := by decide +kernel
theorem i_34_76 : ins 34 76 = some (.iconst 0, 1) := by decide +kernel
theorem i_34_77 : ins 34 77 = some (.istore 7, 2) := by decide +kernel
theorem i_34_79 : ins 34 79 = some (.iload 7, 2) := by decide +kernel
theorem i_34_81 : ins 34 81 = some (.aload_n 0, 1) := by decide +kernel
theorem i_34_82 : ins 34 82 = some (.getfield 404, 3) := by decide +kernel
theorem i_34_85 : ins 34 85 = some (.if_icmp .ge 140, 3) := by decide +kernel
theorem t_85_225 : tg 85 (140) = some 225 := by decide +kernel
theorem i_34_88 : ins 34 88 = some (.aload_n 0, 1) := by decide +kernel
theorem i_34_89 : ins 34 89 = some (.getfield 126, 3) := by decide +kernel
theorem f_34_407 : fld 34 407 = some (6291542, 2, 2) := by decide +kernel
theorem i_34_92 : ins 34 92 = some (.getfield 407, 3) := by decide +kernel
theorem i_34_95 : ins 34 95 = some (.iload 7, 2) := by decide +kernel
theorem kl_73400449 : klen 73400449 = 8 := by decide +kernel
theorem i_34_97 : ins 34 97 = some (.iaload, 1) := by decide +kernel
theorem i_34_98 : ins 34 98 = some (.istore 8, 2) := by decide +kernel
theorem i_34_100 : ins 34 100 = some (.aload_n 0, 1) := by decide +kernel
theorem f_34_130 : fld 34 130 = some (1048582, 29, 2) := by decide +kernel
theorem i_34_101 : ins 34 101 = some (.getfield 130, 3) := by decide +kernel
theorem i_34_104 : ins 34 104 = some (.iload 7, 2) := by decide +kernel
theorem kl_34603141 : klen 34603141 = 8 := by decide +kernel
theorem i_34_106 : ins 34 106 = some (.aaload, 1) := by decide +kernel
theorem i_34_107 : ins 34 107 = some (.iconst 0, 1) := by decide +kernel
theorem i_34_108 : ins 34 108 = some (.aload_n 0, 1) := by decide +kernel
theorem i_34_109 : ins 34 109 = some (.getfield 126, 3) := by decide +kernel
theorem f_34_410 : fld 34 410 = some (6291542, 0, 2) := by decide +kernel
theorem i_34_112 : ins 34 112 = some (.getfield 410, 3) := by decide +kernel
theorem i_34_115 : ins 34 115 = some (.iload 7, 2) := by decide +kernel
theorem kl_71303297 : klen 71303297 = 8 := by decide +kernel
theorem i_34_117 : ins 34 117 = some (.iaload, 1) := by decide +kernel
theorem kl_35651617 : klen 35651617 = 2 := by decide +kernel
theorem i_34_118 : ins 34 118 = some (.iastore, 1) := by decide +kernel
theorem i_34_119 : ins 34 119 = some (.aload_n 0, 1) := by decide +kernel
theorem i_34_120 : ins 34 120 = some (.getfield 130, 3) := by decide +kernel
theorem i_34_123 : ins 34 123 = some (.iload 7, 2) := by decide +kernel
theorem i_34_125 : ins 34 125 = some (.aaload, 1) := by decide +kernel
theorem i_34_126 : ins 34 126 = some (.iconst 1, 1) := by decide +kernel
theorem i_34_127 : ins 34 127 = some (.iload 8, 2) := by decide +kernel
theorem i_34_129 : ins 34 129 = some (.iconst (-1), 1) := by decide +kernel
theorem i_34_130 : ins 34 130 = some (.if_icmp .ne 7, 3) := by decide +kernel
theorem t_130_137 : tg 130 (7) = some 137 := by decide +kernel
theorem i_34_133 : ins 34 133 = some (.iconst (-1), 1) := by decide +kernel
theorem i_34_134 : ins 34 134 = some (.goto 13, 3) := by decide +kernel
theorem t_134_147 : tg 134 (13) = some 147 := by decide +kernel
theorem i_34_137 : ins 34 137 = some (.aload_n 0, 1) := by decide +kernel
theorem i_34_138 : ins 34 138 = some (.getfield 126, 3) := by decide +kernel
theorem f_34_413 : fld 34 413 = some (6291542, 1, 2) := by decide +kernel
theorem i_34_141 : ins 34 141 = some (.getfield 413, 3) := by decide +kernel
theorem i_34_144 : ins 34 144 = some (.iload 8, 2) := by decide +kernel
theorem kl_72351905 : klen 72351905 = 10 := by decide +kernel
theorem i_34_146 : ins 34 146 = some (.iaload, 1) := by decide +kernel
theorem i_34_147 : ins 34 147 = some (.iastore, 1) := by decide +kernel
theorem i_34_148 : ins 34 148 = some (.iload 8, 2) := by decide +kernel
theorem i_34_150 : ins 34 150 = some (.iconst (-1), 1) := by decide +kernel
theorem i_34_151 : ins 34 151 = some (.if_icmp .ne 6, 3) := by decide +kernel
theorem t_151_157 : tg 151 (6) = some 157 := by decide +kernel
theorem i_34_154 : ins 34 154 = some (.goto 65, 3) := by decide +kernel
theorem t_154_219 : tg 154 (65) = some 219 := by decide +kernel
theorem i_34_157 : ins 34 157 = some (.aload_n 0, 1) := by decide +kernel
theorem i_34_158 : ins 34 158 = some (.getfield 133, 3) := by decide +kernel
theorem i_34_161 : ins 34 161 = some (.iconst 0, 1) := by decide +kernel
theorem i_34_162 : ins 34 162 = some (.dup2, 1) := by decide +kernel
theorem i_34_163 : ins 34 163 = some (.laload, 1) := by decide +kernel
theorem i_34_164 : ins 34 164 = some (.aload_n 0, 1) := by decide +kernel
theorem i_34_165 : ins 34 165 = some (.getfield 126, 3) := by decide +kernel
theorem i_34_168 : ins 34 168 = some (.iload 7, 2) := by decide +kernel
theorem i_34_170 : ins 34 170 = some (.iload 8, 2) := by decide +kernel
theorem v_34_416 : inv 34 416 = some (88, 2, 1, 6291542) := by decide +kernel
theorem i_34_172 : ins 34 172 = some (.invokevirtual 416, 3) := by decide +kernel
theorem i_34_175 : ins 34 175 = some (.i2l, 1) := by decide +kernel
theorem i_34_176 : ins 34 176 = some (.ladd, 1) := by decide +kernel
theorem i_34_177 : ins 34 177 = some (.lastore, 1) := by decide +kernel
theorem i_34_178 : ins 34 178 = some (.aload_n 0, 1) := by decide +kernel
theorem i_34_179 : ins 34 179 = some (.getfield 133, 3) := by decide +kernel
theorem i_34_182 : ins 34 182 = some (.iconst 1, 1) := by decide +kernel
theorem i_34_183 : ins 34 183 = some (.dup2, 1) := by decide +kernel
theorem i_34_184 : ins 34 184 = some (.laload, 1) := by decide +kernel
theorem i_34_185 : ins 34 185 = some (.aload_n 0, 1) := by decide +kernel
theorem i_34_186 : ins 34 186 = some (.getfield 126, 3) := by decide +kernel
theorem i_34_189 : ins 34 189 = some (.iload 7, 2) := by decide +kernel
theorem i_34_191 : ins 34 191 = some (.iload 8, 2) := by decide +kernel
theorem v_34_419 : inv 34 419 = some (89, 2, 1, 6291542) := by decide +kernel
theorem i_34_193 : ins 34 193 = some (.invokevirtual 419, 3) := by decide +kernel
theorem i_34_196 : ins 34 196 = some (.i2l, 1) := by decide +kernel
theorem i_34_197 : ins 34 197 = some (.ladd, 1) := by decide +kernel
theorem i_34_198 : ins 34 198 = some (.lastore, 1) := by decide +kernel
theorem i_34_199 : ins 34 199 = some (.aload_n 0, 1) := by decide +kernel
theorem i_34_200 : ins 34 200 = some (.getfield 133, 3) := by decide +kernel
theorem kI_2 : Int32.ofInt (2) = nI 2 := by decide +kernel
theorem i_34_203 : ins 34 203 = some (.iconst 2, 1) := by decide +kernel
theorem i_34_204 : ins 34 204 = some (.dup2, 1) := by decide +kernel
theorem i_34_205 : ins 34 205 = some (.laload, 1) := by decide +kernel
theorem i_34_206 : ins 34 206 = some (.aload_n 0, 1) := by decide +kernel
theorem i_34_207 : ins 34 207 = some (.getfield 126, 3) := by decide +kernel
theorem i_34_210 : ins 34 210 = some (.iload 7, 2) := by decide +kernel
theorem i_34_212 : ins 34 212 = some (.iload 8, 2) := by decide +kernel
theorem v_34_422 : inv 34 422 = some (91, 2, 1, 6291542) := by decide +kernel
theorem i_34_214 : ins 34 214 = some (.invokevirtual 422, 3) := by decide +kernel
theorem i_34_217 : ins 34 217 = some (.ladd, 1) := by decide +kernel
theorem i_34_218 : ins 34 218 = some (.lastore, 1) := by decide +kernel
theorem i_34_219 : ins 34 219 = some (.iinc 7 1, 3) := by decide +kernel
theorem i_34_222 : ins 34 222 = some (.goto (-143), 3) := by decide +kernel
theorem t_222_79 : tg 222 (-143) = some 79 := by decide +kernel
theorem i_34_225 : ins 34 225 = some (.iload 6, 2) := by decide +kernel
theorem i_34_227 : ins 34 227 = some (.ireturn, 1) := by decide +kernel
theorem i_35_0 : ins 35 0 = some (.iload_n 1, 1) := by decide +kernel
theorem i_35_1 : ins 35 1 = some (.i2l, 1) := by decide +kernel
theorem i_35_2 : ins 35 2 = some (.lconst 0, 1) := by decide +kernel
theorem i_35_3 : ins 35 3 = some (.aload_n 0, 1) := by decide +kernel
theorem f_35_404 : fld 35 404 = some (1048582, 28, 0) := by decide +kernel
theorem i_35_4 : ins 35 4 = some (.getfield 404, 3) := by decide +kernel
theorem i_35_7 : ins 35 7 = some (.iconst 1, 1) := by decide +kernel
theorem i_35_8 : ins 35 8 = some (.isub, 1) := by decide +kernel
theorem i_35_9 : ins 35 9 = some (.i2l, 1) := by decide +kernel
theorem v_35_209 : inv 35 209 = some (2, 3, 0, 0) := by decide +kernel
theorem i_35_10 : ins 35 10 = some (.invokestatic 209, 3) := by decide +kernel
theorem i_35_13 : ins 35 13 = some (.ifCond .eq 24, 3) := by decide +kernel
theorem t_13_37 : tg 13 (24) = some 37 := by decide +kernel
theorem i_35_16 : ins 35 16 = some (.iload_n 2, 1) := by decide +kernel
theorem i_35_17 : ins 35 17 = some (.i2l, 1) := by decide +kernel
theorem i_35_18 : ins 35 18 = some (.lconst 0, 1) := by decide +kernel
theorem i_35_19 : ins 35 19 = some (.lconst 1, 1) := by decide +kernel
theorem i_35_20 : ins 35 20 = some (.invokestatic 209, 3) := by decide +kernel
theorem i_35_23 : ins 35 23 = some (.ifCond .eq 14, 3) := by decide +kernel
theorem t_23_37 : tg 23 (14) = some 37 := by decide +kernel
theorem i_35_26 : ins 35 26 = some (.aload_n 0, 1) := by decide +kernel
theorem f_35_130 : fld 35 130 = some (1048582, 29, 2) := by decide +kernel
theorem i_35_27 : ins 35 27 = some (.getfield 130, 3) := by decide +kernel
theorem i_35_30 : ins 35 30 = some (.iload_n 1, 1) := by decide +kernel
theorem i_35_31 : ins 35 31 = some (.aaload, 1) := by decide +kernel
theorem i_35_32 : ins 35 32 = some (.iload_n 2, 1) := by decide +kernel
theorem i_35_33 : ins 35 33 = some (.iaload, 1) := by decide +kernel
theorem i_35_34 : ins 35 34 = some (.goto 4, 3) := by decide +kernel
theorem t_34_38 : tg 34 (4) = some 38 := by decide +kernel
theorem i_35_37 : ins 35 37 = some (.iconst (-1), 1) := by decide +kernel
theorem r_35 : mret 35 = 1 := by decide +kernel
theorem i_35_38 : ins 35 38 = some (.ireturn, 1) := by decide +kernel
theorem i_36_0 : ins 36 0 = some (.aload_n 0, 1) := by decide +kernel
theorem f_36_398 : fld 36 398 = some (1048582, 27, 5) := by decide +kernel
theorem i_36_1 : ins 36 1 = some (.getfield 398, 3) := by decide +kernel
theorem i_36_4 : ins 36 4 = some (.ifCond .eq 24, 3) := by decide +kernel
theorem t_4_28 : tg 4 (24) = some 28 := by decide +kernel
theorem i_36_7 : ins 36 7 = some (.iload_n 1, 1) := by decide +kernel
theorem i_36_8 : ins 36 8 = some (.i2l, 1) := by decide +kernel
theorem i_36_9 : ins 36 9 = some (.lconst 0, 1) := by decide +kernel
theorem l_36_322 : ldcv 36 322 = some (vL (2)) := rfl
theorem i_36_10 : ins 36 10 = some (.ldc2_w 322, 3) := by decide +kernel
theorem v_36_209 : inv 36 209 = some (2, 3, 0, 0) := by decide +kernel
theorem i_36_13 : ins 36 13 = some (.invokestatic 209, 3) := by decide +kernel
theorem i_36_16 : ins 36 16 = some (.ifCond .eq 12, 3) := by decide +kernel
theorem t_16_28 : tg 16 (12) = some 28 := by decide +kernel
theorem i_36_19 : ins 36 19 = some (.aload_n 0, 1) := by decide +kernel
theorem f_36_133 : fld 36 133 = some (1048582, 30, 2) := by decide +kernel
theorem i_36_20 : ins 36 20 = some (.getfield 133, 3) := by decide +kernel
theorem i_36_23 : ins 36 23 = some (.iload_n 1, 1) := by decide +kernel
theorem i_36_24 : ins 36 24 = some (.laload, 1) := by decide +kernel
theorem i_36_25 : ins 36 25 = some (.goto 6, 3) := by decide +kernel
theorem t_25_31 : tg 25 (6) = some 31 := by decide +kernel
theorem l_36_384 : ldcv 36 384 = some (vL (-9000000000000000000)) := rfl
theorem i_36_28 : ins 36 28 = some (.ldc2_w 384, 3) := by decide +kernel
theorem i_36_31 : ins 36 31 = some (.lreturn, 1) := by decide +kernel
theorem r_36 : mret 36 = 5 := by decide +kernel
theorem i_37_0 : ins 37 0 = some (.aload_n 0, 1) := by decide +kernel
theorem i_37_1 : ins 37 1 = some (.iload_n 1, 1) := by decide +kernel
theorem v_37_227 : inv 37 227 = some (7, 1, 1, 1048582) := by decide +kernel
theorem i_37_2 : ins 37 2 = some (.invokevirtual 227, 3) := by decide +kernel
theorem i_37_5 : ins 37 5 = some (.ifCond .eq 60, 3) := by decide +kernel
theorem t_5_65 : tg 5 (60) = some 65 := by decide +kernel
theorem i_37_8 : ins 37 8 = some (.aload_n 0, 1) := by decide +kernel
theorem f_37_141 : fld 37 141 = some (1048582, 32, 2) := by decide +kernel
theorem i_37_9 : ins 37 9 = some (.getfield 141, 3) := by decide +kernel
theorem i_37_12 : ins 37 12 = some (.iload_n 1, 1) := by decide +kernel
theorem i_37_13 : ins 37 13 = some (.iaload, 1) := by decide +kernel
theorem i_37_14 : ins 37 14 = some (.bipush 10, 2) := by decide +kernel
theorem i_37_16 : ins 37 16 = some (.if_icmp .eq 49, 3) := by decide +kernel
theorem t_16_65 : tg 16 (49) = some 65 := by decide +kernel
theorem i_37_19 : ins 37 19 = some (.iload_n 3, 1) := by decide +kernel
theorem i_37_20 : ins 37 20 = some (.i2l, 1) := by decide +kernel
theorem i_37_21 : ins 37 21 = some (.lconst 1, 1) := by decide +kernel
theorem l_37_426 : ldcv 37 426 = some (vL (65535)) := rfl
theorem i_37_22 : ins 37 22 = some (.ldc2_w 426, 3) := by decide +kernel
theorem v_37_209 : inv 37 209 = some (2, 3, 0, 0) := by decide +kernel
theorem i_37_25 : ins 37 25 = some (.invokestatic 209, 3) := by decide +kernel
theorem i_37_28 : ins 37 28 = some (.ifCond .eq 37, 3) := by decide +kernel
theorem t_28_65 : tg 28 (37) = some 65 := by decide +kernel
theorem i_37_31 : ins 37 31 = some (.iload 5, 2) := by decide +kernel
theorem v_37_230 : inv 37 230 = some (8, 1, 0, 0) := by decide +kernel
theorem i_37_33 : ins 37 33 = some (.invokestatic 230, 3) := by decide +kernel
theorem i_37_36 : ins 37 36 = some (.ifCond .eq 29, 3) := by decide +kernel
theorem t_36_65 : tg 36 (29) = some 65 := by decide +kernel
theorem i_37_39 : ins 37 39 = some (.iload 4, 2) := by decide +kernel
theorem i_37_41 : ins 37 41 = some (.i2l, 1) := by decide +kernel
theorem i_37_42 : ins 37 42 = some (.lconst 0, 1) := by decide +kernel
theorem i_37_43 : ins 37 43 = some (.iload 5, 2) := by decide +kernel
theorem i_37_45 : ins 37 45 = some (.i2l, 1) := by decide +kernel
theorem i_37_46 : ins 37 46 = some (.invokestatic 209, 3) := by decide +kernel
theorem i_37_49 : ins 37 49 = some (.ifCond .eq 16, 3) := by decide +kernel
theorem t_49_65 : tg 49 (16) = some 65 := by decide +kernel
theorem i_37_52 : ins 37 52 = some (.iload 6, 2) := by decide +kernel
theorem i_37_54 : ins 37 54 = some (.i2l, 1) := by decide +kernel
theorem i_37_55 : ins 37 55 = some (.lconst 0, 1) := by decide +kernel
theorem l_37_428 : ldcv 37 428 = some (vL (99999)) := rfl
theorem i_37_56 : ins 37 56 = some (.ldc2_w 428, 3) := by decide +kernel
theorem i_37_59 : ins 37 59 = some (.invokestatic 209, 3) := by decide +kernel
theorem i_37_62 : ins 37 62 = some (.ifCond .ne 5, 3) := by decide +kernel
theorem i_37_65 : ins 37 65 = some (.iconst (-1), 1) := by decide +kernel
theorem r_37 : mret 37 = 1 := by decide +kernel
theorem i_37_66 : ins 37 66 = some (.ireturn, 1) := by decide +kernel
theorem i_37_67 : ins 37 67 = some (.aload_n 0, 1) := by decide +kernel
theorem f_37_138 : fld 37 138 = some (1048582, 31, 2) := by decide +kernel
theorem i_37_68 : ins 37 68 = some (.getfield 138, 3) := by decide +kernel
theorem i_37_71 : ins 37 71 = some (.iload_n 1, 1) := by decide +kernel
theorem i_37_72 : ins 37 72 = some (.aaload, 1) := by decide +kernel
theorem i_37_73 : ins 37 73 = some (.aload_n 0, 1) := by decide +kernel
theorem i_37_74 : ins 37 74 = some (.getfield 141, 3) := by decide +kernel
theorem i_37_77 : ins 37 77 = some (.iload_n 1, 1) := by decide +kernel
theorem i_37_78 : ins 37 78 = some (.iaload, 1) := by decide +kernel
theorem n_37_430 : newk 37 430 = some (18874678, 5) := by decide +kernel
theorem i_37_79 : ins 37 79 = some (.new 430, 3) := by decide +kernel
theorem i_37_82 : ins 37 82 = some (.dup, 1) := by decide +kernel
theorem i_37_83 : ins 37 83 = some (.iload_n 2, 1) := by decide +kernel
theorem i_37_84 : ins 37 84 = some (.iload_n 3, 1) := by decide +kernel
theorem i_37_85 : ins 37 85 = some (.iload 4, 2) := by decide +kernel
theorem i_37_87 : ins 37 87 = some (.iload 5, 2) := by decide +kernel
theorem i_37_89 : ins 37 89 = some (.iload 6, 2) := by decide +kernel
theorem v_37_432 : inv 37 432 = some (240, 5, 2, 0) := by decide +kernel
theorem i_37_91 : ins 37 91 = some (.invokespecial 432, 3) := by decide +kernel
theorem eo_38797477 : elob 38797477 = true := by decide +kernel
theorem i_37_94 : ins 37 94 = some (.aastore, 1) := by decide +kernel
theorem i_37_95 : ins 37 95 = some (.aload_n 0, 1) := by decide +kernel
theorem i_37_96 : ins 37 96 = some (.getfield 141, 3) := by decide +kernel
theorem i_37_99 : ins 37 99 = some (.iload_n 1, 1) := by decide +kernel
theorem i_37_100 : ins 37 100 = some (.dup2, 1) := by decide +kernel
theorem i_37_101 : ins 37 101 = some (.iaload, 1) := by decide +kernel
theorem i_37_102 : ins 37 102 = some (.iconst 1, 1) := by decide +kernel
theorem i_37_103 : ins 37 103 = some (.iadd, 1) := by decide +kernel
theorem i_37_104 : ins 37 104 = some (.iastore, 1) := by decide +kernel
theorem i_37_105 : ins 37 105 = some (.aload_n 0, 1) := by decide +kernel
theorem i_37_106 : ins 37 106 = some (.getfield 141, 3) := by decide +kernel
theorem i_37_109 : ins 37 109 = some (.iload_n 1, 1) := by decide +kernel
theorem i_37_110 : ins 37 110 = some (.iaload, 1) := by decide +kernel
theorem i_37_111 : ins 37 111 = some (.iconst 1, 1) := by decide +kernel
theorem i_37_112 : ins 37 112 = some (.isub, 1) := by decide +kernel
theorem i_37_113 : ins 37 113 = some (.ireturn, 1) := by decide +kernel
theorem i_38_0 : ins 38 0 = some (.aload_n 0, 1) := by decide +kernel
theorem i_38_1 : ins 38 1 = some (.iload_n 1, 1) := by decide +kernel
theorem v_38_227 : inv 38 227 = some (7, 1, 1, 1048582) := by decide +kernel
theorem i_38_2 : ins 38 2 = some (.invokevirtual 227, 3) := by decide +kernel
theorem i_38_5 : ins 38 5 = some (.ifCond .eq 19, 3) := by decide +kernel
theorem t_5_24 : tg 5 (19) = some 24 := by decide +kernel
theorem i_38_8 : ins 38 8 = some (.iload_n 2, 1) := by decide +kernel
theorem v_38_250 : inv 38 250 = some (10, 1, 0, 0) := by decide +kernel
theorem i_38_9 : ins 38 9 = some (.invokestatic 250, 3) := by decide +kernel
theorem i_38_12 : ins 38 12 = some (.ifCond .eq 12, 3) := by decide +kernel
theorem t_12_24 : tg 12 (12) = some 24 := by decide +kernel
theorem i_38_15 : ins 38 15 = some (.aload_n 0, 1) := by decide +kernel
theorem i_38_16 : ins 38 16 = some (.iload_n 1, 1) := by decide +kernel
theorem i_38_17 : ins 38 17 = some (.iload_n 2, 1) := by decide +kernel
theorem v_38_442 : inv 38 442 = some (24, 2, 1, 1048582) := by decide +kernel
theorem i_38_18 : ins 38 18 = some (.invokevirtual 442, 3) := by decide +kernel
theorem i_38_21 : ins 38 21 = some (.goto 4, 3) := by decide +kernel
theorem t_21_25 : tg 21 (4) = some 25 := by decide +kernel
theorem i_38_24 : ins 38 24 = some (.iconst (-1), 1) := by decide +kernel
theorem r_38 : mret 38 = 1 := by decide +kernel
theorem i_38_25 : ins 38 25 = some (.ireturn, 1) := by decide +kernel
theorem i_39_0 : ins 39 0 = some (.aload_n 0, 1) := by decide +kernel
theorem i_39_1 : ins 39 1 = some (.iload_n 1, 1) := by decide +kernel
theorem v_39_227 : inv 39 227 = some (7, 1, 1, 1048582) := by decide +kernel
theorem i_39_2 : ins 39 2 = some (.invokevirtual 227, 3) := by decide +kernel
theorem i_39_5 : ins 39 5 = some (.ifCond .eq 10, 3) := by decide +kernel
theorem t_5_15 : tg 5 (10) = some 15 := by decide +kernel
theorem i_39_8 : ins 39 8 = some (.iload_n 2, 1) := by decide +kernel
theorem v_39_250 : inv 39 250 = some (10, 1, 0, 0) := by decide +kernel
theorem i_39_9 : ins 39 9 = some (.invokestatic 250, 3) := by decide +kernel
theorem i_39_12 : ins 39 12 = some (.ifCond .ne 5, 3) := by decide +kernel
theorem t_12_17 : tg 12 (5) = some 17 := by decide +kernel
theorem i_39_15 : ins 39 15 = some (.iconst (-1), 1) := by decide +kernel
theorem r_39 : mret 39 = 1 := by decide +kernel
theorem i_39_16 : ins 39 16 = some (.ireturn, 1) := by decide +kernel
theorem i_39_17 : ins 39 17 = some (.aload_n 0, 1) := by decide +kernel
theorem i_39_18 : ins 39 18 = some (.iload_n 1, 1) := by decide +kernel
theorem i_39_19 : ins 39 19 = some (.iload_n 2, 1) := by decide +kernel
theorem v_39_442 : inv 39 442 = some (24, 2, 1, 1048582) := by decide +kernel
theorem i_39_20 : ins 39 20 = some (.invokevirtual 442, 3) := by decide +kernel
theorem i_39_23 : ins 39 23 = some (.pop, 1) := by decide +kernel
theorem i_39_24 : ins 39 24 = some (.iconst 0, 1) := by decide +kernel
theorem i_39_25 : ins 39 25 = some (.istore_n 3, 1) := by decide +kernel
theorem i_39_26 : ins 39 26 = some (.iconst 0, 1) := by decide +kernel
theorem i_39_27 : ins 39 27 = some (.istore 4, 2) := by decide +kernel
theorem i_39_29 : ins 39 29 = some (.iload 4, 2) := by decide +kernel
theorem i_39_31 : ins 39 31 = some (.aload_n 0, 1) := by decide +kernel
theorem f_39_257 : fld 39 257 = some (1048582, 8, 0) := by decide +kernel
theorem i_39_32 : ins 39 32 = some (.getfield 257, 3) := by decide +kernel
theorem i_39_35 : ins 39 35 = some (.if_icmp .ge 57, 3) := by decide +kernel
theorem t_35_92 : tg 35 (57) = some 92 := by decide +kernel
theorem i_39_38 : ins 39 38 = some (.iload_n 3, 1) := by decide +kernel
theorem kB_30 : (Int8.ofInt (30)).toInt32 = nI 30 := by decide +kernel
theorem i_39_39 : ins 39 39 = some (.bipush 30, 2) := by decide +kernel
theorem i_39_41 : ins 39 41 = some (.if_icmp .ge 51, 3) := by decide +kernel
theorem t_41_92 : tg 41 (51) = some 92 := by decide +kernel
theorem i_39_44 : ins 39 44 = some (.aload_n 0, 1) := by decide +kernel
theorem f_39_26 : fld 39 26 = some (1048582, 6, 2) := by decide +kernel
theorem i_39_45 : ins 39 45 = some (.getfield 26, 3) := by decide +kernel
theorem i_39_48 : ins 39 48 = some (.iload 4, 2) := by decide +kernel
theorem i_39_50 : ins 39 50 = some (.aaload, 1) := by decide +kernel
theorem f_39_436 : fld 39 436 = some (9437318, 0, 0) := by decide +kernel
theorem i_39_51 : ins 39 51 = some (.getfield 436, 3) := by decide +kernel
theorem i_39_54 : ins 39 54 = some (.iload_n 1, 1) := by decide +kernel
theorem i_39_55 : ins 39 55 = some (.if_icmp .ne 31, 3) := by decide +kernel
theorem t_55_86 : tg 55 (31) = some 86 := by decide +kernel
theorem i_39_58 : ins 39 58 = some (.aload_n 0, 1) := by decide +kernel
theorem i_39_59 : ins 39 59 = some (.getfield 26, 3) := by decide +kernel
theorem i_39_62 : ins 39 62 = some (.iload 4, 2) := by decide +kernel
theorem i_39_64 : ins 39 64 = some (.aaload, 1) := by decide +kernel
theorem i_39_65 : ins 39 65 = some (.iload_n 2, 1) := by decide +kernel
theorem v_39_324 : inv 39 324 = some (200, 1, 1, 9437318) := by decide +kernel
theorem i_39_66 : ins 39 66 = some (.invokevirtual 324, 3) := by decide +kernel
theorem i_39_69 : ins 39 69 = some (.ifCond .ne 6, 3) := by decide +kernel
theorem t_69_75 : tg 69 (6) = some 75 := by decide +kernel
theorem i_39_72 : ins 39 72 = some (.goto 14, 3) := by decide +kernel
theorem t_72_86 : tg 72 (14) = some 86 := by decide +kernel
theorem i_39_75 : ins 39 75 = some (.aload_n 0, 1) := by decide +kernel
theorem f_39_144 : fld 39 144 = some (1048582, 33, 2) := by decide +kernel
theorem i_39_76 : ins 39 76 = some (.getfield 144, 3) := by decide +kernel
theorem i_39_79 : ins 39 79 = some (.iload_n 3, 1) := by decide +kernel
theorem i_39_80 : ins 39 80 = some (.iload 4, 2) := by decide +kernel
theorem kl_40894945 : klen 40894945 = 30 := by decide +kernel
theorem i_39_82 : ins 39 82 = some (.iastore, 1) := by decide +kernel
theorem i_39_83 : ins 39 83 = some (.iinc 3 1, 3) := by decide +kernel
theorem i_39_86 : ins 39 86 = some (.iinc 4 1, 3) := by decide +kernel
theorem i_39_89 : ins 39 89 = some (.goto (-60), 3) := by decide +kernel
theorem t_89_29 : tg 89 (-60) = some 29 := by decide +kernel
theorem i_39_92 : ins 39 92 = some (.iconst 0, 1) := by decide +kernel
theorem i_39_93 : ins 39 93 = some (.istore 4, 2) := by decide +kernel
theorem i_39_95 : ins 39 95 = some (.iload 4, 2) := by decide +kernel
theorem i_39_97 : ins 39 97 = some (.iconst 3, 1) := by decide +kernel
theorem i_39_98 : ins 39 98 = some (.if_icmp .gt 49, 3) := by decide +kernel
theorem t_98_147 : tg 98 (49) = some 147 := by decide +kernel
theorem i_39_101 : ins 39 101 = some (.aload_n 0, 1) := by decide +kernel
theorem i_39_102 : ins 39 102 = some (.iload_n 1, 1) := by decide +kernel
theorem i_39_103 : ins 39 103 = some (.iload_n 3, 1) := by decide +kernel
theorem i_39_104 : ins 39 104 = some (.iconst 0, 1) := by decide +kernel
theorem i_39_105 : ins 39 105 = some (.iconst 0, 1) := by decide +kernel
theorem i_39_106 : ins 39 106 = some (.iload 4, 2) := by decide +kernel
theorem v_39_449 : inv 39 449 = some (40, 5, 1, 1048582) := by decide +kernel
theorem i_39_108 : ins 39 108 = some (.invokevirtual 449, 3) := by decide +kernel
theorem i_39_111 : ins 39 111 = some (.ifCond .ne 6, 3) := by decide +kernel
theorem t_111_117 : tg 111 (6) = some 117 := by decide +kernel
theorem i_39_114 : ins 39 114 = some (.goto 27, 3) := by decide +kernel
theorem t_114_141 : tg 114 (27) = some 141 := by decide +kernel
theorem i_39_117 : ins 39 117 = some (.aload_n 0, 1) := by decide +kernel
theorem i_39_118 : ins 39 118 = some (.iload 4, 2) := by decide +kernel
theorem f_39_453 : fld 39 453 = some (1048582, 37, 0) := by decide +kernel
theorem o_39_1048582_37 : putok 39 1048582 37 = true := by decide +kernel
theorem i_39_120 : ins 39 120 = some (.putfield 453, 3) := by decide +kernel
theorem i_39_123 : ins 39 123 = some (.aload_n 0, 1) := by decide +kernel
theorem f_39_147 : fld 39 147 = some (1048582, 34, 2) := by decide +kernel
theorem i_39_124 : ins 39 124 = some (.getfield 147, 3) := by decide +kernel
theorem i_39_127 : ins 39 127 = some (.iconst 0, 1) := by decide +kernel
theorem i_39_128 : ins 39 128 = some (.aload_n 0, 1) := by decide +kernel
theorem f_39_150 : fld 39 150 = some (1048582, 35, 2) := by decide +kernel
theorem i_39_129 : ins 39 129 = some (.getfield 150, 3) := by decide +kernel
theorem i_39_132 : ins 39 132 = some (.iconst 0, 1) := by decide +kernel
theorem i_39_133 : ins 39 133 = some (.iload 4, 2) := by decide +kernel
theorem v_39_456 : inv 39 456 = some (0, 5, 5, 0) := by decide +kernel
theorem i_39_135 : ins 39 135 = some (.invokestatic 456, 3) := by decide +kernel
theorem kl_41943089 : klen 41943089 = 3 := by decide +kernel
theorem kl_42991665 : klen 42991665 = 3 := by decide +kernel
theorem i_39_138 : ins 39 138 = some (.iload 4, 2) := by decide +kernel
theorem i_39_140 : ins 39 140 = some (.ireturn, 1) := by decide +kernel
theorem i_39_141 : ins 39 141 = some (.iinc 4 1, 3) := by decide +kernel
theorem i_39_144 : ins 39 144 = some (.goto (-49), 3) := by decide +kernel
theorem t_144_95 : tg 144 (-49) = some 95 := by decide +kernel
theorem i_39_147 : ins 39 147 = some (.bipush (-2), 2) := by decide +kernel
theorem i_39_149 : ins 39 149 = some (.ireturn, 1) := by decide +kernel
theorem i_40_0 : ins 40 0 = some (.iload 4, 2) := by decide +kernel
theorem i_40_2 : ins 40 2 = some (.iload 5, 2) := by decide +kernel
theorem i_40_4 : ins 40 4 = some (.if_icmp .ne 11, 3) := by decide +kernel
theorem t_4_15 : tg 4 (11) = some 15 := by decide +kernel
theorem i_40_7 : ins 40 7 = some (.aload_n 0, 1) := by decide +kernel
theorem i_40_8 : ins 40 8 = some (.iload_n 1, 1) := by decide +kernel
theorem i_40_9 : ins 40 9 = some (.iload 5, 2) := by decide +kernel
theorem v_40_445 : inv 40 445 = some (41, 2, 1, 1048582) := by decide +kernel
theorem i_40_11 : ins 40 11 = some (.invokevirtual 445, 3) := by decide +kernel
theorem r_40 : mret 40 = 2 := by decide +kernel
theorem i_40_14 : ins 40 14 = some (.ireturn, 1) := by decide +kernel
theorem i_40_15 : ins 40 15 = some (.iload_n 3, 1) := by decide +kernel
theorem i_40_16 : ins 40 16 = some (.istore 6, 2) := by decide +kernel
theorem i_40_18 : ins 40 18 = some (.iload 6, 2) := by decide +kernel
theorem i_40_20 : ins 40 20 = some (.iload_n 2, 1) := by decide +kernel
theorem i_40_21 : ins 40 21 = some (.if_icmp .ge 44, 3) := by decide +kernel
theorem t_21_65 : tg 21 (44) = some 65 := by decide +kernel
theorem i_40_24 : ins 40 24 = some (.aload_n 0, 1) := by decide +kernel
theorem f_40_147 : fld 40 147 = some (1048582, 34, 2) := by decide +kernel
theorem i_40_25 : ins 40 25 = some (.getfield 147, 3) := by decide +kernel
theorem i_40_28 : ins 40 28 = some (.iload 4, 2) := by decide +kernel
theorem i_40_30 : ins 40 30 = some (.aload_n 0, 1) := by decide +kernel
theorem f_40_144 : fld 40 144 = some (1048582, 33, 2) := by decide +kernel
theorem i_40_31 : ins 40 31 = some (.getfield 144, 3) := by decide +kernel
theorem i_40_34 : ins 40 34 = some (.iload 6, 2) := by decide +kernel
theorem i_40_36 : ins 40 36 = some (.iaload, 1) := by decide +kernel
theorem i_40_37 : ins 40 37 = some (.iastore, 1) := by decide +kernel
theorem i_40_38 : ins 40 38 = some (.aload_n 0, 1) := by decide +kernel
theorem i_40_39 : ins 40 39 = some (.iload_n 1, 1) := by decide +kernel
theorem i_40_40 : ins 40 40 = some (.iload_n 2, 1) := by decide +kernel
theorem i_40_41 : ins 40 41 = some (.iload 6, 2) := by decide +kernel
theorem i_40_43 : ins 40 43 = some (.iconst 1, 1) := by decide +kernel
theorem i_40_44 : ins 40 44 = some (.iadd, 1) := by decide +kernel
theorem i_40_45 : ins 40 45 = some (.iload 4, 2) := by decide +kernel
theorem i_40_47 : ins 40 47 = some (.iconst 1, 1) := by decide +kernel
theorem i_40_48 : ins 40 48 = some (.iadd, 1) := by decide +kernel
theorem i_40_49 : ins 40 49 = some (.iload 5, 2) := by decide +kernel
theorem v_40_449 : inv 40 449 = some (40, 5, 1, 1048582) := by decide +kernel
theorem i_40_51 : ins 40 51 = some (.invokevirtual 449, 3) := by decide +kernel
theorem i_40_54 : ins 40 54 = some (.ifCond .eq 5, 3) := by decide +kernel
theorem t_54_59 : tg 54 (5) = some 59 := by decide +kernel
theorem i_40_57 : ins 40 57 = some (.iconst 1, 1) := by decide +kernel
theorem i_40_58 : ins 40 58 = some (.ireturn, 1) := by decide +kernel
theorem i_40_59 : ins 40 59 = some (.iinc 6 1, 3) := by decide +kernel
theorem i_40_62 : ins 40 62 = some (.goto (-44), 3) := by decide +kernel
theorem t_62_18 : tg 62 (-44) = some 18 := by decide +kernel
theorem i_40_65 : ins 40 65 = some (.iconst 0, 1) := by decide +kernel
theorem i_40_66 : ins 40 66 = some (.ireturn, 1) := by decide +kernel
theorem i_41_0 : ins 41 0 = some (.iconst 0, 1) := by decide +kernel
theorem i_41_1 : ins 41 1 = some (.istore_n 3, 1) := by decide +kernel
theorem i_41_2 : ins 41 2 = some (.iload_n 3, 1) := by decide +kernel
theorem i_41_3 : ins 41 3 = some (.aload_n 0, 1) := by decide +kernel
theorem f_41_141 : fld 41 141 = some (1048582, 32, 2) := by decide +kernel
theorem i_41_4 : ins 41 4 = some (.getfield 141, 3) := by decide +kernel
theorem i_41_7 : ins 41 7 = some (.iload_n 1, 1) := by decide +kernel
theorem i_41_8 : ins 41 8 = some (.iaload, 1) := by decide +kernel
theorem i_41_9 : ins 41 9 = some (.if_icmp .ge 67, 3) := by decide +kernel
theorem t_9_76 : tg 9 (67) = some 76 := by decide +kernel
theorem i_41_12 : ins 41 12 = some (.aload_n 0, 1) := by decide +kernel
theorem f_41_153 : fld 41 153 = some (1048582, 36, 2) := by decide +kernel
theorem i_41_13 : ins 41 13 = some (.getfield 153, 3) := by decide +kernel
theorem i_41_16 : ins 41 16 = some (.iload_n 3, 1) := by decide +kernel
theorem i_41_17 : ins 41 17 = some (.iaload, 1) := by decide +kernel
theorem i_41_18 : ins 41 18 = some (.istore 4, 2) := by decide +kernel
theorem i_41_20 : ins 41 20 = some (.iconst 0, 1) := by decide +kernel
theorem i_41_21 : ins 41 21 = some (.istore 5, 2) := by decide +kernel
theorem i_41_23 : ins 41 23 = some (.iload 5, 2) := by decide +kernel
theorem i_41_25 : ins 41 25 = some (.iload_n 2, 1) := by decide +kernel
theorem i_41_26 : ins 41 26 = some (.if_icmp .ge 37, 3) := by decide +kernel
theorem t_26_63 : tg 26 (37) = some 63 := by decide +kernel
theorem i_41_29 : ins 41 29 = some (.iload 4, 2) := by decide +kernel
theorem i_41_31 : ins 41 31 = some (.aload_n 0, 1) := by decide +kernel
theorem f_41_138 : fld 41 138 = some (1048582, 31, 2) := by decide +kernel
theorem i_41_32 : ins 41 32 = some (.getfield 138, 3) := by decide +kernel
theorem i_41_35 : ins 41 35 = some (.iload_n 1, 1) := by decide +kernel
theorem i_41_36 : ins 41 36 = some (.aaload, 1) := by decide +kernel
theorem i_41_37 : ins 41 37 = some (.iload_n 3, 1) := by decide +kernel
theorem i_41_38 : ins 41 38 = some (.aaload, 1) := by decide +kernel
theorem i_41_39 : ins 41 39 = some (.aload_n 0, 1) := by decide +kernel
theorem f_41_26 : fld 41 26 = some (1048582, 6, 2) := by decide +kernel
theorem i_41_40 : ins 41 40 = some (.getfield 26, 3) := by decide +kernel
theorem i_41_43 : ins 41 43 = some (.aload_n 0, 1) := by decide +kernel
theorem f_41_147 : fld 41 147 = some (1048582, 34, 2) := by decide +kernel
theorem i_41_44 : ins 41 44 = some (.getfield 147, 3) := by decide +kernel
theorem i_41_47 : ins 41 47 = some (.iload 5, 2) := by decide +kernel
theorem i_41_49 : ins 41 49 = some (.iaload, 1) := by decide +kernel
theorem i_41_50 : ins 41 50 = some (.aaload, 1) := by decide +kernel
theorem v_41_437 : inv 41 437 = some (239, 1, 1, 18874678) := by decide +kernel
theorem i_41_51 : ins 41 51 = some (.invokevirtual 437, 3) := by decide +kernel
theorem i_41_54 : ins 41 54 = some (.isub, 1) := by decide +kernel
theorem i_41_55 : ins 41 55 = some (.istore 4, 2) := by decide +kernel
theorem i_41_57 : ins 41 57 = some (.iinc 5 1, 3) := by decide +kernel
theorem i_41_60 : ins 41 60 = some (.goto (-37), 3) := by decide +kernel
theorem t_60_23 : tg 60 (-37) = some 23 := by decide +kernel
theorem i_41_63 : ins 41 63 = some (.iload 4, 2) := by decide +kernel
theorem i_41_65 : ins 41 65 = some (.ifCond .eq 5, 3) := by decide +kernel
theorem t_65_70 : tg 65 (5) = some 70 := by decide +kernel
theorem i_41_68 : ins 41 68 = some (.iconst 0, 1) := by decide +kernel
theorem r_41 : mret 41 = 2 := by decide +kernel
theorem i_41_69 : ins 41 69 = some (.ireturn, 1) := by decide +kernel
theorem i_41_70 : ins 41 70 = some (.iinc 3 1, 3) := by decide +kernel
theorem i_41_73 : ins 41 73 = some (.goto (-71), 3) := by decide +kernel
theorem t_73_2 : tg 73 (-71) = some 2 := by decide +kernel
theorem i_41_76 : ins 41 76 = some (.iconst 1, 1) := by decide +kernel
theorem i_41_77 : ins 41 77 = some (.ireturn, 1) := by decide +kernel
theorem i_42_0 : ins 42 0 = some (.iload_n 1, 1) := by decide +kernel
theorem i_42_1 : ins 42 1 = some (.i2l, 1) := by decide +kernel
theorem i_42_2 : ins 42 2 = some (.lconst 0, 1) := by decide +kernel
theorem i_42_3 : ins 42 3 = some (.aload_n 0, 1) := by decide +kernel
theorem f_42_453 : fld 42 453 = some (1048582, 37, 0) := by decide +kernel
theorem i_42_4 : ins 42 4 = some (.getfield 453, 3) := by decide +kernel
theorem i_42_7 : ins 42 7 = some (.iconst 1, 1) := by decide +kernel
theorem i_42_8 : ins 42 8 = some (.isub, 1) := by decide +kernel
theorem i_42_9 : ins 42 9 = some (.i2l, 1) := by decide +kernel
theorem v_42_209 : inv 42 209 = some (2, 3, 0, 0) := by decide +kernel
theorem i_42_10 : ins 42 10 = some (.invokestatic 209, 3) := by decide +kernel
theorem i_42_13 : ins 42 13 = some (.ifCond .eq 12, 3) := by decide +kernel
theorem t_13_25 : tg 13 (12) = some 25 := by decide +kernel
theorem i_42_16 : ins 42 16 = some (.aload_n 0, 1) := by decide +kernel
theorem f_42_150 : fld 42 150 = some (1048582, 35, 2) := by decide +kernel
theorem i_42_17 : ins 42 17 = some (.getfield 150, 3) := by decide +kernel
theorem i_42_20 : ins 42 20 = some (.iload_n 1, 1) := by decide +kernel
theorem i_42_21 : ins 42 21 = some (.iaload, 1) := by decide +kernel
theorem i_42_22 : ins 42 22 = some (.goto 4, 3) := by decide +kernel
theorem t_22_26 : tg 22 (4) = some 26 := by decide +kernel
theorem i_42_25 : ins 42 25 = some (.iconst (-1), 1) := by decide +kernel
theorem r_42 : mret 42 = 1 := by decide +kernel
theorem i_42_26 : ins 42 26 = some (.ireturn, 1) := by decide +kernel
theorem i_43_0 : ins 43 0 = some (.aload_n 0, 1) := by decide +kernel
theorem f_43_462 : fld 43 462 = some (1048582, 40, 0) := by decide +kernel
theorem i_43_1 : ins 43 1 = some (.getfield 462, 3) := by decide +kernel
theorem kB_100 : (Int8.ofInt (100)).toInt32 = nI 100 := by decide +kernel
theorem i_43_4 : ins 43 4 = some (.bipush 100, 2) := by decide +kernel
theorem i_43_6 : ins 43 6 = some (.if_icmp .eq 44, 3) := by decide +kernel
theorem t_6_50 : tg 6 (44) = some 50 := by decide +kernel
theorem i_43_9 : ins 43 9 = some (.iload_n 1, 1) := by decide +kernel
theorem i_43_10 : ins 43 10 = some (.i2l, 1) := by decide +kernel
theorem i_43_11 : ins 43 11 = some (.lconst 0, 1) := by decide +kernel
theorem l_43_216 : ldcv 43 216 = some (vL (7)) := rfl
theorem i_43_12 : ins 43 12 = some (.ldc2_w 216, 3) := by decide +kernel
theorem v_43_209 : inv 43 209 = some (2, 3, 0, 0) := by decide +kernel
theorem i_43_15 : ins 43 15 = some (.invokestatic 209, 3) := by decide +kernel
theorem i_43_18 : ins 43 18 = some (.ifCond .eq 32, 3) := by decide +kernel
theorem t_18_50 : tg 18 (32) = some 50 := by decide +kernel
theorem i_43_21 : ins 43 21 = some (.iload_n 2, 1) := by decide +kernel
theorem i_43_22 : ins 43 22 = some (.i2l, 1) := by decide +kernel
theorem i_43_23 : ins 43 23 = some (.lconst 0, 1) := by decide +kernel
theorem i_43_24 : ins 43 24 = some (.ldc2_w 216, 3) := by decide +kernel
theorem i_43_27 : ins 43 27 = some (.invokestatic 209, 3) := by decide +kernel
theorem i_43_30 : ins 43 30 = some (.ifCond .eq 20, 3) := by decide +kernel
theorem t_30_50 : tg 30 (20) = some 50 := by decide +kernel
theorem i_43_33 : ins 43 33 = some (.iload_n 1, 1) := by decide +kernel
theorem i_43_34 : ins 43 34 = some (.iload_n 2, 1) := by decide +kernel
theorem i_43_35 : ins 43 35 = some (.if_icmp .eq 15, 3) := by decide +kernel
theorem t_35_50 : tg 35 (15) = some 50 := by decide +kernel
theorem i_43_38 : ins 43 38 = some (.iload_n 3, 1) := by decide +kernel
theorem i_43_39 : ins 43 39 = some (.i2l, 1) := by decide +kernel
theorem i_43_40 : ins 43 40 = some (.lconst 1, 1) := by decide +kernel
theorem l_43_428 : ldcv 43 428 = some (vL (99999)) := rfl
theorem i_43_41 : ins 43 41 = some (.ldc2_w 428, 3) := by decide +kernel
theorem i_43_44 : ins 43 44 = some (.invokestatic 209, 3) := by decide +kernel
theorem i_43_47 : ins 43 47 = some (.ifCond .ne 5, 3) := by decide +kernel
theorem t_47_52 : tg 47 (5) = some 52 := by decide +kernel
theorem i_43_50 : ins 43 50 = some (.iconst (-1), 1) := by decide +kernel
theorem r_43 : mret 43 = 1 := by decide +kernel
theorem i_43_51 : ins 43 51 = some (.ireturn, 1) := by decide +kernel
theorem i_43_52 : ins 43 52 = some (.aload_n 0, 1) := by decide +kernel
theorem f_43_158 : fld 43 158 = some (1048582, 38, 2) := by decide +kernel
theorem i_43_53 : ins 43 53 = some (.getfield 158, 3) := by decide +kernel
theorem i_43_56 : ins 43 56 = some (.iload_n 1, 1) := by decide +kernel
theorem kl_45088901 : klen 45088901 = 8 := by decide +kernel
theorem i_43_57 : ins 43 57 = some (.aaload, 1) := by decide +kernel
theorem i_43_58 : ins 43 58 = some (.iload_n 2, 1) := by decide +kernel
theorem i_43_59 : ins 43 59 = some (.dup2, 1) := by decide +kernel
theorem kl_46137476 : klen 46137476 = 8 := by decide +kernel
theorem i_43_60 : ins 43 60 = some (.laload, 1) := by decide +kernel
theorem i_43_61 : ins 43 61 = some (.iload_n 3, 1) := by decide +kernel
theorem i_43_62 : ins 43 62 = some (.i2l, 1) := by decide +kernel
theorem i_43_63 : ins 43 63 = some (.ladd, 1) := by decide +kernel
theorem i_43_64 : ins 43 64 = some (.lastore, 1) := by decide +kernel
theorem i_43_65 : ins 43 65 = some (.aload_n 0, 1) := by decide +kernel
theorem i_43_66 : ins 43 66 = some (.dup, 1) := by decide +kernel
theorem i_43_67 : ins 43 67 = some (.getfield 462, 3) := by decide +kernel
theorem i_43_70 : ins 43 70 = some (.iconst 1, 1) := by decide +kernel
theorem i_43_71 : ins 43 71 = some (.iadd, 1) := by decide +kernel
theorem o_43_1048582_40 : putok 43 1048582 40 = true := by decide +kernel
theorem i_43_72 : ins 43 72 = some (.putfield 462, 3) := by decide +kernel
theorem i_43_75 : ins 43 75 = some (.aload_n 0, 1) := by decide +kernel
theorem i_43_76 : ins 43 76 = some (.getfield 462, 3) := by decide +kernel
theorem i_43_79 : ins 43 79 = some (.ireturn, 1) := by decide +kernel
theorem i_44_0 : ins 44 0 = some (.iload_n 1, 1) := by decide +kernel
theorem i_44_1 : ins 44 1 = some (.i2l, 1) := by decide +kernel
theorem i_44_2 : ins 44 2 = some (.lconst 0, 1) := by decide +kernel
theorem l_44_216 : ldcv 44 216 = some (vL (7)) := rfl
theorem i_44_3 : ins 44 3 = some (.ldc2_w 216, 3) := by decide +kernel
theorem v_44_209 : inv 44 209 = some (2, 3, 0, 0) := by decide +kernel
theorem i_44_6 : ins 44 6 = some (.invokestatic 209, 3) := by decide +kernel
theorem i_44_9 : ins 44 9 = some (.ifCond .eq 15, 3) := by decide +kernel
theorem t_9_24 : tg 9 (15) = some 24 := by decide +kernel
theorem i_44_12 : ins 44 12 = some (.iload_n 2, 1) := by decide +kernel
theorem i_44_13 : ins 44 13 = some (.i2l, 1) := by decide +kernel
theorem i_44_14 : ins 44 14 = some (.lconst 0, 1) := by decide +kernel
theorem l_44_428 : ldcv 44 428 = some (vL (99999)) := rfl
theorem i_44_15 : ins 44 15 = some (.ldc2_w 428, 3) := by decide +kernel
theorem i_44_18 : ins 44 18 = some (.invokestatic 209, 3) := by decide +kernel
theorem i_44_21 : ins 44 21 = some (.ifCond .ne 5, 3) := by decide +kernel
theorem t_21_26 : tg 21 (5) = some 26 := by decide +kernel
theorem i_44_24 : ins 44 24 = some (.iconst (-1), 1) := by decide +kernel
theorem r_44 : mret 44 = 1 := by decide +kernel
theorem i_44_25 : ins 44 25 = some (.ireturn, 1) := by decide +kernel
theorem i_44_26 : ins 44 26 = some (.aload_n 0, 1) := by decide +kernel
theorem f_44_161 : fld 44 161 = some (1048582, 39, 2) := by decide +kernel
theorem i_44_27 : ins 44 27 = some (.getfield 161, 3) := by decide +kernel
theorem i_44_30 : ins 44 30 = some (.iload_n 1, 1) := by decide +kernel
theorem kl_47186049 : klen 47186049 = 8 := by decide +kernel
theorem i_44_31 : ins 44 31 = some (.iaload, 1) := by decide +kernel
theorem i_44_32 : ins 44 32 = some (.istore_n 3, 1) := by decide +kernel
theorem i_44_33 : ins 44 33 = some (.aload_n 0, 1) := by decide +kernel
theorem i_44_34 : ins 44 34 = some (.getfield 161, 3) := by decide +kernel
theorem i_44_37 : ins 44 37 = some (.iload_n 1, 1) := by decide +kernel
theorem i_44_38 : ins 44 38 = some (.iload_n 2, 1) := by decide +kernel
theorem i_44_39 : ins 44 39 = some (.iastore, 1) := by decide +kernel
theorem i_44_40 : ins 44 40 = some (.iload_n 3, 1) := by decide +kernel
theorem i_44_41 : ins 44 41 = some (.ireturn, 1) := by decide +kernel
theorem i_45_0 : ins 45 0 = some (.iload_n 1, 1) := by decide +kernel
theorem i_45_1 : ins 45 1 = some (.i2l, 1) := by decide +kernel
theorem i_45_2 : ins 45 2 = some (.lconst 0, 1) := by decide +kernel
theorem l_45_216 : ldcv 45 216 = some (vL (7)) := rfl
theorem i_45_3 : ins 45 3 = some (.ldc2_w 216, 3) := by decide +kernel
theorem v_45_209 : inv 45 209 = some (2, 3, 0, 0) := by decide +kernel
theorem i_45_6 : ins 45 6 = some (.invokestatic 209, 3) := by decide +kernel
theorem i_45_9 : ins 45 9 = some (.ifCond .eq 15, 3) := by decide +kernel
theorem i_45_12 : ins 45 12 = some (.iload_n 2, 1) := by decide +kernel
theorem i_45_13 : ins 45 13 = some (.i2l, 1) := by decide +kernel
theorem i_45_14 : ins 45 14 = some (.lconst 0, 1) := by decide +kernel
theorem i_45_15 : ins 45 15 = some (.ldc2_w 216, 3) := by decide +kernel
theorem i_45_18 : ins 45 18 = some (.invokestatic 209, 3) := by decide +kernel
theorem i_45_21 : ins 45 21 = some (.ifCond .ne 5, 3) := by decide +kernel
theorem i_45_24 : ins 45 24 = some (.iconst (-1), 1) := by decide +kernel
theorem r_45 : mret 45 = 1 := by decide +kernel
theorem i_45_25 : ins 45 25 = some (.ireturn, 1) := by decide +kernel
theorem i_45_26 : ins 45 26 = some (.bipush 8, 2) := by decide +kernel
theorem kl_57671812 : klen 57671812 = 8 := by decide +kernel
theorem s_45_28 : site 45 28 = some 57671812 := by decide +kernel
theorem i_45_28 : ins 45 28 = some (.newarray .long, 2) := by decide +kernel
theorem i_45_30 : ins 45 30 = some (.astore_n 3, 1) := by decide +kernel
theorem i_45_31 : ins 45 31 = some (.aload_n 3, 1) := by decide +kernel
theorem i_45_32 : ins 45 32 = some (.iload_n 1, 1) := by decide +kernel
theorem l_45_465 : ldcv 45 465 = some (vL (1000)) := rfl
theorem i_45_33 : ins 45 33 = some (.ldc2_w 465, 3) := by decide +kernel
theorem i_45_36 : ins 45 36 = some (.lastore, 1) := by decide +kernel
theorem i_45_37 : ins 45 37 = some (.iconst 0, 1) := by decide +kernel
theorem i_45_38 : ins 45 38 = some (.istore 4, 2) := by decide +kernel
theorem i_45_40 : ins 45 40 = some (.iload 4, 2) := by decide +kernel
theorem i_45_42 : ins 45 42 = some (.iconst 3, 1) := by decide +kernel
theorem i_45_43 : ins 45 43 = some (.if_icmp .ge 16, 3) := by decide +kernel
theorem t_43_59 : tg 43 (16) = some 59 := by decide +kernel
theorem i_45_46 : ins 45 46 = some (.aload_n 0, 1) := by decide +kernel
theorem i_45_47 : ins 45 47 = some (.iload_n 1, 1) := by decide +kernel
theorem i_45_48 : ins 45 48 = some (.aload_n 3, 1) := by decide +kernel
theorem v_45_467 : inv 45 467 = some (46, 2, 1, 1048582) := by decide +kernel
theorem i_45_49 : ins 45 49 = some (.invokevirtual 467, 3) := by decide +kernel
theorem i_45_52 : ins 45 52 = some (.astore_n 3, 1) := by decide +kernel
theorem i_45_53 : ins 45 53 = some (.iinc 4 1, 3) := by decide +kernel
theorem i_45_56 : ins 45 56 = some (.goto (-16), 3) := by decide +kernel
theorem t_56_40 : tg 56 (-16) = some 40 := by decide +kernel
theorem i_45_59 : ins 45 59 = some (.aload_n 3, 1) := by decide +kernel
theorem i_45_60 : ins 45 60 = some (.iload_n 2, 1) := by decide +kernel
theorem i_45_61 : ins 45 61 = some (.laload, 1) := by decide +kernel
theorem i_45_62 : ins 45 62 = some (.l2i, 1) := by decide +kernel
theorem i_45_63 : ins 45 63 = some (.ireturn, 1) := by decide +kernel
theorem i_46_0 : ins 46 0 = some (.bipush 8, 2) := by decide +kernel
theorem kl_58720388 : klen 58720388 = 8 := by decide +kernel
theorem s_46_2 : site 46 2 = some 58720388 := by decide +kernel
theorem i_46_2 : ins 46 2 = some (.newarray .long, 2) := by decide +kernel
theorem i_46_4 : ins 46 4 = some (.astore_n 3, 1) := by decide +kernel
theorem i_46_5 : ins 46 5 = some (.iconst 0, 1) := by decide +kernel
theorem i_46_6 : ins 46 6 = some (.istore 4, 2) := by decide +kernel
theorem i_46_8 : ins 46 8 = some (.iload 4, 2) := by decide +kernel
theorem i_46_10 : ins 46 10 = some (.bipush 8, 2) := by decide +kernel
theorem i_46_12 : ins 46 12 = some (.if_icmp .ge 105, 3) := by decide +kernel
theorem t_12_117 : tg 12 (105) = some 117 := by decide +kernel
theorem i_46_15 : ins 46 15 = some (.aload_n 0, 1) := by decide +kernel
theorem f_46_161 : fld 46 161 = some (1048582, 39, 2) := by decide +kernel
theorem i_46_16 : ins 46 16 = some (.getfield 161, 3) := by decide +kernel
theorem i_46_19 : ins 46 19 = some (.iload 4, 2) := by decide +kernel
theorem i_46_21 : ins 46 21 = some (.iaload, 1) := by decide +kernel
theorem i_46_22 : ins 46 22 = some (.i2l, 1) := by decide +kernel
theorem i_46_23 : ins 46 23 = some (.lstore 5, 2) := by decide +kernel
theorem i_46_25 : ins 46 25 = some (.lconst 0, 1) := by decide +kernel
theorem i_46_26 : ins 46 26 = some (.lstore 7, 2) := by decide +kernel
theorem i_46_28 : ins 46 28 = some (.iconst 0, 1) := by decide +kernel
theorem i_46_29 : ins 46 29 = some (.istore 9, 2) := by decide +kernel
theorem i_46_31 : ins 46 31 = some (.iload 9, 2) := by decide +kernel
theorem i_46_33 : ins 46 33 = some (.bipush 8, 2) := by decide +kernel
theorem i_46_35 : ins 46 35 = some (.if_icmp .ge 44, 3) := by decide +kernel
theorem t_35_79 : tg 35 (44) = some 79 := by decide +kernel
theorem i_46_38 : ins 46 38 = some (.lload 5, 2) := by decide +kernel
theorem i_46_40 : ins 46 40 = some (.aload_n 0, 1) := by decide +kernel
theorem f_46_158 : fld 46 158 = some (1048582, 38, 2) := by decide +kernel
theorem i_46_41 : ins 46 41 = some (.getfield 158, 3) := by decide +kernel
theorem i_46_44 : ins 46 44 = some (.iload 9, 2) := by decide +kernel
theorem i_46_46 : ins 46 46 = some (.aaload, 1) := by decide +kernel
theorem i_46_47 : ins 46 47 = some (.iload 4, 2) := by decide +kernel
theorem i_46_49 : ins 46 49 = some (.laload, 1) := by decide +kernel
theorem i_46_50 : ins 46 50 = some (.ladd, 1) := by decide +kernel
theorem i_46_51 : ins 46 51 = some (.lstore 5, 2) := by decide +kernel
theorem i_46_53 : ins 46 53 = some (.lload 7, 2) := by decide +kernel
theorem i_46_55 : ins 46 55 = some (.aload_n 0, 1) := by decide +kernel
theorem i_46_56 : ins 46 56 = some (.getfield 158, 3) := by decide +kernel
theorem i_46_59 : ins 46 59 = some (.iload 9, 2) := by decide +kernel
theorem i_46_61 : ins 46 61 = some (.aaload, 1) := by decide +kernel
theorem i_46_62 : ins 46 62 = some (.iload 4, 2) := by decide +kernel
theorem i_46_64 : ins 46 64 = some (.laload, 1) := by decide +kernel
theorem i_46_65 : ins 46 65 = some (.aload_n 2, 1) := by decide +kernel
theorem i_46_66 : ins 46 66 = some (.iload 9, 2) := by decide +kernel
theorem i_46_68 : ins 46 68 = some (.laload, 1) := by decide +kernel
theorem i_46_69 : ins 46 69 = some (.lmul, 1) := by decide +kernel
theorem i_46_70 : ins 46 70 = some (.ladd, 1) := by decide +kernel
theorem i_46_71 : ins 46 71 = some (.lstore 7, 2) := by decide +kernel
theorem i_46_73 : ins 46 73 = some (.iinc 9 1, 3) := by decide +kernel
theorem i_46_76 : ins 46 76 = some (.goto (-45), 3) := by decide +kernel
theorem t_76_31 : tg 76 (-45) = some 31 := by decide +kernel
theorem i_46_79 : ins 46 79 = some (.aload_n 3, 1) := by decide +kernel
theorem i_46_80 : ins 46 80 = some (.iload 4, 2) := by decide +kernel
theorem i_46_82 : ins 46 82 = some (.iload 4, 2) := by decide +kernel
theorem i_46_84 : ins 46 84 = some (.iload_n 1, 1) := by decide +kernel
theorem i_46_85 : ins 46 85 = some (.if_icmp .ne 9, 3) := by decide +kernel
theorem t_85_94 : tg 85 (9) = some 94 := by decide +kernel
theorem l_46_465 : ldcv 46 465 = some (vL (1000)) := rfl
theorem i_46_88 : ins 46 88 = some (.ldc2_w 465, 3) := by decide +kernel
theorem i_46_91 : ins 46 91 = some (.goto 19, 3) := by decide +kernel
theorem t_91_110 : tg 91 (19) = some 110 := by decide +kernel
theorem i_46_94 : ins 46 94 = some (.lload 5, 2) := by decide +kernel
theorem i_46_96 : ins 46 96 = some (.lconst 0, 1) := by decide +kernel
theorem t_98_105 : tg 98 (7) = some 105 := by decide +kernel
theorem i_46_97 : ins 46 97 = some (.lcmp, 1) := by decide +kernel
theorem i_46_98 : ins 46 98 = some (.ifCond .ne 7, 3) := by decide +kernel
theorem i_46_101 : ins 46 101 = some (.lconst 0, 1) := by decide +kernel
theorem i_46_102 : ins 46 102 = some (.goto 8, 3) := by decide +kernel
theorem t_102_110 : tg 102 (8) = some 110 := by decide +kernel
theorem i_46_105 : ins 46 105 = some (.lload 7, 2) := by decide +kernel
theorem i_46_107 : ins 46 107 = some (.lload 5, 2) := by decide +kernel
theorem i_46_109 : ins 46 109 = some (.ldiv, 1) := by decide +kernel
theorem i_46_110 : ins 46 110 = some (.lastore, 1) := by decide +kernel
theorem i_46_111 : ins 46 111 = some (.iinc 4 1, 3) := by decide +kernel
theorem i_46_114 : ins 46 114 = some (.goto (-106), 3) := by decide +kernel
theorem t_114_8 : tg 114 (-106) = some 8 := by decide +kernel
theorem i_46_117 : ins 46 117 = some (.aload_n 3, 1) := by decide +kernel
theorem i_46_118 : ins 46 118 = some (.areturn, 1) := by decide +kernel
theorem r_46 : mret 46 = 6 := by decide +kernel
theorem i_47_0 : ins 47 0 = some (.iload_n 1, 1) := by decide +kernel
theorem i_47_1 : ins 47 1 = some (.i2l, 1) := by decide +kernel
theorem i_47_2 : ins 47 2 = some (.lconst 0, 1) := by decide +kernel
theorem l_47_216 : ldcv 47 216 = some (vL (7)) := rfl
theorem i_47_3 : ins 47 3 = some (.ldc2_w 216, 3) := by decide +kernel
theorem v_47_209 : inv 47 209 = some (2, 3, 0, 0) := by decide +kernel
theorem i_47_6 : ins 47 6 = some (.invokestatic 209, 3) := by decide +kernel
theorem i_47_9 : ins 47 9 = some (.ifCond .eq 20, 3) := by decide +kernel
theorem t_9_29 : tg 9 (20) = some 29 := by decide +kernel
theorem i_47_12 : ins 47 12 = some (.iload_n 2, 1) := by decide +kernel
theorem i_47_13 : ins 47 13 = some (.i2l, 1) := by decide +kernel
theorem i_47_14 : ins 47 14 = some (.lconst 0, 1) := by decide +kernel
theorem i_47_15 : ins 47 15 = some (.ldc2_w 216, 3) := by decide +kernel
theorem i_47_18 : ins 47 18 = some (.invokestatic 209, 3) := by decide +kernel
theorem i_47_21 : ins 47 21 = some (.ifCond .eq 8, 3) := by decide +kernel
theorem t_21_29 : tg 21 (8) = some 29 := by decide +kernel
theorem i_47_24 : ins 47 24 = some (.iload_n 1, 1) := by decide +kernel
theorem i_47_25 : ins 47 25 = some (.iload_n 2, 1) := by decide +kernel
theorem i_47_26 : ins 47 26 = some (.if_icmp .ne 5, 3) := by decide +kernel
theorem t_26_31 : tg 26 (5) = some 31 := by decide +kernel
theorem i_47_29 : ins 47 29 = some (.iconst (-1), 1) := by decide +kernel
theorem r_47 : mret 47 = 1 := by decide +kernel
theorem i_47_30 : ins 47 30 = some (.ireturn, 1) := by decide +kernel
theorem i_47_31 : ins 47 31 = some (.aload_n 0, 1) := by decide +kernel
theorem i_47_32 : ins 47 32 = some (.lconst 0, 1) := by decide +kernel
theorem f_47_474 : fld 47 474 = some (1048582, 44, 1) := by decide +kernel
theorem o_47_1048582_44 : putok 47 1048582 44 = true := by decide +kernel
theorem i_47_33 : ins 47 33 = some (.putfield 474, 3) := by decide +kernel
theorem i_47_36 : ins 47 36 = some (.aload_n 0, 1) := by decide +kernel
theorem i_47_37 : ins 47 37 = some (.iconst 0, 1) := by decide +kernel
theorem f_47_477 : fld 47 477 = some (1048582, 43, 0) := by decide +kernel
theorem o_47_1048582_43 : putok 47 1048582 43 = true := by decide +kernel
theorem i_47_38 : ins 47 38 = some (.putfield 477, 3) := by decide +kernel
theorem i_47_41 : ins 47 41 = some (.aload_n 0, 1) := by decide +kernel
theorem f_47_164 : fld 47 164 = some (1048582, 41, 2) := by decide +kernel
theorem i_47_42 : ins 47 42 = some (.getfield 164, 3) := by decide +kernel
theorem i_47_45 : ins 47 45 = some (.iconst 0, 1) := by decide +kernel
theorem i_47_46 : ins 47 46 = some (.iload_n 1, 1) := by decide +kernel
theorem kl_48234561 : klen 48234561 = 4 := by decide +kernel
theorem i_47_47 : ins 47 47 = some (.iastore, 1) := by decide +kernel
theorem i_47_48 : ins 47 48 = some (.iconst 2, 1) := by decide +kernel
theorem i_47_49 : ins 47 49 = some (.istore_n 3, 1) := by decide +kernel
theorem i_47_50 : ins 47 50 = some (.iload_n 3, 1) := by decide +kernel
theorem kI_4 : Int32.ofInt (4) = nI 4 := by decide +kernel
theorem i_47_51 : ins 47 51 = some (.iconst 4, 1) := by decide +kernel
theorem i_47_52 : ins 47 52 = some (.if_icmp .gt 19, 3) := by decide +kernel
theorem t_52_71 : tg 52 (19) = some 71 := by decide +kernel
theorem i_47_55 : ins 47 55 = some (.aload_n 0, 1) := by decide +kernel
theorem i_47_56 : ins 47 56 = some (.iconst 1, 1) := by decide +kernel
theorem i_47_57 : ins 47 57 = some (.iload_n 3, 1) := by decide +kernel
theorem i_47_58 : ins 47 58 = some (.iload_n 2, 1) := by decide +kernel
theorem l_47_486 : ldcv 47 486 = some (vL (9223372036854775807)) := rfl
theorem i_47_59 : ins 47 59 = some (.ldc2_w 486, 3) := by decide +kernel
theorem v_47_480 : inv 47 480 = some (48, 4, 1, 1048582) := by decide +kernel
theorem i_47_62 : ins 47 62 = some (.invokevirtual 480, 3) := by decide +kernel
theorem i_47_65 : ins 47 65 = some (.iinc 3 1, 3) := by decide +kernel
theorem i_47_68 : ins 47 68 = some (.goto (-18), 3) := by decide +kernel
theorem t_68_50 : tg 68 (-18) = some 50 := by decide +kernel
theorem i_47_71 : ins 47 71 = some (.aload_n 0, 1) := by decide +kernel
theorem i_47_72 : ins 47 72 = some (.getfield 474, 3) := by decide +kernel
theorem i_47_75 : ins 47 75 = some (.l2i, 1) := by decide +kernel
theorem i_47_76 : ins 47 76 = some (.ireturn, 1) := by decide +kernel
theorem i_48_0 : ins 48 0 = some (.iload_n 1, 1) := by decide +kernel
theorem i_48_1 : ins 48 1 = some (.iload_n 2, 1) := by decide +kernel
theorem i_48_2 : ins 48 2 = some (.iconst 1, 1) := by decide +kernel
theorem i_48_3 : ins 48 3 = some (.isub, 1) := by decide +kernel
theorem i_48_4 : ins 48 4 = some (.if_icmp .ne 69, 3) := by decide +kernel
theorem t_4_73 : tg 4 (69) = some 73 := by decide +kernel
theorem i_48_7 : ins 48 7 = some (.lload 4, 2) := by decide +kernel
theorem i_48_9 : ins 48 9 = some (.aload_n 0, 1) := by decide +kernel
theorem f_48_158 : fld 48 158 = some (1048582, 38, 2) := by decide +kernel
theorem i_48_10 : ins 48 10 = some (.getfield 158, 3) := by decide +kernel
theorem i_48_13 : ins 48 13 = some (.aload_n 0, 1) := by decide +kernel
theorem f_48_164 : fld 48 164 = some (1048582, 41, 2) := by decide +kernel
theorem i_48_14 : ins 48 14 = some (.getfield 164, 3) := by decide +kernel
theorem i_48_17 : ins 48 17 = some (.iload_n 1, 1) := by decide +kernel
theorem i_48_18 : ins 48 18 = some (.iconst 1, 1) := by decide +kernel
theorem i_48_19 : ins 48 19 = some (.isub, 1) := by decide +kernel
theorem i_48_20 : ins 48 20 = some (.iaload, 1) := by decide +kernel
theorem i_48_21 : ins 48 21 = some (.aaload, 1) := by decide +kernel
theorem i_48_22 : ins 48 22 = some (.iload_n 3, 1) := by decide +kernel
theorem i_48_23 : ins 48 23 = some (.laload, 1) := by decide +kernel
theorem v_48_471 : inv 48 471 = some (252, 2, 0, 0) := by decide +kernel
theorem i_48_24 : ins 48 24 = some (.invokestatic 471, 3) := by decide +kernel
theorem i_48_27 : ins 48 27 = some (.lstore 6, 2) := by decide +kernel
theorem i_48_29 : ins 48 29 = some (.lload 6, 2) := by decide +kernel
theorem i_48_31 : ins 48 31 = some (.aload_n 0, 1) := by decide +kernel
theorem f_48_474 : fld 48 474 = some (1048582, 44, 1) := by decide +kernel
theorem i_48_32 : ins 48 32 = some (.getfield 474, 3) := by decide +kernel
theorem t_36_40 : tg 36 (4) = some 40 := by decide +kernel
theorem i_48_35 : ins 48 35 = some (.lcmp, 1) := by decide +kernel
theorem i_48_36 : ins 48 36 = some (.ifCond .gt 4, 3) := by decide +kernel
theorem i_48_39 : ins 48 39 = some (.return_, 1) := by decide +kernel
theorem r_48 : mret 48 = 0 := by decide +kernel
theorem i_48_40 : ins 48 40 = some (.aload_n 0, 1) := by decide +kernel
theorem i_48_41 : ins 48 41 = some (.lload 6, 2) := by decide +kernel
theorem o_48_1048582_44 : putok 48 1048582 44 = true := by decide +kernel
theorem i_48_43 : ins 48 43 = some (.putfield 474, 3) := by decide +kernel
theorem i_48_46 : ins 48 46 = some (.aload_n 0, 1) := by decide +kernel
theorem i_48_47 : ins 48 47 = some (.iload_n 2, 1) := by decide +kernel
theorem f_48_477 : fld 48 477 = some (1048582, 43, 0) := by decide +kernel
theorem o_48_1048582_43 : putok 48 1048582 43 = true := by decide +kernel
theorem i_48_48 : ins 48 48 = some (.putfield 477, 3) := by decide +kernel
theorem i_48_51 : ins 48 51 = some (.aload_n 0, 1) := by decide +kernel
theorem i_48_52 : ins 48 52 = some (.getfield 164, 3) := by decide +kernel
theorem i_48_55 : ins 48 55 = some (.iload_n 1, 1) := by decide +kernel
theorem i_48_56 : ins 48 56 = some (.iload_n 3, 1) := by decide +kernel
theorem i_48_57 : ins 48 57 = some (.iastore, 1) := by decide +kernel
theorem i_48_58 : ins 48 58 = some (.aload_n 0, 1) := by decide +kernel
theorem i_48_59 : ins 48 59 = some (.getfield 164, 3) := by decide +kernel
theorem i_48_62 : ins 48 62 = some (.iconst 0, 1) := by decide +kernel
theorem i_48_63 : ins 48 63 = some (.aload_n 0, 1) := by decide +kernel
theorem f_48_167 : fld 48 167 = some (1048582, 42, 2) := by decide +kernel
theorem i_48_64 : ins 48 64 = some (.getfield 167, 3) := by decide +kernel
theorem i_48_67 : ins 48 67 = some (.iconst 0, 1) := by decide +kernel
theorem i_48_68 : ins 48 68 = some (.iload_n 2, 1) := by decide +kernel
theorem v_48_456 : inv 48 456 = some (0, 5, 5, 0) := by decide +kernel
theorem i_48_69 : ins 48 69 = some (.invokestatic 456, 3) := by decide +kernel
theorem kl_49283137 : klen 49283137 = 4 := by decide +kernel
theorem i_48_72 : ins 48 72 = some (.return_, 1) := by decide +kernel
theorem i_48_73 : ins 48 73 = some (.iconst 0, 1) := by decide +kernel
theorem i_48_74 : ins 48 74 = some (.istore 6, 2) := by decide +kernel
theorem i_48_76 : ins 48 76 = some (.iload 6, 2) := by decide +kernel
theorem i_48_78 : ins 48 78 = some (.bipush 8, 2) := by decide +kernel
theorem i_48_80 : ins 48 80 = some (.if_icmp .ge 83, 3) := by decide +kernel
theorem t_80_163 : tg 80 (83) = some 163 := by decide +kernel
theorem i_48_83 : ins 48 83 = some (.iload 6, 2) := by decide +kernel
theorem i_48_85 : ins 48 85 = some (.iload_n 3, 1) := by decide +kernel
theorem i_48_86 : ins 48 86 = some (.if_icmp .eq 71, 3) := by decide +kernel
theorem t_86_157 : tg 86 (71) = some 157 := by decide +kernel
theorem i_48_89 : ins 48 89 = some (.iload 6, 2) := by decide +kernel
theorem i_48_91 : ins 48 91 = some (.aload_n 0, 1) := by decide +kernel
theorem i_48_92 : ins 48 92 = some (.getfield 164, 3) := by decide +kernel
theorem i_48_95 : ins 48 95 = some (.iconst 0, 1) := by decide +kernel
theorem i_48_96 : ins 48 96 = some (.iaload, 1) := by decide +kernel
theorem i_48_97 : ins 48 97 = some (.if_icmp .eq 60, 3) := by decide +kernel
theorem t_97_157 : tg 97 (60) = some 157 := by decide +kernel
theorem i_48_100 : ins 48 100 = some (.iload_n 1, 1) := by decide +kernel
theorem i_48_101 : ins 48 101 = some (.iconst 2, 1) := by decide +kernel
theorem i_48_102 : ins 48 102 = some (.if_icmp .ne 17, 3) := by decide +kernel
theorem t_102_119 : tg 102 (17) = some 119 := by decide +kernel
theorem i_48_105 : ins 48 105 = some (.iload 6, 2) := by decide +kernel
theorem i_48_107 : ins 48 107 = some (.aload_n 0, 1) := by decide +kernel
theorem i_48_108 : ins 48 108 = some (.getfield 164, 3) := by decide +kernel
theorem i_48_111 : ins 48 111 = some (.iconst 1, 1) := by decide +kernel
theorem i_48_112 : ins 48 112 = some (.iaload, 1) := by decide +kernel
theorem i_48_113 : ins 48 113 = some (.if_icmp .ne 6, 3) := by decide +kernel
theorem t_113_119 : tg 113 (6) = some 119 := by decide +kernel
theorem i_48_116 : ins 48 116 = some (.goto 41, 3) := by decide +kernel
theorem t_116_157 : tg 116 (41) = some 157 := by decide +kernel
theorem i_48_119 : ins 48 119 = some (.aload_n 0, 1) := by decide +kernel
theorem i_48_120 : ins 48 120 = some (.getfield 164, 3) := by decide +kernel
theorem i_48_123 : ins 48 123 = some (.iload_n 1, 1) := by decide +kernel
theorem i_48_124 : ins 48 124 = some (.iload 6, 2) := by decide +kernel
theorem i_48_126 : ins 48 126 = some (.iastore, 1) := by decide +kernel
theorem i_48_127 : ins 48 127 = some (.aload_n 0, 1) := by decide +kernel
theorem i_48_128 : ins 48 128 = some (.iload_n 1, 1) := by decide +kernel
theorem i_48_129 : ins 48 129 = some (.iconst 1, 1) := by decide +kernel
theorem i_48_130 : ins 48 130 = some (.iadd, 1) := by decide +kernel
theorem i_48_131 : ins 48 131 = some (.iload_n 2, 1) := by decide +kernel
theorem i_48_132 : ins 48 132 = some (.iload_n 3, 1) := by decide +kernel
theorem i_48_133 : ins 48 133 = some (.lload 4, 2) := by decide +kernel
theorem i_48_135 : ins 48 135 = some (.aload_n 0, 1) := by decide +kernel
theorem i_48_136 : ins 48 136 = some (.getfield 158, 3) := by decide +kernel
theorem i_48_139 : ins 48 139 = some (.aload_n 0, 1) := by decide +kernel
theorem i_48_140 : ins 48 140 = some (.getfield 164, 3) := by decide +kernel
theorem i_48_143 : ins 48 143 = some (.iload_n 1, 1) := by decide +kernel
theorem i_48_144 : ins 48 144 = some (.iconst 1, 1) := by decide +kernel
theorem i_48_145 : ins 48 145 = some (.isub, 1) := by decide +kernel
theorem i_48_146 : ins 48 146 = some (.iaload, 1) := by decide +kernel
theorem i_48_147 : ins 48 147 = some (.aaload, 1) := by decide +kernel
theorem i_48_148 : ins 48 148 = some (.iload 6, 2) := by decide +kernel
theorem i_48_150 : ins 48 150 = some (.laload, 1) := by decide +kernel
theorem i_48_151 : ins 48 151 = some (.invokestatic 471, 3) := by decide +kernel
theorem v_48_480 : inv 48 480 = some (48, 4, 1, 1048582) := by decide +kernel
theorem i_48_154 : ins 48 154 = some (.invokevirtual 480, 3) := by decide +kernel
theorem i_48_157 : ins 48 157 = some (.iinc 6 1, 3) := by decide +kernel
theorem i_48_160 : ins 48 160 = some (.goto (-84), 3) := by decide +kernel
theorem t_160_76 : tg 160 (-84) = some 76 := by decide +kernel
theorem i_48_163 : ins 48 163 = some (.return_, 1) := by decide +kernel
theorem i_49_0 : ins 49 0 = some (.iload_n 1, 1) := by decide +kernel
theorem i_49_1 : ins 49 1 = some (.i2l, 1) := by decide +kernel
theorem i_49_2 : ins 49 2 = some (.lconst 0, 1) := by decide +kernel
theorem i_49_3 : ins 49 3 = some (.aload_n 0, 1) := by decide +kernel
theorem f_49_477 : fld 49 477 = some (1048582, 43, 0) := by decide +kernel
theorem i_49_4 : ins 49 4 = some (.getfield 477, 3) := by decide +kernel
theorem i_49_7 : ins 49 7 = some (.iconst 1, 1) := by decide +kernel
theorem i_49_8 : ins 49 8 = some (.isub, 1) := by decide +kernel
theorem i_49_9 : ins 49 9 = some (.i2l, 1) := by decide +kernel
theorem v_49_209 : inv 49 209 = some (2, 3, 0, 0) := by decide +kernel
theorem i_49_10 : ins 49 10 = some (.invokestatic 209, 3) := by decide +kernel
theorem i_49_13 : ins 49 13 = some (.ifCond .eq 12, 3) := by decide +kernel
theorem i_49_16 : ins 49 16 = some (.aload_n 0, 1) := by decide +kernel
theorem f_49_167 : fld 49 167 = some (1048582, 42, 2) := by decide +kernel
theorem i_49_17 : ins 49 17 = some (.getfield 167, 3) := by decide +kernel
theorem i_49_20 : ins 49 20 = some (.iload_n 1, 1) := by decide +kernel
theorem i_49_21 : ins 49 21 = some (.iaload, 1) := by decide +kernel
theorem i_49_22 : ins 49 22 = some (.goto 4, 3) := by decide +kernel
theorem i_49_25 : ins 49 25 = some (.iconst (-1), 1) := by decide +kernel
theorem r_49 : mret 49 = 1 := by decide +kernel
theorem i_49_26 : ins 49 26 = some (.ireturn, 1) := by decide +kernel
theorem i_50_0 : ins 50 0 = some (.aload_n 0, 1) := by decide +kernel
theorem f_50_488 : fld 50 488 = some (1048582, 50, 0) := by decide +kernel
theorem i_50_1 : ins 50 1 = some (.getfield 488, 3) := by decide +kernel
theorem kB_60 : (Int8.ofInt (60)).toInt32 = nI 60 := by decide +kernel
theorem i_50_4 : ins 50 4 = some (.bipush 60, 2) := by decide +kernel
theorem i_50_6 : ins 50 6 = some (.if_icmp .eq 47, 3) := by decide +kernel
theorem t_6_53 : tg 6 (47) = some 53 := by decide +kernel
theorem i_50_9 : ins 50 9 = some (.aload_n 0, 1) := by decide +kernel
theorem i_50_10 : ins 50 10 = some (.iload_n 1, 1) := by decide +kernel
theorem v_50_227 : inv 50 227 = some (7, 1, 1, 1048582) := by decide +kernel
theorem i_50_11 : ins 50 11 = some (.invokevirtual 227, 3) := by decide +kernel
theorem i_50_14 : ins 50 14 = some (.ifCond .eq 39, 3) := by decide +kernel
theorem t_14_53 : tg 14 (39) = some 53 := by decide +kernel
theorem i_50_17 : ins 50 17 = some (.iload_n 2, 1) := by decide +kernel
theorem v_50_218 : inv 50 218 = some (5, 1, 0, 0) := by decide +kernel
theorem i_50_18 : ins 50 18 = some (.invokestatic 218, 3) := by decide +kernel
theorem i_50_21 : ins 50 21 = some (.ifCond .eq 32, 3) := by decide +kernel
theorem t_21_53 : tg 21 (32) = some 53 := by decide +kernel
theorem i_50_24 : ins 50 24 = some (.iload_n 3, 1) := by decide +kernel
theorem i_50_25 : ins 50 25 = some (.i2l, 1) := by decide +kernel
theorem i_50_26 : ins 50 26 = some (.aload_n 0, 1) := by decide +kernel
theorem f_50_204 : fld 50 204 = some (1048582, 0, 0) := by decide +kernel
theorem i_50_27 : ins 50 27 = some (.getfield 204, 3) := by decide +kernel
theorem i_50_30 : ins 50 30 = some (.i2l, 1) := by decide +kernel
theorem l_50_207 : ldcv 50 207 = some (vL (3999)) := rfl
theorem i_50_31 : ins 50 31 = some (.ldc2_w 207, 3) := by decide +kernel
theorem v_50_209 : inv 50 209 = some (2, 3, 0, 0) := by decide +kernel
theorem i_50_34 : ins 50 34 = some (.invokestatic 209, 3) := by decide +kernel
theorem i_50_37 : ins 50 37 = some (.ifCond .eq 16, 3) := by decide +kernel
theorem t_37_53 : tg 37 (16) = some 53 := by decide +kernel
theorem i_50_40 : ins 50 40 = some (.iload 4, 2) := by decide +kernel
theorem i_50_42 : ins 50 42 = some (.i2l, 1) := by decide +kernel
theorem i_50_43 : ins 50 43 = some (.lconst 0, 1) := by decide +kernel
theorem l_50_233 : ldcv 50 233 = some (vL (9999)) := rfl
theorem i_50_44 : ins 50 44 = some (.ldc2_w 233, 3) := by decide +kernel
theorem i_50_47 : ins 50 47 = some (.invokestatic 209, 3) := by decide +kernel
theorem i_50_50 : ins 50 50 = some (.ifCond .ne 5, 3) := by decide +kernel
theorem t_50_55 : tg 50 (5) = some 55 := by decide +kernel
theorem i_50_53 : ins 50 53 = some (.iconst (-1), 1) := by decide +kernel
theorem r_50 : mret 50 = 1 := by decide +kernel
theorem i_50_54 : ins 50 54 = some (.ireturn, 1) := by decide +kernel
theorem i_50_55 : ins 50 55 = some (.aload_n 0, 1) := by decide +kernel
theorem f_50_170 : fld 50 170 = some (1048582, 45, 2) := by decide +kernel
theorem i_50_56 : ins 50 56 = some (.getfield 170, 3) := by decide +kernel
theorem i_50_59 : ins 50 59 = some (.aload_n 0, 1) := by decide +kernel
theorem i_50_60 : ins 50 60 = some (.getfield 488, 3) := by decide +kernel
theorem i_50_63 : ins 50 63 = some (.iload_n 1, 1) := by decide +kernel
theorem kl_50332609 : klen 50332609 = 60 := by decide +kernel
theorem i_50_64 : ins 50 64 = some (.iastore, 1) := by decide +kernel
theorem i_50_65 : ins 50 65 = some (.aload_n 0, 1) := by decide +kernel
theorem f_50_173 : fld 50 173 = some (1048582, 46, 2) := by decide +kernel
theorem i_50_66 : ins 50 66 = some (.getfield 173, 3) := by decide +kernel
theorem i_50_69 : ins 50 69 = some (.aload_n 0, 1) := by decide +kernel
theorem i_50_70 : ins 50 70 = some (.getfield 488, 3) := by decide +kernel
theorem i_50_73 : ins 50 73 = some (.iload_n 2, 1) := by decide +kernel
theorem kl_51381185 : klen 51381185 = 60 := by decide +kernel
theorem i_50_74 : ins 50 74 = some (.iastore, 1) := by decide +kernel
theorem i_50_75 : ins 50 75 = some (.aload_n 0, 1) := by decide +kernel
theorem f_50_176 : fld 50 176 = some (1048582, 47, 2) := by decide +kernel
theorem i_50_76 : ins 50 76 = some (.getfield 176, 3) := by decide +kernel
theorem i_50_79 : ins 50 79 = some (.aload_n 0, 1) := by decide +kernel
theorem i_50_80 : ins 50 80 = some (.getfield 488, 3) := by decide +kernel
theorem i_50_83 : ins 50 83 = some (.iload_n 3, 1) := by decide +kernel
theorem kl_52429761 : klen 52429761 = 60 := by decide +kernel
theorem i_50_84 : ins 50 84 = some (.iastore, 1) := by decide +kernel
theorem i_50_85 : ins 50 85 = some (.aload_n 0, 1) := by decide +kernel
theorem f_50_179 : fld 50 179 = some (1048582, 48, 2) := by decide +kernel
theorem i_50_86 : ins 50 86 = some (.getfield 179, 3) := by decide +kernel
theorem i_50_89 : ins 50 89 = some (.aload_n 0, 1) := by decide +kernel
theorem i_50_90 : ins 50 90 = some (.getfield 488, 3) := by decide +kernel
theorem i_50_93 : ins 50 93 = some (.iload 4, 2) := by decide +kernel
theorem kl_53478337 : klen 53478337 = 60 := by decide +kernel
theorem i_50_95 : ins 50 95 = some (.iastore, 1) := by decide +kernel
theorem i_50_96 : ins 50 96 = some (.aload_n 0, 1) := by decide +kernel
theorem f_50_182 : fld 50 182 = some (1048582, 49, 2) := by decide +kernel
theorem i_50_97 : ins 50 97 = some (.getfield 182, 3) := by decide +kernel
theorem i_50_100 : ins 50 100 = some (.aload_n 0, 1) := by decide +kernel
theorem i_50_101 : ins 50 101 = some (.getfield 488, 3) := by decide +kernel
theorem i_50_104 : ins 50 104 = some (.aload_n 0, 1) := by decide +kernel
theorem i_50_105 : ins 50 105 = some (.getfield 204, 3) := by decide +kernel
theorem kl_54526913 : klen 54526913 = 60 := by decide +kernel
theorem i_50_108 : ins 50 108 = some (.iastore, 1) := by decide +kernel
theorem i_50_109 : ins 50 109 = some (.aload_n 0, 1) := by decide +kernel
theorem i_50_110 : ins 50 110 = some (.dup, 1) := by decide +kernel
theorem i_50_111 : ins 50 111 = some (.getfield 488, 3) := by decide +kernel
theorem i_50_114 : ins 50 114 = some (.iconst 1, 1) := by decide +kernel
theorem i_50_115 : ins 50 115 = some (.iadd, 1) := by decide +kernel
theorem o_50_1048582_50 : putok 50 1048582 50 = true := by decide +kernel
theorem i_50_116 : ins 50 116 = some (.putfield 488, 3) := by decide +kernel
theorem i_50_119 : ins 50 119 = some (.aload_n 0, 1) := by decide +kernel
theorem i_50_120 : ins 50 120 = some (.getfield 488, 3) := by decide +kernel
theorem i_50_123 : ins 50 123 = some (.ireturn, 1) := by decide +kernel
theorem i_51_0 : ins 51 0 = some (.aload_n 0, 1) := by decide +kernel
theorem i_51_1 : ins 51 1 = some (.iload_n 1, 1) := by decide +kernel
theorem v_51_227 : inv 51 227 = some (7, 1, 1, 1048582) := by decide +kernel
theorem i_51_2 : ins 51 2 = some (.invokevirtual 227, 3) := by decide +kernel
theorem i_51_5 : ins 51 5 = some (.ifCond .eq 10, 3) := by decide +kernel
theorem i_51_8 : ins 51 8 = some (.iload_n 2, 1) := by decide +kernel
theorem v_51_250 : inv 51 250 = some (10, 1, 0, 0) := by decide +kernel
theorem i_51_9 : ins 51 9 = some (.invokestatic 250, 3) := by decide +kernel
theorem i_51_12 : ins 51 12 = some (.ifCond .ne 5, 3) := by decide +kernel
theorem i_51_15 : ins 51 15 = some (.iconst (-1), 1) := by decide +kernel
theorem r_51 : mret 51 = 1 := by decide +kernel
theorem i_51_16 : ins 51 16 = some (.ireturn, 1) := by decide +kernel
theorem i_51_17 : ins 51 17 = some (.aload_n 0, 1) := by decide +kernel
theorem f_51_105 : fld 51 105 = some (1048582, 18, 2) := by decide +kernel
theorem i_51_18 : ins 51 18 = some (.getfield 105, 3) := by decide +kernel
theorem i_51_21 : ins 51 21 = some (.iload_n 2, 1) := by decide +kernel
theorem v_51_327 : inv 51 327 = some (70, 1, 1, 4194358) := by decide +kernel
theorem i_51_22 : ins 51 22 = some (.invokevirtual 327, 3) := by decide +kernel
theorem i_51_25 : ins 51 25 = some (.iconst 0, 1) := by decide +kernel
theorem i_51_26 : ins 51 26 = some (.istore 4, 2) := by decide +kernel
theorem i_51_28 : ins 51 28 = some (.iconst 0, 1) := by decide +kernel
theorem i_51_29 : ins 51 29 = some (.istore 5, 2) := by decide +kernel
theorem i_51_31 : ins 51 31 = some (.iload 5, 2) := by decide +kernel
theorem i_51_33 : ins 51 33 = some (.aload_n 0, 1) := by decide +kernel
theorem f_51_257 : fld 51 257 = some (1048582, 8, 0) := by decide +kernel
theorem i_51_34 : ins 51 34 = some (.getfield 257, 3) := by decide +kernel
theorem i_51_37 : ins 51 37 = some (.if_icmp .ge 51, 3) := by decide +kernel
theorem t_37_88 : tg 37 (51) = some 88 := by decide +kernel
theorem i_51_40 : ins 51 40 = some (.aload_n 0, 1) := by decide +kernel
theorem i_51_41 : ins 51 41 = some (.getfield 105, 3) := by decide +kernel
theorem i_51_44 : ins 51 44 = some (.iload 5, 2) := by decide +kernel
theorem i_51_46 : ins 51 46 = some (.iload_n 1, 1) := by decide +kernel
theorem i_51_47 : ins 51 47 = some (.iconst 0, 1) := by decide +kernel
theorem kS_133 : (Int16.ofInt (133)).toInt32 = nI 133 := by decide +kernel
theorem i_51_48 : ins 51 48 = some (.sipush 133, 3) := by decide +kernel
theorem v_51_366 : inv 51 366 = some (77, 4, 1, 4194358) := by decide +kernel
theorem i_51_51 : ins 51 51 = some (.invokevirtual 366, 3) := by decide +kernel
theorem i_51_54 : ins 51 54 = some (.ifCond .eq 28, 3) := by decide +kernel
theorem t_54_82 : tg 54 (28) = some 82 := by decide +kernel
theorem i_51_57 : ins 51 57 = some (.aload_n 0, 1) := by decide +kernel
theorem i_51_58 : ins 51 58 = some (.iload 5, 2) := by decide +kernel
theorem i_51_60 : ins 51 60 = some (.iload_n 2, 1) := by decide +kernel
theorem v_51_494 : inv 51 494 = some (52, 2, 1, 1048582) := by decide +kernel
theorem i_51_61 : ins 51 61 = some (.invokevirtual 494, 3) := by decide +kernel
theorem i_51_64 : ins 51 64 = some (.ifCond .ne 6, 3) := by decide +kernel
theorem t_64_70 : tg 64 (6) = some 70 := by decide +kernel
theorem i_51_67 : ins 51 67 = some (.goto 15, 3) := by decide +kernel
theorem t_67_82 : tg 67 (15) = some 82 := by decide +kernel
theorem i_51_70 : ins 51 70 = some (.iload 4, 2) := by decide +kernel
theorem i_51_72 : ins 51 72 = some (.iload_n 3, 1) := by decide +kernel
theorem i_51_73 : ins 51 73 = some (.if_icmp .ne 6, 3) := by decide +kernel
theorem t_73_79 : tg 73 (6) = some 79 := by decide +kernel
theorem i_51_76 : ins 51 76 = some (.iload 5, 2) := by decide +kernel
theorem i_51_78 : ins 51 78 = some (.ireturn, 1) := by decide +kernel
theorem i_51_79 : ins 51 79 = some (.iinc 4 1, 3) := by decide +kernel
theorem i_51_82 : ins 51 82 = some (.iinc 5 1, 3) := by decide +kernel
theorem i_51_85 : ins 51 85 = some (.goto (-54), 3) := by decide +kernel
theorem t_85_31 : tg 85 (-54) = some 31 := by decide +kernel
theorem i_51_88 : ins 51 88 = some (.iload_n 3, 1) := by decide +kernel
theorem i_51_89 : ins 51 89 = some (.iconst (-1), 1) := by decide +kernel
theorem i_51_90 : ins 51 90 = some (.if_icmp .ne 8, 3) := by decide +kernel
theorem t_90_98 : tg 90 (8) = some 98 := by decide +kernel
theorem i_51_93 : ins 51 93 = some (.iload 4, 2) := by decide +kernel
theorem i_51_95 : ins 51 95 = some (.goto 4, 3) := by decide +kernel
theorem t_95_99 : tg 95 (4) = some 99 := by decide +kernel
theorem i_51_98 : ins 51 98 = some (.iconst (-1), 1) := by decide +kernel
theorem i_51_99 : ins 51 99 = some (.ireturn, 1) := by decide +kernel
theorem i_52_0 : ins 52 0 = some (.aload_n 0, 1) := by decide +kernel
theorem f_52_26 : fld 52 26 = some (1048582, 6, 2) := by decide +kernel
theorem i_52_1 : ins 52 1 = some (.getfield 26, 3) := by decide +kernel
theorem i_52_4 : ins 52 4 = some (.iload_n 1, 1) := by decide +kernel
theorem i_52_5 : ins 52 5 = some (.aaload, 1) := by decide +kernel
theorem i_52_6 : ins 52 6 = some (.astore_n 3, 1) := by decide +kernel
theorem i_52_7 : ins 52 7 = some (.iconst (-1), 1) := by decide +kernel
theorem i_52_8 : ins 52 8 = some (.istore 4, 2) := by decide +kernel
theorem i_52_10 : ins 52 10 = some (.iconst 0, 1) := by decide +kernel
theorem i_52_11 : ins 52 11 = some (.istore 5, 2) := by decide +kernel
theorem i_52_13 : ins 52 13 = some (.iload 5, 2) := by decide +kernel
theorem i_52_15 : ins 52 15 = some (.aload_n 0, 1) := by decide +kernel
theorem f_52_488 : fld 52 488 = some (1048582, 50, 0) := by decide +kernel
theorem i_52_16 : ins 52 16 = some (.getfield 488, 3) := by decide +kernel
theorem i_52_19 : ins 52 19 = some (.if_icmp .ge 92, 3) := by decide +kernel
theorem t_19_111 : tg 19 (92) = some 111 := by decide +kernel
theorem i_52_22 : ins 52 22 = some (.aload_n 0, 1) := by decide +kernel
theorem f_52_170 : fld 52 170 = some (1048582, 45, 2) := by decide +kernel
theorem i_52_23 : ins 52 23 = some (.getfield 170, 3) := by decide +kernel
theorem i_52_26 : ins 52 26 = some (.iload 5, 2) := by decide +kernel
theorem i_52_28 : ins 52 28 = some (.iaload, 1) := by decide +kernel
theorem i_52_29 : ins 52 29 = some (.aload_n 3, 1) := by decide +kernel
theorem f_52_436 : fld 52 436 = some (9437318, 0, 0) := by decide +kernel
theorem i_52_30 : ins 52 30 = some (.getfield 436, 3) := by decide +kernel
theorem i_52_33 : ins 52 33 = some (.if_icmp .ne 72, 3) := by decide +kernel
theorem t_33_105 : tg 33 (72) = some 105 := by decide +kernel
theorem i_52_36 : ins 52 36 = some (.aload_n 0, 1) := by decide +kernel
theorem f_52_173 : fld 52 173 = some (1048582, 46, 2) := by decide +kernel
theorem i_52_37 : ins 52 37 = some (.getfield 173, 3) := by decide +kernel
theorem i_52_40 : ins 52 40 = some (.iload 5, 2) := by decide +kernel
theorem i_52_42 : ins 52 42 = some (.iaload, 1) := by decide +kernel
theorem i_52_43 : ins 52 43 = some (.aload_n 3, 1) := by decide +kernel
theorem f_52_370 : fld 52 370 = some (9437318, 1, 0) := by decide +kernel
theorem i_52_44 : ins 52 44 = some (.getfield 370, 3) := by decide +kernel
theorem i_52_47 : ins 52 47 = some (.if_icmp .ne 58, 3) := by decide +kernel
theorem t_47_105 : tg 47 (58) = some 105 := by decide +kernel
theorem i_52_50 : ins 52 50 = some (.aload_n 0, 1) := by decide +kernel
theorem f_52_176 : fld 52 176 = some (1048582, 47, 2) := by decide +kernel
theorem i_52_51 : ins 52 51 = some (.getfield 176, 3) := by decide +kernel
theorem i_52_54 : ins 52 54 = some (.iload 5, 2) := by decide +kernel
theorem i_52_56 : ins 52 56 = some (.iaload, 1) := by decide +kernel
theorem i_52_57 : ins 52 57 = some (.aload_n 3, 1) := by decide +kernel
theorem f_52_491 : fld 52 491 = some (9437318, 3, 0) := by decide +kernel
theorem i_52_58 : ins 52 58 = some (.getfield 491, 3) := by decide +kernel
theorem i_52_61 : ins 52 61 = some (.if_icmp .gt 44, 3) := by decide +kernel
theorem t_61_105 : tg 61 (44) = some 105 := by decide +kernel
theorem i_52_64 : ins 52 64 = some (.aload_n 0, 1) := by decide +kernel
theorem f_52_182 : fld 52 182 = some (1048582, 49, 2) := by decide +kernel
theorem i_52_65 : ins 52 65 = some (.getfield 182, 3) := by decide +kernel
theorem i_52_68 : ins 52 68 = some (.iload 5, 2) := by decide +kernel
theorem i_52_70 : ins 52 70 = some (.iaload, 1) := by decide +kernel
theorem i_52_71 : ins 52 71 = some (.iload_n 2, 1) := by decide +kernel
theorem i_52_72 : ins 52 72 = some (.if_icmp .le 6, 3) := by decide +kernel
theorem t_72_78 : tg 72 (6) = some 78 := by decide +kernel
theorem i_52_75 : ins 52 75 = some (.goto 30, 3) := by decide +kernel
theorem t_75_105 : tg 75 (30) = some 105 := by decide +kernel
theorem i_52_78 : ins 52 78 = some (.iload 4, 2) := by decide +kernel
theorem i_52_80 : ins 52 80 = some (.iconst (-1), 1) := by decide +kernel
theorem i_52_81 : ins 52 81 = some (.if_icmp .eq 20, 3) := by decide +kernel
theorem t_81_101 : tg 81 (20) = some 101 := by decide +kernel
theorem i_52_84 : ins 52 84 = some (.aload_n 0, 1) := by decide +kernel
theorem i_52_85 : ins 52 85 = some (.getfield 176, 3) := by decide +kernel
theorem i_52_88 : ins 52 88 = some (.iload 5, 2) := by decide +kernel
theorem i_52_90 : ins 52 90 = some (.iaload, 1) := by decide +kernel
theorem i_52_91 : ins 52 91 = some (.aload_n 0, 1) := by decide +kernel
theorem i_52_92 : ins 52 92 = some (.getfield 176, 3) := by decide +kernel
theorem i_52_95 : ins 52 95 = some (.iload 4, 2) := by decide +kernel
theorem i_52_97 : ins 52 97 = some (.iaload, 1) := by decide +kernel
theorem i_52_98 : ins 52 98 = some (.if_icmp .lt 7, 3) := by decide +kernel
theorem i_52_101 : ins 52 101 = some (.iload 5, 2) := by decide +kernel
theorem i_52_103 : ins 52 103 = some (.istore 4, 2) := by decide +kernel
theorem i_52_105 : ins 52 105 = some (.iinc 5 1, 3) := by decide +kernel
theorem i_52_108 : ins 52 108 = some (.goto (-95), 3) := by decide +kernel
theorem t_108_13 : tg 108 (-95) = some 13 := by decide +kernel
theorem i_52_111 : ins 52 111 = some (.iload 4, 2) := by decide +kernel
theorem i_52_113 : ins 52 113 = some (.iconst (-1), 1) := by decide +kernel
theorem i_52_114 : ins 52 114 = some (.if_icmp .eq 26, 3) := by decide +kernel
theorem t_114_140 : tg 114 (26) = some 140 := by decide +kernel
theorem i_52_117 : ins 52 117 = some (.aload_n 0, 1) := by decide +kernel
theorem f_52_105 : fld 52 105 = some (1048582, 18, 2) := by decide +kernel
theorem i_52_118 : ins 52 118 = some (.getfield 105, 3) := by decide +kernel
theorem f_52_330 : fld 52 330 = some (4194358, 0, 2) := by decide +kernel
theorem i_52_121 : ins 52 121 = some (.getfield 330, 3) := by decide +kernel
theorem i_52_124 : ins 52 124 = some (.iload_n 1, 1) := by decide +kernel
theorem i_52_125 : ins 52 125 = some (.iaload, 1) := by decide +kernel
theorem i_52_126 : ins 52 126 = some (.aload_n 0, 1) := by decide +kernel
theorem f_52_179 : fld 52 179 = some (1048582, 48, 2) := by decide +kernel
theorem i_52_127 : ins 52 127 = some (.getfield 179, 3) := by decide +kernel
theorem i_52_130 : ins 52 130 = some (.iload 4, 2) := by decide +kernel
theorem i_52_132 : ins 52 132 = some (.iaload, 1) := by decide +kernel
theorem i_52_133 : ins 52 133 = some (.if_icmp .ge 7, 3) := by decide +kernel
theorem t_133_140 : tg 133 (7) = some 140 := by decide +kernel
theorem i_52_136 : ins 52 136 = some (.iconst 1, 1) := by decide +kernel
theorem i_52_137 : ins 52 137 = some (.goto 4, 3) := by decide +kernel
theorem t_137_141 : tg 137 (4) = some 141 := by decide +kernel
theorem i_52_140 : ins 52 140 = some (.iconst 0, 1) := by decide +kernel
theorem r_52 : mret 52 = 2 := by decide +kernel
theorem i_52_141 : ins 52 141 = some (.ireturn, 1) := by decide +kernel
theorem i_53_0 : ins 53 0 = some (.aload_n 0, 1) := by decide +kernel
theorem i_53_1 : ins 53 1 = some (.iload_n 1, 1) := by decide +kernel
theorem v_53_227 : inv 53 227 = some (7, 1, 1, 1048582) := by decide +kernel
theorem i_53_2 : ins 53 2 = some (.invokevirtual 227, 3) := by decide +kernel
theorem i_53_5 : ins 53 5 = some (.ifCond .eq 10, 3) := by decide +kernel
theorem i_53_8 : ins 53 8 = some (.iload_n 2, 1) := by decide +kernel
theorem v_53_250 : inv 53 250 = some (10, 1, 0, 0) := by decide +kernel
theorem i_53_9 : ins 53 9 = some (.invokestatic 250, 3) := by decide +kernel
theorem i_53_12 : ins 53 12 = some (.ifCond .ne 5, 3) := by decide +kernel
theorem i_53_15 : ins 53 15 = some (.iconst (-1), 1) := by decide +kernel
theorem r_53 : mret 53 = 1 := by decide +kernel
theorem i_53_16 : ins 53 16 = some (.ireturn, 1) := by decide +kernel
theorem i_53_17 : ins 53 17 = some (.aload_n 0, 1) := by decide +kernel
theorem i_53_18 : ins 53 18 = some (.iload_n 1, 1) := by decide +kernel
theorem i_53_19 : ins 53 19 = some (.iload_n 2, 1) := by decide +kernel
theorem v_53_504 : inv 53 504 = some (54, 2, 1, 1048582) := by decide +kernel
theorem i_53_20 : ins 53 20 = some (.invokevirtual 504, 3) := by decide +kernel
theorem i_53_23 : ins 53 23 = some (.ifCond .eq 7, 3) := by decide +kernel
theorem t_23_30 : tg 23 (7) = some 30 := by decide +kernel
theorem i_53_26 : ins 53 26 = some (.iconst 1, 1) := by decide +kernel
theorem i_53_27 : ins 53 27 = some (.goto 4, 3) := by decide +kernel
theorem t_27_31 : tg 27 (4) = some 31 := by decide +kernel
theorem i_53_30 : ins 53 30 = some (.iconst 0, 1) := by decide +kernel
theorem i_53_31 : ins 53 31 = some (.ireturn, 1) := by decide +kernel
theorem i_54_0 : ins 54 0 = some (.aload_n 0, 1) := by decide +kernel
theorem i_54_1 : ins 54 1 = some (.iload_n 2, 1) := by decide +kernel
theorem v_54_311 : inv 54 311 = some (21, 1, 1, 1048582) := by decide +kernel
theorem i_54_2 : ins 54 2 = some (.invokevirtual 311, 3) := by decide +kernel
theorem i_54_5 : ins 54 5 = some (.iconst 2, 1) := by decide +kernel
theorem i_54_6 : ins 54 6 = some (.iconst 0, 1) := by decide +kernel
theorem i_54_7 : ins 54 7 = some (.aload_n 0, 1) := by decide +kernel
theorem f_54_194 : fld 54 194 = some (1048582, 52, 2) := by decide +kernel
theorem i_54_8 : ins 54 8 = some (.getfield 194, 3) := by decide +kernel
theorem i_54_11 : ins 54 11 = some (.iload_n 1, 1) := by decide +kernel
theorem i_54_12 : ins 54 12 = some (.iload_n 2, 1) := by decide +kernel
theorem i_54_13 : ins 54 13 = some (.lconst 0, 1) := by decide +kernel
theorem i_54_14 : ins 54 14 = some (.iconst 0, 1) := by decide +kernel
theorem v_54_497 : inv 54 497 = some (83, 4, 1, 5242950) := by decide +kernel
theorem i_54_15 : ins 54 15 = some (.invokevirtual 497, 3) := by decide +kernel
theorem v_54_500 : inv 54 500 = some (68, 3, 1, 3145766) := by decide +kernel
theorem i_54_18 : ins 54 18 = some (.invokevirtual 500, 3) := by decide +kernel
theorem r_54 : mret 54 = 2 := by decide +kernel
theorem i_54_21 : ins 54 21 = some (.ireturn, 1) := by decide +kernel
theorem i_55_0 : ins 55 0 = some (.aload_n 0, 1) := by decide +kernel
theorem f_55_507 : fld 55 507 = some (1048582, 53, 0) := by decide +kernel
theorem i_55_1 : ins 55 1 = some (.getfield 507, 3) := by decide +kernel
theorem i_55_4 : ins 55 4 = some (.bipush 100, 2) := by decide +kernel
theorem i_55_6 : ins 55 6 = some (.if_icmp .eq 38, 3) := by decide +kernel
theorem t_6_44 : tg 6 (38) = some 44 := by decide +kernel
theorem i_55_9 : ins 55 9 = some (.aload_n 0, 1) := by decide +kernel
theorem f_55_204 : fld 55 204 = some (1048582, 0, 0) := by decide +kernel
theorem i_55_10 : ins 55 10 = some (.getfield 204, 3) := by decide +kernel
theorem kS_3999 : (Int16.ofInt (3999)).toInt32 = nI 3999 := by decide +kernel
theorem i_55_13 : ins 55 13 = some (.sipush 3999, 3) := by decide +kernel
theorem i_55_16 : ins 55 16 = some (.if_icmp .eq 28, 3) := by decide +kernel
theorem t_16_44 : tg 16 (28) = some 44 := by decide +kernel
theorem i_55_19 : ins 55 19 = some (.aload_n 0, 1) := by decide +kernel
theorem i_55_20 : ins 55 20 = some (.iload_n 1, 1) := by decide +kernel
theorem i_55_21 : ins 55 21 = some (.iload_n 2, 1) := by decide +kernel
theorem i_55_22 : ins 55 22 = some (.iload_n 3, 1) := by decide +kernel
theorem i_55_23 : ins 55 23 = some (.aload_n 0, 1) := by decide +kernel
theorem i_55_24 : ins 55 24 = some (.getfield 204, 3) := by decide +kernel
theorem v_55_381 : inv 55 381 = some (29, 4, 1, 1048582) := by decide +kernel
theorem i_55_27 : ins 55 27 = some (.invokevirtual 381, 3) := by decide +kernel
theorem i_55_30 : ins 55 30 = some (.ifCond .eq 14, 3) := by decide +kernel
theorem t_30_44 : tg 30 (14) = some 44 := by decide +kernel
theorem i_55_33 : ins 55 33 = some (.iload 4, 2) := by decide +kernel
theorem i_55_35 : ins 55 35 = some (.i2l, 1) := by decide +kernel
theorem i_55_36 : ins 55 36 = some (.lconst 0, 1) := by decide +kernel
theorem i_55_37 : ins 55 37 = some (.lconst 1, 1) := by decide +kernel
theorem v_55_209 : inv 55 209 = some (2, 3, 0, 0) := by decide +kernel
theorem i_55_38 : ins 55 38 = some (.invokestatic 209, 3) := by decide +kernel
theorem i_55_41 : ins 55 41 = some (.ifCond .ne 5, 3) := by decide +kernel
theorem i_55_44 : ins 55 44 = some (.iconst (-1), 1) := by decide +kernel
theorem r_55 : mret 55 = 1 := by decide +kernel
theorem i_55_45 : ins 55 45 = some (.ireturn, 1) := by decide +kernel
theorem i_55_46 : ins 55 46 = some (.aload_n 0, 1) := by decide +kernel
theorem f_55_105 : fld 55 105 = some (1048582, 18, 2) := by decide +kernel
theorem i_55_47 : ins 55 47 = some (.getfield 105, 3) := by decide +kernel
theorem i_55_50 : ins 55 50 = some (.aload_n 0, 1) := by decide +kernel
theorem i_55_51 : ins 55 51 = some (.getfield 204, 3) := by decide +kernel
theorem v_55_327 : inv 55 327 = some (70, 1, 1, 4194358) := by decide +kernel
theorem i_55_54 : ins 55 54 = some (.invokevirtual 327, 3) := by decide +kernel
theorem i_55_57 : ins 55 57 = some (.aload_n 0, 1) := by decide +kernel
theorem i_55_58 : ins 55 58 = some (.iload_n 1, 1) := by decide +kernel
theorem i_55_59 : ins 55 59 = some (.iload_n 2, 1) := by decide +kernel
theorem i_55_60 : ins 55 60 = some (.iload_n 3, 1) := by decide +kernel
theorem i_55_61 : ins 55 61 = some (.iload 4, 2) := by decide +kernel
theorem v_55_386 : inv 55 386 = some (30, 4, 1, 1048582) := by decide +kernel
theorem i_55_63 : ins 55 63 = some (.invokevirtual 386, 3) := by decide +kernel
theorem i_55_66 : ins 55 66 = some (.aload_n 0, 1) := by decide +kernel
theorem i_55_67 : ins 55 67 = some (.iload_n 1, 1) := by decide +kernel
theorem i_55_68 : ins 55 68 = some (.aload_n 0, 1) := by decide +kernel
theorem i_55_69 : ins 55 69 = some (.getfield 204, 3) := by decide +kernel
theorem v_55_504 : inv 55 504 = some (54, 2, 1, 1048582) := by decide +kernel
theorem i_55_72 : ins 55 72 = some (.invokevirtual 504, 3) := by decide +kernel
theorem i_55_75 : ins 55 75 = some (.istore 5, 2) := by decide +kernel
theorem i_55_77 : ins 55 77 = some (.aload_n 0, 1) := by decide +kernel
theorem i_55_78 : ins 55 78 = some (.iload 5, 2) := by decide +kernel
theorem v_55_517 : inv 55 517 = some (56, 1, 1, 1048582) := by decide +kernel
theorem i_55_80 : ins 55 80 = some (.invokevirtual 517, 3) := by decide +kernel
theorem i_55_83 : ins 55 83 = some (.istore 6, 2) := by decide +kernel
theorem i_55_85 : ins 55 85 = some (.aload_n 0, 1) := by decide +kernel
theorem i_55_86 : ins 55 86 = some (.getfield 105, 3) := by decide +kernel
theorem f_55_352 : fld 55 352 = some (4194358, 6, 2) := by decide +kernel
theorem i_55_89 : ins 55 89 = some (.getfield 352, 3) := by decide +kernel
theorem i_55_92 : ins 55 92 = some (.astore 7, 2) := by decide +kernel
theorem i_55_94 : ins 55 94 = some (.iload 6, 2) := by decide +kernel
theorem i_55_96 : ins 55 96 = some (.aload 7, 2) := by decide +kernel
theorem f_55_319 : fld 55 319 = some (3145766, 3, 2) := by decide +kernel
theorem i_55_98 : ins 55 98 = some (.getfield 319, 3) := by decide +kernel
theorem i_55_101 : ins 55 101 = some (.iconst 3, 1) := by decide +kernel
theorem i_55_102 : ins 55 102 = some (.iaload, 1) := by decide +kernel
theorem i_55_103 : ins 55 103 = some (.if_icmp .ge 7, 3) := by decide +kernel
theorem t_103_110 : tg 103 (7) = some 110 := by decide +kernel
theorem i_55_106 : ins 55 106 = some (.lconst 0, 1) := by decide +kernel
theorem i_55_107 : ins 55 107 = some (.goto 42, 3) := by decide +kernel
theorem t_107_149 : tg 107 (42) = some 149 := by decide +kernel
theorem i_55_110 : ins 55 110 = some (.aload 7, 2) := by decide +kernel
theorem f_55_521 : fld 55 521 = some (3145766, 7, 2) := by decide +kernel
theorem i_55_112 : ins 55 112 = some (.getfield 521, 3) := by decide +kernel
theorem i_55_115 : ins 55 115 = some (.ifnonnull 9, 3) := by decide +kernel
theorem t_115_124 : tg 115 (9) = some 124 := by decide +kernel
theorem i_55_118 : ins 55 118 = some (.iload 6, 2) := by decide +kernel
theorem i_55_120 : ins 55 120 = some (.i2l, 1) := by decide +kernel
theorem i_55_121 : ins 55 121 = some (.goto 28, 3) := by decide +kernel
theorem t_121_149 : tg 121 (28) = some 149 := by decide +kernel
theorem i_55_124 : ins 55 124 = some (.aload 7, 2) := by decide +kernel
theorem i_55_126 : ins 55 126 = some (.getfield 521, 3) := by decide +kernel
theorem i_55_129 : ins 55 129 = some (.aload_n 0, 1) := by decide +kernel
theorem f_55_194 : fld 55 194 = some (1048582, 52, 2) := by decide +kernel
theorem i_55_130 : ins 55 130 = some (.getfield 194, 3) := by decide +kernel
theorem i_55_133 : ins 55 133 = some (.iload_n 1, 1) := by decide +kernel
theorem i_55_134 : ins 55 134 = some (.aload_n 0, 1) := by decide +kernel
theorem i_55_135 : ins 55 135 = some (.getfield 204, 3) := by decide +kernel
theorem i_55_138 : ins 55 138 = some (.iload 6, 2) := by decide +kernel
theorem i_55_140 : ins 55 140 = some (.i2l, 1) := by decide +kernel
theorem i_55_141 : ins 55 141 = some (.iload 5, 2) := by decide +kernel
theorem v_55_497 : inv 55 497 = some (83, 4, 1, 5242950) := by decide +kernel
theorem i_55_143 : ins 55 143 = some (.invokevirtual 497, 3) := by decide +kernel
theorem v_55_525 : inv 55 525 = some (0, 1, 3, 0) := by decide +kernel
theorem i_55_146 : ins 55 146 = some (.invokevirtual 525, 3) := by decide +kernel
theorem i_55_149 : ins 55 149 = some (.lstore 8, 2) := by decide +kernel
theorem i_55_151 : ins 55 151 = some (.lconst 0, 1) := by decide +kernel
theorem l_55_233 : ldcv 55 233 = some (vL (9999)) := rfl
theorem i_55_152 : ins 55 152 = some (.ldc2_w 233, 3) := by decide +kernel
theorem i_55_155 : ins 55 155 = some (.lload 8, 2) := by decide +kernel
theorem v_55_471 : inv 55 471 = some (252, 2, 0, 0) := by decide +kernel
theorem i_55_157 : ins 55 157 = some (.invokestatic 471, 3) := by decide +kernel
theorem v_55_354 : inv 55 354 = some (249, 2, 0, 0) := by decide +kernel
theorem i_55_160 : ins 55 160 = some (.invokestatic 354, 3) := by decide +kernel
theorem i_55_163 : ins 55 163 = some (.lstore 8, 2) := by decide +kernel
theorem i_55_165 : ins 55 165 = some (.aload_n 0, 1) := by decide +kernel
theorem f_55_187 : fld 55 187 = some (1048582, 51, 2) := by decide +kernel
theorem i_55_166 : ins 55 166 = some (.getfield 187, 3) := by decide +kernel
theorem i_55_169 : ins 55 169 = some (.aload_n 0, 1) := by decide +kernel
theorem i_55_170 : ins 55 170 = some (.getfield 507, 3) := by decide +kernel
theorem n_55_185 : newk 55 185 = some (19923270, 5) := by decide +kernel
theorem i_55_173 : ins 55 173 = some (.new 185, 3) := by decide +kernel
theorem i_55_176 : ins 55 176 = some (.dup, 1) := by decide +kernel
theorem i_55_177 : ins 55 177 = some (.iload_n 1, 1) := by decide +kernel
theorem i_55_178 : ins 55 178 = some (.aload_n 0, 1) := by decide +kernel
theorem i_55_179 : ins 55 179 = some (.getfield 204, 3) := by decide +kernel
theorem i_55_182 : ins 55 182 = some (.lload 8, 2) := by decide +kernel
theorem i_55_184 : ins 55 184 = some (.l2i, 1) := by decide +kernel
theorem i_55_185 : ins 55 185 = some (.aload_n 0, 1) := by decide +kernel
theorem f_55_360 : fld 55 360 = some (1048582, 22, 1) := by decide +kernel
theorem i_55_186 : ins 55 186 = some (.getfield 360, 3) := by decide +kernel
theorem i_55_189 : ins 55 189 = some (.iload 5, 2) := by decide +kernel
theorem v_55_530 : inv 55 530 = some (241, 5, 2, 0) := by decide +kernel
theorem i_55_191 : ins 55 191 = some (.invokespecial 530, 3) := by decide +kernel
theorem kl_55576133 : klen 55576133 = 100 := by decide +kernel
theorem eo_55576133 : elob 55576133 = true := by decide +kernel
theorem i_55_194 : ins 55 194 = some (.aastore, 1) := by decide +kernel
theorem i_55_195 : ins 55 195 = some (.aload_n 0, 1) := by decide +kernel
theorem i_55_196 : ins 55 196 = some (.dup, 1) := by decide +kernel
theorem i_55_197 : ins 55 197 = some (.getfield 507, 3) := by decide +kernel
theorem i_55_200 : ins 55 200 = some (.iconst 1, 1) := by decide +kernel
theorem i_55_201 : ins 55 201 = some (.iadd, 1) := by decide +kernel
theorem o_55_1048582_53 : putok 55 1048582 53 = true := by decide +kernel
theorem i_55_202 : ins 55 202 = some (.putfield 507, 3) := by decide +kernel
theorem i_55_205 : ins 55 205 = some (.lload 8, 2) := by decide +kernel
theorem i_55_207 : ins 55 207 = some (.l2i, 1) := by decide +kernel
theorem i_55_208 : ins 55 208 = some (.ireturn, 1) := by decide +kernel
theorem i_56_0 : ins 56 0 = some (.aload_n 0, 1) := by decide +kernel
theorem f_56_360 : fld 56 360 = some (1048582, 22, 1) := by decide +kernel
theorem i_56_1 : ins 56 1 = some (.getfield 360, 3) := by decide +kernel
theorem i_56_4 : ins 56 4 = some (.lconst 0, 1) := by decide +kernel
theorem t_6_13 : tg 6 (7) = some 13 := by decide +kernel
theorem i_56_5 : ins 56 5 = some (.lcmp, 1) := by decide +kernel
theorem i_56_6 : ins 56 6 = some (.ifCond .ne 7, 3) := by decide +kernel
theorem i_56_9 : ins 56 9 = some (.lconst 0, 1) := by decide +kernel
theorem i_56_10 : ins 56 10 = some (.goto 49, 3) := by decide +kernel
theorem t_10_59 : tg 10 (49) = some 59 := by decide +kernel
theorem i_56_13 : ins 56 13 = some (.aload_n 0, 1) := by decide +kernel
theorem f_56_348 : fld 56 348 = some (1048582, 21, 1) := by decide +kernel
theorem i_56_14 : ins 56 14 = some (.getfield 348, 3) := by decide +kernel
theorem i_56_17 : ins 56 17 = some (.lconst 0, 1) := by decide +kernel
theorem t_19_38 : tg 19 (19) = some 38 := by decide +kernel
theorem i_56_18 : ins 56 18 = some (.lcmp, 1) := by decide +kernel
theorem i_56_19 : ins 56 19 = some (.ifCond .lt 19, 3) := by decide +kernel
theorem l_56_465 : ldcv 56 465 = some (vL (1000)) := rfl
theorem i_56_22 : ins 56 22 = some (.ldc2_w 465, 3) := by decide +kernel
theorem i_56_25 : ins 56 25 = some (.aload_n 0, 1) := by decide +kernel
theorem i_56_26 : ins 56 26 = some (.getfield 348, 3) := by decide +kernel
theorem i_56_29 : ins 56 29 = some (.lmul, 1) := by decide +kernel
theorem i_56_30 : ins 56 30 = some (.aload_n 0, 1) := by decide +kernel
theorem i_56_31 : ins 56 31 = some (.getfield 360, 3) := by decide +kernel
theorem i_56_34 : ins 56 34 = some (.ldiv, 1) := by decide +kernel
theorem i_56_35 : ins 56 35 = some (.goto 24, 3) := by decide +kernel
theorem t_35_59 : tg 35 (24) = some 59 := by decide +kernel
theorem i_56_38 : ins 56 38 = some (.aload_n 0, 1) := by decide +kernel
theorem i_56_39 : ins 56 39 = some (.getfield 360, 3) := by decide +kernel
theorem i_56_42 : ins 56 42 = some (.ldc2_w 465, 3) := by decide +kernel
theorem i_56_45 : ins 56 45 = some (.aload_n 0, 1) := by decide +kernel
theorem i_56_46 : ins 56 46 = some (.getfield 348, 3) := by decide +kernel
theorem i_56_49 : ins 56 49 = some (.lmul, 1) := by decide +kernel
theorem i_56_50 : ins 56 50 = some (.lsub, 1) := by decide +kernel
theorem i_56_51 : ins 56 51 = some (.lconst 1, 1) := by decide +kernel
theorem i_56_52 : ins 56 52 = some (.lsub, 1) := by decide +kernel
theorem i_56_53 : ins 56 53 = some (.aload_n 0, 1) := by decide +kernel
theorem i_56_54 : ins 56 54 = some (.getfield 360, 3) := by decide +kernel
theorem i_56_57 : ins 56 57 = some (.ldiv, 1) := by decide +kernel
theorem i_56_58 : ins 56 58 = some (.lneg, 1) := by decide +kernel
theorem i_56_59 : ins 56 59 = some (.lstore_n 2, 1) := by decide +kernel
theorem i_56_60 : ins 56 60 = some (.iload_n 1, 1) := by decide +kernel
theorem i_56_61 : ins 56 61 = some (.ifCond .eq 37, 3) := by decide +kernel
theorem t_61_98 : tg 61 (37) = some 98 := by decide +kernel
theorem i_56_64 : ins 56 64 = some (.iconst 0, 1) := by decide +kernel
theorem i_56_65 : ins 56 65 = some (.istore 4, 2) := by decide +kernel
theorem i_56_67 : ins 56 67 = some (.iload 4, 2) := by decide +kernel
theorem i_56_69 : ins 56 69 = some (.aload_n 0, 1) := by decide +kernel
theorem f_56_507 : fld 56 507 = some (1048582, 53, 0) := by decide +kernel
theorem i_56_70 : ins 56 70 = some (.getfield 507, 3) := by decide +kernel
theorem i_56_73 : ins 56 73 = some (.if_icmp .ge 25, 3) := by decide +kernel
theorem t_73_98 : tg 73 (25) = some 98 := by decide +kernel
theorem i_56_76 : ins 56 76 = some (.lload_n 2, 1) := by decide +kernel
theorem i_56_77 : ins 56 77 = some (.aload_n 0, 1) := by decide +kernel
theorem f_56_187 : fld 56 187 = some (1048582, 51, 2) := by decide +kernel
theorem i_56_78 : ins 56 78 = some (.getfield 187, 3) := by decide +kernel
theorem i_56_81 : ins 56 81 = some (.iload 4, 2) := by decide +kernel
theorem i_56_83 : ins 56 83 = some (.aaload, 1) := by decide +kernel
theorem f_56_510 : fld 56 510 = some (19923270, 2, 0) := by decide +kernel
theorem i_56_84 : ins 56 84 = some (.getfield 510, 3) := by decide +kernel
theorem i_56_87 : ins 56 87 = some (.i2l, 1) := by decide +kernel
theorem v_56_354 : inv 56 354 = some (249, 2, 0, 0) := by decide +kernel
theorem i_56_88 : ins 56 88 = some (.invokestatic 354, 3) := by decide +kernel
theorem i_56_91 : ins 56 91 = some (.lstore_n 2, 1) := by decide +kernel
theorem i_56_92 : ins 56 92 = some (.iinc 4 1, 3) := by decide +kernel
theorem i_56_95 : ins 56 95 = some (.goto (-28), 3) := by decide +kernel
theorem t_95_67 : tg 95 (-28) = some 67 := by decide +kernel
theorem l_56_513 : ldcv 56 513 = some (vL (-1000000000)) := rfl
theorem i_56_98 : ins 56 98 = some (.ldc2_w 513, 3) := by decide +kernel
theorem l_56_515 : ldcv 56 515 = some (vL (1000000000)) := rfl
theorem i_56_101 : ins 56 101 = some (.ldc2_w 515, 3) := by decide +kernel
theorem i_56_104 : ins 56 104 = some (.lload_n 2, 1) := by decide +kernel
theorem v_56_471 : inv 56 471 = some (252, 2, 0, 0) := by decide +kernel
theorem i_56_105 : ins 56 105 = some (.invokestatic 471, 3) := by decide +kernel
theorem i_56_108 : ins 56 108 = some (.invokestatic 354, 3) := by decide +kernel
theorem i_56_111 : ins 56 111 = some (.l2i, 1) := by decide +kernel
theorem r_56 : mret 56 = 1 := by decide +kernel
theorem i_56_112 : ins 56 112 = some (.ireturn, 1) := by decide +kernel
theorem i_57_0 : ins 57 0 = some (.aload_n 0, 1) := by decide +kernel
theorem i_57_1 : ins 57 1 = some (.iload_n 1, 1) := by decide +kernel
theorem v_57_227 : inv 57 227 = some (7, 1, 1, 1048582) := by decide +kernel
theorem i_57_2 : ins 57 2 = some (.invokevirtual 227, 3) := by decide +kernel
theorem i_57_5 : ins 57 5 = some (.ifCond .eq 27, 3) := by decide +kernel
theorem t_5_32 : tg 5 (27) = some 32 := by decide +kernel
theorem i_57_8 : ins 57 8 = some (.iload_n 2, 1) := by decide +kernel
theorem v_57_250 : inv 57 250 = some (10, 1, 0, 0) := by decide +kernel
theorem i_57_9 : ins 57 9 = some (.invokestatic 250, 3) := by decide +kernel
theorem i_57_12 : ins 57 12 = some (.ifCond .eq 20, 3) := by decide +kernel
theorem t_12_32 : tg 12 (20) = some 32 := by decide +kernel
theorem i_57_15 : ins 57 15 = some (.iload_n 3, 1) := by decide +kernel
theorem i_57_16 : ins 57 16 = some (.invokestatic 250, 3) := by decide +kernel
theorem i_57_19 : ins 57 19 = some (.ifCond .eq 13, 3) := by decide +kernel
theorem t_19_32 : tg 19 (13) = some 32 := by decide +kernel
theorem i_57_22 : ins 57 22 = some (.aload_n 0, 1) := by decide +kernel
theorem i_57_23 : ins 57 23 = some (.iload_n 1, 1) := by decide +kernel
theorem i_57_24 : ins 57 24 = some (.iload_n 2, 1) := by decide +kernel
theorem i_57_25 : ins 57 25 = some (.iload_n 3, 1) := by decide +kernel
theorem v_57_545 : inv 57 545 = some (58, 3, 1, 1048582) := by decide +kernel
theorem i_57_26 : ins 57 26 = some (.invokevirtual 545, 3) := by decide +kernel
theorem i_57_29 : ins 57 29 = some (.goto 4, 3) := by decide +kernel
theorem t_29_33 : tg 29 (4) = some 33 := by decide +kernel
theorem i_57_32 : ins 57 32 = some (.iconst (-1), 1) := by decide +kernel
theorem r_57 : mret 57 = 1 := by decide +kernel
theorem i_57_33 : ins 57 33 = some (.ireturn, 1) := by decide +kernel
theorem i_58_0 : ins 58 0 = some (.aload_n 0, 1) := by decide +kernel
theorem i_58_1 : ins 58 1 = some (.iload_n 1, 1) := by decide +kernel
theorem i_58_2 : ins 58 2 = some (.iload_n 2, 1) := by decide +kernel
theorem i_58_3 : ins 58 3 = some (.iload_n 3, 1) := by decide +kernel
theorem v_58_537 : inv 58 537 = some (59, 3, 1, 1048582) := by decide +kernel
theorem i_58_4 : ins 58 4 = some (.invokevirtual 537, 3) := by decide +kernel
theorem i_58_7 : ins 58 7 = some (.astore 4, 2) := by decide +kernel
theorem i_58_9 : ins 58 9 = some (.aload 4, 2) := by decide +kernel
theorem i_58_11 : ins 58 11 = some (.ifnull 9, 3) := by decide +kernel
theorem t_11_20 : tg 11 (9) = some 20 := by decide +kernel
theorem i_58_14 : ins 58 14 = some (.aload 4, 2) := by decide +kernel
theorem f_58_510 : fld 58 510 = some (19923270, 2, 0) := by decide +kernel
theorem i_58_16 : ins 58 16 = some (.getfield 510, 3) := by decide +kernel
theorem r_58 : mret 58 = 1 := by decide +kernel
theorem i_58_19 : ins 58 19 = some (.ireturn, 1) := by decide +kernel
theorem i_58_20 : ins 58 20 = some (.lconst 0, 1) := by decide +kernel
theorem i_58_21 : ins 58 21 = some (.lstore 5, 2) := by decide +kernel
theorem i_58_23 : ins 58 23 = some (.lconst 0, 1) := by decide +kernel
theorem i_58_24 : ins 58 24 = some (.lstore 7, 2) := by decide +kernel
theorem i_58_26 : ins 58 26 = some (.iconst 0, 1) := by decide +kernel
theorem i_58_27 : ins 58 27 = some (.istore 9, 2) := by decide +kernel
theorem i_58_29 : ins 58 29 = some (.iload 9, 2) := by decide +kernel
theorem i_58_31 : ins 58 31 = some (.aload_n 0, 1) := by decide +kernel
theorem f_58_213 : fld 58 213 = some (1048582, 3, 0) := by decide +kernel
theorem i_58_32 : ins 58 32 = some (.getfield 213, 3) := by decide +kernel
theorem i_58_35 : ins 58 35 = some (.if_icmp .ge 62, 3) := by decide +kernel
theorem t_35_97 : tg 35 (62) = some 97 := by decide +kernel
theorem i_58_38 : ins 58 38 = some (.aload_n 0, 1) := by decide +kernel
theorem i_58_39 : ins 58 39 = some (.iload 9, 2) := by decide +kernel
theorem i_58_41 : ins 58 41 = some (.iload_n 2, 1) := by decide +kernel
theorem i_58_42 : ins 58 42 = some (.iload_n 3, 1) := by decide +kernel
theorem i_58_43 : ins 58 43 = some (.invokevirtual 537, 3) := by decide +kernel
theorem i_58_46 : ins 58 46 = some (.astore 10, 2) := by decide +kernel
theorem i_58_48 : ins 58 48 = some (.aload 10, 2) := by decide +kernel
theorem i_58_50 : ins 58 50 = some (.ifnull 41, 3) := by decide +kernel
theorem t_50_91 : tg 50 (41) = some 91 := by decide +kernel
theorem i_58_53 : ins 58 53 = some (.aload 10, 2) := by decide +kernel
theorem f_58_541 : fld 58 541 = some (19923270, 4, 5) := by decide +kernel
theorem i_58_55 : ins 58 55 = some (.getfield 541, 3) := by decide +kernel
theorem i_58_58 : ins 58 58 = some (.ifCond .eq 6, 3) := by decide +kernel
theorem t_58_64 : tg 58 (6) = some 64 := by decide +kernel
theorem i_58_61 : ins 58 61 = some (.goto 30, 3) := by decide +kernel
theorem t_61_91 : tg 61 (30) = some 91 := by decide +kernel
theorem i_58_64 : ins 58 64 = some (.lload 5, 2) := by decide +kernel
theorem i_58_66 : ins 58 66 = some (.aload 10, 2) := by decide +kernel
theorem f_58_543 : fld 58 543 = some (19923270, 3, 1) := by decide +kernel
theorem i_58_68 : ins 58 68 = some (.getfield 543, 3) := by decide +kernel
theorem i_58_71 : ins 58 71 = some (.aload 10, 2) := by decide +kernel
theorem i_58_73 : ins 58 73 = some (.getfield 510, 3) := by decide +kernel
theorem i_58_76 : ins 58 76 = some (.i2l, 1) := by decide +kernel
theorem i_58_77 : ins 58 77 = some (.lmul, 1) := by decide +kernel
theorem i_58_78 : ins 58 78 = some (.ladd, 1) := by decide +kernel
theorem i_58_79 : ins 58 79 = some (.lstore 5, 2) := by decide +kernel
theorem i_58_81 : ins 58 81 = some (.lload 7, 2) := by decide +kernel
theorem i_58_83 : ins 58 83 = some (.aload 10, 2) := by decide +kernel
theorem i_58_85 : ins 58 85 = some (.getfield 543, 3) := by decide +kernel
theorem i_58_88 : ins 58 88 = some (.ladd, 1) := by decide +kernel
theorem i_58_89 : ins 58 89 = some (.lstore 7, 2) := by decide +kernel
theorem i_58_91 : ins 58 91 = some (.iinc 9 1, 3) := by decide +kernel
theorem i_58_94 : ins 58 94 = some (.goto (-65), 3) := by decide +kernel
theorem t_94_29 : tg 94 (-65) = some 29 := by decide +kernel
theorem i_58_97 : ins 58 97 = some (.lload 7, 2) := by decide +kernel
theorem i_58_99 : ins 58 99 = some (.lconst 0, 1) := by decide +kernel
theorem t_101_108 : tg 101 (7) = some 108 := by decide +kernel
theorem i_58_100 : ins 58 100 = some (.lcmp, 1) := by decide +kernel
theorem i_58_101 : ins 58 101 = some (.ifCond .ne 7, 3) := by decide +kernel
theorem i_58_104 : ins 58 104 = some (.iconst 0, 1) := by decide +kernel
theorem i_58_105 : ins 58 105 = some (.goto 9, 3) := by decide +kernel
theorem t_105_114 : tg 105 (9) = some 114 := by decide +kernel
theorem i_58_108 : ins 58 108 = some (.lload 5, 2) := by decide +kernel
theorem i_58_110 : ins 58 110 = some (.lload 7, 2) := by decide +kernel
theorem i_58_112 : ins 58 112 = some (.ldiv, 1) := by decide +kernel
theorem i_58_113 : ins 58 113 = some (.l2i, 1) := by decide +kernel
theorem i_58_114 : ins 58 114 = some (.ireturn, 1) := by decide +kernel
theorem i_59_0 : ins 59 0 = some (.aload_n 0, 1) := by decide +kernel
theorem f_59_507 : fld 59 507 = some (1048582, 53, 0) := by decide +kernel
theorem i_59_1 : ins 59 1 = some (.getfield 507, 3) := by decide +kernel
theorem i_59_4 : ins 59 4 = some (.iconst 1, 1) := by decide +kernel
theorem i_59_5 : ins 59 5 = some (.isub, 1) := by decide +kernel
theorem i_59_6 : ins 59 6 = some (.istore 4, 2) := by decide +kernel
theorem i_59_8 : ins 59 8 = some (.iload 4, 2) := by decide +kernel
theorem i_59_10 : ins 59 10 = some (.ifCond .lt 46, 3) := by decide +kernel
theorem t_10_56 : tg 10 (46) = some 56 := by decide +kernel
theorem i_59_13 : ins 59 13 = some (.aload_n 0, 1) := by decide +kernel
theorem f_59_187 : fld 59 187 = some (1048582, 51, 2) := by decide +kernel
theorem i_59_14 : ins 59 14 = some (.getfield 187, 3) := by decide +kernel
theorem i_59_17 : ins 59 17 = some (.iload 4, 2) := by decide +kernel
theorem i_59_19 : ins 59 19 = some (.aaload, 1) := by decide +kernel
theorem f_59_533 : fld 59 533 = some (19923270, 0, 0) := by decide +kernel
theorem i_59_20 : ins 59 20 = some (.getfield 533, 3) := by decide +kernel
theorem i_59_23 : ins 59 23 = some (.iload_n 1, 1) := by decide +kernel
theorem i_59_24 : ins 59 24 = some (.if_icmp .ne 26, 3) := by decide +kernel
theorem t_24_50 : tg 24 (26) = some 50 := by decide +kernel
theorem i_59_27 : ins 59 27 = some (.aload_n 0, 1) := by decide +kernel
theorem i_59_28 : ins 59 28 = some (.getfield 187, 3) := by decide +kernel
theorem i_59_31 : ins 59 31 = some (.iload 4, 2) := by decide +kernel
theorem i_59_33 : ins 59 33 = some (.aaload, 1) := by decide +kernel
theorem i_59_34 : ins 59 34 = some (.iload_n 2, 1) := by decide +kernel
theorem i_59_35 : ins 59 35 = some (.iload_n 3, 1) := by decide +kernel
theorem v_59_534 : inv 59 534 = some (242, 2, 1, 19923270) := by decide +kernel
theorem i_59_36 : ins 59 36 = some (.invokevirtual 534, 3) := by decide +kernel
theorem i_59_39 : ins 59 39 = some (.ifCond .eq 11, 3) := by decide +kernel
theorem t_39_50 : tg 39 (11) = some 50 := by decide +kernel
theorem i_59_42 : ins 59 42 = some (.aload_n 0, 1) := by decide +kernel
theorem i_59_43 : ins 59 43 = some (.getfield 187, 3) := by decide +kernel
theorem i_59_46 : ins 59 46 = some (.iload 4, 2) := by decide +kernel
theorem i_59_48 : ins 59 48 = some (.aaload, 1) := by decide +kernel
theorem i_59_49 : ins 59 49 = some (.areturn, 1) := by decide +kernel
theorem r_59 : mret 59 = 6 := by decide +kernel
theorem i_59_50 : ins 59 50 = some (.iinc 4 (-1), 3) := by decide +kernel
theorem i_59_53 : ins 59 53 = some (.goto (-45), 3) := by decide +kernel
theorem t_53_8 : tg 53 (-45) = some 8 := by decide +kernel
theorem i_59_56 : ins 59 56 = some (.aconst_null, 1) := by decide +kernel
theorem i_59_57 : ins 59 57 = some (.areturn, 1) := by decide +kernel
theorem i_60_0 : ins 60 0 = some (.aload_n 0, 1) := by decide +kernel
theorem f_60_549 : fld 60 549 = some (1048582, 55, 0) := by decide +kernel
theorem i_60_1 : ins 60 1 = some (.getfield 549, 3) := by decide +kernel
theorem i_60_4 : ins 60 4 = some (.sipush 200, 3) := by decide +kernel
theorem i_60_7 : ins 60 7 = some (.if_icmp .eq 37, 3) := by decide +kernel
theorem i_60_10 : ins 60 10 = some (.aload_n 0, 1) := by decide +kernel
theorem i_60_11 : ins 60 11 = some (.iload_n 1, 1) := by decide +kernel
theorem v_60_227 : inv 60 227 = some (7, 1, 1, 1048582) := by decide +kernel
theorem i_60_12 : ins 60 12 = some (.invokevirtual 227, 3) := by decide +kernel
theorem i_60_15 : ins 60 15 = some (.ifCond .eq 29, 3) := by decide +kernel
theorem i_60_18 : ins 60 18 = some (.iload_n 2, 1) := by decide +kernel
theorem i_60_19 : ins 60 19 = some (.i2l, 1) := by decide +kernel
theorem i_60_20 : ins 60 20 = some (.lconst 0, 1) := by decide +kernel
theorem i_60_21 : ins 60 21 = some (.aload_n 0, 1) := by decide +kernel
theorem f_60_204 : fld 60 204 = some (1048582, 0, 0) := by decide +kernel
theorem i_60_22 : ins 60 22 = some (.getfield 204, 3) := by decide +kernel
theorem i_60_25 : ins 60 25 = some (.i2l, 1) := by decide +kernel
theorem v_60_209 : inv 60 209 = some (2, 3, 0, 0) := by decide +kernel
theorem i_60_26 : ins 60 26 = some (.invokestatic 209, 3) := by decide +kernel
theorem i_60_29 : ins 60 29 = some (.ifCond .eq 15, 3) := by decide +kernel
theorem t_29_44 : tg 29 (15) = some 44 := by decide +kernel
theorem i_60_32 : ins 60 32 = some (.iload_n 3, 1) := by decide +kernel
theorem i_60_33 : ins 60 33 = some (.i2l, 1) := by decide +kernel
theorem i_60_34 : ins 60 34 = some (.lconst 1, 1) := by decide +kernel
theorem l_60_552 : ldcv 60 552 = some (vL (999999)) := rfl
theorem i_60_35 : ins 60 35 = some (.ldc2_w 552, 3) := by decide +kernel
theorem i_60_38 : ins 60 38 = some (.invokestatic 209, 3) := by decide +kernel
theorem i_60_41 : ins 60 41 = some (.ifCond .ne 5, 3) := by decide +kernel
theorem i_60_44 : ins 60 44 = some (.iconst (-1), 1) := by decide +kernel
theorem r_60 : mret 60 = 1 := by decide +kernel
theorem i_60_45 : ins 60 45 = some (.ireturn, 1) := by decide +kernel
theorem n_60_198 : newk 60 198 = some (20971862, 5) := by decide +kernel
theorem i_60_46 : ins 60 46 = some (.new 198, 3) := by decide +kernel
theorem i_60_49 : ins 60 49 = some (.dup, 1) := by decide +kernel
theorem i_60_50 : ins 60 50 = some (.iload_n 1, 1) := by decide +kernel
theorem i_60_51 : ins 60 51 = some (.iload_n 2, 1) := by decide +kernel
theorem i_60_52 : ins 60 52 = some (.iload_n 3, 1) := by decide +kernel
theorem i_60_53 : ins 60 53 = some (.iconst 0, 1) := by decide +kernel
theorem v_60_554 : inv 60 554 = some (243, 4, 2, 0) := by decide +kernel
theorem i_60_54 : ins 60 54 = some (.invokespecial 554, 3) := by decide +kernel
theorem i_60_57 : ins 60 57 = some (.astore 4, 2) := by decide +kernel
theorem i_60_59 : ins 60 59 = some (.aload 4, 2) := by decide +kernel
theorem i_60_61 : ins 60 61 = some (.aload 4, 2) := by decide +kernel
theorem i_60_63 : ins 60 63 = some (.aload_n 0, 1) := by decide +kernel
theorem i_60_64 : ins 60 64 = some (.iload_n 1, 1) := by decide +kernel
theorem i_60_65 : ins 60 65 = some (.iload_n 2, 1) := by decide +kernel
theorem i_60_66 : ins 60 66 = some (.aload_n 0, 1) := by decide +kernel
theorem i_60_67 : ins 60 67 = some (.getfield 204, 3) := by decide +kernel
theorem v_60_545 : inv 60 545 = some (58, 3, 1, 1048582) := by decide +kernel
theorem i_60_70 : ins 60 70 = some (.invokevirtual 545, 3) := by decide +kernel
theorem v_60_556 : inv 60 556 = some (244, 1, 1, 20971862) := by decide +kernel
theorem i_60_73 : ins 60 73 = some (.invokevirtual 556, 3) := by decide +kernel
theorem f_60_559 : fld 60 559 = some (20971862, 3, 0) := by decide +kernel
theorem o_60_20971862_3 : putok 60 20971862 3 = true := by decide +kernel
theorem i_60_76 : ins 60 76 = some (.putfield 559, 3) := by decide +kernel
theorem i_60_79 : ins 60 79 = some (.aload_n 0, 1) := by decide +kernel
theorem f_60_200 : fld 60 200 = some (1048582, 54, 2) := by decide +kernel
theorem i_60_80 : ins 60 80 = some (.getfield 200, 3) := by decide +kernel
theorem i_60_83 : ins 60 83 = some (.aload_n 0, 1) := by decide +kernel
theorem i_60_84 : ins 60 84 = some (.getfield 549, 3) := by decide +kernel
theorem i_60_87 : ins 60 87 = some (.aload 4, 2) := by decide +kernel
theorem kl_56626309 : klen 56626309 = 200 := by decide +kernel
theorem eo_56626309 : elob 56626309 = true := by decide +kernel
theorem i_60_89 : ins 60 89 = some (.aastore, 1) := by decide +kernel
theorem i_60_90 : ins 60 90 = some (.aload_n 0, 1) := by decide +kernel
theorem i_60_91 : ins 60 91 = some (.dup, 1) := by decide +kernel
theorem i_60_92 : ins 60 92 = some (.getfield 549, 3) := by decide +kernel
theorem i_60_95 : ins 60 95 = some (.iconst 1, 1) := by decide +kernel
theorem i_60_96 : ins 60 96 = some (.iadd, 1) := by decide +kernel
theorem o_60_1048582_55 : putok 60 1048582 55 = true := by decide +kernel
theorem i_60_97 : ins 60 97 = some (.putfield 549, 3) := by decide +kernel
theorem i_60_100 : ins 60 100 = some (.aload_n 0, 1) := by decide +kernel
theorem i_60_101 : ins 60 101 = some (.getfield 549, 3) := by decide +kernel
theorem i_60_104 : ins 60 104 = some (.iconst 1, 1) := by decide +kernel
theorem i_60_105 : ins 60 105 = some (.isub, 1) := by decide +kernel
theorem i_60_106 : ins 60 106 = some (.ireturn, 1) := by decide +kernel
theorem i_61_0 : ins 61 0 = some (.aload_n 0, 1) := by decide +kernel
theorem i_61_1 : ins 61 1 = some (.iload_n 1, 1) := by decide +kernel
theorem v_61_562 : inv 61 562 = some (62, 1, 1, 1048582) := by decide +kernel
theorem i_61_2 : ins 61 2 = some (.invokevirtual 562, 3) := by decide +kernel
theorem i_61_5 : ins 61 5 = some (.astore_n 2, 1) := by decide +kernel
theorem i_61_6 : ins 61 6 = some (.aload_n 2, 1) := by decide +kernel
theorem i_61_7 : ins 61 7 = some (.ifnull 10, 3) := by decide +kernel
theorem i_61_10 : ins 61 10 = some (.aload_n 2, 1) := by decide +kernel
theorem f_61_566 : fld 61 566 = some (20971862, 4, 5) := by decide +kernel
theorem i_61_11 : ins 61 11 = some (.getfield 566, 3) := by decide +kernel
theorem i_61_14 : ins 61 14 = some (.ifCond .eq 7, 3) := by decide +kernel
theorem t_14_21 : tg 14 (7) = some 21 := by decide +kernel
theorem l_61_569 : ldcv 61 569 = some (vI (-2000000000)) := rfl
theorem i_61_17 : ins 61 17 = some (.ldc_w 569, 3) := by decide +kernel
theorem r_61 : mret 61 = 1 := by decide +kernel
theorem i_61_20 : ins 61 20 = some (.ireturn, 1) := by decide +kernel
theorem i_61_21 : ins 61 21 = some (.aconst_null, 1) := by decide +kernel
theorem i_61_22 : ins 61 22 = some (.astore_n 3, 1) := by decide +kernel
theorem i_61_23 : ins 61 23 = some (.aload_n 0, 1) := by decide +kernel
theorem f_61_507 : fld 61 507 = some (1048582, 53, 0) := by decide +kernel
theorem i_61_24 : ins 61 24 = some (.getfield 507, 3) := by decide +kernel
theorem i_61_27 : ins 61 27 = some (.iconst 1, 1) := by decide +kernel
theorem i_61_28 : ins 61 28 = some (.isub, 1) := by decide +kernel
theorem i_61_29 : ins 61 29 = some (.istore 4, 2) := by decide +kernel
theorem i_61_31 : ins 61 31 = some (.iload 4, 2) := by decide +kernel
theorem i_61_33 : ins 61 33 = some (.ifCond .lt 51, 3) := by decide +kernel
theorem t_33_84 : tg 33 (51) = some 84 := by decide +kernel
theorem i_61_36 : ins 61 36 = some (.aload_n 0, 1) := by decide +kernel
theorem f_61_187 : fld 61 187 = some (1048582, 51, 2) := by decide +kernel
theorem i_61_37 : ins 61 37 = some (.getfield 187, 3) := by decide +kernel
theorem i_61_40 : ins 61 40 = some (.iload 4, 2) := by decide +kernel
theorem i_61_42 : ins 61 42 = some (.aaload, 1) := by decide +kernel
theorem f_61_533 : fld 61 533 = some (19923270, 0, 0) := by decide +kernel
theorem i_61_43 : ins 61 43 = some (.getfield 533, 3) := by decide +kernel
theorem i_61_46 : ins 61 46 = some (.aload_n 2, 1) := by decide +kernel
theorem f_61_570 : fld 61 570 = some (20971862, 0, 0) := by decide +kernel
theorem i_61_47 : ins 61 47 = some (.getfield 570, 3) := by decide +kernel
theorem i_61_50 : ins 61 50 = some (.if_icmp .ne 28, 3) := by decide +kernel
theorem t_50_78 : tg 50 (28) = some 78 := by decide +kernel
theorem i_61_53 : ins 61 53 = some (.aload_n 0, 1) := by decide +kernel
theorem i_61_54 : ins 61 54 = some (.getfield 187, 3) := by decide +kernel
theorem i_61_57 : ins 61 57 = some (.iload 4, 2) := by decide +kernel
theorem i_61_59 : ins 61 59 = some (.aaload, 1) := by decide +kernel
theorem f_61_571 : fld 61 571 = some (19923270, 1, 0) := by decide +kernel
theorem i_61_60 : ins 61 60 = some (.getfield 571, 3) := by decide +kernel
theorem i_61_63 : ins 61 63 = some (.aload_n 2, 1) := by decide +kernel
theorem f_61_572 : fld 61 572 = some (20971862, 1, 0) := by decide +kernel
theorem i_61_64 : ins 61 64 = some (.getfield 572, 3) := by decide +kernel
theorem i_61_67 : ins 61 67 = some (.if_icmp .le 11, 3) := by decide +kernel
theorem t_67_78 : tg 67 (11) = some 78 := by decide +kernel
theorem i_61_70 : ins 61 70 = some (.aload_n 0, 1) := by decide +kernel
theorem i_61_71 : ins 61 71 = some (.getfield 187, 3) := by decide +kernel
theorem i_61_74 : ins 61 74 = some (.iload 4, 2) := by decide +kernel
theorem i_61_76 : ins 61 76 = some (.aaload, 1) := by decide +kernel
theorem i_61_77 : ins 61 77 = some (.astore_n 3, 1) := by decide +kernel
theorem i_61_78 : ins 61 78 = some (.iinc 4 (-1), 3) := by decide +kernel
theorem i_61_81 : ins 61 81 = some (.goto (-50), 3) := by decide +kernel
theorem t_81_31 : tg 81 (-50) = some 31 := by decide +kernel
theorem i_61_84 : ins 61 84 = some (.aload_n 3, 1) := by decide +kernel
theorem i_61_85 : ins 61 85 = some (.ifnonnull 7, 3) := by decide +kernel
theorem t_85_92 : tg 85 (7) = some 92 := by decide +kernel
theorem i_61_88 : ins 61 88 = some (.ldc_w 569, 3) := by decide +kernel
theorem i_61_91 : ins 61 91 = some (.ireturn, 1) := by decide +kernel
theorem i_61_92 : ins 61 92 = some (.aload_n 2, 1) := by decide +kernel
theorem i_61_93 : ins 61 93 = some (.aload_n 3, 1) := by decide +kernel
theorem f_61_510 : fld 61 510 = some (19923270, 2, 0) := by decide +kernel
theorem i_61_94 : ins 61 94 = some (.getfield 510, 3) := by decide +kernel
theorem v_61_556 : inv 61 556 = some (244, 1, 1, 20971862) := by decide +kernel
theorem i_61_97 : ins 61 97 = some (.invokevirtual 556, 3) := by decide +kernel
theorem i_61_100 : ins 61 100 = some (.aload_n 2, 1) := by decide +kernel
theorem f_61_559 : fld 61 559 = some (20971862, 3, 0) := by decide +kernel
theorem i_61_101 : ins 61 101 = some (.getfield 559, 3) := by decide +kernel
theorem i_61_104 : ins 61 104 = some (.isub, 1) := by decide +kernel
theorem i_61_105 : ins 61 105 = some (.istore 4, 2) := by decide +kernel
theorem i_61_107 : ins 61 107 = some (.aload_n 2, 1) := by decide +kernel
theorem i_61_108 : ins 61 108 = some (.dup, 1) := by decide +kernel
theorem i_61_109 : ins 61 109 = some (.getfield 559, 3) := by decide +kernel
theorem i_61_112 : ins 61 112 = some (.iload 4, 2) := by decide +kernel
theorem i_61_114 : ins 61 114 = some (.iadd, 1) := by decide +kernel
theorem o_61_20971862_3 : putok 61 20971862 3 = true := by decide +kernel
theorem i_61_115 : ins 61 115 = some (.putfield 559, 3) := by decide +kernel
theorem i_61_118 : ins 61 118 = some (.aload_n 2, 1) := by decide +kernel
theorem i_61_119 : ins 61 119 = some (.iconst 1, 1) := by decide +kernel
theorem o_61_20971862_4 : putok 61 20971862 4 = true := by decide +kernel
theorem i_61_120 : ins 61 120 = some (.putfield 566, 3) := by decide +kernel
theorem i_61_123 : ins 61 123 = some (.iload 4, 2) := by decide +kernel
theorem i_61_125 : ins 61 125 = some (.ireturn, 1) := by decide +kernel
theorem i_62_0 : ins 62 0 = some (.iload_n 1, 1) := by decide +kernel
theorem i_62_1 : ins 62 1 = some (.ifCond .lt 20, 3) := by decide +kernel
theorem t_1_21 : tg 1 (20) = some 21 := by decide +kernel
theorem i_62_4 : ins 62 4 = some (.iload_n 1, 1) := by decide +kernel
theorem i_62_5 : ins 62 5 = some (.aload_n 0, 1) := by decide +kernel
theorem f_62_549 : fld 62 549 = some (1048582, 55, 0) := by decide +kernel
theorem i_62_6 : ins 62 6 = some (.getfield 549, 3) := by decide +kernel
theorem i_62_9 : ins 62 9 = some (.if_icmp .ge 12, 3) := by decide +kernel
theorem t_9_21 : tg 9 (12) = some 21 := by decide +kernel
theorem i_62_12 : ins 62 12 = some (.aload_n 0, 1) := by decide +kernel
theorem f_62_200 : fld 62 200 = some (1048582, 54, 2) := by decide +kernel
theorem i_62_13 : ins 62 13 = some (.getfield 200, 3) := by decide +kernel
theorem i_62_16 : ins 62 16 = some (.iload_n 1, 1) := by decide +kernel
theorem i_62_17 : ins 62 17 = some (.aaload, 1) := by decide +kernel
theorem i_62_18 : ins 62 18 = some (.goto 4, 3) := by decide +kernel
theorem t_18_22 : tg 18 (4) = some 22 := by decide +kernel
theorem i_62_21 : ins 62 21 = some (.aconst_null, 1) := by decide +kernel
theorem i_62_22 : ins 62 22 = some (.areturn, 1) := by decide +kernel
theorem r_62 : mret 62 = 6 := by decide +kernel
theorem i_63_0 : ins 63 0 = some (.aload_n 0, 1) := by decide +kernel
theorem i_63_1 : ins 63 1 = some (.iload_n 1, 1) := by decide +kernel
theorem v_63_562 : inv 63 562 = some (62, 1, 1, 1048582) := by decide +kernel
theorem i_63_2 : ins 63 2 = some (.invokevirtual 562, 3) := by decide +kernel
theorem i_63_5 : ins 63 5 = some (.astore_n 3, 1) := by decide +kernel
theorem i_63_6 : ins 63 6 = some (.aload_n 3, 1) := by decide +kernel
theorem i_63_7 : ins 63 7 = some (.ifnonnull 5, 3) := by decide +kernel
theorem t_7_12 : tg 7 (5) = some 12 := by decide +kernel
theorem i_63_10 : ins 63 10 = some (.iconst (-1), 1) := by decide +kernel
theorem r_63 : mret 63 = 1 := by decide +kernel
theorem i_63_11 : ins 63 11 = some (.ireturn, 1) := by decide +kernel
theorem i_63_12 : ins 63 12 = some (.iload_n 2, 1) := by decide +kernel
theorem i_63_13 : ins 63 13 = some (.tableswitch 68 0 4 #[35, 40, 45, 50, 55], 35) := by decide +kernel
theorem t_13_81 : tg 13 (68) = some 81 := by decide +kernel
theorem i_63_48 : ins 63 48 = some (.aload_n 3, 1) := by decide +kernel
theorem f_63_570 : fld 63 570 = some (20971862, 0, 0) := by decide +kernel
theorem i_63_49 : ins 63 49 = some (.getfield 570, 3) := by decide +kernel
theorem i_63_52 : ins 63 52 = some (.ireturn, 1) := by decide +kernel
theorem i_63_53 : ins 63 53 = some (.aload_n 3, 1) := by decide +kernel
theorem f_63_572 : fld 63 572 = some (20971862, 1, 0) := by decide +kernel
theorem i_63_54 : ins 63 54 = some (.getfield 572, 3) := by decide +kernel
theorem i_63_57 : ins 63 57 = some (.ireturn, 1) := by decide +kernel
theorem i_63_58 : ins 63 58 = some (.aload_n 3, 1) := by decide +kernel
theorem f_63_573 : fld 63 573 = some (20971862, 2, 0) := by decide +kernel
theorem i_63_59 : ins 63 59 = some (.getfield 573, 3) := by decide +kernel
theorem i_63_62 : ins 63 62 = some (.ireturn, 1) := by decide +kernel
theorem i_63_63 : ins 63 63 = some (.aload_n 3, 1) := by decide +kernel
theorem f_63_559 : fld 63 559 = some (20971862, 3, 0) := by decide +kernel
theorem i_63_64 : ins 63 64 = some (.getfield 559, 3) := by decide +kernel
theorem i_63_67 : ins 63 67 = some (.ireturn, 1) := by decide +kernel
theorem i_63_68 : ins 63 68 = some (.aload_n 3, 1) := by decide +kernel
theorem f_63_566 : fld 63 566 = some (20971862, 4, 5) := by decide +kernel
theorem i_63_69 : ins 63 69 = some (.getfield 566, 3) := by decide +kernel
theorem i_63_72 : ins 63 72 = some (.ifCond .eq 7, 3) := by decide +kernel
theorem t_72_79 : tg 72 (7) = some 79 := by decide +kernel
theorem i_63_75 : ins 63 75 = some (.iconst 1, 1) := by decide +kernel
theorem i_63_76 : ins 63 76 = some (.goto 4, 3) := by decide +kernel
theorem t_76_80 : tg 76 (4) = some 80 := by decide +kernel
theorem i_63_79 : ins 63 79 = some (.iconst 0, 1) := by decide +kernel
theorem i_63_80 : ins 63 80 = some (.ireturn, 1) := by decide +kernel
theorem i_63_81 : ins 63 81 = some (.iconst (-1), 1) := by decide +kernel
theorem i_63_82 : ins 63 82 = some (.ireturn, 1) := by decide +kernel
theorem i_64_0 : ins 64 0 = some (.lconst 0, 1) := by decide +kernel
theorem i_64_1 : ins 64 1 = some (.lstore_n 2, 1) := by decide +kernel
theorem i_64_2 : ins 64 2 = some (.iload_n 1, 1) := by decide +kernel
theorem i_64_3 : ins 64 3 = some (.tableswitch 131 0 8 #[49, 55, 61, 67, 73, 79, 85, 91, 97], 49) := by decide +kernel
theorem t_3_134 : tg 3 (131) = some 134 := by decide +kernel
theorem i_64_52 : ins 64 52 = some (.aload_n 0, 1) := by decide +kernel
theorem f_64_204 : fld 64 204 = some (1048582, 0, 0) := by decide +kernel
theorem i_64_53 : ins 64 53 = some (.getfield 204, 3) := by decide +kernel
theorem i_64_56 : ins 64 56 = some (.i2l, 1) := by decide +kernel
theorem i_64_57 : ins 64 57 = some (.lreturn, 1) := by decide +kernel
theorem r_64 : mret 64 = 5 := by decide +kernel
theorem i_64_58 : ins 64 58 = some (.aload_n 0, 1) := by decide +kernel
theorem f_64_213 : fld 64 213 = some (1048582, 3, 0) := by decide +kernel
theorem i_64_59 : ins 64 59 = some (.getfield 213, 3) := by decide +kernel
theorem i_64_62 : ins 64 62 = some (.i2l, 1) := by decide +kernel
theorem i_64_63 : ins 64 63 = some (.lreturn, 1) := by decide +kernel
theorem i_64_64 : ins 64 64 = some (.aload_n 0, 1) := by decide +kernel
theorem f_64_257 : fld 64 257 = some (1048582, 8, 0) := by decide +kernel
theorem i_64_65 : ins 64 65 = some (.getfield 257, 3) := by decide +kernel
theorem i_64_68 : ins 64 68 = some (.i2l, 1) := by decide +kernel
theorem i_64_69 : ins 64 69 = some (.lreturn, 1) := by decide +kernel
theorem i_64_70 : ins 64 70 = some (.aload_n 0, 1) := by decide +kernel
theorem f_64_288 : fld 64 288 = some (1048582, 17, 0) := by decide +kernel
theorem i_64_71 : ins 64 71 = some (.getfield 288, 3) := by decide +kernel
theorem i_64_74 : ins 64 74 = some (.i2l, 1) := by decide +kernel
theorem i_64_75 : ins 64 75 = some (.lreturn, 1) := by decide +kernel
theorem i_64_76 : ins 64 76 = some (.aload_n 0, 1) := by decide +kernel
theorem f_64_507 : fld 64 507 = some (1048582, 53, 0) := by decide +kernel
theorem i_64_77 : ins 64 77 = some (.getfield 507, 3) := by decide +kernel
theorem i_64_80 : ins 64 80 = some (.i2l, 1) := by decide +kernel
theorem i_64_81 : ins 64 81 = some (.lreturn, 1) := by decide +kernel
theorem i_64_82 : ins 64 82 = some (.aload_n 0, 1) := by decide +kernel
theorem f_64_549 : fld 64 549 = some (1048582, 55, 0) := by decide +kernel
theorem i_64_83 : ins 64 83 = some (.getfield 549, 3) := by decide +kernel
theorem i_64_86 : ins 64 86 = some (.i2l, 1) := by decide +kernel
theorem i_64_87 : ins 64 87 = some (.lreturn, 1) := by decide +kernel
theorem i_64_88 : ins 64 88 = some (.aload_n 0, 1) := by decide +kernel
theorem f_64_462 : fld 64 462 = some (1048582, 40, 0) := by decide +kernel
theorem i_64_89 : ins 64 89 = some (.getfield 462, 3) := by decide +kernel
theorem i_64_92 : ins 64 92 = some (.i2l, 1) := by decide +kernel
theorem i_64_93 : ins 64 93 = some (.lreturn, 1) := by decide +kernel
theorem i_64_94 : ins 64 94 = some (.aload_n 0, 1) := by decide +kernel
theorem f_64_281 : fld 64 281 = some (1048582, 12, 0) := by decide +kernel
theorem i_64_95 : ins 64 95 = some (.getfield 281, 3) := by decide +kernel
theorem i_64_98 : ins 64 98 = some (.i2l, 1) := by decide +kernel
theorem i_64_99 : ins 64 99 = some (.lreturn, 1) := by decide +kernel
theorem i_64_100 : ins 64 100 = some (.iconst 0, 1) := by decide +kernel
theorem i_64_101 : ins 64 101 = some (.istore 4, 2) := by decide +kernel
theorem i_64_103 : ins 64 103 = some (.iload 4, 2) := by decide +kernel
theorem i_64_105 : ins 64 105 = some (.aload_n 0, 1) := by decide +kernel
theorem i_64_106 : ins 64 106 = some (.getfield 549, 3) := by decide +kernel
theorem i_64_109 : ins 64 109 = some (.if_icmp .ge 23, 3) := by decide +kernel
theorem t_109_132 : tg 109 (23) = some 132 := by decide +kernel
theorem i_64_112 : ins 64 112 = some (.lload_n 2, 1) := by decide +kernel
theorem i_64_113 : ins 64 113 = some (.aload_n 0, 1) := by decide +kernel
theorem f_64_200 : fld 64 200 = some (1048582, 54, 2) := by decide +kernel
theorem i_64_114 : ins 64 114 = some (.getfield 200, 3) := by decide +kernel
theorem i_64_117 : ins 64 117 = some (.iload 4, 2) := by decide +kernel
theorem i_64_119 : ins 64 119 = some (.aaload, 1) := by decide +kernel
theorem f_64_559 : fld 64 559 = some (20971862, 3, 0) := by decide +kernel
theorem i_64_120 : ins 64 120 = some (.getfield 559, 3) := by decide +kernel
theorem i_64_123 : ins 64 123 = some (.i2l, 1) := by decide +kernel
theorem i_64_124 : ins 64 124 = some (.ladd, 1) := by decide +kernel
theorem i_64_125 : ins 64 125 = some (.lstore_n 2, 1) := by decide +kernel
theorem i_64_126 : ins 64 126 = some (.iinc 4 1, 3) := by decide +kernel
theorem i_64_129 : ins 64 129 = some (.goto (-26), 3) := by decide +kernel
theorem t_129_103 : tg 129 (-26) = some 103 := by decide +kernel
theorem i_64_132 : ins 64 132 = some (.lload_n 2, 1) := by decide +kernel
theorem i_64_133 : ins 64 133 = some (.lreturn, 1) := by decide +kernel
theorem l_64_574 : ldcv 64 574 = some (vL (-1)) := rfl
theorem i_64_134 : ins 64 134 = some (.ldc2_w 574, 3) := by decide +kernel
theorem i_64_137 : ins 64 137 = some (.lreturn, 1) := by decide +kernel
theorem i_65_0 : ins 65 0 = some (.aload_n 0, 1) := by decide +kernel
theorem l_65_1 : ldcv 65 1 = some (vR (8, 17)) := rfl
theorem i_65_1 : ins 65 1 = some (.ldc 1, 2) := by decide +kernel
theorem i_65_3 : ins 65 3 = some (.aconst_null, 1) := by decide +kernel
theorem i_65_4 : ins 65 4 = some (.iconst 0, 1) := by decide +kernel
theorem i_65_5 : ins 65 5 = some (.iconst 0, 1) := by decide +kernel
theorem v_65_3 : inv 65 3 = some (247, 4, 2, 0) := by decide +kernel
theorem i_65_6 : ins 65 6 = some (.invokespecial 3, 3) := by decide +kernel
theorem i_65_9 : ins 65 9 = some (.return_, 1) := by decide +kernel
theorem r_65 : mret 65 = 0 := by decide +kernel
theorem i_66_0 : ins 66 0 = some (.aload_n 0, 1) := by decide +kernel
theorem v_66_3 : inv 66 3 = some (0, 0, 4, 0) := by decide +kernel
theorem i_66_1 : ins 66 1 = some (.invokespecial 3, 3) := by decide +kernel
theorem i_66_4 : ins 66 4 = some (.aload_n 0, 1) := by decide +kernel
theorem i_66_5 : ins 66 5 = some (.bipush 12, 2) := by decide +kernel
theorem kl_59769025 : klen 59769025 = 12 := by decide +kernel
theorem s_66_7 : site 66 7 = some 59769025 := by decide +kernel
theorem i_66_7 : ins 66 7 = some (.newarray .int, 2) := by decide +kernel
theorem f_66_9 : fld 66 9 = some (3145766, 0, 2) := by decide +kernel
theorem o_66_3145766_0 : putok 66 3145766 0 = true := by decide +kernel
theorem i_66_9 : ins 66 9 = some (.putfield 9, 3) := by decide +kernel
theorem i_66_12 : ins 66 12 = some (.aload_n 0, 1) := by decide +kernel
theorem i_66_13 : ins 66 13 = some (.bipush 12, 2) := by decide +kernel
theorem kl_60817601 : klen 60817601 = 12 := by decide +kernel
theorem s_66_15 : site 66 15 = some 60817601 := by decide +kernel
theorem i_66_15 : ins 66 15 = some (.newarray .int, 2) := by decide +kernel
theorem f_66_15 : fld 66 15 = some (3145766, 1, 2) := by decide +kernel
theorem o_66_3145766_1 : putok 66 3145766 1 = true := by decide +kernel
theorem i_66_17 : ins 66 17 = some (.putfield 15, 3) := by decide +kernel
theorem i_66_20 : ins 66 20 = some (.aload_n 0, 1) := by decide +kernel
theorem i_66_21 : ins 66 21 = some (.bipush 12, 2) := by decide +kernel
theorem kl_61866181 : klen 61866181 = 12 := by decide +kernel
theorem s_66_23 : an 66 23 = some (18, 61866181) := by decide +kernel
theorem i_66_23 : ins 66 23 = some (.anewarray 18, 3) := by decide +kernel
theorem f_66_20 : fld 66 20 = some (3145766, 2, 2) := by decide +kernel
theorem o_66_3145766_2 : putok 66 3145766 2 = true := by decide +kernel
theorem i_66_26 : ins 66 26 = some (.putfield 20, 3) := by decide +kernel
theorem i_66_29 : ins 66 29 = some (.aload_n 0, 1) := by decide +kernel
theorem i_66_30 : ins 66 30 = some (.iconst 4, 1) := by decide +kernel
theorem s_66_31 : site 66 31 = some 62914625 := by decide +kernel
theorem i_66_31 : ins 66 31 = some (.newarray .int, 2) := by decide +kernel
theorem i_66_33 : ins 66 33 = some (.dup, 1) := by decide +kernel
theorem i_66_34 : ins 66 34 = some (.iconst 0, 1) := by decide +kernel
theorem i_66_35 : ins 66 35 = some (.iconst 0, 1) := by decide +kernel
theorem i_66_36 : ins 66 36 = some (.iastore, 1) := by decide +kernel
theorem i_66_37 : ins 66 37 = some (.dup, 1) := by decide +kernel
theorem i_66_38 : ins 66 38 = some (.iconst 1, 1) := by decide +kernel
theorem i_66_39 : ins 66 39 = some (.iconst 0, 1) := by decide +kernel
theorem i_66_40 : ins 66 40 = some (.iastore, 1) := by decide +kernel
theorem i_66_41 : ins 66 41 = some (.dup, 1) := by decide +kernel
theorem i_66_42 : ins 66 42 = some (.iconst 2, 1) := by decide +kernel
theorem i_66_43 : ins 66 43 = some (.bipush 100, 2) := by decide +kernel
theorem i_66_45 : ins 66 45 = some (.iastore, 1) := by decide +kernel
theorem i_66_46 : ins 66 46 = some (.dup, 1) := by decide +kernel
theorem i_66_47 : ins 66 47 = some (.iconst 3, 1) := by decide +kernel
theorem i_66_48 : ins 66 48 = some (.bipush 20, 2) := by decide +kernel
theorem i_66_50 : ins 66 50 = some (.iastore, 1) := by decide +kernel
theorem f_66_24 : fld 66 24 = some (3145766, 3, 2) := by decide +kernel
theorem o_66_3145766_3 : putok 66 3145766 3 = true := by decide +kernel
theorem i_66_51 : ins 66 51 = some (.putfield 24, 3) := by decide +kernel
theorem i_66_54 : ins 66 54 = some (.return_, 1) := by decide +kernel
theorem r_66 : mret 66 = 0 := by decide +kernel
theorem i_67_0 : ins 67 0 = some (.aload_n 0, 1) := by decide +kernel
theorem f_67_9 : fld 67 9 = some (3145766, 0, 2) := by decide +kernel
theorem i_67_1 : ins 67 1 = some (.getfield 9, 3) := by decide +kernel
theorem i_67_4 : ins 67 4 = some (.aload_n 0, 1) := by decide +kernel
theorem f_67_27 : fld 67 27 = some (3145766, 4, 0) := by decide +kernel
theorem i_67_5 : ins 67 5 = some (.getfield 27, 3) := by decide +kernel
theorem i_67_8 : ins 67 8 = some (.iload_n 1, 1) := by decide +kernel
theorem i_67_9 : ins 67 9 = some (.iastore, 1) := by decide +kernel
theorem i_67_10 : ins 67 10 = some (.aload_n 0, 1) := by decide +kernel
theorem f_67_15 : fld 67 15 = some (3145766, 1, 2) := by decide +kernel
theorem i_67_11 : ins 67 11 = some (.getfield 15, 3) := by decide +kernel
theorem i_67_14 : ins 67 14 = some (.aload_n 0, 1) := by decide +kernel
theorem i_67_15 : ins 67 15 = some (.getfield 27, 3) := by decide +kernel
theorem i_67_18 : ins 67 18 = some (.iload_n 2, 1) := by decide +kernel
theorem i_67_19 : ins 67 19 = some (.iastore, 1) := by decide +kernel
theorem i_67_20 : ins 67 20 = some (.aload_n 0, 1) := by decide +kernel
theorem f_67_20 : fld 67 20 = some (3145766, 2, 2) := by decide +kernel
theorem i_67_21 : ins 67 21 = some (.getfield 20, 3) := by decide +kernel
theorem i_67_24 : ins 67 24 = some (.aload_n 0, 1) := by decide +kernel
theorem i_67_25 : ins 67 25 = some (.getfield 27, 3) := by decide +kernel
theorem i_67_28 : ins 67 28 = some (.aload_n 3, 1) := by decide +kernel
theorem eo_61866181 : elob 61866181 = true := by decide +kernel
theorem i_67_29 : ins 67 29 = some (.aastore, 1) := by decide +kernel
theorem i_67_30 : ins 67 30 = some (.aload_n 0, 1) := by decide +kernel
theorem i_67_31 : ins 67 31 = some (.dup, 1) := by decide +kernel
theorem i_67_32 : ins 67 32 = some (.getfield 27, 3) := by decide +kernel
theorem i_67_35 : ins 67 35 = some (.iconst 1, 1) := by decide +kernel
theorem i_67_36 : ins 67 36 = some (.iadd, 1) := by decide +kernel
theorem o_67_3145766_4 : putok 67 3145766 4 = true := by decide +kernel
theorem i_67_37 : ins 67 37 = some (.putfield 27, 3) := by decide +kernel
theorem i_67_40 : ins 67 40 = some (.return_, 1) := by decide +kernel
theorem r_67 : mret 67 = 0 := by decide +kernel
theorem i_68_0 : ins 68 0 = some (.iconst 0, 1) := by decide +kernel
theorem i_68_1 : ins 68 1 = some (.istore 4, 2) := by decide +kernel
theorem i_68_3 : ins 68 3 = some (.iload 4, 2) := by decide +kernel
theorem i_68_5 : ins 68 5 = some (.aload_n 0, 1) := by decide +kernel
theorem f_68_27 : fld 68 27 = some (3145766, 4, 0) := by decide +kernel
theorem i_68_6 : ins 68 6 = some (.getfield 27, 3) := by decide +kernel
theorem i_68_9 : ins 68 9 = some (.if_icmp .ge 57, 3) := by decide +kernel
theorem t_9_66 : tg 9 (57) = some 66 := by decide +kernel
theorem i_68_12 : ins 68 12 = some (.aload_n 0, 1) := by decide +kernel
theorem f_68_9 : fld 68 9 = some (3145766, 0, 2) := by decide +kernel
theorem i_68_13 : ins 68 13 = some (.getfield 9, 3) := by decide +kernel
theorem i_68_16 : ins 68 16 = some (.iload 4, 2) := by decide +kernel
theorem i_68_18 : ins 68 18 = some (.iaload, 1) := by decide +kernel
theorem i_68_19 : ins 68 19 = some (.iload_n 1, 1) := by decide +kernel
theorem i_68_20 : ins 68 20 = some (.if_icmp .ne 40, 3) := by decide +kernel
theorem t_20_60 : tg 20 (40) = some 60 := by decide +kernel
theorem i_68_23 : ins 68 23 = some (.aload_n 0, 1) := by decide +kernel
theorem f_68_15 : fld 68 15 = some (3145766, 1, 2) := by decide +kernel
theorem i_68_24 : ins 68 24 = some (.getfield 15, 3) := by decide +kernel
theorem i_68_27 : ins 68 27 = some (.iload 4, 2) := by decide +kernel
theorem i_68_29 : ins 68 29 = some (.iaload, 1) := by decide +kernel
theorem i_68_30 : ins 68 30 = some (.iload_n 2, 1) := by decide +kernel
theorem i_68_31 : ins 68 31 = some (.if_icmp .ne 29, 3) := by decide +kernel
theorem t_31_60 : tg 31 (29) = some 60 := by decide +kernel
theorem i_68_34 : ins 68 34 = some (.aload_n 0, 1) := by decide +kernel
theorem f_68_20 : fld 68 20 = some (3145766, 2, 2) := by decide +kernel
theorem i_68_35 : ins 68 35 = some (.getfield 20, 3) := by decide +kernel
theorem i_68_38 : ins 68 38 = some (.iload 4, 2) := by decide +kernel
theorem i_68_40 : ins 68 40 = some (.aaload, 1) := by decide +kernel
theorem i_68_41 : ins 68 41 = some (.ifnull 17, 3) := by decide +kernel
theorem t_41_58 : tg 41 (17) = some 58 := by decide +kernel
theorem i_68_44 : ins 68 44 = some (.aload_n 0, 1) := by decide +kernel
theorem i_68_45 : ins 68 45 = some (.getfield 20, 3) := by decide +kernel
theorem i_68_48 : ins 68 48 = some (.iload 4, 2) := by decide +kernel
theorem i_68_50 : ins 68 50 = some (.aaload, 1) := by decide +kernel
theorem i_68_51 : ins 68 51 = some (.aload_n 3, 1) := by decide +kernel
theorem v_68_31 : inv 68 31 = some (1, 1, 3, 0) := by decide +kernel
theorem i_68_52 : ins 68 52 = some (.invokevirtual 31, 3) := by decide +kernel
theorem i_68_55 : ins 68 55 = some (.ifCond .eq 5, 3) := by decide +kernel
theorem t_55_60 : tg 55 (5) = some 60 := by decide +kernel
theorem i_68_58 : ins 68 58 = some (.iconst 1, 1) := by decide +kernel
theorem r_68 : mret 68 = 2 := by decide +kernel
theorem i_68_59 : ins 68 59 = some (.ireturn, 1) := by decide +kernel
theorem i_68_60 : ins 68 60 = some (.iinc 4 1, 3) := by decide +kernel
theorem i_68_63 : ins 68 63 = some (.goto (-60), 3) := by decide +kernel
theorem t_63_3 : tg 63 (-60) = some 3 := by decide +kernel
theorem i_68_66 : ins 68 66 = some (.iconst 0, 1) := by decide +kernel
theorem i_68_67 : ins 68 67 = some (.ireturn, 1) := by decide +kernel
theorem i_69_0 : ins 69 0 = some (.aload_n 0, 1) := by decide +kernel
theorem i_69_1 : ins 69 1 = some (.aload_n 1, 1) := by decide +kernel
theorem f_69_3 : fld 69 3 = some (4194358, 11, 2) := by decide +kernel
theorem o_69_4194358_11 : putok 69 4194358 11 = true := by decide +kernel
theorem i_69_2 : ins 69 2 = some (.putfield 3, 3) := by decide +kernel
theorem i_69_5 : ins 69 5 = some (.aload_n 0, 1) := by decide +kernel
theorem v_69_9 : inv 69 9 = some (0, 0, 4, 0) := by decide +kernel
theorem i_69_6 : ins 69 6 = some (.invokespecial 9, 3) := by decide +kernel
theorem i_69_9 : ins 69 9 = some (.aload_n 0, 1) := by decide +kernel
theorem i_69_10 : ins 69 10 = some (.sipush 300, 3) := by decide +kernel
theorem s_69_13 : site 69 13 = some 63967937 := by decide +kernel
theorem i_69_13 : ins 69 13 = some (.newarray .int, 2) := by decide +kernel
theorem f_69_15 : fld 69 15 = some (4194358, 0, 2) := by decide +kernel
theorem o_69_4194358_0 : putok 69 4194358 0 = true := by decide +kernel
theorem i_69_15 : ins 69 15 = some (.putfield 15, 3) := by decide +kernel
theorem i_69_18 : ins 69 18 = some (.aload_n 0, 1) := by decide +kernel
theorem i_69_19 : ins 69 19 = some (.sipush 300, 3) := by decide +kernel
theorem s_69_22 : site 69 22 = some 65016515 := by decide +kernel
theorem i_69_22 : ins 69 22 = some (.newarray .boolean, 2) := by decide +kernel
theorem f_69_19 : fld 69 19 = some (4194358, 1, 2) := by decide +kernel
theorem o_69_4194358_1 : putok 69 4194358 1 = true := by decide +kernel
theorem i_69_24 : ins 69 24 = some (.putfield 19, 3) := by decide +kernel
theorem i_69_27 : ins 69 27 = some (.aload_n 0, 1) := by decide +kernel
theorem kS_1800 : (Int16.ofInt (1800)).toInt32 = nI 1800 := by decide +kernel
theorem i_69_28 : ins 69 28 = some (.sipush 1800, 3) := by decide +kernel
theorem kl_66089093 : klen 66089093 = 1800 := by decide +kernel
theorem s_69_31 : an 69 31 = some (23, 66089093) := by decide +kernel
theorem i_69_31 : ins 69 31 = some (.anewarray 23, 3) := by decide +kernel
theorem f_69_25 : fld 69 25 = some (4194358, 2, 2) := by decide +kernel
theorem o_69_4194358_2 : putok 69 4194358 2 = true := by decide +kernel
theorem i_69_34 : ins 69 34 = some (.putfield 25, 3) := by decide +kernel
theorem i_69_37 : ins 69 37 = some (.aload_n 0, 1) := by decide +kernel
theorem i_69_38 : ins 69 38 = some (.bipush 16, 2) := by decide +kernel
theorem i_69_40 : ins 69 40 = some (.sipush 134, 3) := by decide +kernel
theorem s_69_43 : site2 69 43 = some (29, 67109125, 68159588) := by decide +kernel
theorem i_69_43 : ins 69 43 = some (.multianewarray 29 2, 4) := by decide +kernel
theorem kl_67109125 : klen 67109125 = 16 := by decide +kernel
theorem kl_68159588 : klen 68159588 = 134 := by decide +kernel
theorem f_69_31 : fld 69 31 = some (4194358, 3, 2) := by decide +kernel
theorem o_69_4194358_3 : putok 69 4194358 3 = true := by decide +kernel
theorem i_69_47 : ins 69 47 = some (.putfield 31, 3) := by decide +kernel
theorem i_69_50 : ins 69 50 = some (.aload_n 0, 1) := by decide +kernel
theorem i_69_51 : ins 69 51 = some (.bipush 16, 2) := by decide +kernel
theorem i_69_53 : ins 69 53 = some (.sipush 134, 3) := by decide +kernel
theorem s_69_56 : site2 69 56 = some (29, 69206277, 70256740) := by decide +kernel
theorem i_69_56 : ins 69 56 = some (.multianewarray 29 2, 4) := by decide +kernel
theorem kl_69206277 : klen 69206277 = 16 := by decide +kernel
theorem kl_70256740 : klen 70256740 = 134 := by decide +kernel
theorem f_69_34 : fld 69 34 = some (4194358, 4, 2) := by decide +kernel
theorem o_69_4194358_4 : putok 69 4194358 4 = true := by decide +kernel
theorem i_69_60 : ins 69 60 = some (.putfield 34, 3) := by decide +kernel
theorem i_69_63 : ins 69 63 = some (.aload_n 0, 1) := by decide +kernel
theorem n_69_37 : newk 69 37 = some (5242950, 7) := by decide +kernel
theorem i_69_64 : ins 69 64 = some (.new 37, 3) := by decide +kernel
theorem i_69_67 : ins 69 67 = some (.dup, 1) := by decide +kernel
theorem i_69_68 : ins 69 68 = some (.aload_n 0, 1) := by decide +kernel
theorem i_69_69 : ins 69 69 = some (.getfield 3, 3) := by decide +kernel
theorem v_69_39 : inv 69 39 = some (78, 1, 2, 0) := by decide +kernel
theorem i_69_72 : ins 69 72 = some (.invokespecial 39, 3) := by decide +kernel
theorem f_69_42 : fld 69 42 = some (4194358, 5, 2) := by decide +kernel
theorem o_69_4194358_5 : putok 69 4194358 5 = true := by decide +kernel
theorem i_69_75 : ins 69 75 = some (.putfield 42, 3) := by decide +kernel
theorem i_69_78 : ins 69 78 = some (.return_, 1) := by decide +kernel
theorem r_69 : mret 69 = 0 := by decide +kernel
theorem i_70_0 : ins 70 0 = some (.aload_n 0, 1) := by decide +kernel
theorem i_70_1 : ins 70 1 = some (.iload_n 1, 1) := by decide +kernel
theorem f_70_46 : fld 70 46 = some (4194358, 7, 0) := by decide +kernel
theorem o_70_4194358_7 : putok 70 4194358 7 = true := by decide +kernel
theorem i_70_2 : ins 70 2 = some (.putfield 46, 3) := by decide +kernel
theorem i_70_5 : ins 70 5 = some (.aload_n 0, 1) := by decide +kernel
theorem i_70_6 : ins 70 6 = some (.aload_n 0, 1) := by decide +kernel
theorem f_70_3 : fld 70 3 = some (4194358, 11, 2) := by decide +kernel
theorem i_70_7 : ins 70 7 = some (.getfield 3, 3) := by decide +kernel
theorem i_70_10 : ins 70 10 = some (.iload_n 1, 1) := by decide +kernel
theorem v_70_50 : inv 70 50 = some (21, 1, 1, 1048582) := by decide +kernel
theorem i_70_11 : ins 70 11 = some (.invokevirtual 50, 3) := by decide +kernel
theorem f_70_54 : fld 70 54 = some (4194358, 6, 2) := by decide +kernel
theorem o_70_4194358_6 : putok 70 4194358 6 = true := by decide +kernel
theorem i_70_14 : ins 70 14 = some (.putfield 54, 3) := by decide +kernel
theorem i_70_17 : ins 70 17 = some (.iconst 0, 1) := by decide +kernel
theorem i_70_18 : ins 70 18 = some (.istore_n 2, 1) := by decide +kernel
theorem i_70_19 : ins 70 19 = some (.iload_n 2, 1) := by decide +kernel
theorem i_70_20 : ins 70 20 = some (.aload_n 0, 1) := by decide +kernel
theorem i_70_21 : ins 70 21 = some (.getfield 3, 3) := by decide +kernel
theorem f_70_58 : fld 70 58 = some (1048582, 8, 0) := by decide +kernel
theorem i_70_24 : ins 70 24 = some (.getfield 58, 3) := by decide +kernel
theorem kB_6 : (Int8.ofInt (6)).toInt32 = nI 6 := by decide +kernel
theorem i_70_27 : ins 70 27 = some (.bipush 6, 2) := by decide +kernel
theorem i_70_29 : ins 70 29 = some (.imul, 1) := by decide +kernel
theorem i_70_30 : ins 70 30 = some (.if_icmp .ge 16, 3) := by decide +kernel
theorem t_30_46 : tg 30 (16) = some 46 := by decide +kernel
theorem i_70_33 : ins 70 33 = some (.aload_n 0, 1) := by decide +kernel
theorem f_70_25 : fld 70 25 = some (4194358, 2, 2) := by decide +kernel
theorem i_70_34 : ins 70 34 = some (.getfield 25, 3) := by decide +kernel
theorem i_70_37 : ins 70 37 = some (.iload_n 2, 1) := by decide +kernel
theorem i_70_38 : ins 70 38 = some (.aconst_null, 1) := by decide +kernel
theorem eo_66089093 : elob 66089093 = true := by decide +kernel
theorem i_70_39 : ins 70 39 = some (.aastore, 1) := by decide +kernel
theorem i_70_40 : ins 70 40 = some (.iinc 2 1, 3) := by decide +kernel
theorem i_70_43 : ins 70 43 = some (.goto (-24), 3) := by decide +kernel
theorem t_43_19 : tg 43 (-24) = some 19 := by decide +kernel
theorem i_70_46 : ins 70 46 = some (.iconst 0, 1) := by decide +kernel
theorem i_70_47 : ins 70 47 = some (.istore_n 2, 1) := by decide +kernel
theorem i_70_48 : ins 70 48 = some (.iload_n 2, 1) := by decide +kernel
theorem i_70_49 : ins 70 49 = some (.aload_n 0, 1) := by decide +kernel
theorem i_70_50 : ins 70 50 = some (.getfield 3, 3) := by decide +kernel
theorem f_70_61 : fld 70 61 = some (1048582, 9, 0) := by decide +kernel
theorem i_70_53 : ins 70 53 = some (.getfield 61, 3) := by decide +kernel
theorem i_70_56 : ins 70 56 = some (.if_icmp .ge 67, 3) := by decide +kernel
theorem t_56_123 : tg 56 (67) = some 123 := by decide +kernel
theorem i_70_59 : ins 70 59 = some (.aload_n 0, 1) := by decide +kernel
theorem i_70_60 : ins 70 60 = some (.getfield 3, 3) := by decide +kernel
theorem f_70_64 : fld 70 64 = some (1048582, 7, 2) := by decide +kernel
theorem i_70_63 : ins 70 63 = some (.getfield 64, 3) := by decide +kernel
theorem i_70_66 : ins 70 66 = some (.iload_n 2, 1) := by decide +kernel
theorem i_70_67 : ins 70 67 = some (.aaload, 1) := by decide +kernel
theorem f_70_67 : fld 70 67 = some (10485910, 3, 0) := by decide +kernel
theorem i_70_68 : ins 70 68 = some (.getfield 67, 3) := by decide +kernel
theorem i_70_71 : ins 70 71 = some (.iload_n 1, 1) := by decide +kernel
theorem i_70_72 : ins 70 72 = some (.if_icmp .gt 45, 3) := by decide +kernel
theorem t_72_117 : tg 72 (45) = some 117 := by decide +kernel
theorem i_70_75 : ins 70 75 = some (.aload_n 0, 1) := by decide +kernel
theorem i_70_76 : ins 70 76 = some (.getfield 25, 3) := by decide +kernel
theorem i_70_79 : ins 70 79 = some (.bipush 6, 2) := by decide +kernel
theorem i_70_81 : ins 70 81 = some (.aload_n 0, 1) := by decide +kernel
theorem i_70_82 : ins 70 82 = some (.getfield 3, 3) := by decide +kernel
theorem i_70_85 : ins 70 85 = some (.getfield 64, 3) := by decide +kernel
theorem i_70_88 : ins 70 88 = some (.iload_n 2, 1) := by decide +kernel
theorem i_70_89 : ins 70 89 = some (.aaload, 1) := by decide +kernel
theorem f_70_70 : fld 70 70 = some (10485910, 0, 0) := by decide +kernel
theorem i_70_90 : ins 70 90 = some (.getfield 70, 3) := by decide +kernel
theorem i_70_93 : ins 70 93 = some (.imul, 1) := by decide +kernel
theorem i_70_94 : ins 70 94 = some (.aload_n 0, 1) := by decide +kernel
theorem i_70_95 : ins 70 95 = some (.getfield 3, 3) := by decide +kernel
theorem i_70_98 : ins 70 98 = some (.getfield 64, 3) := by decide +kernel
theorem i_70_101 : ins 70 101 = some (.iload_n 2, 1) := by decide +kernel
theorem i_70_102 : ins 70 102 = some (.aaload, 1) := by decide +kernel
theorem f_70_73 : fld 70 73 = some (10485910, 1, 0) := by decide +kernel
theorem i_70_103 : ins 70 103 = some (.getfield 73, 3) := by decide +kernel
theorem i_70_106 : ins 70 106 = some (.iadd, 1) := by decide +kernel
theorem i_70_107 : ins 70 107 = some (.aload_n 0, 1) := by decide +kernel
theorem i_70_108 : ins 70 108 = some (.getfield 3, 3) := by decide +kernel
theorem i_70_111 : ins 70 111 = some (.getfield 64, 3) := by decide +kernel
theorem i_70_114 : ins 70 114 = some (.iload_n 2, 1) := by decide +kernel
theorem i_70_115 : ins 70 115 = some (.aaload, 1) := by decide +kernel
theorem i_70_116 : ins 70 116 = some (.aastore, 1) := by decide +kernel
theorem i_70_117 : ins 70 117 = some (.iinc 2 1, 3) := by decide +kernel
theorem i_70_120 : ins 70 120 = some (.goto (-72), 3) := by decide +kernel
theorem t_120_48 : tg 120 (-72) = some 48 := by decide +kernel
theorem i_70_123 : ins 70 123 = some (.iconst 0, 1) := by decide +kernel
theorem i_70_124 : ins 70 124 = some (.istore_n 2, 1) := by decide +kernel
theorem i_70_125 : ins 70 125 = some (.iload_n 2, 1) := by decide +kernel
theorem i_70_126 : ins 70 126 = some (.aload_n 0, 1) := by decide +kernel
theorem i_70_127 : ins 70 127 = some (.getfield 3, 3) := by decide +kernel
theorem i_70_130 : ins 70 130 = some (.getfield 58, 3) := by decide +kernel
theorem i_70_133 : ins 70 133 = some (.if_icmp .ge 76, 3) := by decide +kernel
theorem t_133_209 : tg 133 (76) = some 209 := by decide +kernel
theorem i_70_136 : ins 70 136 = some (.aload_n 0, 1) := by decide +kernel
theorem f_70_15 : fld 70 15 = some (4194358, 0, 2) := by decide +kernel
theorem i_70_137 : ins 70 137 = some (.getfield 15, 3) := by decide +kernel
theorem i_70_140 : ins 70 140 = some (.iload_n 2, 1) := by decide +kernel
theorem i_70_141 : ins 70 141 = some (.aload_n 0, 1) := by decide +kernel
theorem i_70_142 : ins 70 142 = some (.iload_n 2, 1) := by decide +kernel
theorem v_70_76 : inv 70 76 = some (71, 1, 1, 4194358) := by decide +kernel
theorem i_70_143 : ins 70 143 = some (.invokevirtual 76, 3) := by decide +kernel
theorem i_70_146 : ins 70 146 = some (.iastore, 1) := by decide +kernel
theorem i_70_147 : ins 70 147 = some (.aload_n 0, 1) := by decide +kernel
theorem f_70_19 : fld 70 19 = some (4194358, 1, 2) := by decide +kernel
theorem i_70_148 : ins 70 148 = some (.getfield 19, 3) := by decide +kernel
theorem i_70_151 : ins 70 151 = some (.iload_n 2, 1) := by decide +kernel
theorem i_70_152 : ins 70 152 = some (.aload_n 0, 1) := by decide +kernel
theorem i_70_153 : ins 70 153 = some (.getfield 3, 3) := by decide +kernel
theorem f_70_80 : fld 70 80 = some (1048582, 6, 2) := by decide +kernel
theorem i_70_156 : ins 70 156 = some (.getfield 80, 3) := by decide +kernel
theorem i_70_159 : ins 70 159 = some (.iload_n 2, 1) := by decide +kernel
theorem i_70_160 : ins 70 160 = some (.aaload, 1) := by decide +kernel
theorem f_70_84 : fld 70 84 = some (9437318, 7, 5) := by decide +kernel
theorem i_70_161 : ins 70 161 = some (.getfield 84, 3) := by decide +kernel
theorem i_70_164 : ins 70 164 = some (.ifCond .ne 37, 3) := by decide +kernel
theorem t_164_201 : tg 164 (37) = some 201 := by decide +kernel
theorem i_70_167 : ins 70 167 = some (.aload_n 0, 1) := by decide +kernel
theorem i_70_168 : ins 70 168 = some (.getfield 54, 3) := by decide +kernel
theorem i_70_171 : ins 70 171 = some (.iconst 1, 1) := by decide +kernel
theorem i_70_172 : ins 70 172 = some (.iconst 0, 1) := by decide +kernel
theorem i_70_173 : ins 70 173 = some (.aload_n 0, 1) := by decide +kernel
theorem f_70_42 : fld 70 42 = some (4194358, 5, 2) := by decide +kernel
theorem i_70_174 : ins 70 174 = some (.getfield 42, 3) := by decide +kernel
theorem i_70_177 : ins 70 177 = some (.aload_n 0, 1) := by decide +kernel
theorem i_70_178 : ins 70 178 = some (.getfield 3, 3) := by decide +kernel
theorem i_70_181 : ins 70 181 = some (.getfield 80, 3) := by decide +kernel
theorem i_70_184 : ins 70 184 = some (.iload_n 2, 1) := by decide +kernel
theorem i_70_185 : ins 70 185 = some (.aaload, 1) := by decide +kernel
theorem i_70_186 : ins 70 186 = some (.aconst_null, 1) := by decide +kernel
theorem i_70_187 : ins 70 187 = some (.iload_n 1, 1) := by decide +kernel
theorem v_70_92 : inv 70 92 = some (79, 3, 1, 5242950) := by decide +kernel
theorem i_70_188 : ins 70 188 = some (.invokevirtual 92, 3) := by decide +kernel
theorem v_70_96 : inv 70 96 = some (68, 3, 1, 3145766) := by decide +kernel
theorem i_70_191 : ins 70 191 = some (.invokevirtual 96, 3) := by decide +kernel
theorem i_70_194 : ins 70 194 = some (.ifCond .eq 7, 3) := by decide +kernel
theorem t_194_201 : tg 194 (7) = some 201 := by decide +kernel
theorem i_70_197 : ins 70 197 = some (.iconst 1, 1) := by decide +kernel
theorem i_70_198 : ins 70 198 = some (.goto 4, 3) := by decide +kernel
theorem t_198_202 : tg 198 (4) = some 202 := by decide +kernel
theorem i_70_201 : ins 70 201 = some (.iconst 0, 1) := by decide +kernel
theorem i_70_202 : ins 70 202 = some (.bastore, 1) := by decide +kernel
theorem i_70_203 : ins 70 203 = some (.iinc 2 1, 3) := by decide +kernel
theorem i_70_206 : ins 70 206 = some (.goto (-81), 3) := by decide +kernel
theorem t_206_125 : tg 206 (-81) = some 125 := by decide +kernel
theorem i_70_209 : ins 70 209 = some (.return_, 1) := by decide +kernel
theorem r_70 : mret 70 = 0 := by decide +kernel
theorem i_71_0 : ins 71 0 = some (.aload_n 0, 1) := by decide +kernel
theorem f_71_3 : fld 71 3 = some (4194358, 11, 2) := by decide +kernel
theorem i_71_1 : ins 71 1 = some (.getfield 3, 3) := by decide +kernel
theorem f_71_80 : fld 71 80 = some (1048582, 6, 2) := by decide +kernel
theorem i_71_4 : ins 71 4 = some (.getfield 80, 3) := by decide +kernel
theorem i_71_7 : ins 71 7 = some (.iload_n 1, 1) := by decide +kernel
theorem i_71_8 : ins 71 8 = some (.aaload, 1) := by decide +kernel
theorem f_71_100 : fld 71 100 = some (9437318, 5, 0) := by decide +kernel
theorem i_71_9 : ins 71 9 = some (.getfield 100, 3) := by decide +kernel
theorem i_71_12 : ins 71 12 = some (.istore_n 2, 1) := by decide +kernel
theorem i_71_13 : ins 71 13 = some (.iconst 0, 1) := by decide +kernel
theorem i_71_14 : ins 71 14 = some (.istore_n 3, 1) := by decide +kernel
theorem i_71_15 : ins 71 15 = some (.iload_n 3, 1) := by decide +kernel
theorem i_71_16 : ins 71 16 = some (.bipush 6, 2) := by decide +kernel
theorem i_71_18 : ins 71 18 = some (.if_icmp .ge 69, 3) := by decide +kernel
theorem t_18_87 : tg 18 (69) = some 87 := by decide +kernel
theorem i_71_21 : ins 71 21 = some (.aload_n 0, 1) := by decide +kernel
theorem f_71_25 : fld 71 25 = some (4194358, 2, 2) := by decide +kernel
theorem i_71_22 : ins 71 22 = some (.getfield 25, 3) := by decide +kernel
theorem i_71_25 : ins 71 25 = some (.bipush 6, 2) := by decide +kernel
theorem i_71_27 : ins 71 27 = some (.iload_n 1, 1) := by decide +kernel
theorem i_71_28 : ins 71 28 = some (.imul, 1) := by decide +kernel
theorem i_71_29 : ins 71 29 = some (.iload_n 3, 1) := by decide +kernel
theorem i_71_30 : ins 71 30 = some (.iadd, 1) := by decide +kernel
theorem i_71_31 : ins 71 31 = some (.aaload, 1) := by decide +kernel
theorem i_71_32 : ins 71 32 = some (.astore 4, 2) := by decide +kernel
theorem i_71_34 : ins 71 34 = some (.aload 4, 2) := by decide +kernel
theorem i_71_36 : ins 71 36 = some (.ifnull 45, 3) := by decide +kernel
theorem t_36_81 : tg 36 (45) = some 81 := by decide +kernel
theorem i_71_39 : ins 71 39 = some (.aload_n 0, 1) := by decide +kernel
theorem f_71_54 : fld 71 54 = some (4194358, 6, 2) := by decide +kernel
theorem i_71_40 : ins 71 40 = some (.getfield 54, 3) := by decide +kernel
theorem i_71_43 : ins 71 43 = some (.iconst 0, 1) := by decide +kernel
theorem i_71_44 : ins 71 44 = some (.iload_n 3, 1) := by decide +kernel
theorem i_71_45 : ins 71 45 = some (.aload_n 0, 1) := by decide +kernel
theorem f_71_42 : fld 71 42 = some (4194358, 5, 2) := by decide +kernel
theorem i_71_46 : ins 71 46 = some (.getfield 42, 3) := by decide +kernel
theorem i_71_49 : ins 71 49 = some (.aload_n 0, 1) := by decide +kernel
theorem i_71_50 : ins 71 50 = some (.getfield 3, 3) := by decide +kernel
theorem i_71_53 : ins 71 53 = some (.getfield 80, 3) := by decide +kernel
theorem i_71_56 : ins 71 56 = some (.iload_n 1, 1) := by decide +kernel
theorem i_71_57 : ins 71 57 = some (.aaload, 1) := by decide +kernel
theorem i_71_58 : ins 71 58 = some (.aload 4, 2) := by decide +kernel
theorem i_71_60 : ins 71 60 = some (.aload_n 0, 1) := by decide +kernel
theorem f_71_46 : fld 71 46 = some (4194358, 7, 0) := by decide +kernel
theorem i_71_61 : ins 71 61 = some (.getfield 46, 3) := by decide +kernel
theorem v_71_92 : inv 71 92 = some (79, 3, 1, 5242950) := by decide +kernel
theorem i_71_64 : ins 71 64 = some (.invokevirtual 92, 3) := by decide +kernel
theorem v_71_96 : inv 71 96 = some (68, 3, 1, 3145766) := by decide +kernel
theorem i_71_67 : ins 71 67 = some (.invokevirtual 96, 3) := by decide +kernel
theorem i_71_70 : ins 71 70 = some (.ifCond .eq 11, 3) := by decide +kernel
theorem t_70_81 : tg 70 (11) = some 81 := by decide +kernel
theorem i_71_73 : ins 71 73 = some (.iload_n 2, 1) := by decide +kernel
theorem i_71_74 : ins 71 74 = some (.aload 4, 2) := by decide +kernel
theorem f_71_103 : fld 71 103 = some (10485910, 2, 0) := by decide +kernel
theorem i_71_76 : ins 71 76 = some (.getfield 103, 3) := by decide +kernel
theorem i_71_79 : ins 71 79 = some (.isub, 1) := by decide +kernel
theorem i_71_80 : ins 71 80 = some (.istore_n 2, 1) := by decide +kernel
theorem i_71_81 : ins 71 81 = some (.iinc 3 1, 3) := by decide +kernel
theorem i_71_84 : ins 71 84 = some (.goto (-69), 3) := by decide +kernel
theorem t_84_15 : tg 84 (-69) = some 15 := by decide +kernel
theorem i_71_87 : ins 71 87 = some (.iconst 0, 1) := by decide +kernel
theorem i_71_88 : ins 71 88 = some (.iload_n 2, 1) := by decide +kernel
theorem v_71_106 : inv 71 106 = some (248, 2, 0, 0) := by decide +kernel
theorem i_71_89 : ins 71 89 = some (.invokestatic 106, 3) := by decide +kernel
theorem r_71 : mret 71 = 1 := by decide +kernel
theorem i_71_92 : ins 71 92 = some (.ireturn, 1) := by decide +kernel
theorem i_72_0 : ins 72 0 = some (.aload_n 0, 1) := by decide +kernel
theorem i_72_1 : ins 72 1 = some (.iload_n 1, 1) := by decide +kernel
theorem f_72_127 : fld 72 127 = some (4194358, 8, 0) := by decide +kernel
theorem o_72_4194358_8 : putok 72 4194358 8 = true := by decide +kernel
theorem i_72_2 : ins 72 2 = some (.putfield 127, 3) := by decide +kernel
theorem i_72_5 : ins 72 5 = some (.iconst 0, 1) := by decide +kernel
theorem i_72_6 : ins 72 6 = some (.istore_n 2, 1) := by decide +kernel
theorem i_72_7 : ins 72 7 = some (.iload_n 2, 1) := by decide +kernel
theorem i_72_8 : ins 72 8 = some (.bipush 16, 2) := by decide +kernel
theorem i_72_10 : ins 72 10 = some (.if_icmp .ge 42, 3) := by decide +kernel
theorem t_10_52 : tg 10 (42) = some 52 := by decide +kernel
theorem i_72_13 : ins 72 13 = some (.iconst 0, 1) := by decide +kernel
theorem i_72_14 : ins 72 14 = some (.istore_n 3, 1) := by decide +kernel
theorem i_72_15 : ins 72 15 = some (.iload_n 3, 1) := by decide +kernel
theorem i_72_16 : ins 72 16 = some (.sipush 134, 3) := by decide +kernel
theorem i_72_19 : ins 72 19 = some (.if_icmp .ge 27, 3) := by decide +kernel
theorem t_19_46 : tg 19 (27) = some 46 := by decide +kernel
theorem i_72_22 : ins 72 22 = some (.aload_n 0, 1) := by decide +kernel
theorem f_72_31 : fld 72 31 = some (4194358, 3, 2) := by decide +kernel
theorem i_72_23 : ins 72 23 = some (.getfield 31, 3) := by decide +kernel
theorem i_72_26 : ins 72 26 = some (.iload_n 2, 1) := by decide +kernel
theorem i_72_27 : ins 72 27 = some (.aaload, 1) := by decide +kernel
theorem i_72_28 : ins 72 28 = some (.iload_n 3, 1) := by decide +kernel
theorem i_72_29 : ins 72 29 = some (.lconst 0, 1) := by decide +kernel
theorem i_72_30 : ins 72 30 = some (.lastore, 1) := by decide +kernel
theorem i_72_31 : ins 72 31 = some (.aload_n 0, 1) := by decide +kernel
theorem f_72_34 : fld 72 34 = some (4194358, 4, 2) := by decide +kernel
theorem i_72_32 : ins 72 32 = some (.getfield 34, 3) := by decide +kernel
theorem i_72_35 : ins 72 35 = some (.iload_n 2, 1) := by decide +kernel
theorem i_72_36 : ins 72 36 = some (.aaload, 1) := by decide +kernel
theorem i_72_37 : ins 72 37 = some (.iload_n 3, 1) := by decide +kernel
theorem i_72_38 : ins 72 38 = some (.lconst 0, 1) := by decide +kernel
theorem i_72_39 : ins 72 39 = some (.lastore, 1) := by decide +kernel
theorem i_72_40 : ins 72 40 = some (.iinc 3 1, 3) := by decide +kernel
theorem i_72_43 : ins 72 43 = some (.goto (-28), 3) := by decide +kernel
theorem t_43_15 : tg 43 (-28) = some 15 := by decide +kernel
theorem i_72_46 : ins 72 46 = some (.iinc 2 1, 3) := by decide +kernel
theorem i_72_49 : ins 72 49 = some (.goto (-42), 3) := by decide +kernel
theorem t_49_7 : tg 49 (-42) = some 7 := by decide +kernel
theorem i_72_52 : ins 72 52 = some (.iconst 0, 1) := by decide +kernel
theorem i_72_53 : ins 72 53 = some (.istore_n 2, 1) := by decide +kernel
theorem i_72_54 : ins 72 54 = some (.iload_n 2, 1) := by decide +kernel
theorem i_72_55 : ins 72 55 = some (.aload_n 0, 1) := by decide +kernel
theorem f_72_3 : fld 72 3 = some (4194358, 11, 2) := by decide +kernel
theorem i_72_56 : ins 72 56 = some (.getfield 3, 3) := by decide +kernel
theorem f_72_58 : fld 72 58 = some (1048582, 8, 0) := by decide +kernel
theorem i_72_59 : ins 72 59 = some (.getfield 58, 3) := by decide +kernel
theorem i_72_62 : ins 72 62 = some (.if_icmp .ge 121, 3) := by decide +kernel
theorem t_62_183 : tg 62 (121) = some 183 := by decide +kernel
theorem i_72_65 : ins 72 65 = some (.aload_n 0, 1) := by decide +kernel
theorem i_72_66 : ins 72 66 = some (.iload_n 2, 1) := by decide +kernel
theorem i_72_67 : ins 72 67 = some (.iload_n 1, 1) := by decide +kernel
theorem v_72_128 : inv 72 128 = some (73, 2, 1, 4194358) := by decide +kernel
theorem i_72_68 : ins 72 68 = some (.invokevirtual 128, 3) := by decide +kernel
theorem i_72_71 : ins 72 71 = some (.ifCond .ne 6, 3) := by decide +kernel
theorem t_71_77 : tg 71 (6) = some 77 := by decide +kernel
theorem i_72_74 : ins 72 74 = some (.goto 103, 3) := by decide +kernel
theorem t_74_177 : tg 74 (103) = some 177 := by decide +kernel
theorem i_72_77 : ins 72 77 = some (.aload_n 0, 1) := by decide +kernel
theorem i_72_78 : ins 72 78 = some (.getfield 31, 3) := by decide +kernel
theorem i_72_81 : ins 72 81 = some (.aload_n 0, 1) := by decide +kernel
theorem i_72_82 : ins 72 82 = some (.getfield 3, 3) := by decide +kernel
theorem f_72_80 : fld 72 80 = some (1048582, 6, 2) := by decide +kernel
theorem i_72_85 : ins 72 85 = some (.getfield 80, 3) := by decide +kernel
theorem i_72_88 : ins 72 88 = some (.iload_n 2, 1) := by decide +kernel
theorem i_72_89 : ins 72 89 = some (.aaload, 1) := by decide +kernel
theorem f_72_132 : fld 72 132 = some (9437318, 1, 0) := by decide +kernel
theorem i_72_90 : ins 72 90 = some (.getfield 132, 3) := by decide +kernel
theorem i_72_93 : ins 72 93 = some (.aaload, 1) := by decide +kernel
theorem i_72_94 : ins 72 94 = some (.aload_n 0, 1) := by decide +kernel
theorem i_72_95 : ins 72 95 = some (.getfield 3, 3) := by decide +kernel
theorem i_72_98 : ins 72 98 = some (.getfield 80, 3) := by decide +kernel
theorem i_72_101 : ins 72 101 = some (.iload_n 2, 1) := by decide +kernel
theorem i_72_102 : ins 72 102 = some (.aaload, 1) := by decide +kernel
theorem f_72_120 : fld 72 120 = some (9437318, 2, 0) := by decide +kernel
theorem i_72_103 : ins 72 103 = some (.getfield 120, 3) := by decide +kernel
theorem i_72_106 : ins 72 106 = some (.dup2, 1) := by decide +kernel
theorem i_72_107 : ins 72 107 = some (.laload, 1) := by decide +kernel
theorem i_72_108 : ins 72 108 = some (.aload_n 0, 1) := by decide +kernel
theorem i_72_109 : ins 72 109 = some (.getfield 3, 3) := by decide +kernel
theorem i_72_112 : ins 72 112 = some (.getfield 80, 3) := by decide +kernel
theorem i_72_115 : ins 72 115 = some (.iload_n 2, 1) := by decide +kernel
theorem i_72_116 : ins 72 116 = some (.aaload, 1) := by decide +kernel
theorem f_72_135 : fld 72 135 = some (9437318, 4, 0) := by decide +kernel
theorem i_72_117 : ins 72 117 = some (.getfield 135, 3) := by decide +kernel
theorem i_72_120 : ins 72 120 = some (.i2l, 1) := by decide +kernel
theorem i_72_121 : ins 72 121 = some (.ladd, 1) := by decide +kernel
theorem i_72_122 : ins 72 122 = some (.lastore, 1) := by decide +kernel
theorem i_72_123 : ins 72 123 = some (.aload_n 0, 1) := by decide +kernel
theorem i_72_124 : ins 72 124 = some (.getfield 34, 3) := by decide +kernel
theorem i_72_127 : ins 72 127 = some (.aload_n 0, 1) := by decide +kernel
theorem i_72_128 : ins 72 128 = some (.getfield 3, 3) := by decide +kernel
theorem i_72_131 : ins 72 131 = some (.getfield 80, 3) := by decide +kernel
theorem i_72_134 : ins 72 134 = some (.iload_n 2, 1) := by decide +kernel
theorem i_72_135 : ins 72 135 = some (.aaload, 1) := by decide +kernel
theorem i_72_136 : ins 72 136 = some (.getfield 132, 3) := by decide +kernel
theorem i_72_139 : ins 72 139 = some (.aaload, 1) := by decide +kernel
theorem i_72_140 : ins 72 140 = some (.aload_n 0, 1) := by decide +kernel
theorem i_72_141 : ins 72 141 = some (.getfield 3, 3) := by decide +kernel
theorem i_72_144 : ins 72 144 = some (.getfield 80, 3) := by decide +kernel
theorem i_72_147 : ins 72 147 = some (.iload_n 2, 1) := by decide +kernel
theorem i_72_148 : ins 72 148 = some (.aaload, 1) := by decide +kernel
theorem i_72_149 : ins 72 149 = some (.getfield 120, 3) := by decide +kernel
theorem i_72_152 : ins 72 152 = some (.dup2, 1) := by decide +kernel
theorem i_72_153 : ins 72 153 = some (.laload, 1) := by decide +kernel
theorem i_72_154 : ins 72 154 = some (.aload_n 0, 1) := by decide +kernel
theorem i_72_155 : ins 72 155 = some (.getfield 3, 3) := by decide +kernel
theorem i_72_158 : ins 72 158 = some (.getfield 80, 3) := by decide +kernel
theorem i_72_161 : ins 72 161 = some (.iload_n 2, 1) := by decide +kernel
theorem i_72_162 : ins 72 162 = some (.aaload, 1) := by decide +kernel
theorem i_72_163 : ins 72 163 = some (.getfield 135, 3) := by decide +kernel
theorem i_72_166 : ins 72 166 = some (.i2l, 1) := by decide +kernel
theorem i_72_167 : ins 72 167 = some (.aload_n 0, 1) := by decide +kernel
theorem f_72_15 : fld 72 15 = some (4194358, 0, 2) := by decide +kernel
theorem i_72_168 : ins 72 168 = some (.getfield 15, 3) := by decide +kernel
theorem i_72_171 : ins 72 171 = some (.iload_n 2, 1) := by decide +kernel
theorem i_72_172 : ins 72 172 = some (.iaload, 1) := by decide +kernel
theorem i_72_173 : ins 72 173 = some (.i2l, 1) := by decide +kernel
theorem i_72_174 : ins 72 174 = some (.lmul, 1) := by decide +kernel
theorem i_72_175 : ins 72 175 = some (.ladd, 1) := by decide +kernel
theorem i_72_176 : ins 72 176 = some (.lastore, 1) := by decide +kernel
theorem i_72_177 : ins 72 177 = some (.iinc 2 1, 3) := by decide +kernel
theorem i_72_180 : ins 72 180 = some (.goto (-126), 3) := by decide +kernel
theorem t_180_54 : tg 180 (-126) = some 54 := by decide +kernel
theorem i_72_183 : ins 72 183 = some (.return_, 1) := by decide +kernel
theorem r_72 : mret 72 = 0 := by decide +kernel
theorem i_73_0 : ins 73 0 = some (.aload_n 0, 1) := by decide +kernel
theorem f_73_3 : fld 73 3 = some (4194358, 11, 2) := by decide +kernel
theorem i_73_1 : ins 73 1 = some (.getfield 3, 3) := by decide +kernel
theorem f_73_80 : fld 73 80 = some (1048582, 6, 2) := by decide +kernel
theorem i_73_4 : ins 73 4 = some (.getfield 80, 3) := by decide +kernel
theorem i_73_7 : ins 73 7 = some (.iload_n 1, 1) := by decide +kernel
theorem i_73_8 : ins 73 8 = some (.aaload, 1) := by decide +kernel
theorem f_73_116 : fld 73 116 = some (9437318, 0, 0) := by decide +kernel
theorem i_73_9 : ins 73 9 = some (.getfield 116, 3) := by decide +kernel
theorem i_73_12 : ins 73 12 = some (.iload_n 2, 1) := by decide +kernel
theorem i_73_13 : ins 73 13 = some (.if_icmp .ne 39, 3) := by decide +kernel
theorem t_13_52 : tg 13 (39) = some 52 := by decide +kernel
theorem i_73_16 : ins 73 16 = some (.aload_n 0, 1) := by decide +kernel
theorem i_73_17 : ins 73 17 = some (.getfield 3, 3) := by decide +kernel
theorem i_73_20 : ins 73 20 = some (.getfield 80, 3) := by decide +kernel
theorem i_73_23 : ins 73 23 = some (.iload_n 1, 1) := by decide +kernel
theorem i_73_24 : ins 73 24 = some (.aaload, 1) := by decide +kernel
theorem f_73_84 : fld 73 84 = some (9437318, 7, 5) := by decide +kernel
theorem i_73_25 : ins 73 25 = some (.getfield 84, 3) := by decide +kernel
theorem i_73_28 : ins 73 28 = some (.ifCond .ne 24, 3) := by decide +kernel
theorem t_28_52 : tg 28 (24) = some 52 := by decide +kernel
theorem i_73_31 : ins 73 31 = some (.aload_n 0, 1) := by decide +kernel
theorem i_73_32 : ins 73 32 = some (.iload_n 1, 1) := by decide +kernel
theorem v_73_119 : inv 73 119 = some (74, 1, 1, 4194358) := by decide +kernel
theorem i_73_33 : ins 73 33 = some (.invokevirtual 119, 3) := by decide +kernel
theorem i_73_36 : ins 73 36 = some (.ifCond .eq 16, 3) := by decide +kernel
theorem t_36_52 : tg 36 (16) = some 52 := by decide +kernel
theorem i_73_39 : ins 73 39 = some (.aload_n 0, 1) := by decide +kernel
theorem f_73_19 : fld 73 19 = some (4194358, 1, 2) := by decide +kernel
theorem i_73_40 : ins 73 40 = some (.getfield 19, 3) := by decide +kernel
theorem i_73_43 : ins 73 43 = some (.iload_n 1, 1) := by decide +kernel
theorem i_73_44 : ins 73 44 = some (.baload, 1) := by decide +kernel
theorem i_73_45 : ins 73 45 = some (.ifCond .ne 7, 3) := by decide +kernel
theorem t_45_52 : tg 45 (7) = some 52 := by decide +kernel
theorem i_73_48 : ins 73 48 = some (.iconst 1, 1) := by decide +kernel
theorem i_73_49 : ins 73 49 = some (.goto 4, 3) := by decide +kernel
theorem t_49_53 : tg 49 (4) = some 53 := by decide +kernel
theorem i_73_52 : ins 73 52 = some (.iconst 0, 1) := by decide +kernel
theorem r_73 : mret 73 = 2 := by decide +kernel
theorem i_73_53 : ins 73 53 = some (.ireturn, 1) := by decide +kernel
theorem i_74_0 : ins 74 0 = some (.aload_n 0, 1) := by decide +kernel
theorem f_74_3 : fld 74 3 = some (4194358, 11, 2) := by decide +kernel
theorem i_74_1 : ins 74 1 = some (.getfield 3, 3) := by decide +kernel
theorem f_74_80 : fld 74 80 = some (1048582, 6, 2) := by decide +kernel
theorem i_74_4 : ins 74 4 = some (.getfield 80, 3) := by decide +kernel
theorem i_74_7 : ins 74 7 = some (.iload_n 1, 1) := by decide +kernel
theorem i_74_8 : ins 74 8 = some (.aaload, 1) := by decide +kernel
theorem i_74_9 : ins 74 9 = some (.aload_n 0, 1) := by decide +kernel
theorem f_74_46 : fld 74 46 = some (4194358, 7, 0) := by decide +kernel
theorem i_74_10 : ins 74 10 = some (.getfield 46, 3) := by decide +kernel
theorem v_74_112 : inv 74 112 = some (200, 1, 1, 9437318) := by decide +kernel
theorem i_74_13 : ins 74 13 = some (.invokevirtual 112, 3) := by decide +kernel
theorem r_74 : mret 74 = 2 := by decide +kernel
theorem i_74_16 : ins 74 16 = some (.ireturn, 1) := by decide +kernel
theorem i_75_0 : ins 75 0 = some (.iconst 0, 1) := by decide +kernel
theorem i_75_1 : ins 75 1 = some (.istore_n 3, 1) := by decide +kernel
theorem i_75_2 : ins 75 2 = some (.iload_n 3, 1) := by decide +kernel
theorem i_75_3 : ins 75 3 = some (.aload_n 0, 1) := by decide +kernel
theorem f_75_54 : fld 75 54 = some (4194358, 6, 2) := by decide +kernel
theorem i_75_4 : ins 75 4 = some (.getfield 54, 3) := by decide +kernel
theorem f_75_137 : fld 75 137 = some (3145766, 3, 2) := by decide +kernel
theorem i_75_7 : ins 75 7 = some (.getfield 137, 3) := by decide +kernel
theorem i_75_10 : ins 75 10 = some (.iconst 0, 1) := by decide +kernel
theorem i_75_11 : ins 75 11 = some (.iaload, 1) := by decide +kernel
theorem i_75_12 : ins 75 12 = some (.if_icmp .gt 86, 3) := by decide +kernel
theorem t_12_98 : tg 12 (86) = some 98 := by decide +kernel
theorem i_75_15 : ins 75 15 = some (.iconst 0, 1) := by decide +kernel
theorem i_75_16 : ins 75 16 = some (.istore 4, 2) := by decide +kernel
theorem i_75_18 : ins 75 18 = some (.iload 4, 2) := by decide +kernel
theorem i_75_20 : ins 75 20 = some (.bipush 16, 2) := by decide +kernel
theorem i_75_22 : ins 75 22 = some (.if_icmp .ge 70, 3) := by decide +kernel
theorem t_22_92 : tg 22 (70) = some 92 := by decide +kernel
theorem i_75_25 : ins 75 25 = some (.aload_n 0, 1) := by decide +kernel
theorem f_75_3 : fld 75 3 = some (4194358, 11, 2) := by decide +kernel
theorem i_75_26 : ins 75 26 = some (.getfield 3, 3) := by decide +kernel
theorem f_75_146 : fld 75 146 = some (1048582, 2, 2) := by decide +kernel
theorem i_75_29 : ins 75 29 = some (.getfield 146, 3) := by decide +kernel
theorem i_75_32 : ins 75 32 = some (.iload_n 1, 1) := by decide +kernel
theorem i_75_33 : ins 75 33 = some (.aaload, 1) := by decide +kernel
theorem i_75_34 : ins 75 34 = some (.iload 4, 2) := by decide +kernel
theorem i_75_36 : ins 75 36 = some (.iaload, 1) := by decide +kernel
theorem i_75_37 : ins 75 37 = some (.iload_n 3, 1) := by decide +kernel
theorem i_75_38 : ins 75 38 = some (.if_icmp .ne 48, 3) := by decide +kernel
theorem t_38_86 : tg 38 (48) = some 86 := by decide +kernel
theorem i_75_41 : ins 75 41 = some (.aload_n 0, 1) := by decide +kernel
theorem i_75_42 : ins 75 42 = some (.iload 4, 2) := by decide +kernel
theorem i_75_44 : ins 75 44 = some (.iload_n 2, 1) := by decide +kernel
theorem v_75_150 : inv 75 150 = some (76, 2, 1, 4194358) := by decide +kernel
theorem i_75_45 : ins 75 45 = some (.invokevirtual 150, 3) := by decide +kernel
theorem i_75_48 : ins 75 48 = some (.ifCond .eq 38, 3) := by decide +kernel
theorem t_48_86 : tg 48 (38) = some 86 := by decide +kernel
theorem l_75_153 : ldcv 75 153 = some (vL (100)) := rfl
theorem i_75_51 : ins 75 51 = some (.ldc2_w 153, 3) := by decide +kernel
theorem i_75_54 : ins 75 54 = some (.aload_n 0, 1) := by decide +kernel
theorem f_75_34 : fld 75 34 = some (4194358, 4, 2) := by decide +kernel
theorem i_75_55 : ins 75 55 = some (.getfield 34, 3) := by decide +kernel
theorem i_75_58 : ins 75 58 = some (.aload_n 0, 1) := by decide +kernel
theorem f_75_140 : fld 75 140 = some (4194358, 9, 0) := by decide +kernel
theorem i_75_59 : ins 75 59 = some (.getfield 140, 3) := by decide +kernel
theorem i_75_62 : ins 75 62 = some (.aaload, 1) := by decide +kernel
theorem i_75_63 : ins 75 63 = some (.aload_n 0, 1) := by decide +kernel
theorem f_75_143 : fld 75 143 = some (4194358, 10, 0) := by decide +kernel
theorem i_75_64 : ins 75 64 = some (.getfield 143, 3) := by decide +kernel
theorem i_75_67 : ins 75 67 = some (.laload, 1) := by decide +kernel
theorem i_75_68 : ins 75 68 = some (.lmul, 1) := by decide +kernel
theorem i_75_69 : ins 75 69 = some (.aload_n 0, 1) := by decide +kernel
theorem f_75_31 : fld 75 31 = some (4194358, 3, 2) := by decide +kernel
theorem i_75_70 : ins 75 70 = some (.getfield 31, 3) := by decide +kernel
theorem i_75_73 : ins 75 73 = some (.aload_n 0, 1) := by decide +kernel
theorem i_75_74 : ins 75 74 = some (.getfield 140, 3) := by decide +kernel
theorem i_75_77 : ins 75 77 = some (.aaload, 1) := by decide +kernel
theorem i_75_78 : ins 75 78 = some (.aload_n 0, 1) := by decide +kernel
theorem i_75_79 : ins 75 79 = some (.getfield 143, 3) := by decide +kernel
theorem i_75_82 : ins 75 82 = some (.laload, 1) := by decide +kernel
theorem i_75_83 : ins 75 83 = some (.ldiv, 1) := by decide +kernel
theorem i_75_84 : ins 75 84 = some (.l2i, 1) := by decide +kernel
theorem r_75 : mret 75 = 1 := by decide +kernel
theorem i_75_85 : ins 75 85 = some (.ireturn, 1) := by decide +kernel
theorem i_75_86 : ins 75 86 = some (.iinc 4 1, 3) := by decide +kernel
theorem i_75_89 : ins 75 89 = some (.goto (-71), 3) := by decide +kernel
theorem t_89_18 : tg 89 (-71) = some 18 := by decide +kernel
theorem i_75_92 : ins 75 92 = some (.iinc 3 1, 3) := by decide +kernel
theorem i_75_95 : ins 75 95 = some (.goto (-93), 3) := by decide +kernel
theorem t_95_2 : tg 95 (-93) = some 2 := by decide +kernel
theorem i_75_98 : ins 75 98 = some (.aload_n 0, 1) := by decide +kernel
theorem i_75_99 : ins 75 99 = some (.iconst (-1), 1) := by decide +kernel
theorem o_75_4194358_9 : putok 75 4194358 9 = true := by decide +kernel
theorem i_75_100 : ins 75 100 = some (.putfield 140, 3) := by decide +kernel
theorem i_75_103 : ins 75 103 = some (.aload_n 0, 1) := by decide +kernel
theorem i_75_104 : ins 75 104 = some (.iconst (-1), 1) := by decide +kernel
theorem o_75_4194358_10 : putok 75 4194358 10 = true := by decide +kernel
theorem i_75_105 : ins 75 105 = some (.putfield 143, 3) := by decide +kernel
theorem i_75_108 : ins 75 108 = some (.aload_n 0, 1) := by decide +kernel
theorem i_75_109 : ins 75 109 = some (.getfield 3, 3) := by decide +kernel
theorem i_75_112 : ins 75 112 = some (.aload_n 0, 1) := by decide +kernel
theorem f_75_127 : fld 75 127 = some (4194358, 8, 0) := by decide +kernel
theorem i_75_113 : ins 75 113 = some (.getfield 127, 3) := by decide +kernel
theorem i_75_116 : ins 75 116 = some (.iload_n 1, 1) := by decide +kernel
theorem i_75_117 : ins 75 117 = some (.iload_n 2, 1) := by decide +kernel
theorem i_75_118 : ins 75 118 = some (.aload_n 0, 1) := by decide +kernel
theorem f_75_46 : fld 75 46 = some (4194358, 7, 0) := by decide +kernel
theorem i_75_119 : ins 75 119 = some (.getfield 46, 3) := by decide +kernel
theorem v_75_155 : inv 75 155 = some (11, 4, 1, 1048582) := by decide +kernel
theorem i_75_122 : ins 75 122 = some (.invokevirtual 155, 3) := by decide +kernel
theorem i_75_125 : ins 75 125 = some (.istore_n 3, 1) := by decide +kernel
theorem i_75_126 : ins 75 126 = some (.iload_n 3, 1) := by decide +kernel
theorem i_75_127 : ins 75 127 = some (.iconst (-1), 1) := by decide +kernel
theorem i_75_128 : ins 75 128 = some (.if_icmp .ne 7, 3) := by decide +kernel
theorem t_128_135 : tg 128 (7) = some 135 := by decide +kernel
theorem i_75_131 : ins 75 131 = some (.iconst (-1), 1) := by decide +kernel
theorem i_75_132 : ins 75 132 = some (.goto 29, 3) := by decide +kernel
theorem t_132_161 : tg 132 (29) = some 161 := by decide +kernel
theorem i_75_135 : ins 75 135 = some (.ldc2_w 153, 3) := by decide +kernel
theorem i_75_138 : ins 75 138 = some (.iload_n 3, 1) := by decide +kernel
theorem i_75_139 : ins 75 139 = some (.i2l, 1) := by decide +kernel
theorem i_75_140 : ins 75 140 = some (.lmul, 1) := by decide +kernel
theorem kS_1000 : (Int16.ofInt (1000)).toInt32 = nI 1000 := by decide +kernel
theorem i_75_141 : ins 75 141 = some (.sipush 1000, 3) := by decide +kernel
theorem i_75_144 : ins 75 144 = some (.aload_n 0, 1) := by decide +kernel
theorem i_75_145 : ins 75 145 = some (.getfield 54, 3) := by decide +kernel
theorem i_75_148 : ins 75 148 = some (.getfield 137, 3) := by decide +kernel
theorem i_75_151 : ins 75 151 = some (.iconst 2, 1) := by decide +kernel
theorem i_75_152 : ins 75 152 = some (.iaload, 1) := by decide +kernel
theorem i_75_153 : ins 75 153 = some (.iadd, 1) := by decide +kernel
theorem i_75_154 : ins 75 154 = some (.i2l, 1) := by decide +kernel
theorem i_75_155 : ins 75 155 = some (.lmul, 1) := by decide +kernel
theorem l_75_159 : ldcv 75 159 = some (vL (1000)) := rfl
theorem i_75_156 : ins 75 156 = some (.ldc2_w 159, 3) := by decide +kernel
theorem i_75_159 : ins 75 159 = some (.ldiv, 1) := by decide +kernel
theorem i_75_160 : ins 75 160 = some (.l2i, 1) := by decide +kernel
theorem i_75_161 : ins 75 161 = some (.ireturn, 1) := by decide +kernel
theorem i_76_0 : ins 76 0 = some (.iload_n 2, 1) := by decide +kernel
theorem i_76_1 : ins 76 1 = some (.istore_n 3, 1) := by decide +kernel
theorem i_76_2 : ins 76 2 = some (.iload_n 3, 1) := by decide +kernel
theorem i_76_3 : ins 76 3 = some (.iconst 0, 1) := by decide +kernel
theorem i_76_4 : ins 76 4 = some (.iload_n 2, 1) := by decide +kernel
theorem i_76_5 : ins 76 5 = some (.aload_n 0, 1) := by decide +kernel
theorem f_76_54 : fld 76 54 = some (4194358, 6, 2) := by decide +kernel
theorem i_76_6 : ins 76 6 = some (.getfield 54, 3) := by decide +kernel
theorem f_76_137 : fld 76 137 = some (3145766, 3, 2) := by decide +kernel
theorem i_76_9 : ins 76 9 = some (.getfield 137, 3) := by decide +kernel
theorem i_76_12 : ins 76 12 = some (.iconst 1, 1) := by decide +kernel
theorem i_76_13 : ins 76 13 = some (.iaload, 1) := by decide +kernel
theorem i_76_14 : ins 76 14 = some (.isub, 1) := by decide +kernel
theorem v_76_106 : inv 76 106 = some (248, 2, 0, 0) := by decide +kernel
theorem i_76_15 : ins 76 15 = some (.invokestatic 106, 3) := by decide +kernel
theorem i_76_18 : ins 76 18 = some (.if_icmp .lt 37, 3) := by decide +kernel
theorem t_18_55 : tg 18 (37) = some 55 := by decide +kernel
theorem i_76_21 : ins 76 21 = some (.aload_n 0, 1) := by decide +kernel
theorem f_76_31 : fld 76 31 = some (4194358, 3, 2) := by decide +kernel
theorem i_76_22 : ins 76 22 = some (.getfield 31, 3) := by decide +kernel
theorem i_76_25 : ins 76 25 = some (.iload_n 1, 1) := by decide +kernel
theorem i_76_26 : ins 76 26 = some (.aaload, 1) := by decide +kernel
theorem i_76_27 : ins 76 27 = some (.iload_n 3, 1) := by decide +kernel
theorem i_76_28 : ins 76 28 = some (.laload, 1) := by decide +kernel
theorem i_76_29 : ins 76 29 = some (.lconst 0, 1) := by decide +kernel
theorem t_31_37 : tg 31 (6) = some 37 := by decide +kernel
theorem i_76_30 : ins 76 30 = some (.lcmp, 1) := by decide +kernel
theorem i_76_31 : ins 76 31 = some (.ifCond .ne 6, 3) := by decide +kernel
theorem i_76_34 : ins 76 34 = some (.goto 15, 3) := by decide +kernel
theorem t_34_49 : tg 34 (15) = some 49 := by decide +kernel
theorem i_76_37 : ins 76 37 = some (.aload_n 0, 1) := by decide +kernel
theorem i_76_38 : ins 76 38 = some (.iload_n 1, 1) := by decide +kernel
theorem f_76_140 : fld 76 140 = some (4194358, 9, 0) := by decide +kernel
theorem o_76_4194358_9 : putok 76 4194358 9 = true := by decide +kernel
theorem i_76_39 : ins 76 39 = some (.putfield 140, 3) := by decide +kernel
theorem i_76_42 : ins 76 42 = some (.aload_n 0, 1) := by decide +kernel
theorem i_76_43 : ins 76 43 = some (.iload_n 3, 1) := by decide +kernel
theorem f_76_143 : fld 76 143 = some (4194358, 10, 0) := by decide +kernel
theorem o_76_4194358_10 : putok 76 4194358 10 = true := by decide +kernel
theorem i_76_44 : ins 76 44 = some (.putfield 143, 3) := by decide +kernel
theorem i_76_47 : ins 76 47 = some (.iconst 1, 1) := by decide +kernel
theorem r_76 : mret 76 = 2 := by decide +kernel
theorem i_76_48 : ins 76 48 = some (.ireturn, 1) := by decide +kernel
theorem i_76_49 : ins 76 49 = some (.iinc 3 (-1), 3) := by decide +kernel
theorem i_76_52 : ins 76 52 = some (.goto (-50), 3) := by decide +kernel
theorem t_52_2 : tg 52 (-50) = some 2 := by decide +kernel
theorem i_76_55 : ins 76 55 = some (.iconst 0, 1) := by decide +kernel
theorem i_76_56 : ins 76 56 = some (.ireturn, 1) := by decide +kernel
theorem i_77_0 : ins 77 0 = some (.aload_n 0, 1) := by decide +kernel
theorem f_77_3 : fld 77 3 = some (4194358, 11, 2) := by decide +kernel
theorem i_77_1 : ins 77 1 = some (.getfield 3, 3) := by decide +kernel
theorem f_77_80 : fld 77 80 = some (1048582, 6, 2) := by decide +kernel
theorem i_77_4 : ins 77 4 = some (.getfield 80, 3) := by decide +kernel
theorem i_77_7 : ins 77 7 = some (.iload_n 1, 1) := by decide +kernel
theorem i_77_8 : ins 77 8 = some (.aaload, 1) := by decide +kernel
theorem f_77_116 : fld 77 116 = some (9437318, 0, 0) := by decide +kernel
theorem i_77_9 : ins 77 9 = some (.getfield 116, 3) := by decide +kernel
theorem i_77_12 : ins 77 12 = some (.iload_n 2, 1) := by decide +kernel
theorem i_77_13 : ins 77 13 = some (.if_icmp .ne 54, 3) := by decide +kernel
theorem t_13_67 : tg 13 (54) = some 67 := by decide +kernel
theorem i_77_16 : ins 77 16 = some (.aload_n 0, 1) := by decide +kernel
theorem i_77_17 : ins 77 17 = some (.getfield 3, 3) := by decide +kernel
theorem i_77_20 : ins 77 20 = some (.getfield 80, 3) := by decide +kernel
theorem i_77_23 : ins 77 23 = some (.iload_n 1, 1) := by decide +kernel
theorem i_77_24 : ins 77 24 = some (.aaload, 1) := by decide +kernel
theorem f_77_84 : fld 77 84 = some (9437318, 7, 5) := by decide +kernel
theorem i_77_25 : ins 77 25 = some (.getfield 84, 3) := by decide +kernel
theorem i_77_28 : ins 77 28 = some (.ifCond .eq 39, 3) := by decide +kernel
theorem t_28_67 : tg 28 (39) = some 67 := by decide +kernel
theorem i_77_31 : ins 77 31 = some (.aload_n 0, 1) := by decide +kernel
theorem i_77_32 : ins 77 32 = some (.iload_n 1, 1) := by decide +kernel
theorem v_77_119 : inv 77 119 = some (74, 1, 1, 4194358) := by decide +kernel
theorem i_77_33 : ins 77 33 = some (.invokevirtual 119, 3) := by decide +kernel
theorem i_77_36 : ins 77 36 = some (.ifCond .eq 31, 3) := by decide +kernel
theorem i_77_39 : ins 77 39 = some (.aload_n 0, 1) := by decide +kernel
theorem i_77_40 : ins 77 40 = some (.getfield 3, 3) := by decide +kernel
theorem i_77_43 : ins 77 43 = some (.getfield 80, 3) := by decide +kernel
theorem i_77_46 : ins 77 46 = some (.iload_n 1, 1) := by decide +kernel
theorem i_77_47 : ins 77 47 = some (.aaload, 1) := by decide +kernel
theorem f_77_120 : fld 77 120 = some (9437318, 2, 0) := by decide +kernel
theorem i_77_48 : ins 77 48 = some (.getfield 120, 3) := by decide +kernel
theorem i_77_51 : ins 77 51 = some (.i2l, 1) := by decide +kernel
theorem i_77_52 : ins 77 52 = some (.iload_n 3, 1) := by decide +kernel
theorem i_77_53 : ins 77 53 = some (.i2l, 1) := by decide +kernel
theorem i_77_54 : ins 77 54 = some (.iload 4, 2) := by decide +kernel
theorem i_77_56 : ins 77 56 = some (.i2l, 1) := by decide +kernel
theorem v_77_123 : inv 77 123 = some (2, 3, 0, 0) := by decide +kernel
theorem i_77_57 : ins 77 57 = some (.invokestatic 123, 3) := by decide +kernel
theorem i_77_60 : ins 77 60 = some (.ifCond .eq 7, 3) := by decide +kernel
theorem t_60_67 : tg 60 (7) = some 67 := by decide +kernel
theorem i_77_63 : ins 77 63 = some (.iconst 1, 1) := by decide +kernel
theorem i_77_64 : ins 77 64 = some (.goto 4, 3) := by decide +kernel
theorem t_64_68 : tg 64 (4) = some 68 := by decide +kernel
theorem i_77_67 : ins 77 67 = some (.iconst 0, 1) := by decide +kernel
theorem r_77 : mret 77 = 2 := by decide +kernel
theorem i_77_68 : ins 77 68 = some (.ireturn, 1) := by decide +kernel
theorem i_78_0 : ins 78 0 = some (.aload_n 0, 1) := by decide +kernel
theorem i_78_1 : ins 78 1 = some (.aload_n 1, 1) := by decide +kernel
theorem f_78_1 : fld 78 1 = some (5242950, 6, 2) := by decide +kernel
theorem o_78_5242950_6 : putok 78 5242950 6 = true := by decide +kernel
theorem i_78_2 : ins 78 2 = some (.putfield 1, 3) := by decide +kernel
theorem i_78_5 : ins 78 5 = some (.aload_n 0, 1) := by decide +kernel
theorem v_78_7 : inv 78 7 = some (0, 0, 4, 0) := by decide +kernel
theorem i_78_6 : ins 78 6 = some (.invokespecial 7, 3) := by decide +kernel
theorem i_78_9 : ins 78 9 = some (.return_, 1) := by decide +kernel
theorem r_78 : mret 78 = 0 := by decide +kernel
theorem i_79_0 : ins 79 0 = some (.aload_n 0, 1) := by decide +kernel
theorem i_79_1 : ins 79 1 = some (.aload_n 1, 1) := by decide +kernel
theorem f_79_13 : fld 79 13 = some (5242950, 0, 2) := by decide +kernel
theorem o_79_5242950_0 : putok 79 5242950 0 = true := by decide +kernel
theorem i_79_2 : ins 79 2 = some (.putfield 13, 3) := by decide +kernel
theorem i_79_5 : ins 79 5 = some (.aload_n 0, 1) := by decide +kernel
theorem i_79_6 : ins 79 6 = some (.aload_n 2, 1) := by decide +kernel
theorem f_79_17 : fld 79 17 = some (5242950, 1, 2) := by decide +kernel
theorem o_79_5242950_1 : putok 79 5242950 1 = true := by decide +kernel
theorem i_79_7 : ins 79 7 = some (.putfield 17, 3) := by decide +kernel
theorem i_79_10 : ins 79 10 = some (.aload_n 0, 1) := by decide +kernel
theorem i_79_11 : ins 79 11 = some (.iload_n 3, 1) := by decide +kernel
theorem f_79_21 : fld 79 21 = some (5242950, 3, 0) := by decide +kernel
theorem o_79_5242950_3 : putok 79 5242950 3 = true := by decide +kernel
theorem i_79_12 : ins 79 12 = some (.putfield 21, 3) := by decide +kernel
theorem i_79_15 : ins 79 15 = some (.aload_n 0, 1) := by decide +kernel
theorem i_79_16 : ins 79 16 = some (.areturn, 1) := by decide +kernel
theorem r_79 : mret 79 = 6 := by decide +kernel
theorem i_80_0 : ins 80 0 = some (.iload_n 1, 1) := by decide +kernel
theorem i_80_1 : ins 80 1 = some (.bipush 8, 2) := by decide +kernel
theorem i_80_3 : ins 80 3 = some (.if_icmp .ge 22, 3) := by decide +kernel
theorem t_3_25 : tg 3 (22) = some 25 := by decide +kernel
theorem i_80_6 : ins 80 6 = some (.aload_n 0, 1) := by decide +kernel
theorem f_80_13 : fld 80 13 = some (5242950, 0, 2) := by decide +kernel
theorem i_80_7 : ins 80 7 = some (.getfield 13, 3) := by decide +kernel
theorem i_80_10 : ins 80 10 = some (.ifnonnull 7, 3) := by decide +kernel
theorem i_80_13 : ins 80 13 = some (.lconst 0, 1) := by decide +kernel
theorem i_80_14 : ins 80 14 = some (.goto 27, 3) := by decide +kernel
theorem t_14_41 : tg 14 (27) = some 41 := by decide +kernel
theorem i_80_17 : ins 80 17 = some (.aload_n 0, 1) := by decide +kernel
theorem i_80_18 : ins 80 18 = some (.iload_n 1, 1) := by decide +kernel
theorem v_80_35 : inv 80 35 = some (81, 1, 1, 5242950) := by decide +kernel
theorem i_80_19 : ins 80 19 = some (.invokevirtual 35, 3) := by decide +kernel
theorem i_80_22 : ins 80 22 = some (.goto 19, 3) := by decide +kernel
theorem t_22_41 : tg 22 (19) = some 41 := by decide +kernel
theorem i_80_25 : ins 80 25 = some (.aload_n 0, 1) := by decide +kernel
theorem i_80_26 : ins 80 26 = some (.getfield 13, 3) := by decide +kernel
theorem i_80_29 : ins 80 29 = some (.ifnull 7, 3) := by decide +kernel
theorem t_29_36 : tg 29 (7) = some 36 := by decide +kernel
theorem i_80_32 : ins 80 32 = some (.lconst 0, 1) := by decide +kernel
theorem i_80_33 : ins 80 33 = some (.goto 8, 3) := by decide +kernel
theorem t_33_41 : tg 33 (8) = some 41 := by decide +kernel
theorem i_80_36 : ins 80 36 = some (.aload_n 0, 1) := by decide +kernel
theorem i_80_37 : ins 80 37 = some (.iload_n 1, 1) := by decide +kernel
theorem v_80_39 : inv 80 39 = some (82, 1, 1, 5242950) := by decide +kernel
theorem i_80_38 : ins 80 38 = some (.invokevirtual 39, 3) := by decide +kernel
theorem i_80_41 : ins 80 41 = some (.lreturn, 1) := by decide +kernel
theorem r_80 : mret 80 = 5 := by decide +kernel
theorem i_81_0 : ins 81 0 = some (.iload_n 1, 1) := by decide +kernel
theorem i_81_1 : ins 81 1 = some (.tableswitch 149 0 6 #[43, 52, 61, 70, 79, 95, 129], 43) := by decide +kernel
theorem t_1_150 : tg 1 (149) = some 150 := by decide +kernel
theorem i_81_44 : ins 81 44 = some (.aload_n 0, 1) := by decide +kernel
theorem f_81_13 : fld 81 13 = some (5242950, 0, 2) := by decide +kernel
theorem i_81_45 : ins 81 45 = some (.getfield 13, 3) := by decide +kernel
theorem f_81_42 : fld 81 42 = some (9437318, 5, 0) := by decide +kernel
theorem i_81_48 : ins 81 48 = some (.getfield 42, 3) := by decide +kernel
theorem i_81_51 : ins 81 51 = some (.i2l, 1) := by decide +kernel
theorem i_81_52 : ins 81 52 = some (.lreturn, 1) := by decide +kernel
theorem r_81 : mret 81 = 5 := by decide +kernel
theorem i_81_53 : ins 81 53 = some (.aload_n 0, 1) := by decide +kernel
theorem i_81_54 : ins 81 54 = some (.getfield 13, 3) := by decide +kernel
theorem f_81_47 : fld 81 47 = some (9437318, 4, 0) := by decide +kernel
theorem i_81_57 : ins 81 57 = some (.getfield 47, 3) := by decide +kernel
theorem i_81_60 : ins 81 60 = some (.i2l, 1) := by decide +kernel
theorem i_81_61 : ins 81 61 = some (.lreturn, 1) := by decide +kernel
theorem i_81_62 : ins 81 62 = some (.aload_n 0, 1) := by decide +kernel
theorem i_81_63 : ins 81 63 = some (.getfield 13, 3) := by decide +kernel
theorem f_81_50 : fld 81 50 = some (9437318, 1, 0) := by decide +kernel
theorem i_81_66 : ins 81 66 = some (.getfield 50, 3) := by decide +kernel
theorem i_81_69 : ins 81 69 = some (.i2l, 1) := by decide +kernel
theorem i_81_70 : ins 81 70 = some (.lreturn, 1) := by decide +kernel
theorem i_81_71 : ins 81 71 = some (.aload_n 0, 1) := by decide +kernel
theorem i_81_72 : ins 81 72 = some (.getfield 13, 3) := by decide +kernel
theorem f_81_53 : fld 81 53 = some (9437318, 2, 0) := by decide +kernel
theorem i_81_75 : ins 81 75 = some (.getfield 53, 3) := by decide +kernel
theorem i_81_78 : ins 81 78 = some (.i2l, 1) := by decide +kernel
theorem i_81_79 : ins 81 79 = some (.lreturn, 1) := by decide +kernel
theorem i_81_80 : ins 81 80 = some (.aload_n 0, 1) := by decide +kernel
theorem i_81_81 : ins 81 81 = some (.getfield 13, 3) := by decide +kernel
theorem f_81_56 : fld 81 56 = some (9437318, 8, 5) := by decide +kernel
theorem i_81_84 : ins 81 84 = some (.getfield 56, 3) := by decide +kernel
theorem i_81_87 : ins 81 87 = some (.ifCond .eq 7, 3) := by decide +kernel
theorem t_87_94 : tg 87 (7) = some 94 := by decide +kernel
theorem i_81_90 : ins 81 90 = some (.lconst 1, 1) := by decide +kernel
theorem i_81_91 : ins 81 91 = some (.goto 4, 3) := by decide +kernel
theorem t_91_95 : tg 91 (4) = some 95 := by decide +kernel
theorem i_81_94 : ins 81 94 = some (.lconst 0, 1) := by decide +kernel
theorem i_81_95 : ins 81 95 = some (.lreturn, 1) := by decide +kernel
theorem i_81_96 : ins 81 96 = some (.aload_n 0, 1) := by decide +kernel
theorem f_81_1 : fld 81 1 = some (5242950, 6, 2) := by decide +kernel
theorem i_81_97 : ins 81 97 = some (.getfield 1, 3) := by decide +kernel
theorem i_81_100 : ins 81 100 = some (.aload_n 0, 1) := by decide +kernel
theorem i_81_101 : ins 81 101 = some (.getfield 13, 3) := by decide +kernel
theorem f_81_60 : fld 81 60 = some (9437318, 0, 0) := by decide +kernel
theorem i_81_104 : ins 81 104 = some (.getfield 60, 3) := by decide +kernel
theorem i_81_107 : ins 81 107 = some (.aload_n 0, 1) := by decide +kernel
theorem i_81_108 : ins 81 108 = some (.getfield 13, 3) := by decide +kernel
theorem i_81_111 : ins 81 111 = some (.getfield 50, 3) := by decide +kernel
theorem i_81_114 : ins 81 114 = some (.aload_n 0, 1) := by decide +kernel
theorem i_81_115 : ins 81 115 = some (.getfield 13, 3) := by decide +kernel
theorem i_81_118 : ins 81 118 = some (.getfield 53, 3) := by decide +kernel
theorem i_81_121 : ins 81 121 = some (.aload_n 0, 1) := by decide +kernel
theorem f_81_21 : fld 81 21 = some (5242950, 3, 0) := by decide +kernel
theorem i_81_122 : ins 81 122 = some (.getfield 21, 3) := by decide +kernel
theorem v_81_61 : inv 81 61 = some (11, 4, 1, 1048582) := by decide +kernel
theorem i_81_125 : ins 81 125 = some (.invokevirtual 61, 3) := by decide +kernel
theorem i_81_128 : ins 81 128 = some (.i2l, 1) := by decide +kernel
theorem i_81_129 : ins 81 129 = some (.lreturn, 1) := by decide +kernel
theorem i_81_130 : ins 81 130 = some (.aload_n 0, 1) := by decide +kernel
theorem f_81_17 : fld 81 17 = some (5242950, 1, 2) := by decide +kernel
theorem i_81_131 : ins 81 131 = some (.getfield 17, 3) := by decide +kernel
theorem i_81_134 : ins 81 134 = some (.ifnonnull 7, 3) := by decide +kernel
theorem t_134_141 : tg 134 (7) = some 141 := by decide +kernel
theorem i_81_137 : ins 81 137 = some (.lconst 0, 1) := by decide +kernel
theorem i_81_138 : ins 81 138 = some (.goto 11, 3) := by decide +kernel
theorem t_138_149 : tg 138 (11) = some 149 := by decide +kernel
theorem i_81_141 : ins 81 141 = some (.aload_n 0, 1) := by decide +kernel
theorem i_81_142 : ins 81 142 = some (.getfield 17, 3) := by decide +kernel
theorem f_81_67 : fld 81 67 = some (10485910, 2, 0) := by decide +kernel
theorem i_81_145 : ins 81 145 = some (.getfield 67, 3) := by decide +kernel
theorem i_81_148 : ins 81 148 = some (.i2l, 1) := by decide +kernel
theorem i_81_149 : ins 81 149 = some (.lreturn, 1) := by decide +kernel
theorem i_81_150 : ins 81 150 = some (.aload_n 0, 1) := by decide +kernel
theorem i_81_151 : ins 81 151 = some (.getfield 17, 3) := by decide +kernel
theorem i_81_154 : ins 81 154 = some (.ifnull 17, 3) := by decide +kernel
theorem t_154_171 : tg 154 (17) = some 171 := by decide +kernel
theorem i_81_157 : ins 81 157 = some (.aload_n 0, 1) := by decide +kernel
theorem i_81_158 : ins 81 158 = some (.getfield 17, 3) := by decide +kernel
theorem f_81_72 : fld 81 72 = some (10485910, 4, 5) := by decide +kernel
theorem i_81_161 : ins 81 161 = some (.getfield 72, 3) := by decide +kernel
theorem i_81_164 : ins 81 164 = some (.ifCond .eq 7, 3) := by decide +kernel
theorem t_164_171 : tg 164 (7) = some 171 := by decide +kernel
theorem i_81_167 : ins 81 167 = some (.lconst 1, 1) := by decide +kernel
theorem i_81_168 : ins 81 168 = some (.goto 4, 3) := by decide +kernel
theorem t_168_172 : tg 168 (4) = some 172 := by decide +kernel
theorem i_81_171 : ins 81 171 = some (.lconst 0, 1) := by decide +kernel
theorem i_81_172 : ins 81 172 = some (.lreturn, 1) := by decide +kernel
theorem i_82_0 : ins 82 0 = some (.iload_n 1, 1) := by decide +kernel
theorem i_82_1 : ins 82 1 = some (.tableswitch 84 8 11 #[31, 45, 62, 79], 31) := by decide +kernel
theorem t_1_85 : tg 1 (84) = some 85 := by decide +kernel
theorem i_82_32 : ins 82 32 = some (.aload_n 0, 1) := by decide +kernel
theorem f_82_1 : fld 82 1 = some (5242950, 6, 2) := by decide +kernel
theorem i_82_33 : ins 82 33 = some (.getfield 1, 3) := by decide +kernel
theorem f_82_75 : fld 82 75 = some (1048582, 1, 2) := by decide +kernel
theorem i_82_36 : ins 82 36 = some (.getfield 75, 3) := by decide +kernel
theorem i_82_39 : ins 82 39 = some (.aload_n 0, 1) := by decide +kernel
theorem f_82_25 : fld 82 25 = some (5242950, 2, 0) := by decide +kernel
theorem i_82_40 : ins 82 40 = some (.getfield 25, 3) := by decide +kernel
theorem i_82_43 : ins 82 43 = some (.iaload, 1) := by decide +kernel
theorem i_82_44 : ins 82 44 = some (.i2l, 1) := by decide +kernel
theorem i_82_45 : ins 82 45 = some (.lreturn, 1) := by decide +kernel
theorem r_82 : mret 82 = 5 := by decide +kernel
theorem i_82_46 : ins 82 46 = some (.aload_n 0, 1) := by decide +kernel
theorem i_82_47 : ins 82 47 = some (.getfield 1, 3) := by decide +kernel
theorem i_82_50 : ins 82 50 = some (.aload_n 0, 1) := by decide +kernel
theorem i_82_51 : ins 82 51 = some (.getfield 25, 3) := by decide +kernel
theorem i_82_54 : ins 82 54 = some (.aload_n 0, 1) := by decide +kernel
theorem f_82_21 : fld 82 21 = some (5242950, 3, 0) := by decide +kernel
theorem i_82_55 : ins 82 55 = some (.getfield 21, 3) := by decide +kernel
theorem v_82_79 : inv 82 79 = some (24, 2, 1, 1048582) := by decide +kernel
theorem i_82_58 : ins 82 58 = some (.invokevirtual 79, 3) := by decide +kernel
theorem i_82_61 : ins 82 61 = some (.i2l, 1) := by decide +kernel
theorem i_82_62 : ins 82 62 = some (.lreturn, 1) := by decide +kernel
theorem i_82_63 : ins 82 63 = some (.aload_n 0, 1) := by decide +kernel
theorem i_82_64 : ins 82 64 = some (.getfield 1, 3) := by decide +kernel
theorem i_82_67 : ins 82 67 = some (.aload_n 0, 1) := by decide +kernel
theorem i_82_68 : ins 82 68 = some (.getfield 25, 3) := by decide +kernel
theorem i_82_71 : ins 82 71 = some (.aload_n 0, 1) := by decide +kernel
theorem i_82_72 : ins 82 72 = some (.getfield 21, 3) := by decide +kernel
theorem v_82_83 : inv 82 83 = some (25, 2, 1, 1048582) := by decide +kernel
theorem i_82_75 : ins 82 75 = some (.invokevirtual 83, 3) := by decide +kernel
theorem i_82_78 : ins 82 78 = some (.i2l, 1) := by decide +kernel
theorem i_82_79 : ins 82 79 = some (.lreturn, 1) := by decide +kernel
theorem i_82_80 : ins 82 80 = some (.aload_n 0, 1) := by decide +kernel
theorem f_82_28 : fld 82 28 = some (5242950, 4, 1) := by decide +kernel
theorem i_82_81 : ins 82 81 = some (.getfield 28, 3) := by decide +kernel
theorem i_82_84 : ins 82 84 = some (.lreturn, 1) := by decide +kernel
theorem i_82_85 : ins 82 85 = some (.aload_n 0, 1) := by decide +kernel
theorem f_82_32 : fld 82 32 = some (5242950, 5, 1) := by decide +kernel
theorem i_82_86 : ins 82 86 = some (.getfield 32, 3) := by decide +kernel
theorem i_82_89 : ins 82 89 = some (.lreturn, 1) := by decide +kernel
theorem i_83_0 : ins 83 0 = some (.aload_n 0, 1) := by decide +kernel
theorem i_83_1 : ins 83 1 = some (.aconst_null, 1) := by decide +kernel
theorem f_83_13 : fld 83 13 = some (5242950, 0, 2) := by decide +kernel
theorem o_83_5242950_0 : putok 83 5242950 0 = true := by decide +kernel
theorem i_83_2 : ins 83 2 = some (.putfield 13, 3) := by decide +kernel
theorem i_83_5 : ins 83 5 = some (.aload_n 0, 1) := by decide +kernel
theorem i_83_6 : ins 83 6 = some (.aconst_null, 1) := by decide +kernel
theorem f_83_17 : fld 83 17 = some (5242950, 1, 2) := by decide +kernel
theorem o_83_5242950_1 : putok 83 5242950 1 = true := by decide +kernel
theorem i_83_7 : ins 83 7 = some (.putfield 17, 3) := by decide +kernel
theorem i_83_10 : ins 83 10 = some (.aload_n 0, 1) := by decide +kernel
theorem i_83_11 : ins 83 11 = some (.iload_n 1, 1) := by decide +kernel
theorem f_83_25 : fld 83 25 = some (5242950, 2, 0) := by decide +kernel
theorem o_83_5242950_2 : putok 83 5242950 2 = true := by decide +kernel
theorem i_83_12 : ins 83 12 = some (.putfield 25, 3) := by decide +kernel
theorem i_83_15 : ins 83 15 = some (.aload_n 0, 1) := by decide +kernel
theorem i_83_16 : ins 83 16 = some (.iload_n 2, 1) := by decide +kernel
theorem f_83_21 : fld 83 21 = some (5242950, 3, 0) := by decide +kernel
theorem o_83_5242950_3 : putok 83 5242950 3 = true := by decide +kernel
theorem i_83_17 : ins 83 17 = some (.putfield 21, 3) := by decide +kernel
theorem i_83_20 : ins 83 20 = some (.aload_n 0, 1) := by decide +kernel
theorem i_83_21 : ins 83 21 = some (.lload_n 3, 1) := by decide +kernel
theorem f_83_28 : fld 83 28 = some (5242950, 4, 1) := by decide +kernel
theorem o_83_5242950_4 : putok 83 5242950 4 = true := by decide +kernel
theorem i_83_22 : ins 83 22 = some (.putfield 28, 3) := by decide +kernel
theorem i_83_25 : ins 83 25 = some (.aload_n 0, 1) := by decide +kernel
theorem i_83_26 : ins 83 26 = some (.iload 5, 2) := by decide +kernel
theorem i_83_28 : ins 83 28 = some (.ifCond .eq 7, 3) := by decide +kernel
theorem t_28_35 : tg 28 (7) = some 35 := by decide +kernel
theorem i_83_31 : ins 83 31 = some (.lconst 1, 1) := by decide +kernel
theorem i_83_32 : ins 83 32 = some (.goto 4, 3) := by decide +kernel
theorem t_32_36 : tg 32 (4) = some 36 := by decide +kernel
theorem i_83_35 : ins 83 35 = some (.lconst 0, 1) := by decide +kernel
theorem f_83_32 : fld 83 32 = some (5242950, 5, 1) := by decide +kernel
