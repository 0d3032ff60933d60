set_option maxRecDepth 100000
theorem kb_m4 : (Int8.ofInt (-4)).toInt32 = ((-4) : Int32) := by decide
theorem kb_m3 : (Int8.ofInt (-3)).toInt32 = ((-3) : Int32) := by decide
theorem kb_m2 : (Int8.ofInt (-2)).toInt32 = ((-2) : Int32) := by decide
theorem kb_6 : (Int8.ofInt 6).toInt32 = (6 : Int32) := by decide
theorem kb_7 : (Int8.ofInt 7).toInt32 = (7 : Int32) := by decide
theorem kb_8 : (Int8.ofInt 8).toInt32 = (8 : Int32) := by decide
theorem kb_9 : (Int8.ofInt 9).toInt32 = (9 : Int32) := by decide
theorem kb_10 : (Int8.ofInt 10).toInt32 = (10 : Int32) := by decide
theorem kb_11 : (Int8.ofInt 11).toInt32 = (11 : Int32) := by decide
theorem kb_12 : (Int8.ofInt 12).toInt32 = (12 : Int32) := by decide
theorem kb_13 : (Int8.ofInt 13).toInt32 = (13 : Int32) := by decide
theorem kb_14 : (Int8.ofInt 14).toInt32 = (14 : Int32) := by decide
theorem kb_15 : (Int8.ofInt 15).toInt32 = (15 : Int32) := by decide
theorem kb_16 : (Int8.ofInt 16).toInt32 = (16 : Int32) := by decide
theorem kb_20 : (Int8.ofInt 20).toInt32 = (20 : Int32) := by decide
theorem kb_24 : (Int8.ofInt 24).toInt32 = (24 : Int32) := by decide
theorem kb_30 : (Int8.ofInt 30).toInt32 = (30 : Int32) := by decide
theorem kb_32 : (Int8.ofInt 32).toInt32 = (32 : Int32) := by decide
theorem kb_33 : (Int8.ofInt 33).toInt32 = (33 : Int32) := by decide
theorem kb_35 : (Int8.ofInt 35).toInt32 = (35 : Int32) := by decide
theorem kb_37 : (Int8.ofInt 37).toInt32 = (37 : Int32) := by decide
theorem kb_38 : (Int8.ofInt 38).toInt32 = (38 : Int32) := by decide
theorem kb_40 : (Int8.ofInt 40).toInt32 = (40 : Int32) := by decide
theorem kb_41 : (Int8.ofInt 41).toInt32 = (41 : Int32) := by decide
theorem kb_42 : (Int8.ofInt 42).toInt32 = (42 : Int32) := by decide
theorem kb_43 : (Int8.ofInt 43).toInt32 = (43 : Int32) := by decide
theorem kb_45 : (Int8.ofInt 45).toInt32 = (45 : Int32) := by decide
theorem kb_47 : (Int8.ofInt 47).toInt32 = (47 : Int32) := by decide
theorem kb_48 : (Int8.ofInt 48).toInt32 = (48 : Int32) := by decide
theorem kb_57 : (Int8.ofInt 57).toInt32 = (57 : Int32) := by decide
theorem kb_59 : (Int8.ofInt 59).toInt32 = (59 : Int32) := by decide
theorem kb_60 : (Int8.ofInt 60).toInt32 = (60 : Int32) := by decide
theorem kb_61 : (Int8.ofInt 61).toInt32 = (61 : Int32) := by decide
theorem kb_62 : (Int8.ofInt 62).toInt32 = (62 : Int32) := by decide
theorem kb_63 : (Int8.ofInt 63).toInt32 = (63 : Int32) := by decide
theorem kb_64 : (Int8.ofInt 64).toInt32 = (64 : Int32) := by decide
theorem kb_91 : (Int8.ofInt 91).toInt32 = (91 : Int32) := by decide
theorem kb_93 : (Int8.ofInt 93).toInt32 = (93 : Int32) := by decide
theorem kb_97 : (Int8.ofInt 97).toInt32 = (97 : Int32) := by decide
theorem kb_98 : (Int8.ofInt 98).toInt32 = (98 : Int32) := by decide
theorem kb_99 : (Int8.ofInt 99).toInt32 = (99 : Int32) := by decide
theorem kb_100 : (Int8.ofInt 100).toInt32 = (100 : Int32) := by decide
theorem kb_101 : (Int8.ofInt 101).toInt32 = (101 : Int32) := by decide
theorem kb_120 : (Int8.ofInt 120).toInt32 = (120 : Int32) := by decide
theorem kb_124 : (Int8.ofInt 124).toInt32 = (124 : Int32) := by decide
theorem kc_m8 : Int32.ofInt (-8) = ((-8) : Int32) := by decide
theorem kc_m1 : Int32.ofInt (-1) = ((-1) : Int32) := by decide
theorem kc_0 : Int32.ofInt 0 = (0 : Int32) := by decide
theorem kc_1 : Int32.ofInt 1 = (1 : Int32) := by decide
theorem kc_2 : Int32.ofInt 2 = (2 : Int32) := by decide
theorem kc_3 : Int32.ofInt 3 = (3 : Int32) := by decide
theorem kc_4 : Int32.ofInt 4 = (4 : Int32) := by decide
theorem kc_5 : Int32.ofInt 5 = (5 : Int32) := by decide
theorem kc_6 : Int32.ofInt 6 = (6 : Int32) := by decide
theorem kc_8 : Int32.ofInt 8 = (8 : Int32) := by decide
theorem kc_16 : Int32.ofInt 16 = (16 : Int32) := by decide
theorem ks_m1000 : (Int16.ofInt (-1000)).toInt32 = ((-1000) : Int32) := by decide
theorem ks_160 : (Int16.ofInt 160).toInt32 = (160 : Int32) := by decide
theorem ks_240 : (Int16.ofInt 240).toInt32 = (240 : Int32) := by decide
theorem ks_255 : (Int16.ofInt 255).toInt32 = (255 : Int32) := by decide
theorem ks_256 : (Int16.ofInt 256).toInt32 = (256 : Int32) := by decide
theorem ks_260 : (Int16.ofInt 260).toInt32 = (260 : Int32) := by decide
theorem ks_272 : (Int16.ofInt 272).toInt32 = (272 : Int32) := by decide
theorem ks_273 : (Int16.ofInt 273).toInt32 = (273 : Int32) := by decide
theorem ks_274 : (Int16.ofInt 274).toInt32 = (274 : Int32) := by decide
theorem ks_2048 : (Int16.ofInt 2048).toInt32 = (2048 : Int32) := by decide
theorem ks_9999 : (Int16.ofInt 9999).toInt32 = (9999 : Int32) := by decide
theorem ks_13849 : (Int16.ofInt 13849).toInt32 = (13849 : Int32) := by decide
theorem ks_25173 : (Int16.ofInt 25173).toInt32 = (25173 : Int32) := by decide
theorem tf_0_16 : pm_lk (pm_tf 0) 16 = some [(0, 0)] := rfl
theorem tf_0_22 : pm_lk (pm_tf 0) 22 = some [(1, 2)] := rfl
theorem tf_0_28 : pm_lk (pm_tf 0) 28 = some [(0, 7)] := rfl
theorem tf_0_32 : pm_lk (pm_tf 0) 32 = some [(0, 2)] := rfl
theorem tf_0_52 : pm_lk (pm_tf 0) 52 = some [(0, 1)] := rfl
theorem tf_0_63 : pm_lk (pm_tf 0) 63 = some [(0, 3)] := rfl
theorem tf_0_67 : pm_lk (pm_tf 0) 67 = some [(0, 4)] := rfl
theorem tf_0_70 : pm_lk (pm_tf 0) 70 = some [(0, 5)] := rfl
theorem tf_0_73 : pm_lk (pm_tf 0) 73 = some [(0, 6)] := rfl
theorem tf_0_79 : pm_lk (pm_tf 0) 79 = some [(0, 10)] := rfl
theorem tf_0_83 : pm_lk (pm_tf 0) 83 = some [(0, 11)] := rfl
theorem tf_0_87 : pm_lk (pm_tf 0) 87 = some [(0, 12)] := rfl
theorem tf_0_90 : pm_lk (pm_tf 0) 90 = some [(0, 13)] := rfl
theorem tf_0_93 : pm_lk (pm_tf 0) 93 = some [(0, 14)] := rfl
theorem tf_0_96 : pm_lk (pm_tf 0) 96 = some [(0, 15)] := rfl
theorem tf_0_101 : pm_lk (pm_tf 0) 101 = some [(0, 16)] := rfl
theorem tf_0_104 : pm_lk (pm_tf 0) 104 = some [(0, 17)] := rfl
theorem tf_0_107 : pm_lk (pm_tf 0) 107 = some [(0, 18)] := rfl
theorem tf_0_110 : pm_lk (pm_tf 0) 110 = some [(3, 4)] := rfl
theorem tf_0_113 : pm_lk (pm_tf 0) 113 = some [(0, 8)] := rfl
theorem tf_0_133 : pm_lk (pm_tf 0) 133 = some [(6, 1)] := rfl
theorem tf_0_152 : pm_lk (pm_tf 0) 152 = some [(1, 3)] := rfl
theorem tf_0_155 : pm_lk (pm_tf 0) 155 = some [(14, 6)] := rfl
theorem tf_0_158 : pm_lk (pm_tf 0) 158 = some [(14, 8)] := rfl
theorem tf_0_165 : pm_lk (pm_tf 0) 165 = some [(3, 5)] := rfl
theorem tf_0_175 : pm_lk (pm_tf 0) 175 = some [(3, 6)] := rfl
theorem tf_0_181 : pm_lk (pm_tf 0) 181 = some [(3, 1)] := rfl
theorem tf_0_188 : pm_lk (pm_tf 0) 188 = some [(1, 0)] := rfl
theorem tf_0_194 : pm_lk (pm_tf 0) 194 = some [(1, 1)] := rfl
theorem tf_0_197 : pm_lk (pm_tf 0) 197 = some [(3, 0)] := rfl
theorem tf_0_275 : pm_lk (pm_tf 0) 275 = some [(0, 9)] := rfl
theorem tf_0_279 : pm_lk (pm_tf 0) 279 = some [(3, 3)] := rfl
theorem tf_0_288 : pm_lk (pm_tf 0) 288 = some [(4, 3)] := rfl
theorem tf_1_9 : pm_lk (pm_tf 1) 9 = some [(1, 0)] := rfl
theorem tf_1_15 : pm_lk (pm_tf 1) 15 = some [(1, 1)] := rfl
theorem tf_1_18 : pm_lk (pm_tf 1) 18 = some [(1, 2)] := rfl
theorem tf_1_22 : pm_lk (pm_tf 1) 22 = some [(1, 3)] := rfl
theorem tf_3_9 : pm_lk (pm_tf 3) 9 = some [(2, 1)] := rfl
theorem tf_3_15 : pm_lk (pm_tf 3) 15 = some [(2, 2)] := rfl
theorem tf_3_18 : pm_lk (pm_tf 3) 18 = some [(2, 3)] := rfl
theorem tf_3_21 : pm_lk (pm_tf 3) 21 = some [(2, 4)] := rfl
theorem tf_3_24 : pm_lk (pm_tf 3) 24 = some [(2, 5)] := rfl
theorem tf_3_27 : pm_lk (pm_tf 3) 27 = some [(2, 6)] := rfl
theorem tf_3_30 : pm_lk (pm_tf 3) 30 = some [(2, 7)] := rfl
theorem tf_3_33 : pm_lk (pm_tf 3) 33 = some [(2, 8)] := rfl
theorem tf_3_36 : pm_lk (pm_tf 3) 36 = some [(2, 9)] := rfl
theorem tf_3_39 : pm_lk (pm_tf 3) 39 = some [(2, 10)] := rfl
theorem tf_4_3 : pm_lk (pm_tf 4) 3 = some [(3, 9)] := rfl
theorem tf_4_17 : pm_lk (pm_tf 4) 17 = some [(3, 0)] := rfl
theorem tf_4_20 : pm_lk (pm_tf 4) 20 = some [(3, 1)] := rfl
theorem tf_4_24 : pm_lk (pm_tf 4) 24 = some [(3, 2)] := rfl
theorem tf_4_31 : pm_lk (pm_tf 4) 31 = some [(3, 3)] := rfl
theorem tf_4_34 : pm_lk (pm_tf 4) 34 = some [(3, 4)] := rfl
theorem tf_4_37 : pm_lk (pm_tf 4) 37 = some [(0, 0)] := rfl
theorem tf_4_48 : pm_lk (pm_tf 4) 48 = some [(0, 2)] := rfl
theorem tf_4_52 : pm_lk (pm_tf 4) 52 = some [(1, 0)] := rfl
theorem tf_4_55 : pm_lk (pm_tf 4) 55 = some [(3, 7)] := rfl
theorem tf_4_58 : pm_lk (pm_tf 4) 58 = some [(1, 3)] := rfl
theorem tf_4_77 : pm_lk (pm_tf 4) 77 = some [(3, 8)] := rfl
theorem tf_4_99 : pm_lk (pm_tf 4) 99 = some [(1, 2)] := rfl
theorem tf_4_106 : pm_lk (pm_tf 4) 106 = some [(0, 7)] := rfl
theorem tf_4_123 : pm_lk (pm_tf 4) 123 = some [(3, 5)] := rfl
theorem tf_5_9 : pm_lk (pm_tf 5) 9 = some [(4, 0)] := rfl
theorem tf_5_17 : pm_lk (pm_tf 5) 17 = some [(4, 1)] := rfl
theorem tf_5_23 : pm_lk (pm_tf 5) 23 = some [(4, 2)] := rfl
theorem tf_5_27 : pm_lk (pm_tf 5) 27 = some [(4, 3)] := rfl
theorem tf_6_7 : pm_lk (pm_tf 6) 7 = some [(5, 0)] := rfl
theorem tf_6_13 : pm_lk (pm_tf 6) 13 = some [(5, 1)] := rfl
theorem tf_6_16 : pm_lk (pm_tf 6) 16 = some [(5, 2)] := rfl
theorem tf_6_19 : pm_lk (pm_tf 6) 19 = some [(5, 3)] := rfl
theorem tf_6_22 : pm_lk (pm_tf 6) 22 = some [(5, 4)] := rfl
theorem tf_6_25 : pm_lk (pm_tf 6) 25 = some [(5, 5)] := rfl
theorem tf_6_28 : pm_lk (pm_tf 6) 28 = some [(5, 6)] := rfl
theorem tf_6_31 : pm_lk (pm_tf 6) 31 = some [(5, 11)] := rfl
theorem tf_6_35 : pm_lk (pm_tf 6) 35 = some [(5, 22)] := rfl
theorem tf_6_38 : pm_lk (pm_tf 6) 38 = some [(5, 23)] := rfl
theorem tf_6_41 : pm_lk (pm_tf 6) 41 = some [(5, 24)] := rfl
theorem tf_6_44 : pm_lk (pm_tf 6) 44 = some [(5, 25)] := rfl
theorem tf_6_47 : pm_lk (pm_tf 6) 47 = some [(5, 26)] := rfl
theorem tf_6_50 : pm_lk (pm_tf 6) 50 = some [(5, 27)] := rfl
theorem tf_6_53 : pm_lk (pm_tf 6) 53 = some [(5, 28)] := rfl
theorem tf_6_56 : pm_lk (pm_tf 6) 56 = some [(5, 29)] := rfl
theorem tf_6_59 : pm_lk (pm_tf 6) 59 = some [(5, 30)] := rfl
theorem tf_6_62 : pm_lk (pm_tf 6) 62 = some [(5, 31)] := rfl
theorem tf_6_65 : pm_lk (pm_tf 6) 65 = some [(5, 32)] := rfl
theorem tf_6_68 : pm_lk (pm_tf 6) 68 = some [(5, 33)] := rfl
theorem tf_6_71 : pm_lk (pm_tf 6) 71 = some [(5, 34)] := rfl
theorem tf_6_74 : pm_lk (pm_tf 6) 74 = some [(5, 36)] := rfl
theorem tf_6_77 : pm_lk (pm_tf 6) 77 = some [(5, 40)] := rfl
theorem tf_6_81 : pm_lk (pm_tf 6) 81 = some [(5, 45)] := rfl
theorem tf_6_85 : pm_lk (pm_tf 6) 85 = some [(5, 46)] := rfl
theorem tf_6_88 : pm_lk (pm_tf 6) 88 = some [(5, 47)] := rfl
theorem tf_6_91 : pm_lk (pm_tf 6) 91 = some [(5, 48)] := rfl
theorem tf_6_94 : pm_lk (pm_tf 6) 94 = some [(5, 49)] := rfl
theorem tf_6_97 : pm_lk (pm_tf 6) 97 = some [(5, 50)] := rfl
theorem tf_6_108 : pm_lk (pm_tf 6) 108 = some [(5, 7)] := rfl
theorem tf_6_116 : pm_lk (pm_tf 6) 116 = some [(5, 12)] := rfl
theorem tf_6_123 : pm_lk (pm_tf 6) 123 = some [(5, 13)] := rfl
theorem tf_6_126 : pm_lk (pm_tf 6) 126 = some [(5, 14)] := rfl
theorem tf_6_133 : pm_lk (pm_tf 6) 133 = some [(5, 15)] := rfl
theorem tf_6_139 : pm_lk (pm_tf 6) 139 = some [(5, 16)] := rfl
theorem tf_6_146 : pm_lk (pm_tf 6) 146 = some [(5, 18)] := rfl
theorem tf_6_150 : pm_lk (pm_tf 6) 150 = some [(5, 17)] := rfl
theorem tf_6_153 : pm_lk (pm_tf 6) 153 = some [(5, 19)] := rfl
theorem tf_6_201 : pm_lk (pm_tf 6) 201 = some [(5, 20)] := rfl
theorem tf_6_216 : pm_lk (pm_tf 6) 216 = some [(5, 21)] := rfl
theorem tf_6_227 : pm_lk (pm_tf 6) 227 = some [(5, 8)] := rfl
theorem tf_6_236 : pm_lk (pm_tf 6) 236 = some [(5, 35)] := rfl
theorem tf_6_246 : pm_lk (pm_tf 6) 246 = some [(5, 9)] := rfl
theorem tf_6_249 : pm_lk (pm_tf 6) 249 = some [(5, 10)] := rfl
theorem tf_6_261 : pm_lk (pm_tf 6) 261 = some [(5, 37)] := rfl
theorem tf_6_264 : pm_lk (pm_tf 6) 264 = some [(5, 39)] := rfl
theorem tf_6_267 : pm_lk (pm_tf 6) 267 = some [(5, 38)] := rfl
theorem tf_6_273 : pm_lk (pm_tf 6) 273 = some [(5, 41)] := rfl
theorem tf_6_288 : pm_lk (pm_tf 6) 288 = some [(5, 42)] := rfl
theorem tf_6_300 : pm_lk (pm_tf 6) 300 = some [(5, 44)] := rfl
theorem tf_6_312 : pm_lk (pm_tf 6) 312 = some [(5, 43)] := rfl
theorem tf_6_399 : pm_lk (pm_tf 6) 399 = some [(5, 51)] := rfl
theorem tf_7_3 : pm_lk (pm_tf 7) 3 = some [(6, 6)] := rfl
theorem tf_7_18 : pm_lk (pm_tf 7) 18 = some [(6, 1)] := rfl
theorem tf_7_22 : pm_lk (pm_tf 7) 22 = some [(6, 0)] := rfl
theorem tf_7_26 : pm_lk (pm_tf 7) 26 = some [(6, 2)] := rfl
theorem tf_7_29 : pm_lk (pm_tf 7) 29 = some [(0, 6)] := rfl
theorem tf_7_33 : pm_lk (pm_tf 7) 33 = some [(6, 4)] := rfl
theorem tf_7_36 : pm_lk (pm_tf 7) 36 = some [(6, 5)] := rfl
theorem tf_7_54 : pm_lk (pm_tf 7) 54 = some [(6, 3)] := rfl
theorem tf_7_94 : pm_lk (pm_tf 7) 94 = some [(7, 2)] := rfl
theorem tf_7_123 : pm_lk (pm_tf 7) 123 = some [(10, 2)] := rfl
theorem tf_7_131 : pm_lk (pm_tf 7) 131 = some [(4, 3)] := rfl
theorem tf_7_134 : pm_lk (pm_tf 7) 134 = some [(4, 0)] := rfl
theorem tf_7_138 : pm_lk (pm_tf 7) 138 = some [(4, 1)] := rfl
theorem tf_7_142 : pm_lk (pm_tf 7) 142 = some [(4, 2)] := rfl
theorem tf_8_7 : pm_lk (pm_tf 8) 7 = some [(2, 0)] := rfl
theorem tf_9_7 : pm_lk (pm_tf 9) 7 = some [(7, 0)] := rfl
theorem tf_9_13 : pm_lk (pm_tf 9) 13 = some [(7, 1)] := rfl
theorem tf_9_27 : pm_lk (pm_tf 9) 27 = some [(7, 2)] := rfl
theorem tf_10_7 : pm_lk (pm_tf 10) 7 = some [(8, 0)] := rfl
theorem tf_11_7 : pm_lk (pm_tf 11) 7 = some [(9, 0)] := rfl
theorem tf_13_7 : pm_lk (pm_tf 13) 7 = some [(10, 0)] := rfl
theorem tf_13_13 : pm_lk (pm_tf 13) 13 = some [(10, 1)] := rfl
theorem tf_13_21 : pm_lk (pm_tf 13) 21 = some [(10, 2)] := rfl
theorem tf_14_7 : pm_lk (pm_tf 14) 7 = some [(11, 0)] := rfl
theorem tf_15_7 : pm_lk (pm_tf 15) 7 = some [(12, 0)] := rfl
theorem tf_15_13 : pm_lk (pm_tf 15) 13 = some [(12, 2)] := rfl
theorem tf_15_17 : pm_lk (pm_tf 15) 17 = some [(12, 1)] := rfl
theorem tf_15_20 : pm_lk (pm_tf 15) 20 = some [(2, 0)] := rfl
theorem tf_16_3 : pm_lk (pm_tf 16) 3 = some [(13, 4), (14, 4)] := rfl
theorem tf_16_15 : pm_lk (pm_tf 16) 15 = some [(13, 0), (14, 0)] := rfl
theorem tf_16_19 : pm_lk (pm_tf 16) 19 = some [(13, 1), (14, 1)] := rfl
theorem tf_16_22 : pm_lk (pm_tf 16) 22 = some [(0, 6)] := rfl
theorem tf_16_26 : pm_lk (pm_tf 16) 26 = some [(13, 2), (14, 2)] := rfl
theorem tf_16_29 : pm_lk (pm_tf 16) 29 = some [(13, 3), (14, 3)] := rfl
theorem tf_17_3 : pm_lk (pm_tf 17) 3 = some [(13, 6)] := rfl
theorem tf_17_15 : pm_lk (pm_tf 17) 15 = some [(0, 1)] := rfl
theorem tf_17_51 : pm_lk (pm_tf 17) 51 = some [(1, 3)] := rfl
theorem tf_17_59 : pm_lk (pm_tf 17) 59 = some [(1, 2)] := rfl
theorem tf_17_62 : pm_lk (pm_tf 17) 62 = some [(1, 0)] := rfl
theorem tf_17_73 : pm_lk (pm_tf 17) 73 = some [(13, 5)] := rfl
theorem tf_18_3 : pm_lk (pm_tf 18) 3 = some [(14, 9)] := rfl
theorem tf_18_15 : pm_lk (pm_tf 18) 15 = some [(14, 5)] := rfl
theorem tf_18_19 : pm_lk (pm_tf 18) 19 = some [(0, 0)] := rfl
theorem tf_18_23 : pm_lk (pm_tf 18) 23 = some [(1, 0)] := rfl
theorem tf_18_47 : pm_lk (pm_tf 18) 47 = some [(1, 3)] := rfl
theorem tf_18_55 : pm_lk (pm_tf 18) 55 = some [(14, 6)] := rfl
theorem tf_18_58 : pm_lk (pm_tf 18) 58 = some [(1, 1)] := rfl
theorem tf_18_61 : pm_lk (pm_tf 18) 61 = some [(14, 7)] := rfl
theorem tf_18_64 : pm_lk (pm_tf 18) 64 = some [(14, 8)] := rfl
theorem tf_20_9 : pm_lk (pm_tf 20) 9 = some [(30, 0)] := rfl
theorem tf_20_15 : pm_lk (pm_tf 20) 15 = some [(30, 1)] := rfl
theorem tf_50_63 : pm_lk (pm_tf 50) 63 = some [(0, 3)] := rfl
theorem tf_56_7 : pm_lk (pm_tf 56) 7 = some [(5, 0)] := rfl
theorem tf_67_15 : pm_lk (pm_tf 67) 15 = some [(0, 1)] := rfl
theorem tf_67_19 : pm_lk (pm_tf 67) 19 = some [(0, 0)] := rfl
theorem tf_68_15 : pm_lk (pm_tf 68) 15 = some [(14, 5)] := rfl
theorem tf_68_19 : pm_lk (pm_tf 68) 19 = some [(0, 0)] := rfl
theorem tf_68_23 : pm_lk (pm_tf 68) 23 = some [(1, 0)] := rfl
theorem tp_0_28 : pm_lk (pm_tp 0) 28 = some [(0, 7, 2)] := rfl
theorem tp_0_110 : pm_lk (pm_tp 0) 110 = some [(3, 4, 0)] := rfl
theorem tp_0_113 : pm_lk (pm_tp 0) 113 = some [(0, 8, 0)] := rfl
theorem tp_0_275 : pm_lk (pm_tp 0) 275 = some [(0, 9, 1)] := rfl
theorem tp_1_18 : pm_lk (pm_tp 1) 18 = some [(1, 2, 0)] := rfl
theorem tp_1_22 : pm_lk (pm_tp 1) 22 = some [(1, 3, 0)] := rfl
theorem tp_3_9 : pm_lk (pm_tp 3) 9 = some [(2, 1, 0)] := rfl
theorem tp_3_15 : pm_lk (pm_tp 3) 15 = some [(2, 2, 0)] := rfl
theorem tp_3_18 : pm_lk (pm_tp 3) 18 = some [(2, 3, 0)] := rfl
theorem tp_3_21 : pm_lk (pm_tp 3) 21 = some [(2, 4, 0)] := rfl
theorem tp_3_24 : pm_lk (pm_tp 3) 24 = some [(2, 5, 0)] := rfl
theorem tp_3_27 : pm_lk (pm_tp 3) 27 = some [(2, 6, 0)] := rfl
theorem tp_3_30 : pm_lk (pm_tp 3) 30 = some [(2, 7, 0)] := rfl
theorem tp_3_33 : pm_lk (pm_tp 3) 33 = some [(2, 8, 0)] := rfl
theorem tp_3_36 : pm_lk (pm_tp 3) 36 = some [(2, 9, 0)] := rfl
theorem tp_3_39 : pm_lk (pm_tp 3) 39 = some [(2, 10, 0)] := rfl
theorem tp_4_27 : pm_lk (pm_tp 4) 27 = some [(3, 6, 0)] := rfl
theorem tp_4_31 : pm_lk (pm_tp 4) 31 = some [(3, 3, 0)] := rfl
theorem tp_4_34 : pm_lk (pm_tp 4) 34 = some [(3, 4, 0)] := rfl
theorem tp_4_55 : pm_lk (pm_tp 4) 55 = some [(3, 7, 0)] := rfl
theorem tp_4_77 : pm_lk (pm_tp 4) 77 = some [(3, 8, 0)] := rfl
theorem tp_4_123 : pm_lk (pm_tp 4) 123 = some [(3, 5, 0)] := rfl
theorem tp_6_108 : pm_lk (pm_tp 6) 108 = some [(5, 7, 0)] := rfl
theorem tp_6_116 : pm_lk (pm_tp 6) 116 = some [(5, 12, 0)] := rfl
theorem tp_6_123 : pm_lk (pm_tp 6) 123 = some [(5, 13, 0)] := rfl
theorem tp_6_126 : pm_lk (pm_tp 6) 126 = some [(5, 14, 0)] := rfl
theorem tp_6_133 : pm_lk (pm_tp 6) 133 = some [(5, 15, 0)] := rfl
theorem tp_6_139 : pm_lk (pm_tp 6) 139 = some [(5, 16, 0)] := rfl
theorem tp_6_146 : pm_lk (pm_tp 6) 146 = some [(5, 18, 0)] := rfl
theorem tp_6_150 : pm_lk (pm_tp 6) 150 = some [(5, 17, 0)] := rfl
theorem tp_6_153 : pm_lk (pm_tp 6) 153 = some [(5, 19, 0)] := rfl
theorem tp_6_201 : pm_lk (pm_tp 6) 201 = some [(5, 20, 0)] := rfl
theorem tp_6_216 : pm_lk (pm_tp 6) 216 = some [(5, 21, 0)] := rfl
theorem tp_6_227 : pm_lk (pm_tp 6) 227 = some [(5, 8, 0)] := rfl
theorem tp_6_236 : pm_lk (pm_tp 6) 236 = some [(5, 35, 0)] := rfl
theorem tp_6_246 : pm_lk (pm_tp 6) 246 = some [(5, 9, 0)] := rfl
theorem tp_6_249 : pm_lk (pm_tp 6) 249 = some [(5, 10, 0)] := rfl
theorem tp_6_261 : pm_lk (pm_tp 6) 261 = some [(5, 37, 0)] := rfl
theorem tp_6_264 : pm_lk (pm_tp 6) 264 = some [(5, 39, 0)] := rfl
theorem tp_6_267 : pm_lk (pm_tp 6) 267 = some [(5, 38, 0)] := rfl
theorem tp_6_273 : pm_lk (pm_tp 6) 273 = some [(5, 41, 0)] := rfl
theorem tp_6_288 : pm_lk (pm_tp 6) 288 = some [(5, 42, 0)] := rfl
theorem tp_6_300 : pm_lk (pm_tp 6) 300 = some [(5, 44, 0)] := rfl
theorem tp_6_312 : pm_lk (pm_tp 6) 312 = some [(5, 43, 0)] := rfl
theorem tp_6_399 : pm_lk (pm_tp 6) 399 = some [(5, 51, 1)] := rfl
theorem tp_7_26 : pm_lk (pm_tp 7) 26 = some [(6, 2, 0)] := rfl
theorem tp_7_33 : pm_lk (pm_tp 7) 33 = some [(6, 4, 0)] := rfl
theorem tp_7_36 : pm_lk (pm_tp 7) 36 = some [(6, 5, 0)] := rfl
theorem tp_7_54 : pm_lk (pm_tp 7) 54 = some [(6, 3, 0)] := rfl
theorem tp_7_94 : pm_lk (pm_tp 7) 94 = some [(7, 2, 2)] := rfl
theorem tp_7_123 : pm_lk (pm_tp 7) 123 = some [(10, 2, 2)] := rfl
theorem tp_7_131 : pm_lk (pm_tp 7) 131 = some [(4, 3, 0)] := rfl
theorem tp_8_7 : pm_lk (pm_tp 8) 7 = some [(2, 0, 1)] := rfl
theorem tp_9_17 : pm_lk (pm_tp 9) 17 = some [(2, 0, 1)] := rfl
theorem tp_15_20 : pm_lk (pm_tp 15) 20 = some [(2, 0, 1)] := rfl
theorem tp_16_19 : pm_lk (pm_tp 16) 19 = some [(13, 1, 0), (14, 1, 0)] := rfl
theorem tp_16_26 : pm_lk (pm_tp 16) 26 = some [(13, 2, 0), (14, 2, 0)] := rfl
theorem tp_16_29 : pm_lk (pm_tp 16) 29 = some [(13, 3, 0), (14, 3, 0)] := rfl
theorem tp_17_51 : pm_lk (pm_tp 17) 51 = some [(1, 3, 0)] := rfl
theorem tp_17_59 : pm_lk (pm_tp 17) 59 = some [(1, 2, 0)] := rfl
theorem tp_17_73 : pm_lk (pm_tp 17) 73 = some [(13, 5, 0)] := rfl
theorem tp_18_55 : pm_lk (pm_tp 18) 55 = some [(14, 6, 0)] := rfl
theorem tp_18_61 : pm_lk (pm_tp 18) 61 = some [(14, 7, 0)] := rfl
theorem tp_18_64 : pm_lk (pm_tp 18) 64 = some [(14, 8, 0)] := rfl
theorem tp_50_16 : pm_lk (pm_tp 50) 16 = some [(0, 0, 2)] := rfl
theorem tp_50_28 : pm_lk (pm_tp 50) 28 = some [(0, 7, 2)] := rfl
theorem tp_50_32 : pm_lk (pm_tp 50) 32 = some [(0, 2, 2)] := rfl
theorem tp_50_52 : pm_lk (pm_tp 50) 52 = some [(0, 1, 2)] := rfl
theorem tp_50_63 : pm_lk (pm_tp 50) 63 = some [(0, 3, 2)] := rfl
theorem tp_50_67 : pm_lk (pm_tp 50) 67 = some [(0, 4, 2)] := rfl
theorem tp_50_70 : pm_lk (pm_tp 50) 70 = some [(0, 5, 2)] := rfl
theorem tp_50_73 : pm_lk (pm_tp 50) 73 = some [(0, 6, 2)] := rfl
theorem tp_50_79 : pm_lk (pm_tp 50) 79 = some [(0, 10, 2)] := rfl
theorem tp_50_83 : pm_lk (pm_tp 50) 83 = some [(0, 11, 2)] := rfl
theorem tp_50_87 : pm_lk (pm_tp 50) 87 = some [(0, 12, 2)] := rfl
theorem tp_50_90 : pm_lk (pm_tp 50) 90 = some [(0, 13, 2)] := rfl
theorem tp_50_93 : pm_lk (pm_tp 50) 93 = some [(0, 14, 2)] := rfl
theorem tp_50_96 : pm_lk (pm_tp 50) 96 = some [(0, 15, 2)] := rfl
theorem tp_50_101 : pm_lk (pm_tp 50) 101 = some [(0, 16, 2)] := rfl
theorem tp_50_104 : pm_lk (pm_tp 50) 104 = some [(0, 17, 2)] := rfl
theorem tp_50_107 : pm_lk (pm_tp 50) 107 = some [(0, 18, 2)] := rfl
theorem tp_50_110 : pm_lk (pm_tp 50) 110 = some [(3, 4, 0)] := rfl
theorem tp_51_9 : pm_lk (pm_tp 51) 9 = some [(1, 0, 2)] := rfl
theorem tp_51_15 : pm_lk (pm_tp 51) 15 = some [(1, 1, 2)] := rfl
theorem tp_54_3 : pm_lk (pm_tp 54) 3 = some [(3, 9, 2)] := rfl
theorem tp_54_17 : pm_lk (pm_tp 54) 17 = some [(3, 0, 2)] := rfl
theorem tp_54_20 : pm_lk (pm_tp 54) 20 = some [(3, 1, 2)] := rfl
theorem tp_54_24 : pm_lk (pm_tp 54) 24 = some [(3, 2, 2)] := rfl
theorem tp_54_27 : pm_lk (pm_tp 54) 27 = some [(3, 6, 0)] := rfl
theorem tp_55_9 : pm_lk (pm_tp 55) 9 = some [(4, 0, 2)] := rfl
theorem tp_55_17 : pm_lk (pm_tp 55) 17 = some [(4, 1, 2)] := rfl
theorem tp_55_23 : pm_lk (pm_tp 55) 23 = some [(4, 2, 2)] := rfl
theorem tp_56_7 : pm_lk (pm_tp 56) 7 = some [(5, 0, 2)] := rfl
theorem tp_56_13 : pm_lk (pm_tp 56) 13 = some [(5, 1, 2)] := rfl
theorem tp_56_16 : pm_lk (pm_tp 56) 16 = some [(5, 2, 2)] := rfl
theorem tp_56_19 : pm_lk (pm_tp 56) 19 = some [(5, 3, 2)] := rfl
theorem tp_56_22 : pm_lk (pm_tp 56) 22 = some [(5, 4, 2)] := rfl
theorem tp_56_25 : pm_lk (pm_tp 56) 25 = some [(5, 5, 2)] := rfl
theorem tp_56_28 : pm_lk (pm_tp 56) 28 = some [(5, 6, 2)] := rfl
theorem tp_56_31 : pm_lk (pm_tp 56) 31 = some [(5, 11, 2)] := rfl
theorem tp_56_35 : pm_lk (pm_tp 56) 35 = some [(5, 22, 2)] := rfl
theorem tp_56_38 : pm_lk (pm_tp 56) 38 = some [(5, 23, 2)] := rfl
theorem tp_56_41 : pm_lk (pm_tp 56) 41 = some [(5, 24, 2)] := rfl
theorem tp_56_44 : pm_lk (pm_tp 56) 44 = some [(5, 25, 2)] := rfl
theorem tp_56_47 : pm_lk (pm_tp 56) 47 = some [(5, 26, 2)] := rfl
theorem tp_56_50 : pm_lk (pm_tp 56) 50 = some [(5, 27, 2)] := rfl
theorem tp_56_53 : pm_lk (pm_tp 56) 53 = some [(5, 28, 2)] := rfl
theorem tp_56_56 : pm_lk (pm_tp 56) 56 = some [(5, 29, 2)] := rfl
theorem tp_56_59 : pm_lk (pm_tp 56) 59 = some [(5, 30, 2)] := rfl
theorem tp_56_62 : pm_lk (pm_tp 56) 62 = some [(5, 31, 2)] := rfl
theorem tp_56_65 : pm_lk (pm_tp 56) 65 = some [(5, 32, 2)] := rfl
theorem tp_56_68 : pm_lk (pm_tp 56) 68 = some [(5, 33, 2)] := rfl
theorem tp_56_71 : pm_lk (pm_tp 56) 71 = some [(5, 34, 2)] := rfl
theorem tp_56_74 : pm_lk (pm_tp 56) 74 = some [(5, 36, 2)] := rfl
theorem tp_56_77 : pm_lk (pm_tp 56) 77 = some [(5, 40, 2)] := rfl
theorem tp_56_81 : pm_lk (pm_tp 56) 81 = some [(5, 45, 2)] := rfl
theorem tp_56_85 : pm_lk (pm_tp 56) 85 = some [(5, 46, 2)] := rfl
theorem tp_56_88 : pm_lk (pm_tp 56) 88 = some [(5, 47, 2)] := rfl
theorem tp_56_91 : pm_lk (pm_tp 56) 91 = some [(5, 48, 2)] := rfl
theorem tp_56_94 : pm_lk (pm_tp 56) 94 = some [(5, 49, 2)] := rfl
theorem tp_56_97 : pm_lk (pm_tp 56) 97 = some [(5, 50, 2)] := rfl
theorem tp_57_3 : pm_lk (pm_tp 57) 3 = some [(6, 6, 2)] := rfl
theorem tp_57_18 : pm_lk (pm_tp 57) 18 = some [(6, 1, 2)] := rfl
theorem tp_57_22 : pm_lk (pm_tp 57) 22 = some [(6, 0, 0)] := rfl
theorem tp_59_7 : pm_lk (pm_tp 59) 7 = some [(7, 0, 0)] := rfl
theorem tp_59_13 : pm_lk (pm_tp 59) 13 = some [(7, 1, 2)] := rfl
theorem tp_60_7 : pm_lk (pm_tp 60) 7 = some [(8, 0, 0)] := rfl
theorem tp_61_7 : pm_lk (pm_tp 61) 7 = some [(9, 0, 0)] := rfl
theorem tp_63_7 : pm_lk (pm_tp 63) 7 = some [(10, 0, 2)] := rfl
theorem tp_63_13 : pm_lk (pm_tp 63) 13 = some [(10, 1, 0)] := rfl
theorem tp_64_7 : pm_lk (pm_tp 64) 7 = some [(11, 0, 2)] := rfl
theorem tp_65_7 : pm_lk (pm_tp 65) 7 = some [(12, 0, 2)] := rfl
theorem tp_65_13 : pm_lk (pm_tp 65) 13 = some [(12, 2, 0)] := rfl
theorem tp_65_17 : pm_lk (pm_tp 65) 17 = some [(12, 1, 2)] := rfl
theorem tp_66_3 : pm_lk (pm_tp 66) 3 = some [(13, 4, 2), (14, 4, 2)] := rfl
theorem tp_66_15 : pm_lk (pm_tp 66) 15 = some [(13, 0, 0), (14, 0, 0)] := rfl
theorem tp_67_3 : pm_lk (pm_tp 67) 3 = some [(13, 6, 2)] := rfl
theorem tp_68_3 : pm_lk (pm_tp 68) 3 = some [(14, 9, 2)] := rfl
theorem tp_68_15 : pm_lk (pm_tp 68) 15 = some [(14, 5, 2)] := rfl
theorem cs_0_1 : pm_lk (pm_ts 0) 1 = some (2, mT_J2_min) := rfl
theorem cs_0_7 : pm_lk (pm_ts 0) 7 = some (2, mT_J2_max) := rfl
theorem cs_0_10 : pm_lk (pm_ts 0) 10 = some (1, mT_J6_numberOfTrailingZeros) := rfl
theorem cs_0_42 : pm_lk (pm_ts 0) 42 = some (2, mT_X0_held) := rfl
theorem cs_0_120 : pm_lk (pm_ts 0) 120 = some (3, mT_X0_within) := rfl
theorem cs_0_144 : pm_lk (pm_ts 0) 144 = some (2, mT_X0_in) := rfl
theorem cs_0_191 : pm_lk (pm_ts 0) 191 = some (2, mT_X0_has) := rfl
theorem cs_0_203 : pm_lk (pm_ts 0) 203 = some (2, mT_X0_groupOf) := rfl
theorem cs_0_207 : pm_lk (pm_ts 0) 207 = some (1, mT_X0_lowest) := rfl
theorem cs_0_210 : pm_lk (pm_ts 0) 210 = some (1, mT_X0_outOf) := rfl
theorem cs_0_214 : pm_lk (pm_ts 0) 214 = some (1, mT_J6_bitCount) := rfl
theorem cs_0_238 : pm_lk (pm_ts 0) 238 = some (1, mT_J2_abs) := rfl
theorem cs_4_61 : pm_lk (pm_ts 4) 61 = some (1, mT_J6_bitCount) := rfl
theorem cs_4_73 : pm_lk (pm_ts 4) 73 = some (2, mT_X0_has) := rfl
theorem cs_4_87 : pm_lk (pm_ts 4) 87 = some (1, mT_J2_abs) := rfl
theorem cs_4_119 : pm_lk (pm_ts 4) 119 = some (2, mT_J2_min) := rfl
theorem cs_6_100 : pm_lk (pm_ts 6) 100 = some (2, mT_X6_has) := rfl
theorem cs_6_104 : pm_lk (pm_ts 6) 104 = some (3, mT_X6_in) := rfl
theorem cs_6_112 : pm_lk (pm_ts 6) 112 = some (1, mT_X6_size) := rfl
theorem cs_6_170 : pm_lk (pm_ts 6) 170 = some (1, mT_X6_factOf) := rfl
theorem cs_6_176 : pm_lk (pm_ts 6) 176 = some (1, mT_X6_sumSign) := rfl
theorem cs_6_219 : pm_lk (pm_ts 6) 219 = some (3, mT_X6_reckon) := rfl
theorem cs_6_276 : pm_lk (pm_ts 6) 276 = some (1, mT_X6_bits) := rfl
theorem cs_6_303 : pm_lk (pm_ts 6) 303 = some (2, mT_X6_min) := rfl
theorem cs_6_324 : pm_lk (pm_ts 6) 324 = some (2, mT_X6_copies) := rfl
theorem cs_6_343 : pm_lk (pm_ts 6) 343 = some (1, mT_X6_lowest) := rfl
theorem cs_6_368 : pm_lk (pm_ts 6) 368 = some (2, mT_X6_max) := rfl
theorem cs_9_31 : pm_lk (pm_ts 9) 31 = some (4, mT_X9_worked) := rfl
theorem cs_16_40 : pm_lk (pm_ts 16) 40 = some (2, mT_X0_in) := rfl
theorem cs_18_51 : pm_lk (pm_ts 18) 51 = some (2, mT_X0_has) := rfl
theorem cs_18_67 : pm_lk (pm_ts 18) 67 = some (1, mT_J2_abs) := rfl
theorem cs_20_637 : pm_lk (pm_ts 20) 637 = some (4, mT_J1_indexOf) := rfl
theorem cs_21_38 : pm_lk (pm_ts 21) 38 = some (2, mT_J2_min) := rfl
theorem cs_21_88 : pm_lk (pm_ts 21) 88 = some (1, mT_J1_canEncode) := rfl
theorem cs_21_92 : pm_lk (pm_ts 21) 92 = some (2, mT_J2_max) := rfl
theorem cs_21_95 : pm_lk (pm_ts 21) 95 = some (4, mT_J1_indexOfChar) := rfl
theorem ci_0_126 : pm_lk (pm_ti 0) 126 = some (2, mT_X7_init) := rfl
theorem ci_0_138 : pm_lk (pm_ti 0) 138 = some (2, mT_X17_init) := rfl
theorem ci_0_150 : pm_lk (pm_ti 0) 150 = some (2, mT_X18_init) := rfl
theorem ci_7_73 : pm_lk (pm_ti 7) 73 = some (1, mT_X10_init) := rfl
theorem ci_7_85 : pm_lk (pm_ti 7) 85 = some (1, mT_X11_init) := rfl
theorem ci_7_91 : pm_lk (pm_ti 7) 91 = some (2, mT_X9_init) := rfl
theorem ci_7_107 : pm_lk (pm_ti 7) 107 = some (1, mT_X14_init) := rfl
theorem ci_7_115 : pm_lk (pm_ti 7) 115 = some (3, mT_X15_init) := rfl
theorem ci_7_120 : pm_lk (pm_ti 7) 120 = some (2, mT_X13_init) := rfl
theorem ci_19_9 : pm_lk (pm_ti 19) 9 = some (0, mT_X0_init) := rfl
theorem ci_19_12 : pm_lk (pm_ti 19) 12 = some (0, mT_X6_init) := rfl
theorem ci_50_51 : pm_lk (pm_ti 50) 51 = some (0, mT_X1_init) := rfl
theorem ci_50_57 : pm_lk (pm_ti 50) 57 = some (0, mT_X3_init) := rfl
theorem ci_50_60 : pm_lk (pm_ti 50) 60 = some (1, mT_X4_init) := rfl
theorem ci_50_77 : pm_lk (pm_ti 50) 77 = some (0, mT_X5_init) := rfl
theorem ci_53_3 : pm_lk (pm_ti 53) 3 = some (0, mT_X2_init) := rfl
theorem ci_57_17 : pm_lk (pm_ti 57) 17 = some (0, mT_X5_init) := rfl
theorem ci_59_1 : pm_lk (pm_ti 59) 1 = some (0, mT_X8_init) := rfl
theorem ci_60_1 : pm_lk (pm_ti 60) 1 = some (0, mT_X8_init) := rfl
theorem ci_61_1 : pm_lk (pm_ti 61) 1 = some (0, mT_X8_init) := rfl
theorem ci_63_1 : pm_lk (pm_ti 63) 1 = some (0, mT_X12_init) := rfl
theorem ci_64_1 : pm_lk (pm_ti 64) 1 = some (0, mT_X12_init) := rfl
theorem ci_65_1 : pm_lk (pm_ti 65) 1 = some (0, mT_X12_init) := rfl
theorem ci_67_9 : pm_lk (pm_ti 67) 9 = some (2, mT_X16_init) := rfl
theorem ci_68_9 : pm_lk (pm_ti 68) 9 = some (2, mT_X16_init) := rfl
theorem cv_0_36 : pm_lk (pm_tv 0) 36 = some (2, [(4, mT_X5_tells)]) := rfl
theorem cv_0_116 : pm_lk (pm_tv 0) 116 = some (1, [(0, mT_X0_push)]) := rfl
theorem cv_0_129 : pm_lk (pm_tv 0) 129 = some (0, [(6, mT_X7_read)]) := rfl
theorem cv_0_139 : pm_lk (pm_tv 0) 139 = some (0, [(13, mT_X17_read)]) := rfl
theorem cv_0_140 : pm_lk (pm_tv 0) 140 = some (1, [(1, mT_X1_takes)]) := rfl
theorem cv_0_151 : pm_lk (pm_tv 0) 151 = some (0, [(14, mT_X18_read)]) := rfl
theorem cv_0_161 : pm_lk (pm_tv 0) 161 = some (1, [(3, mT_X4_goes)]) := rfl
theorem cv_0_168 : pm_lk (pm_tv 0) 168 = some (1, [(1, mT_X1_isTold)]) := rfl
theorem cv_0_172 : pm_lk (pm_tv 0) 172 = some (1, [(3, mT_X4_takes)]) := rfl
theorem cv_0_178 : pm_lk (pm_tv 0) 178 = some (0, [(3, mT_X4_nightsOfAll)]) := rfl
theorem cv_0_184 : pm_lk (pm_tv 0) 184 = some (2, [(3, mT_X4_favoursOf)]) := rfl
theorem cv_0_200 : pm_lk (pm_tv 0) 200 = some (1, [(1, mT_X1_friends)]) := rfl
theorem cv_0_217 : pm_lk (pm_tv 0) 217 = some (1, [(0, mT_X0_laysOrders)]) := rfl
theorem cv_0_220 : pm_lk (pm_tv 0) 220 = some (1, [(0, mT_X0_areTold)]) := rfl
theorem cv_0_225 : pm_lk (pm_tv 0) 225 = some (3, [(1, mT_X1_parts)]) := rfl
theorem cv_0_229 : pm_lk (pm_tv 0) 229 = some (1, [(0, mT_X0_isParty)]) := rfl
theorem cv_0_232 : pm_lk (pm_tv 0) 232 = some (3, [(0, mT_X0_canParty)]) := rfl
theorem cv_0_235 : pm_lk (pm_tv 0) 235 = some (0, [(0, mT_X0_groups)]) := rfl
theorem cv_0_241 : pm_lk (pm_tv 0) 241 = some (1, [(0, mT_X0_stepsTo)]) := rfl
theorem cv_0_244 : pm_lk (pm_tv 0) 244 = some (2, [(0, mT_X0_between)]) := rfl
theorem cv_0_247 : pm_lk (pm_tv 0) 247 = some (1, [(0, mT_X0_foesOf)]) := rfl
theorem cv_0_250 : pm_lk (pm_tv 0) 250 = some (2, [(0, mT_X0_pairings)]) := rfl
theorem cv_0_255 : pm_lk (pm_tv 0) 255 = some (1, [(0, mT_X0_madeEven)]) := rfl
theorem cv_0_258 : pm_lk (pm_tv 0) 258 = some (1, [(0, mT_X0_fed)]) := rfl
theorem cv_0_262 : pm_lk (pm_tv 0) 262 = some (1, [(0, mT_X0_houseAt)]) := rfl
theorem cv_0_265 : pm_lk (pm_tv 0) 265 = some (2, [(0, mT_X0_inTime)]) := rfl
theorem cv_0_268 : pm_lk (pm_tv 0) 268 = some (1, [(0, mT_X0_sorts)]) := rfl
theorem cv_0_271 : pm_lk (pm_tv 0) 271 = some (3, [(0, mT_X0_laysCalls)]) := rfl
theorem cv_0_282 : pm_lk (pm_tv 0) 282 = some (0, [(0, mT_X0_twos)]) := rfl
theorem cv_0_285 : pm_lk (pm_tv 0) 285 = some (0, [(0, mT_X0_favoursOfAll)]) := rfl
theorem cv_4_41 : pm_lk (pm_tv 4) 41 = some (1, [(1, mT_X1_isTold)]) := rfl
theorem cv_4_67 : pm_lk (pm_tv 4) 67 = some (6, [(2, mT_X3_of)]) := rfl
theorem cv_4_80 : pm_lk (pm_tv 4) 80 = some (1, [(1, mT_X1_friends)]) := rfl
theorem cv_4_83 : pm_lk (pm_tv 4) 83 = some (2, [(3, mT_X4_asked)]) := rfl
theorem cv_4_92 : pm_lk (pm_tv 4) 92 = some (4, [(2, mT_X3_by)]) := rfl
theorem cv_4_96 : pm_lk (pm_tv 4) 96 = some (1, [(0, mT_X0_tells)]) := rfl
theorem cv_4_102 : pm_lk (pm_tv 4) 102 = some (0, [(3, mT_X4_draw)]) := rfl
theorem cv_4_110 : pm_lk (pm_tv 4) 110 = some (2, [(4, mT_X5_says)]) := rfl
theorem cv_4_116 : pm_lk (pm_tv 4) 116 = some (0, [(3, mT_X4_chosen)]) := rfl
theorem cv_4_126 : pm_lk (pm_tv 4) 126 = some (0, [(3, mT_X4_beds)]) := rfl
theorem cv_4_129 : pm_lk (pm_tv 4) 129 = some (0, [(3, mT_X4_eveningGoes)]) := rfl
theorem cv_5_31 : pm_lk (pm_tv 5) 31 = some (1, [(10, mT_X13_holds), (11, mT_X14_holds), (12, mT_X15_holds)]) := rfl
theorem cv_5_35 : pm_lk (pm_tv 5) 35 = some (1, [(7, mT_X8_told), (8, mT_X8_told), (9, mT_X8_told)]) := rfl
theorem cv_6_119 : pm_lk (pm_tv 6) 119 = some (1, [(5, mT_X6_types)]) := rfl
theorem cv_6_129 : pm_lk (pm_tv 6) 129 = some (0, [(5, mT_X6_here)]) := rfl
theorem cv_6_136 : pm_lk (pm_tv 6) 136 = some (2, [(5, mT_X6_wrongAt)]) := rfl
theorem cv_6_142 : pm_lk (pm_tv 6) 142 = some (0, [(5, mT_X6_isDigit)]) := rfl
theorem cv_6_156 : pm_lk (pm_tv 6) 156 = some (0, [(5, mT_X6_waitTop)]) := rfl
theorem cv_6_159 : pm_lk (pm_tv 6) 159 = some (2, [(5, mT_X6_notes)]) := rfl
theorem cv_6_163 : pm_lk (pm_tv 6) 163 = some (1, [(5, mT_X6_opens)]) := rfl
theorem cv_6_167 : pm_lk (pm_tv 6) 167 = some (0, [(5, mT_X6_readsNumber)]) := rfl
theorem cv_6_173 : pm_lk (pm_tv 6) 173 = some (0, [(5, mT_X6_readsFactor)]) := rfl
theorem cv_6_179 : pm_lk (pm_tv 6) 179 = some (1, [(5, mT_X6_closesSums)]) := rfl
theorem cv_6_183 : pm_lk (pm_tv 6) 183 = some (1, [(5, mT_X6_hasOpenSum)]) := rfl
theorem cv_6_186 : pm_lk (pm_tv 6) 186 = some (0, [(5, mT_X6_readsSum)]) := rfl
theorem cv_6_189 : pm_lk (pm_tv 6) 189 = some (0, [(5, mT_X6_endsPiece)]) := rfl
theorem cv_6_192 : pm_lk (pm_tv 6) 192 = some (0, [(5, mT_X6_readsCompared)]) := rfl
theorem cv_6_195 : pm_lk (pm_tv 6) 195 = some (1, [(5, mT_X6_lands)]) := rfl
theorem cv_6_198 : pm_lk (pm_tv 6) 198 = some (1, [(5, mT_X6_jumps)]) := rfl
theorem cv_6_204 : pm_lk (pm_tv 6) 204 = some (0, [(5, mT_X6_readsCondition)]) := rfl
theorem cv_6_207 : pm_lk (pm_tv 6) 207 = some (1, [(5, mT_X6_beginsText)]) := rfl
theorem cv_6_210 : pm_lk (pm_tv 6) 210 = some (0, [(5, mT_X6_readsRule)]) := rfl
theorem cv_6_213 : pm_lk (pm_tv 6) 213 = some (1, [(5, mT_X6_takes)]) := rfl
theorem cv_6_223 : pm_lk (pm_tv 6) 223 = some (2, [(5, mT_X6_reckonsTo)]) := rfl
theorem cv_6_230 : pm_lk (pm_tv 6) 230 = some (0, [(5, mT_X6_isLetter)]) := rfl
theorem cv_6_233 : pm_lk (pm_tv 6) 233 = some (1, [(5, mT_X6_isTold)]) := rfl
theorem cv_6_239 : pm_lk (pm_tv 6) 239 = some (1, [(5, mT_X6_readsHouse)]) := rfl
theorem cv_6_242 : pm_lk (pm_tv 6) 242 = some (2, [(5, mT_X6_readsOther)]) := rfl
theorem cv_6_252 : pm_lk (pm_tv 6) 252 = some (0, [(5, mT_X6_laysAside)]) := rfl
theorem cv_6_255 : pm_lk (pm_tv 6) 255 = some (0, [(5, mT_X6_readsOrder)]) := rfl
theorem cv_6_258 : pm_lk (pm_tv 6) 258 = some (0, [(5, mT_X6_putsBack)]) := rfl
theorem cv_6_270 : pm_lk (pm_tv 6) 270 = some (0, [(5, mT_X6_readsDance)]) := rfl
theorem cv_6_279 : pm_lk (pm_tv 6) 279 = some (1, [(5, mT_X6_feels)]) := rfl
theorem cv_6_282 : pm_lk (pm_tv 6) 282 = some (2, [(5, mT_X6_apart)]) := rfl
theorem cv_6_285 : pm_lk (pm_tv 6) 285 = some (2, [(5, mT_X6_favoursOf)]) := rfl
theorem cv_6_291 : pm_lk (pm_tv 6) 291 = some (1, [(5, mT_X6_friendsOf)]) := rfl
theorem cv_6_294 : pm_lk (pm_tv 6) 294 = some (2, [(5, mT_X6_feelsTwo)]) := rfl
theorem cv_6_297 : pm_lk (pm_tv 6) 297 = some (1, [(5, mT_X6_byLaw)]) := rfl
theorem cv_6_306 : pm_lk (pm_tv 6) 306 = some (1, [(5, mT_X6_holdsAny)]) := rfl
theorem cv_6_309 : pm_lk (pm_tv 6) 309 = some (0, [(5, mT_X6_likedMost)]) := rfl
theorem cv_6_315 : pm_lk (pm_tv 6) 315 = some (0, [(5, mT_X6_goesToBed)]) := rfl
theorem cv_6_318 : pm_lk (pm_tv 6) 318 = some (0, [(5, mT_X6_eveningGoes)]) := rfl
theorem cv_6_321 : pm_lk (pm_tv 6) 321 = some (1, [(5, mT_X6_eveningsGo)]) := rfl
theorem cv_6_328 : pm_lk (pm_tv 6) 328 = some (0, [(5, mT_X6_nightsOfAll)]) := rfl
theorem cv_6_331 : pm_lk (pm_tv 6) 331 = some (1, [(5, mT_X6_favoursToAll)]) := rfl
theorem cv_6_334 : pm_lk (pm_tv 6) 334 = some (1, [(5, mT_X6_favoursOfAllTo)]) := rfl
theorem cv_6_337 : pm_lk (pm_tv 6) 337 = some (2, [(5, mT_X6_groupOf)]) := rfl
theorem cv_6_340 : pm_lk (pm_tv 6) 340 = some (0, [(5, mT_X6_mustStay)]) := rfl
theorem cv_6_346 : pm_lk (pm_tv 6) 346 = some (3, [(5, mT_X6_canGo)]) := rfl
theorem cv_6_352 : pm_lk (pm_tv 6) 352 = some (3, [(5, mT_X6_quarrels)]) := rfl
theorem cv_6_356 : pm_lk (pm_tv 6) 356 = some (1, [(5, mT_X6_isParty)]) := rfl
theorem cv_6_359 : pm_lk (pm_tv 6) 359 = some (1, [(5, mT_X6_usedAhead)]) := rfl
theorem cv_6_362 : pm_lk (pm_tv 6) 362 = some (2, [(5, mT_X6_canJoin)]) := rfl
theorem cv_6_365 : pm_lk (pm_tv 6) 365 = some (1, [(5, mT_X6_fits)]) := rfl
theorem cv_6_371 : pm_lk (pm_tv 6) 371 = some (1, [(5, mT_X6_isHouse)]) := rfl
theorem cv_6_374 : pm_lk (pm_tv 6) 374 = some (1, [(5, mT_X6_stepsTo)]) := rfl
theorem cv_6_377 : pm_lk (pm_tv 6) 377 = some (3, [(5, mT_X6_pairs)]) := rfl
theorem cv_6_382 : pm_lk (pm_tv 6) 382 = some (1, [(5, mT_X6_madeEven)]) := rfl
theorem cv_6_385 : pm_lk (pm_tv 6) 385 = some (1, [(5, mT_X6_octet)]) := rfl
theorem cv_6_388 : pm_lk (pm_tv 6) 388 = some (4, [(5, mT_X6_callsAt)]) := rfl
theorem cv_6_393 : pm_lk (pm_tv 6) 393 = some (1, [(5, mT_X6_mostHoused)]) := rfl
theorem cv_6_396 : pm_lk (pm_tv 6) 396 = some (1, [(5, mT_X6_allHoused)]) := rfl
theorem cv_6_403 : pm_lk (pm_tv 6) 403 = some (0, [(5, mT_X6_twos)]) := rfl
theorem cv_6_406 : pm_lk (pm_tv 6) 406 = some (0, [(5, mT_X6_favoursOfAll)]) := rfl
theorem cv_7_39 : pm_lk (pm_tv 7) 39 = some (0, [(6, mT_X7_here)]) := rfl
theorem cv_7_43 : pm_lk (pm_tv 7) 43 = some (0, [(6, mT_X7_isGood)]) := rfl
theorem cv_7_47 : pm_lk (pm_tv 7) 47 = some (0, [(6, mT_X7_seesDigit)]) := rfl
theorem cv_7_50 : pm_lk (pm_tv 7) 50 = some (2, [(6, mT_X7_bad)]) := rfl
theorem cv_7_57 : pm_lk (pm_tv 7) 57 = some (0, [(6, mT_X7_opens)]) := rfl
theorem cv_7_60 : pm_lk (pm_tv 7) 60 = some (0, [(6, mT_X7_sum)]) := rfl
theorem cv_7_64 : pm_lk (pm_tv 7) 64 = some (1, [(6, mT_X7_must)]) := rfl
theorem cv_7_70 : pm_lk (pm_tv 7) 70 = some (0, [(6, mT_X7_number)]) := rfl
theorem cv_7_77 : pm_lk (pm_tv 7) 77 = some (1, [(30, mT_J0_indexOf)]) := rfl
theorem cv_7_88 : pm_lk (pm_tv 7) 88 = some (0, [(6, mT_X7_factor)]) := rfl
theorem cv_7_98 : pm_lk (pm_tv 7) 98 = some (0, [(6, mT_X7_product)]) := rfl
theorem cv_7_101 : pm_lk (pm_tv 7) 101 = some (0, [(6, mT_X7_piece)]) := rfl
theorem cv_7_110 : pm_lk (pm_tv 7) 110 = some (0, [(6, mT_X7_condition)]) := rfl
theorem cv_7_126 : pm_lk (pm_tv 7) 126 = some (0, [(6, mT_X7_pieces)]) := rfl
theorem cv_7_146 : pm_lk (pm_tv 7) 146 = some (0, [(6, mT_X7_clause)]) := rfl
theorem cv_8_13 : pm_lk (pm_tv 8) 13 = some (1, [(7, mT_X9_worth), (8, mT_X10_worth), (9, mT_X11_worth)]) := rfl
theorem cv_9_23 : pm_lk (pm_tv 9) 23 = some (1, [(7, mT_X9_worth), (8, mT_X10_worth), (9, mT_X11_worth)]) := rfl
theorem cv_11_13 : pm_lk (pm_tv 11) 13 = some (1, [(2, mT_X3_value)]) := rfl
theorem cv_13_17 : pm_lk (pm_tv 13) 17 = some (1, [(10, mT_X13_holds), (11, mT_X14_holds), (12, mT_X15_holds)]) := rfl
theorem cv_14_13 : pm_lk (pm_tv 14) 13 = some (1, [(10, mT_X13_holds), (11, mT_X14_holds), (12, mT_X15_holds)]) := rfl
theorem cv_15_26 : pm_lk (pm_tv 15) 26 = some (1, [(7, mT_X9_worth), (8, mT_X10_worth), (9, mT_X11_worth)]) := rfl
theorem cv_16_32 : pm_lk (pm_tv 16) 32 = some (0, [(13, mT_X16_isGood), (14, mT_X16_isGood)]) := rfl
theorem cv_16_36 : pm_lk (pm_tv 16) 36 = some (0, [(13, mT_X16_here), (14, mT_X16_here)]) := rfl
theorem cv_16_44 : pm_lk (pm_tv 16) 44 = some (2, [(13, mT_X16_bad), (14, mT_X16_bad)]) := rfl
theorem cv_17_28 : pm_lk (pm_tv 17) 28 = some (0, [(13, mT_X16_place)]) := rfl
theorem cv_17_32 : pm_lk (pm_tv 17) 32 = some (2, [(13, mT_X16_sees)]) := rfl
theorem cv_17_36 : pm_lk (pm_tv 17) 36 = some (2, [(13, mT_X16_bad)]) := rfl
theorem cv_17_40 : pm_lk (pm_tv 17) 40 = some (0, [(13, mT_X16_isGood)]) := rfl
theorem cv_17_44 : pm_lk (pm_tv 17) 44 = some (0, [(13, mT_X16_here)]) := rfl
theorem cv_17_47 : pm_lk (pm_tv 17) 47 = some (0, [(13, mT_X16_goesOn)]) := rfl
theorem cv_17_55 : pm_lk (pm_tv 17) 55 = some (1, [(1, mT_X1_isTold)]) := rfl
theorem cv_17_66 : pm_lk (pm_tv 17) 66 = some (0, [(13, mT_X16_person)]) := rfl
theorem cv_17_69 : pm_lk (pm_tv 17) 69 = some (3, [(1, mT_X1_parts)]) := rfl
theorem cv_17_78 : pm_lk (pm_tv 17) 78 = some (1, [(30, mT_J0_indexOf)]) := rfl
theorem cv_17_84 : pm_lk (pm_tv 17) 84 = some (1, [(13, mT_X17_house)]) := rfl
theorem cv_17_88 : pm_lk (pm_tv 17) 88 = some (2, [(13, mT_X17_quarrel)]) := rfl
theorem cv_17_92 : pm_lk (pm_tv 17) 92 = some (0, [(13, mT_X17_line)]) := rfl
theorem cv_17_95 : pm_lk (pm_tv 17) 95 = some (0, [(13, mT_X16_isEnd)]) := rfl
theorem cv_17_98 : pm_lk (pm_tv 17) 98 = some (1, [(13, mT_X16_answer)]) := rfl
theorem cv_18_28 : pm_lk (pm_tv 18) 28 = some (0, [(14, mT_X16_place)]) := rfl
theorem cv_18_32 : pm_lk (pm_tv 18) 32 = some (0, [(14, mT_X16_person)]) := rfl
theorem cv_18_35 : pm_lk (pm_tv 18) 35 = some (0, [(14, mT_X16_isGood)]) := rfl
theorem cv_18_39 : pm_lk (pm_tv 18) 39 = some (1, [(1, mT_X1_isTold)]) := rfl
theorem cv_18_43 : pm_lk (pm_tv 18) 43 = some (2, [(14, mT_X16_bad)]) := rfl
theorem cv_18_73 : pm_lk (pm_tv 18) 73 = some (0, [(14, mT_X18_two)]) := rfl
theorem cv_18_77 : pm_lk (pm_tv 18) 77 = some (0, [(14, mT_X16_isEnd)]) := rfl
theorem cv_18_80 : pm_lk (pm_tv 18) 80 = some (1, [(14, mT_X16_answer)]) := rfl
theorem cv_19_13 : pm_lk (pm_tv 19) 13 = some (5, [(0, mT_X0_feed)]) := rfl
theorem cv_19_17 : pm_lk (pm_tv 19) 17 = some (5, [(5, mT_X6_feed)]) := rfl
theorem cv_19_18 : pm_lk (pm_tv 19) 18 = some (1, [(0, mT_X0_law)]) := rfl
theorem cv_19_22 : pm_lk (pm_tv 19) 22 = some (1, [(5, mT_X6_law)]) := rfl
theorem cv_19_23 : pm_lk (pm_tv 19) 23 = some (1, [(0, mT_X0_orders)]) := rfl
theorem cv_19_26 : pm_lk (pm_tv 19) 26 = some (1, [(5, mT_X6_orders)]) := rfl
theorem cv_19_27 : pm_lk (pm_tv 19) 27 = some (2, [(0, mT_X0_dance)]) := rfl
theorem cv_19_31 : pm_lk (pm_tv 19) 31 = some (2, [(5, mT_X6_dance)]) := rfl
theorem cv_19_32 : pm_lk (pm_tv 19) 32 = some (1, [(0, mT_X0_evenings)]) := rfl
theorem cv_19_35 : pm_lk (pm_tv 19) 35 = some (1, [(5, mT_X6_evenings)]) := rfl
theorem cv_19_36 : pm_lk (pm_tv 19) 36 = some (2, [(0, mT_X0_tried)]) := rfl
theorem cv_19_39 : pm_lk (pm_tv 19) 39 = some (2, [(5, mT_X6_tried)]) := rfl
theorem cv_19_40 : pm_lk (pm_tv 19) 40 = some (2, [(0, mT_X0_personIs)]) := rfl
theorem cv_19_43 : pm_lk (pm_tv 19) 43 = some (2, [(5, mT_X6_personIs)]) := rfl
theorem cv_19_44 : pm_lk (pm_tv 19) 44 = some (2, [(0, mT_X0_favours)]) := rfl
theorem cv_19_47 : pm_lk (pm_tv 19) 47 = some (2, [(5, mT_X6_favours)]) := rfl
theorem cv_19_48 : pm_lk (pm_tv 19) 48 = some (1, [(0, mT_X0_stayOut)]) := rfl
theorem cv_19_51 : pm_lk (pm_tv 19) 51 = some (1, [(5, mT_X6_stayOut)]) := rfl
theorem cv_19_52 : pm_lk (pm_tv 19) 52 = some (2, [(0, mT_X0_inOrder)]) := rfl
theorem cv_19_55 : pm_lk (pm_tv 19) 55 = some (2, [(5, mT_X6_inOrder)]) := rfl
theorem cv_19_56 : pm_lk (pm_tv 19) 56 = some (1, [(0, mT_X0_ways)]) := rfl
theorem cv_19_60 : pm_lk (pm_tv 19) 60 = some (1, [(5, mT_X6_ways)]) := rfl
theorem cv_19_61 : pm_lk (pm_tv 19) 61 = some (1, [(0, mT_X0_keepsOut)]) := rfl
theorem cv_19_64 : pm_lk (pm_tv 19) 64 = some (1, [(5, mT_X6_keepsOut)]) := rfl
theorem cv_19_65 : pm_lk (pm_tv 19) 65 = some (2, [(0, mT_X0_chain)]) := rfl
theorem cv_19_68 : pm_lk (pm_tv 19) 68 = some (2, [(5, mT_X6_chain)]) := rfl
theorem cv_19_69 : pm_lk (pm_tv 19) 69 = some (1, [(0, mT_X0_party)]) := rfl
theorem cv_19_72 : pm_lk (pm_tv 19) 72 = some (1, [(5, mT_X6_party)]) := rfl
theorem cv_19_73 : pm_lk (pm_tv 19) 73 = some (0, [(0, mT_X0_twoStreets)]) := rfl
theorem cv_19_77 : pm_lk (pm_tv 19) 77 = some (0, [(5, mT_X6_twoStreets)]) := rfl
theorem cv_19_78 : pm_lk (pm_tv 19) 78 = some (1, [(0, mT_X0_parties)]) := rfl
theorem cv_19_81 : pm_lk (pm_tv 19) 81 = some (1, [(5, mT_X6_parties)]) := rfl
theorem cv_19_82 : pm_lk (pm_tv 19) 82 = some (1, [(0, mT_X0_mended)]) := rfl
theorem cv_19_85 : pm_lk (pm_tv 19) 85 = some (1, [(5, mT_X6_mended)]) := rfl
theorem cv_19_86 : pm_lk (pm_tv 19) 86 = some (1, [(0, mT_X0_longest)]) := rfl
theorem cv_19_89 : pm_lk (pm_tv 19) 89 = some (1, [(5, mT_X6_longest)]) := rfl
theorem cv_19_90 : pm_lk (pm_tv 19) 90 = some (1, [(0, mT_X0_luckless)]) := rfl
theorem cv_19_93 : pm_lk (pm_tv 19) 93 = some (1, [(5, mT_X6_luckless)]) := rfl
theorem cv_19_94 : pm_lk (pm_tv 19) 94 = some (1, [(0, mT_X0_stretch)]) := rfl
theorem cv_19_97 : pm_lk (pm_tv 19) 97 = some (1, [(5, mT_X6_stretch)]) := rfl
theorem cv_19_98 : pm_lk (pm_tv 19) 98 = some (1, [(0, mT_X0_inDebt)]) := rfl
theorem cv_19_101 : pm_lk (pm_tv 19) 101 = some (1, [(5, mT_X6_inDebt)]) := rfl
theorem cv_19_102 : pm_lk (pm_tv 19) 102 = some (1, [(0, mT_X0_meeting)]) := rfl
theorem cv_19_105 : pm_lk (pm_tv 19) 105 = some (1, [(5, mT_X6_meeting)]) := rfl
theorem cv_19_106 : pm_lk (pm_tv 19) 106 = some (2, [(0, mT_X0_across)]) := rfl
theorem cv_19_109 : pm_lk (pm_tv 19) 109 = some (2, [(5, mT_X6_across)]) := rfl
theorem cv_19_110 : pm_lk (pm_tv 19) 110 = some (2, [(0, mT_X0_calls)]) := rfl
theorem cv_19_113 : pm_lk (pm_tv 19) 113 = some (2, [(5, mT_X6_calls)]) := rfl
theorem cv_19_114 : pm_lk (pm_tv 19) 114 = some (1, [(0, mT_X0_madeEven)]) := rfl
theorem cv_19_117 : pm_lk (pm_tv 19) 117 = some (1, [(5, mT_X6_madeEven)]) := rfl
theorem cv_19_118 : pm_lk (pm_tv 19) 118 = some (0, [(0, mT_X0_mostOwed)]) := rfl
theorem cv_19_121 : pm_lk (pm_tv 19) 121 = some (0, [(5, mT_X6_mostOwed)]) := rfl
theorem cv_19_122 : pm_lk (pm_tv 19) 122 = some (2, [(0, mT_X0_hermit)]) := rfl
theorem cv_19_125 : pm_lk (pm_tv 19) 125 = some (2, [(5, mT_X6_hermit)]) := rfl
theorem cv_19_126 : pm_lk (pm_tv 19) 126 = some (1, [(0, mT_X0_burglar)]) := rfl
theorem cv_19_129 : pm_lk (pm_tv 19) 129 = some (1, [(5, mT_X6_burglar)]) := rfl
theorem cv_19_130 : pm_lk (pm_tv 19) 130 = some (2, [(0, mT_X0_changed)]) := rfl
theorem cv_19_133 : pm_lk (pm_tv 19) 133 = some (2, [(5, mT_X6_changed)]) := rfl
theorem cv_19_134 : pm_lk (pm_tv 19) 134 = some (2, [(0, mT_X0_between)]) := rfl
theorem cv_19_137 : pm_lk (pm_tv 19) 137 = some (2, [(5, mT_X6_between)]) := rfl
theorem cv_19_138 : pm_lk (pm_tv 19) 138 = some (1, [(0, mT_X0_seed)]) := rfl
theorem cv_19_142 : pm_lk (pm_tv 19) 142 = some (1, [(5, mT_X6_seed)]) := rfl
theorem cv_19_143 : pm_lk (pm_tv 19) 143 = some (0, [(0, mT_X0_keep)]) := rfl
theorem cv_19_146 : pm_lk (pm_tv 19) 146 = some (0, [(5, mT_X6_keep)]) := rfl
theorem cv_19_147 : pm_lk (pm_tv 19) 147 = some (0, [(0, mT_X0_undo)]) := rfl
theorem cv_19_151 : pm_lk (pm_tv 19) 151 = some (0, [(5, mT_X6_undo)]) := rfl
theorem cv_19_152 : pm_lk (pm_tv 19) 152 = some (1, [(0, mT_X0_check)]) := rfl
theorem cv_19_155 : pm_lk (pm_tv 19) 155 = some (1, [(5, mT_X6_check)]) := rfl
theorem cv_19_156 : pm_lk (pm_tv 19) 156 = some (1, [(0, mT_X0_count)]) := rfl
theorem cv_19_159 : pm_lk (pm_tv 19) 159 = some (1, [(5, mT_X6_count)]) := rfl
theorem cv_20_335 : pm_lk (pm_tv 20) 335 = some (0, [(30, mT_J0_coder)]) := rfl
theorem cv_20_492 : pm_lk (pm_tv 20) 492 = some (0, [(30, mT_J0_isLatin1)]) := rfl
theorem cv_20_505 : pm_lk (pm_tv 20) 505 = some (0, [(30, mT_J0_length)]) := rfl
theorem cv_20_633 : pm_lk (pm_tv 20) 633 = some (2, [(30, mT_J0_indexOf_2)]) := rfl
theorem cv_67_22 : pm_lk (pm_tv 67) 22 = some (1, [(1, mT_X1_takes)]) := rfl
