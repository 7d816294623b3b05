/-! links of every class and the check of every method: printed by gen_val.py -/
set_option maxRecDepth 100000
set_option maxHeartbeats 0
def awL : List Nat := [1076, 1114, 1233, 11087]
theorem cw_0 : CW 0 := lw_g (lw_at lw_m1 46 rfl) rfl
theorem cw_1 : CW 1 := lw_g (lw_at lw_m1 118 rfl) rfl
theorem cw_2 : CW 2 := lw_g (lw_at lw_m1 122 rfl) rfl
theorem cw_3 : CW 3 := lw_g (lw_at lw_m1 125 rfl) rfl
theorem cw_4 : CW 4 := lw_g (lw_at lw_m1 129 rfl) rfl
theorem cw_5 : CW 5 := lw_g (lw_at lw_m4 148 rfl) rfl
theorem cw_6 : CW 6 := lw_g (lw_at lw_m5 20 rfl) rfl
theorem cw_7 : CW 7 := lw_g (lw_at lw_m5 24 rfl) rfl
theorem cw_8 : CW 8 := lw_g (lw_at lw_m5 28 rfl) rfl
theorem cw_9 : CW 9 := lw_g (lw_at lw_m5 32 rfl) rfl
theorem cw_10 : CW 10 := lw_g (lw_at lw_m5 36 rfl) rfl
theorem cw_11 : CW 11 := lw_g (lw_at lw_m5 42 rfl) rfl
theorem cw_12 : CW 12 := lw_g (lw_at lw_m5 46 rfl) rfl
theorem cw_13 : CW 13 := lw_g (lw_at lw_m5 66 rfl) rfl
theorem cw_14 : CW 14 := lw_g (lw_at lw_m5 70 rfl) rfl
theorem cw_15 : CW 15 := lw_g (lw_at lw_m5 74 rfl) rfl
theorem cw_16 : CW 16 := lw_g (lw_at lw_m5 79 rfl) rfl
theorem cw_17 : CW 17 := lw_g (lw_at lw_m5 83 rfl) rfl
theorem cw_18 : CW 18 := lw_g (lw_at lw_m5 91 rfl) rfl
theorem cw_19 : CW 19 := lw_g (lw_at lw_m5 151 rfl) rfl
theorem cw_20 : CW 20 := lw_g (lw_at lw_m5 160 rfl) rfl
theorem cw_21 : CW 21 := lw_g (lw_at lw_m5 164 rfl) rfl
theorem cw_22 : CW 22 := lw_g (lw_at lw_m5 168 rfl) rfl
theorem cw_23 : CW 23 := lw_g (lw_at lw_m5 181 rfl) rfl
theorem cw_24 : CW 24 := lw_g (lw_at lw_m6 58 rfl) rfl
theorem cw_25 : CW 25 := lw_g (lw_at lw_m6 62 rfl) rfl
theorem cw_26 : CW 26 := lw_g (lw_at lw_m6 66 rfl) rfl
theorem cw_27 : CW 27 := lw_g (lw_at lw_m6 98 rfl) rfl
theorem cw_28 : CW 28 := lw_g (lw_at lw_m6 102 rfl) rfl
theorem cw_29 : CW 29 := lw_g (lw_at lw_m6 106 rfl) rfl
theorem cw_30 : CW 30 := lw_g (lw_at lw_m6 110 rfl) rfl
theorem cw_31 : CW 31 := lw_g (lw_at lw_m6 115 rfl) rfl
theorem cw_32 : CW 32 := lw_g (lw_at lw_m6 119 rfl) rfl
theorem cw_33 : CW 33 := lw_g (lw_at lw_m6 123 rfl) rfl
theorem cw_34 : CW 34 := lw_g (lw_at lw_m6 132 rfl) rfl
theorem cw_35 : CW 35 := lw_g (lw_at lw_m6 139 rfl) rfl
theorem cw_36 : CW 36 := lw_g (lw_at lw_m6 148 rfl) rfl
theorem cw_37 : CW 37 := lw_g (lw_at lw_m6 152 rfl) rfl
theorem cw_38 : CW 38 := lw_g (lw_at lw_m6 156 rfl) rfl
theorem cw_39 : CW 39 := lw_g (lw_at lw_m6 162 rfl) rfl
theorem cw_40 : CW 40 := lw_g (lw_at lw_m6 171 rfl) rfl
theorem cw_41 : CW 41 := lw_g (lw_at lw_m6 175 rfl) rfl
theorem cw_42 : CW 42 := lw_g (lw_at lw_m6 179 rfl) rfl
theorem cw_43 : CW 43 := lw_g (lw_at lw_m6 201 rfl) rfl
theorem cw_44 : CW 44 := lw_g (lw_at lw_m6 205 rfl) rfl
theorem cw_45 : CW 45 := lw_g (lw_at lw_m6 209 rfl) rfl
theorem cw_46 : CW 46 := lw_g (lw_at lw_m6 213 rfl) rfl
theorem cw_47 : CW 47 := lw_g (lw_at lw_m6 217 rfl) rfl
theorem cw_48 : CW 48 := lw_g (lw_at lw_m7 36 rfl) rfl
theorem cw_49 : CW 49 := lw_g (lw_at lw_m7 52 rfl) rfl
theorem cw_50 : CW 50 := lw_g (lw_at lw_m7 56 rfl) rfl
theorem cw_51 : CW 51 := lw_g (lw_at lw_m7 60 rfl) rfl
theorem cw_52 : CW 52 := lw_g (lw_at lw_m7 64 rfl) rfl
theorem cw_53 : CW 53 := lw_g (lw_at lw_m7 68 rfl) rfl
theorem cw_54 : CW 54 := lw_g (lw_at lw_m7 72 rfl) rfl
theorem cw_55 : CW 55 := lw_g (lw_at lw_m7 75 rfl) rfl
theorem cw_56 : CW 56 := lw_g (lw_at lw_m7 133 rfl) rfl
theorem cw_57 : CW 57 := lw_g (lw_at lw_m7 137 rfl) rfl
theorem cw_58 : CW 58 := lw_g (lw_at lw_m7 141 rfl) rfl
theorem cw_59 : CW 59 := lw_g (lw_at lw_m7 174 rfl) rfl
theorem cw_60 : CW 60 := lw_g (lw_at lw_m7 182 rfl) rfl
theorem cw_61 : CW 61 := lw_g (lw_at lw_m7 192 rfl) rfl
theorem cw_62 : CW 62 := lw_g (lw_at lw_m7 200 rfl) rfl
theorem cw_63 : CW 63 := lw_g (lw_at lw_m7 214 rfl) rfl
theorem cw_64 : CW 64 := lw_g (lw_at lw_m7 218 rfl) rfl
theorem cw_65 : CW 65 := lw_g (lw_at lw_m7 222 rfl) rfl
theorem cw_66 : CW 66 := lw_g (lw_at lw_m8 3 rfl) rfl
theorem cw_67 : CW 67 := lw_g (lw_at lw_m8 7 rfl) rfl
theorem cw_68 : CW 68 := lw_g (lw_at lw_m8 11 rfl) rfl
theorem cw_69 : CW 69 := lw_g (lw_at lw_m8 15 rfl) rfl
theorem cw_70 : CW 70 := lw_g (lw_at lw_m8 19 rfl) rfl
theorem cw_71 : CW 71 := lw_g (lw_at lw_m8 24 rfl) rfl
theorem cw_72 : CW 72 := lw_g (lw_at lw_m8 29 rfl) rfl
theorem cw_73 : CW 73 := lw_g (lw_at lw_m8 33 rfl) rfl
theorem cw_74 : CW 74 := lw_g (lw_at lw_m8 37 rfl) rfl
theorem cw_75 : CW 75 := lw_g (lw_at lw_m8 41 rfl) rfl
def lnt_0 : List ((Nat × Nat × List Nat) × List Nat) := [((8, 1, [8]), [1047, 1048, 1049]), ((11, 9, [1, 0, 0]), [1077]), ((11, 13, [0, 3, 0]), [1080]), ((2, 17, [22]), [1004, 1050, 1051]), ((8, 19, [0, 0, 0, 330, 22]), [1052, 1053]), ((11, 20, [1, 8, 0]), [1085]), ((11, 24, [1, 9, 0]), [1086]), ((11, 27, [1, 10, 0]), [1087]), ((11, 31, [1, 11, 0]), [1088]), ((1, 44, [0, 1, 0]), [1078]), ((1, 9, [1, 0, 0]), [1077]), ((10, 44, [0, 1, 0]), [1078]), ((7, 47, [0, 3, 1, 3]), [1123, 1124]), ((9, 37, [0, 1, 1, 4, 0]), [0, 1126, 1128]), ((2, 51, [2]), [1006, 1130, 1131]), ((2, 53, [3]), [1007, 1132, 1133]), ((8, 55, [0, 2, 0, 297, 3]), [1134, 1135]), ((8, 58, [0, 1, 0, 271, 2]), [1148, 1149]), ((9, 61, [0, 0, 2, 272, 2]), [2234, 2235, 2236]), ((1, 65, [0, 3, 2]), []), ((10, 68, [0, 2, 0]), [1079]), ((10, 34, [0, 4, 0]), [1081]), ((1, 69, [0, 4, 2]), []), ((10, 13, [0, 3, 0]), [1080]), ((10, 72, [1, 5, 0]), [1082]), ((2, 76, [12]), [1027, 4200, 4201]), ((1, 72, [1, 5, 0]), [1082]), ((8, 78, [0, 1, 0, 84, 12]), [4202, 4203]), ((10, 81, [1, 6, 0]), [1083]), ((10, 85, [1, 7, 0]), [1084]), ((1, 20, [1, 8, 0]), [1085]), ((9, 88, [0, 0, 0, 339, 22]), [5012, 5013, 5014]), ((1, 24, [1, 9, 0]), [1086]), ((1, 91, [1, 7, 4]), [1190]), ((9, 96, [0, 0, 1, 331, 22]), [3120, 3121, 5016]), ((9, 41, [0, 1, 1, 6, 0]), [29, 5017, 5019]), ((1, 68, [0, 2, 0]), [1079]), ((1, 13, [0, 3, 0]), [1080]), ((9, 115, [0, 1, 1, 10, 0]), [30, 5033, 5035]), ((1, 100, [1, 6, 4]), [1181]), ((9, 106, [0, 1, 2, 332, 22]), [3155, 3156, 5037]), ((5, 119, [6]), [5038]), ((1, 121, [0, 1, 6]), [3192]), ((1, 122, [0, 2, 6]), [3195]), ((1, 123, [0, 3, 6]), [3198]), ((1, 126, [1, 4, 6]), [3200]), ((9, 130, [0, 1, 1, 12, 0]), [31, 5043, 5045]), ((5, 110, [7, 8, 9, 10]), [5047]), ((9, 133, [1, 0, 1, 7, 315, 8, 320, 9, 78, 10, 81]), [5048, 5049, 5050, 5051, 5052, 5053, 5055, 5056, 5058, 5059, 5061]), ((1, 136, [0, 1, 7, 8, 9, 10]), [4053]), ((1, 112, [0, 2, 7, 8, 9, 10]), [4061]), ((1, 139, [0, 3, 7, 8, 9, 10]), [4063]), ((1, 142, [0, 4, 7, 8, 9, 10]), [4066]), ((1, 145, [0, 5, 7, 8, 9, 10]), [4070]), ((1, 81, [1, 6, 0]), [1083]), ((1, 148, [0, 7, 12]), [4226]), ((7, 151, [0, 2, 1, 5]), [4147, 5062]), ((9, 155, [0, 1, 1, 14, 0]), [32, 5067, 5069]), ((1, 158, [1, 10, 4]), [1203]), ((1, 103, [0, 4, 4]), [1174]), ((9, 161, [0, 2, 1, 306, 4]), [4154, 4155, 5075]), ((1, 165, [1, 1, 12]), [4213]), ((9, 168, [0, 1, 1, 85, 12]), [5084, 5085, 5086]), ((9, 171, [0, 1, 1, 86, 12]), [5092, 5093, 5094]), ((9, 174, [0, 0, 1, 90, 12]), [5152, 5153, 5154]), ((9, 177, [0, 1, 1, 22, 0]), [34, 5165, 5167]), ((9, 180, [0, 1, 1, 91, 12]), [5169, 5170, 5171]), ((2, 188, [13]), [1029, 5182, 5183]), ((8, 190, [0, 3, 0, 106, 13]), [5184, 5185]), ((1, 191, [0, 4, 13]), [6025]), ((9, 194, [0, 1, 1, 25, 0]), [36, 6059, 6061]), ((9, 197, [0, 1, 2, 26, 0]), [37, 6063, 6065]), ((1, 201, [1, 4, 14]), [6076]), ((2, 183, [14]), [1030, 5223, 6067]), ((8, 185, [0, 3, 0, 110, 14]), [6068, 6069]), ((1, 204, [0, 5, 14]), [6078]), ((1, 207, [0, 7, 14]), [6081]), ((1, 209, [1, 2, 12]), [4216]), ((9, 212, [0, 2, 1, 88, 12]), [5106, 5107, 6111]), ((1, 215, [1, 3, 12]), [4218]), ((1, 218, [1, 4, 12]), [4220]), ((9, 221, [0, 1, 1, 92, 12]), [6124, 6125, 6126]), ((9, 224, [0, 0, 1, 93, 12]), [6133, 6134, 6135]), ((1, 228, [1, 5, 12]), [4222]), ((7, 231, [10]), [6157]), ((7, 236, [11]), [6158]), ((1, 85, [1, 7, 0]), [1084]), ((9, 239, [0, 1, 0, 94, 12]), [6163, 6164, 6165]), ((9, 243, [0, 2, 1, 40, 0]), [38, 6168, 6170]), ((9, 253, [0, 1, 1, 42, 0]), [39, 6176, 6178]), ((9, 247, [0, 1, 0, 111, 14]), [6180, 6181, 6182]), ((9, 250, [0, 0, 0, 95, 12]), [6184, 6185, 6186]), ((9, 257, [0, 1, 1, 44, 0]), [41, 6202, 6204]), ((2, 260, [16]), [1031, 6218, 6219]), ((8, 262, [0, 2, 0, 112, 16]), [6220, 6221]), ((9, 265, [0, 1, 1, 113, 16]), [7016, 7017, 7018]), ((9, 268, [0, 1, 0, 116, 16]), [7037, 7038, 7039]), ((1, 272, [0, 7, 16]), [6234]), ((1, 275, [0, 6, 16]), [6232]), ((1, 278, [0, 8, 16]), [6236]), ((9, 281, [0, 1, 1, 51, 0]), [46, 7057, 7059]), ((9, 306, [0, 4, 1, 54, 0]), [47, 7069, 7071]), ((7, 299, [0, 1, 2, 55]), [7073, 7074]), ((1, 27, [1, 10, 0]), [1087]), ((1, 31, [1, 11, 0]), [1088]), ((9, 303, [1, 2, 1, 17, 120, 18, 122, 19, 257, 20, 259, 21, 261]), [7111, 7112, 7113, 7114, 7115, 7116, 7118, 7119, 7122, 7123, 7124, 7126, 7127]), ((2, 284, [17]), [1032, 7076, 7077]), ((8, 286, [0, 0, 0, 119, 17, 18, 19, 20, 21]), [7079]), ((2, 287, [18]), [1033, 7083, 7084]), ((8, 289, [0, 0, 0, 121, 18]), [7086]), ((2, 290, [19]), [1034, 7090, 7091]), ((8, 292, [0, 0, 0, 256, 19]), [7093]), ((2, 293, [20]), [1035, 7097, 7098]), ((8, 295, [0, 0, 0, 258, 20]), [7100]), ((2, 296, [21]), [1036, 7104, 7105]), ((8, 298, [0, 0, 0, 260, 21]), [7107]), ((9, 313, [0, 1, 2, 58, 0]), [48, 7138, 7140]), ((1, 317, [0, 8, 15]), [7156]), ((2, 310, [15]), [1037, 7142, 7143]), ((8, 312, [0, 3, 0, 265, 15]), [7144, 7145]), ((9, 318, [0, 1, 1, 266, 15]), [7175, 7176, 7177]), ((9, 321, [0, 1, 1, 267, 15]), [7183, 7184, 7185]), ((9, 324, [0, 2, 1, 268, 15]), [7193, 7194, 7195]), ((9, 327, [0, 0, 1, 269, 15]), [7201, 7202, 7203]), ((9, 341, [0, 1, 1, 64, 0]), [50, 7215, 7217]), ((9, 344, [0, 0, 0, 65, 0]), [51, 7219, 7221]), ((9, 347, [0, 0, 1, 66, 0]), [53, 8000, 8002]), ((9, 330, [0, 1, 2, 340, 22]), [7223, 7224, 7225]), ((9, 333, [0, 1, 1, 334, 22]), [3214, 3215, 7232]), ((9, 337, [0, 0, 2, 98, 12]), [7233, 7234, 7235]), ((1, 350, [0, 8, 12]), [4228]), ((12, 353, [0, 65536]), [8020]), ((10, 354, [0, 9, 12]), [4230]), ((9, 357, [0, 0, 1, 338, 22]), [4197, 4198, 8025]), ((5, 76, [12]), [4200]), ((1, 363, [0, 0, 4]), [1162]), ((1, 366, [0, 1, 4]), [1165]), ((1, 369, [0, 2, 4]), [1168]), ((1, 372, [0, 3, 4]), [1171]), ((1, 375, [0, 5, 4]), [1179]), ((1, 376, [1, 8, 4]), [1195]), ((1, 354, [0, 9, 12]), [4230]), ((1, 34, [0, 4, 0]), [1081])]
def lk_0 : LTb := [(8, 1, [8]), (11, 9, [1, 0, 0]), (11, 13, [0, 3, 0]), (2, 17, [22]), (8, 19, [0, 0, 0, 330, 22]), (11, 20, [1, 8, 0]), (11, 24, [1, 9, 0]), (11, 27, [1, 10, 0]), (11, 31, [1, 11, 0]), (1, 44, [0, 1, 0]), (1, 9, [1, 0, 0]), (10, 44, [0, 1, 0]), (7, 47, [0, 3, 1, 3]), (9, 37, [0, 1, 1, 4, 0]), (2, 51, [2]), (2, 53, [3]), (8, 55, [0, 2, 0, 297, 3]), (8, 58, [0, 1, 0, 271, 2]), (9, 61, [0, 0, 2, 272, 2]), (1, 65, [0, 3, 2]), (10, 68, [0, 2, 0]), (10, 34, [0, 4, 0]), (1, 69, [0, 4, 2]), (10, 13, [0, 3, 0]), (10, 72, [1, 5, 0]), (2, 76, [12]), (1, 72, [1, 5, 0]), (8, 78, [0, 1, 0, 84, 12]), (10, 81, [1, 6, 0]), (10, 85, [1, 7, 0]), (1, 20, [1, 8, 0]), (9, 88, [0, 0, 0, 339, 22]), (1, 24, [1, 9, 0]), (1, 91, [1, 7, 4]), (9, 96, [0, 0, 1, 331, 22]), (9, 41, [0, 1, 1, 6, 0]), (1, 68, [0, 2, 0]), (1, 13, [0, 3, 0]), (9, 115, [0, 1, 1, 10, 0]), (1, 100, [1, 6, 4]), (9, 106, [0, 1, 2, 332, 22]), (5, 119, [6]), (1, 121, [0, 1, 6]), (1, 122, [0, 2, 6]), (1, 123, [0, 3, 6]), (1, 126, [1, 4, 6]), (9, 130, [0, 1, 1, 12, 0]), (5, 110, [7, 8, 9, 10]), (9, 133, [1, 0, 1, 7, 315, 8, 320, 9, 78, 10, 81]), (1, 136, [0, 1, 7, 8, 9, 10]), (1, 112, [0, 2, 7, 8, 9, 10]), (1, 139, [0, 3, 7, 8, 9, 10]), (1, 142, [0, 4, 7, 8, 9, 10]), (1, 145, [0, 5, 7, 8, 9, 10]), (1, 81, [1, 6, 0]), (1, 148, [0, 7, 12]), (7, 151, [0, 2, 1, 5]), (9, 155, [0, 1, 1, 14, 0]), (1, 158, [1, 10, 4]), (1, 103, [0, 4, 4]), (9, 161, [0, 2, 1, 306, 4]), (1, 165, [1, 1, 12]), (9, 168, [0, 1, 1, 85, 12]), (9, 171, [0, 1, 1, 86, 12]), (9, 174, [0, 0, 1, 90, 12]), (9, 177, [0, 1, 1, 22, 0]), (9, 180, [0, 1, 1, 91, 12]), (2, 188, [13]), (8, 190, [0, 3, 0, 106, 13]), (1, 191, [0, 4, 13]), (9, 194, [0, 1, 1, 25, 0]), (9, 197, [0, 1, 2, 26, 0]), (1, 201, [1, 4, 14]), (2, 183, [14]), (8, 185, [0, 3, 0, 110, 14]), (1, 204, [0, 5, 14]), (1, 207, [0, 7, 14]), (1, 209, [1, 2, 12]), (9, 212, [0, 2, 1, 88, 12]), (1, 215, [1, 3, 12]), (1, 218, [1, 4, 12]), (9, 221, [0, 1, 1, 92, 12]), (9, 224, [0, 0, 1, 93, 12]), (1, 228, [1, 5, 12]), (7, 231, [10]), (7, 236, [11]), (1, 85, [1, 7, 0]), (9, 239, [0, 1, 0, 94, 12]), (9, 243, [0, 2, 1, 40, 0]), (9, 253, [0, 1, 1, 42, 0]), (9, 247, [0, 1, 0, 111, 14]), (9, 250, [0, 0, 0, 95, 12]), (9, 257, [0, 1, 1, 44, 0]), (2, 260, [16]), (8, 262, [0, 2, 0, 112, 16]), (9, 265, [0, 1, 1, 113, 16]), (9, 268, [0, 1, 0, 116, 16]), (1, 272, [0, 7, 16]), (1, 275, [0, 6, 16]), (1, 278, [0, 8, 16]), (9, 281, [0, 1, 1, 51, 0]), (9, 306, [0, 4, 1, 54, 0]), (7, 299, [0, 1, 2, 55]), (1, 27, [1, 10, 0]), (1, 31, [1, 11, 0]), (9, 303, [1, 2, 1, 17, 120, 18, 122, 19, 257, 20, 259, 21, 261]), (2, 284, [17]), (8, 286, [0, 0, 0, 119, 17, 18, 19, 20, 21]), (2, 287, [18]), (8, 289, [0, 0, 0, 121, 18]), (2, 290, [19]), (8, 292, [0, 0, 0, 256, 19]), (2, 293, [20]), (8, 295, [0, 0, 0, 258, 20]), (2, 296, [21]), (8, 298, [0, 0, 0, 260, 21]), (9, 313, [0, 1, 2, 58, 0]), (1, 317, [0, 8, 15]), (2, 310, [15]), (8, 312, [0, 3, 0, 265, 15]), (9, 318, [0, 1, 1, 266, 15]), (9, 321, [0, 1, 1, 267, 15]), (9, 324, [0, 2, 1, 268, 15]), (9, 327, [0, 0, 1, 269, 15]), (9, 341, [0, 1, 1, 64, 0]), (9, 344, [0, 0, 0, 65, 0]), (9, 347, [0, 0, 1, 66, 0]), (9, 330, [0, 1, 2, 340, 22]), (9, 333, [0, 1, 1, 334, 22]), (9, 337, [0, 0, 2, 98, 12]), (1, 350, [0, 8, 12]), (12, 353, [0, 65536]), (10, 354, [0, 9, 12]), (9, 357, [0, 0, 1, 338, 22]), (5, 76, [12]), (1, 363, [0, 0, 4]), (1, 366, [0, 1, 4]), (1, 369, [0, 2, 4]), (1, 372, [0, 3, 4]), (1, 375, [0, 5, 4]), (1, 376, [1, 8, 4]), (1, 354, [0, 9, 12]), (1, 34, [0, 4, 0])]
theorem lnt_0_ok : ∀ f ∈ lk_0, LNKf "OtherTown" f := by
  have h : ltB "OtherTown" lnt_0 = true := by decide +kernel
  have e : lnt_0.map (·.1) = lk_0 := by decide +kernel
  rw [← e]
  exact ltB_ok h
def vs_0_0 : List (Nat × Nat) := [(0, 1001), (1, 1001), (2, 1001), (3, 1001), (4, 1001), (5, 1001), (6, 1001), (7, 1001), (8, 1001), (9, 1001), (10, 1001), (11, 1001), (12, 1001), (13, 1001), (14, 1001), (15, 1001), (16, 1001), (17, 1001), (18, 1001), (19, 1001)]
theorem vs_0_0_ok : ∀ q ∈ vs_0_0, VAL q.1 := by
  have h : vs_0_0.all (valB awL "OtherTown" lk_0) = true := by decide +kernel
  have hc : ∀ q ∈ vs_0_0, CW q.1 := List.forall_mem_cons.mpr ⟨cw_0, List.forall_mem_cons.mpr ⟨cw_1, List.forall_mem_cons.mpr ⟨cw_2, List.forall_mem_cons.mpr ⟨cw_3, List.forall_mem_cons.mpr ⟨cw_4, List.forall_mem_cons.mpr ⟨cw_5, List.forall_mem_cons.mpr ⟨cw_6, List.forall_mem_cons.mpr ⟨cw_7, List.forall_mem_cons.mpr ⟨cw_8, List.forall_mem_cons.mpr ⟨cw_9, List.forall_mem_cons.mpr ⟨cw_10, List.forall_mem_cons.mpr ⟨cw_11, List.forall_mem_cons.mpr ⟨cw_12, List.forall_mem_cons.mpr ⟨cw_13, List.forall_mem_cons.mpr ⟨cw_14, List.forall_mem_cons.mpr ⟨cw_15, List.forall_mem_cons.mpr ⟨cw_16, List.forall_mem_cons.mpr ⟨cw_17, List.forall_mem_cons.mpr ⟨cw_18, List.forall_mem_cons.mpr ⟨cw_19, fun _ h => absurd h List.not_mem_nil⟩⟩⟩⟩⟩⟩⟩⟩⟩⟩⟩⟩⟩⟩⟩⟩⟩⟩⟩⟩
  exact fun q hq => valB_ok lnt_0_ok (hc q hq) (List.all_eq_true.mp h q hq)
def vs_0_1 : List (Nat × Nat) := [(20, 1001), (21, 1001), (22, 1001), (23, 1001), (24, 1001), (25, 1001), (26, 1001), (27, 1001), (28, 1001), (29, 1001), (30, 1001), (31, 1001), (32, 1001), (33, 1001), (34, 1001), (35, 1001), (36, 1001), (37, 1001), (38, 1001), (39, 1001)]
theorem vs_0_1_ok : ∀ q ∈ vs_0_1, VAL q.1 := by
  have h : vs_0_1.all (valB awL "OtherTown" lk_0) = true := by decide +kernel
  have hc : ∀ q ∈ vs_0_1, CW q.1 := List.forall_mem_cons.mpr ⟨cw_20, List.forall_mem_cons.mpr ⟨cw_21, List.forall_mem_cons.mpr ⟨cw_22, List.forall_mem_cons.mpr ⟨cw_23, List.forall_mem_cons.mpr ⟨cw_24, List.forall_mem_cons.mpr ⟨cw_25, List.forall_mem_cons.mpr ⟨cw_26, List.forall_mem_cons.mpr ⟨cw_27, List.forall_mem_cons.mpr ⟨cw_28, List.forall_mem_cons.mpr ⟨cw_29, List.forall_mem_cons.mpr ⟨cw_30, List.forall_mem_cons.mpr ⟨cw_31, List.forall_mem_cons.mpr ⟨cw_32, List.forall_mem_cons.mpr ⟨cw_33, List.forall_mem_cons.mpr ⟨cw_34, List.forall_mem_cons.mpr ⟨cw_35, List.forall_mem_cons.mpr ⟨cw_36, List.forall_mem_cons.mpr ⟨cw_37, List.forall_mem_cons.mpr ⟨cw_38, List.forall_mem_cons.mpr ⟨cw_39, fun _ h => absurd h List.not_mem_nil⟩⟩⟩⟩⟩⟩⟩⟩⟩⟩⟩⟩⟩⟩⟩⟩⟩⟩⟩⟩
  exact fun q hq => valB_ok lnt_0_ok (hc q hq) (List.all_eq_true.mp h q hq)
def vs_0_2 : List (Nat × Nat) := [(40, 1001), (41, 1001), (42, 1001), (43, 1001), (44, 1001), (45, 1001), (46, 1001), (47, 1001), (48, 1001), (49, 1001), (50, 1001), (51, 1001), (52, 1001), (53, 1001), (54, 1001), (55, 1001), (56, 1001), (57, 1001), (58, 1001), (59, 1001)]
theorem vs_0_2_ok : ∀ q ∈ vs_0_2, VAL q.1 := by
  have h : vs_0_2.all (valB awL "OtherTown" lk_0) = true := by decide +kernel
  have hc : ∀ q ∈ vs_0_2, CW q.1 := List.forall_mem_cons.mpr ⟨cw_40, List.forall_mem_cons.mpr ⟨cw_41, List.forall_mem_cons.mpr ⟨cw_42, List.forall_mem_cons.mpr ⟨cw_43, List.forall_mem_cons.mpr ⟨cw_44, List.forall_mem_cons.mpr ⟨cw_45, List.forall_mem_cons.mpr ⟨cw_46, List.forall_mem_cons.mpr ⟨cw_47, List.forall_mem_cons.mpr ⟨cw_48, List.forall_mem_cons.mpr ⟨cw_49, List.forall_mem_cons.mpr ⟨cw_50, List.forall_mem_cons.mpr ⟨cw_51, List.forall_mem_cons.mpr ⟨cw_52, List.forall_mem_cons.mpr ⟨cw_53, List.forall_mem_cons.mpr ⟨cw_54, List.forall_mem_cons.mpr ⟨cw_55, List.forall_mem_cons.mpr ⟨cw_56, List.forall_mem_cons.mpr ⟨cw_57, List.forall_mem_cons.mpr ⟨cw_58, List.forall_mem_cons.mpr ⟨cw_59, fun _ h => absurd h List.not_mem_nil⟩⟩⟩⟩⟩⟩⟩⟩⟩⟩⟩⟩⟩⟩⟩⟩⟩⟩⟩⟩
  exact fun q hq => valB_ok lnt_0_ok (hc q hq) (List.all_eq_true.mp h q hq)
def vs_0_3 : List (Nat × Nat) := [(60, 1001), (61, 1001), (62, 1001), (63, 1001), (64, 1001), (65, 1001), (66, 1001), (67, 1001), (68, 1001), (69, 1001), (70, 1001), (71, 1001), (72, 1001), (73, 1001), (74, 1001), (75, 1001)]
theorem vs_0_3_ok : ∀ q ∈ vs_0_3, VAL q.1 := by
  have h : vs_0_3.all (valB awL "OtherTown" lk_0) = true := by decide +kernel
  have hc : ∀ q ∈ vs_0_3, CW q.1 := List.forall_mem_cons.mpr ⟨cw_60, List.forall_mem_cons.mpr ⟨cw_61, List.forall_mem_cons.mpr ⟨cw_62, List.forall_mem_cons.mpr ⟨cw_63, List.forall_mem_cons.mpr ⟨cw_64, List.forall_mem_cons.mpr ⟨cw_65, List.forall_mem_cons.mpr ⟨cw_66, List.forall_mem_cons.mpr ⟨cw_67, List.forall_mem_cons.mpr ⟨cw_68, List.forall_mem_cons.mpr ⟨cw_69, List.forall_mem_cons.mpr ⟨cw_70, List.forall_mem_cons.mpr ⟨cw_71, List.forall_mem_cons.mpr ⟨cw_72, List.forall_mem_cons.mpr ⟨cw_73, List.forall_mem_cons.mpr ⟨cw_74, List.forall_mem_cons.mpr ⟨cw_75, fun _ h => absurd h List.not_mem_nil⟩⟩⟩⟩⟩⟩⟩⟩⟩⟩⟩⟩⟩⟩⟩⟩
  exact fun q hq => valB_ok lnt_0_ok (hc q hq) (List.all_eq_true.mp h q hq)
theorem cw_77 : CW 77 := lw_g (lw_at lw_m4 102 rfl) rfl
theorem cw_78 : CW 78 := lw_g (lw_at lw_m5 57 rfl) rfl
theorem cw_79 : CW 79 := lw_g (lw_at lw_m5 121 rfl) rfl
def lnt_1 : List ((Nat × Nat × List Nat) × List Nat) := [((8, 1, [0, 1, 0, 314, 7, 8, 9, 10]), [4047, 4103]), ((8, 7, [0, 1, 1, 316, 7, 8, 9, 10]), [4110, 5115, 5117, 5122]), ((6, 11, [1, 8, 7, 9, 10]), [5124])]
def lk_1 : LTb := [(8, 1, [0, 1, 0, 314, 7, 8, 9, 10]), (8, 7, [0, 1, 1, 316, 7, 8, 9, 10]), (6, 11, [1, 8, 7, 9, 10])]
theorem lnt_1_ok : ∀ f ∈ lk_1, LNKf "OtherTown$Light" f := by
  have h : ltB "OtherTown$Light" lnt_1 = true := by decide +kernel
  have e : lnt_1.map (·.1) = lk_1 := by decide +kernel
  rw [← e]
  exact ltB_ok h
def vs_1_0 : List (Nat × Nat) := [(77, 1024), (78, 1024), (79, 1024)]
theorem vs_1_0_ok : ∀ q ∈ vs_1_0, VAL q.1 := by
  have h : vs_1_0.all (valB awL "OtherTown$Light" lk_1) = true := by decide +kernel
  have hc : ∀ q ∈ vs_1_0, CW q.1 := List.forall_mem_cons.mpr ⟨cw_77, List.forall_mem_cons.mpr ⟨cw_78, List.forall_mem_cons.mpr ⟨cw_79, fun _ h => absurd h List.not_mem_nil⟩⟩⟩
  exact fun q hq => valB_ok lnt_1_ok (hc q hq) (List.all_eq_true.mp h q hq)
theorem cw_80 : CW 80 := lw_g (lw_at lw_m4 115 rfl) rfl
theorem cw_81 : CW 81 := lw_g (lw_at lw_m5 54 rfl) rfl
theorem cw_82 : CW 82 := lw_g (lw_at lw_m5 144 rfl) rfl
def lnt_2 : List ((Nat × Nat × List Nat) × List Nat) := [((8, 1, [0, 1, 0, 314, 7, 8, 9, 10]), [4047, 4116])]
def lk_2 : LTb := [(8, 1, [0, 1, 0, 314, 7, 8, 9, 10])]
theorem lnt_2_ok : ∀ f ∈ lk_2, LNKf "OtherTown$Child" f := by
  have h : ltB "OtherTown$Child" lnt_2 = true := by decide +kernel
  have e : lnt_2.map (·.1) = lk_2 := by decide +kernel
  rw [← e]
  exact ltB_ok h
def vs_2_0 : List (Nat × Nat) := [(80, 1025), (81, 1025), (82, 1025)]
theorem vs_2_0_ok : ∀ q ∈ vs_2_0, VAL q.1 := by
  have h : vs_2_0.all (valB awL "OtherTown$Child" lk_2) = true := by decide +kernel
  have hc : ∀ q ∈ vs_2_0, CW q.1 := List.forall_mem_cons.mpr ⟨cw_80, List.forall_mem_cons.mpr ⟨cw_81, List.forall_mem_cons.mpr ⟨cw_82, fun _ h => absurd h List.not_mem_nil⟩⟩⟩
  exact fun q hq => valB_ok lnt_2_ok (hc q hq) (List.all_eq_true.mp h q hq)
theorem cw_83 : CW 83 := lw_g (lw_at lw_m4 177 rfl) rfl
def lnt_3 : List ((Nat × Nat × List Nat) × List Nat) := [((8, 1, [8]), [1048, 1049, 4178]), ((11, 7, [0, 0, 11]), [4179]), ((11, 13, [0, 1, 11]), [4181])]
def lk_3 : LTb := [(8, 1, [8]), (11, 7, [0, 0, 11]), (11, 13, [0, 1, 11])]
theorem lnt_3_ok : ∀ f ∈ lk_3, LNKf "OtherTown$Clue" f := by
  have h : ltB "OtherTown$Clue" lnt_3 = true := by decide +kernel
  have e : lnt_3.map (·.1) = lk_3 := by decide +kernel
  rw [← e]
  exact ltB_ok h
def vs_3_0 : List (Nat × Nat) := [(83, 1026)]
theorem vs_3_0_ok : ∀ q ∈ vs_3_0, VAL q.1 := by
  have h : vs_3_0.all (valB awL "OtherTown$Clue" lk_3) = true := by decide +kernel
  have hc : ∀ q ∈ vs_3_0, CW q.1 := List.forall_mem_cons.mpr ⟨cw_83, fun _ h => absurd h List.not_mem_nil⟩
  exact fun q hq => valB_ok lnt_3_ok (hc q hq) (List.all_eq_true.mp h q hq)
theorem cw_84 : CW 84 := lw_g (lw_at lw_m4 204 rfl) rfl
theorem cw_85 : CW 85 := lw_g (lw_at lw_m5 87 rfl) rfl
theorem cw_86 : CW 86 := lw_g (lw_at lw_m5 95 rfl) rfl
theorem cw_87 : CW 87 := lw_g (lw_at lw_m5 104 rfl) rfl
theorem cw_88 : CW 88 := lw_g (lw_at lw_m5 108 rfl) rfl
theorem cw_89 : CW 89 := lw_g (lw_at lw_m5 112 rfl) rfl
theorem cw_90 : CW 90 := lw_g (lw_at lw_m5 155 rfl) rfl
theorem cw_91 : CW 91 := lw_g (lw_at lw_m5 172 rfl) rfl
theorem cw_92 : CW 92 := lw_g (lw_at lw_m6 127 rfl) rfl
theorem cw_93 : CW 93 := lw_g (lw_at lw_m6 136 rfl) rfl
theorem cw_94 : CW 94 := lw_g (lw_at lw_m6 166 rfl) rfl
theorem cw_95 : CW 95 := lw_g (lw_at lw_m6 187 rfl) rfl
theorem cw_96 : CW 96 := lw_g (lw_at lw_m6 191 rfl) rfl
theorem cw_97 : CW 97 := lw_g (lw_at lw_m6 194 rfl) rfl
theorem cw_98 : CW 98 := lw_g (lw_at lw_m7 236 rfl) rfl
def lnt_4 : List ((Nat × Nat × List Nat) × List Nat) := [((8, 3, [8]), [1048, 1049, 4205]), ((11, 9, [1, 1, 12]), [4210]), ((11, 15, [1, 2, 12]), [4214]), ((11, 18, [1, 3, 12]), [4217]), ((11, 21, [1, 4, 12]), [4219]), ((11, 24, [1, 5, 12]), [4221]), ((11, 27, [1, 6, 12]), [4223]), ((11, 30, [1, 0, 12]), [4209]), ((1, 9, [1, 1, 12]), [4210]), ((1, 34, [1, 7, 4]), [1186]), ((9, 40, [0, 0, 1, 331, 22]), [3120, 3121, 4206]), ((1, 21, [1, 4, 12]), [4219]), ((9, 46, [0, 1, 2, 332, 22]), [3155, 3156, 4207]), ((5, 50, [7, 8, 9, 10]), [4208]), ((1, 52, [0, 1, 7, 8, 9, 10]), [4052]), ((1, 27, [1, 6, 12]), [4223]), ((1, 30, [1, 0, 12]), [4209]), ((9, 88, [0, 1, 1, 307, 4]), [5096, 5097, 5098]), ((1, 92, [0, 2, 7, 8, 9, 10]), [4059]), ((9, 95, [0, 1, 1, 85, 12]), [5085, 5086, 5100]), ((9, 98, [0, 2, 1, 87, 12]), [5101, 5102, 5103]), ((9, 102, [0, 2, 1, 89, 12]), [33, 5109, 5111]), ((1, 105, [0, 5, 7, 8, 9, 10]), [4069]), ((7, 108, [0, 2, 1, 5]), [4147]), ((9, 111, [1, 1, 1, 7, 316, 8, 321, 9, 79, 10, 316]), [5114, 5115, 5116, 5117, 5118, 5119, 5120, 5123, 5125, 5126]), ((9, 115, [0, 1, 1, 317, 7, 8, 9, 10]), [5130, 5131, 5132, 5133, 5134, 5135, 5136, 5137]), ((9, 118, [1, 0, 1, 7, 318, 8, 318, 9, 318, 10, 82]), [5138, 5139, 5140, 5141, 5142, 5143, 5145, 5146, 5147]), ((1, 69, [0, 7, 12]), [4225]), ((9, 78, [0, 2, 1, 88, 12]), [5105, 5106, 5107]), ((1, 82, [0, 1, 4]), [1163]), ((1, 72, [0, 8, 12]), [4227]), ((1, 85, [1, 10, 4]), [1200]), ((9, 122, [0, 1, 1, 86, 12]), [5093, 5094, 5156]), ((9, 159, [0, 2, 1, 308, 4]), [5173, 5174, 5175]), ((1, 153, [1, 6, 4]), [1183]), ((5, 156, [6]), [6128]), ((1, 158, [0, 1, 6]), [3191]), ((1, 18, [1, 3, 12]), [4217]), ((7, 139, [0, 1, 1, 35]), [6138]), ((1, 142, [0, 0, 4]), [1160]), ((9, 145, [0, 1, 1, 309, 4]), [6140, 6141, 6142]), ((7, 148, [11]), [6144]), ((7, 63, [9]), [1017, 2098, 2099, 6167]), ((1, 15, [1, 2, 12]), [4214]), ((1, 24, [1, 5, 12]), [4221]), ((10, 69, [0, 7, 12]), [4225]), ((10, 72, [0, 8, 12]), [4227]), ((1, 75, [0, 9, 12]), [4229]), ((10, 75, [0, 9, 12]), [4229]), ((9, 131, [0, 2, 0, 96, 12]), [40, 6188, 6190]), ((7, 135, [0, 1, 1, 97]), [6192, 6193]), ((1, 138, [0, 5, 4]), [1177]), ((13, 125, [75]), [6195]), ((13, 127, [74]), [6196]), ((13, 129, [65537]), [6197]), ((2, 10, [12]), [1027, 4201, 7237]), ((8, 56, [0, 1, 0, 84, 12]), [4203, 7238]), ((9, 59, [0, 1, 0, 94, 12]), [6164, 6165, 7239])]
def lk_4 : LTb := [(8, 3, [8]), (11, 9, [1, 1, 12]), (11, 15, [1, 2, 12]), (11, 18, [1, 3, 12]), (11, 21, [1, 4, 12]), (11, 24, [1, 5, 12]), (11, 27, [1, 6, 12]), (11, 30, [1, 0, 12]), (1, 9, [1, 1, 12]), (1, 34, [1, 7, 4]), (9, 40, [0, 0, 1, 331, 22]), (1, 21, [1, 4, 12]), (9, 46, [0, 1, 2, 332, 22]), (5, 50, [7, 8, 9, 10]), (1, 52, [0, 1, 7, 8, 9, 10]), (1, 27, [1, 6, 12]), (1, 30, [1, 0, 12]), (9, 88, [0, 1, 1, 307, 4]), (1, 92, [0, 2, 7, 8, 9, 10]), (9, 95, [0, 1, 1, 85, 12]), (9, 98, [0, 2, 1, 87, 12]), (9, 102, [0, 2, 1, 89, 12]), (1, 105, [0, 5, 7, 8, 9, 10]), (7, 108, [0, 2, 1, 5]), (9, 111, [1, 1, 1, 7, 316, 8, 321, 9, 79, 10, 316]), (9, 115, [0, 1, 1, 317, 7, 8, 9, 10]), (9, 118, [1, 0, 1, 7, 318, 8, 318, 9, 318, 10, 82]), (1, 69, [0, 7, 12]), (9, 78, [0, 2, 1, 88, 12]), (1, 82, [0, 1, 4]), (1, 72, [0, 8, 12]), (1, 85, [1, 10, 4]), (9, 122, [0, 1, 1, 86, 12]), (9, 159, [0, 2, 1, 308, 4]), (1, 153, [1, 6, 4]), (5, 156, [6]), (1, 158, [0, 1, 6]), (1, 18, [1, 3, 12]), (7, 139, [0, 1, 1, 35]), (1, 142, [0, 0, 4]), (9, 145, [0, 1, 1, 309, 4]), (7, 148, [11]), (7, 63, [9]), (1, 15, [1, 2, 12]), (1, 24, [1, 5, 12]), (10, 69, [0, 7, 12]), (10, 72, [0, 8, 12]), (1, 75, [0, 9, 12]), (10, 75, [0, 9, 12]), (9, 131, [0, 2, 0, 96, 12]), (7, 135, [0, 1, 1, 97]), (1, 138, [0, 5, 4]), (13, 125, [75]), (13, 127, [74]), (13, 129, [65537]), (2, 10, [12]), (8, 56, [0, 1, 0, 84, 12]), (9, 59, [0, 1, 0, 94, 12])]
theorem lnt_4_ok : ∀ f ∈ lk_4, LNKf "OtherTown$State" f := by
  have h : ltB "OtherTown$State" lnt_4 = true := by decide +kernel
  have e : lnt_4.map (·.1) = lk_4 := by decide +kernel
  rw [← e]
  exact ltB_ok h
def vs_4_0 : List (Nat × Nat) := [(84, 1027), (85, 1027), (86, 1027), (87, 1027), (88, 1027), (89, 1027), (90, 1027), (91, 1027), (92, 1027), (93, 1027), (94, 1027), (95, 1027), (96, 1027), (97, 1027), (98, 1027)]
theorem vs_4_0_ok : ∀ q ∈ vs_4_0, VAL q.1 := by
  have h : vs_4_0.all (valB awL "OtherTown$State" lk_4) = true := by decide +kernel
  have hc : ∀ q ∈ vs_4_0, CW q.1 := List.forall_mem_cons.mpr ⟨cw_84, List.forall_mem_cons.mpr ⟨cw_85, List.forall_mem_cons.mpr ⟨cw_86, List.forall_mem_cons.mpr ⟨cw_87, List.forall_mem_cons.mpr ⟨cw_88, List.forall_mem_cons.mpr ⟨cw_89, List.forall_mem_cons.mpr ⟨cw_90, List.forall_mem_cons.mpr ⟨cw_91, List.forall_mem_cons.mpr ⟨cw_92, List.forall_mem_cons.mpr ⟨cw_93, List.forall_mem_cons.mpr ⟨cw_94, List.forall_mem_cons.mpr ⟨cw_95, List.forall_mem_cons.mpr ⟨cw_96, List.forall_mem_cons.mpr ⟨cw_97, List.forall_mem_cons.mpr ⟨cw_98, fun _ h => absurd h List.not_mem_nil⟩⟩⟩⟩⟩⟩⟩⟩⟩⟩⟩⟩⟩⟩⟩
  exact fun q hq => valB_ok lnt_4_ok (hc q hq) (List.all_eq_true.mp h q hq)
theorem cw_99 : CW 99 := lw_g (lw_at lw_m5 189 rfl) rfl
theorem cw_100 : CW 100 := lw_g (lw_at lw_m5 196 rfl) rfl
theorem cw_101 : CW 101 := lw_g (lw_at lw_m5 201 rfl) rfl
theorem cw_102 : CW 102 := lw_g (lw_at lw_m5 208 rfl) rfl
theorem cw_103 : CW 103 := lw_g (lw_at lw_m6 5 rfl) rfl
theorem cw_104 : CW 104 := lw_g (lw_at lw_m6 11 rfl) rfl
theorem cw_105 : CW 105 := lw_g (lw_at lw_m6 23 rfl) rfl
def lnt_5 : List ((Nat × Nat × List Nat) × List Nat) := [((8, 3, [8]), [1048, 1049, 5190]), ((11, 9, [1, 3, 13, 14, 15]), [6039]), ((11, 15, [1, 0, 13, 14, 15]), [6026]), ((11, 19, [1, 1, 13, 14, 15]), [6031]), ((11, 23, [0, 2, 13, 14, 15]), [6034]), ((1, 15, [1, 0, 13, 14, 15]), [6026]), ((1, 39, [1, 7, 4]), [1189]), ((9, 45, [0, 0, 1, 331, 22]), [3120, 3121, 5197]), ((9, 51, [0, 0, 1, 101, 13, 14, 15]), [5198, 5200, 5201, 11092]), ((9, 55, [1, 0, 0, 13, 107, 14, 108, 15, 262]), [5210, 5212, 5213, 5214, 5226, 5227, 5229, 5230]), ((1, 9, [1, 3, 13, 14, 15]), [6039]), ((9, 58, [0, 1, 2, 332, 22]), [3155, 3156, 5202]), ((5, 62, [7, 8, 9, 10]), [5203]), ((1, 64, [0, 2, 7, 8, 9, 10]), [4057]), ((1, 23, [0, 2, 13, 14, 15]), [6034]), ((9, 65, [0, 1, 0, 100, 13, 14, 15]), [5195, 5196, 5233, 11094, 11095, 11096, 11097]), ((1, 69, [0, 4, 4]), [1172]), ((9, 72, [0, 1, 1, 307, 4]), [5097, 5098, 5234]), ((9, 76, [1, 2, 1, 13, 103, 14, 103, 15, 263]), [5235, 5236, 5237, 5238, 5239, 6000, 6001, 6005]), ((9, 79, [0, 2, 1, 104, 13, 14, 15]), [6008, 6010, 6011, 11098]), ((9, 82, [1, 1, 1, 13, 105, 14, 105, 15, 264]), [6013, 6014, 6015, 6016, 6017, 6018, 6019, 6023]), ((9, 96, [1, 0, 1, 7, 318, 8, 318, 9, 318, 10, 82]), [5139, 5140, 5141, 5142, 5143, 5145, 5146, 5147, 5204]), ((9, 99, [0, 1, 1, 102, 13, 14, 15]), [5205, 5207, 5208, 11093]), ((1, 86, [1, 10, 4]), [1201]), ((9, 102, [0, 1, 1, 317, 7, 8, 9, 10]), [5131, 5132, 5133, 5134, 5135, 5136, 5137, 5209]), ((1, 19, [1, 1, 13, 14, 15]), [6031]), ((1, 27, [0, 7, 12]), [4224]), ((7, 32, [0, 2, 1, 5]), [4147]), ((9, 36, [0, 2, 1, 87, 12]), [5102, 5103, 6007]), ((1, 89, [0, 5, 7, 8, 9, 10]), [4068]), ((9, 92, [1, 1, 1, 7, 316, 8, 321, 9, 79, 10, 316]), [5115, 5116, 5117, 5118, 5119, 5120, 5123, 5125, 5126, 6012])]
def lk_5 : LTb := [(8, 3, [8]), (11, 9, [1, 3, 13, 14, 15]), (11, 15, [1, 0, 13, 14, 15]), (11, 19, [1, 1, 13, 14, 15]), (11, 23, [0, 2, 13, 14, 15]), (1, 15, [1, 0, 13, 14, 15]), (1, 39, [1, 7, 4]), (9, 45, [0, 0, 1, 331, 22]), (9, 51, [0, 0, 1, 101, 13, 14, 15]), (9, 55, [1, 0, 0, 13, 107, 14, 108, 15, 262]), (1, 9, [1, 3, 13, 14, 15]), (9, 58, [0, 1, 2, 332, 22]), (5, 62, [7, 8, 9, 10]), (1, 64, [0, 2, 7, 8, 9, 10]), (1, 23, [0, 2, 13, 14, 15]), (9, 65, [0, 1, 0, 100, 13, 14, 15]), (1, 69, [0, 4, 4]), (9, 72, [0, 1, 1, 307, 4]), (9, 76, [1, 2, 1, 13, 103, 14, 103, 15, 263]), (9, 79, [0, 2, 1, 104, 13, 14, 15]), (9, 82, [1, 1, 1, 13, 105, 14, 105, 15, 264]), (9, 96, [1, 0, 1, 7, 318, 8, 318, 9, 318, 10, 82]), (9, 99, [0, 1, 1, 102, 13, 14, 15]), (1, 86, [1, 10, 4]), (9, 102, [0, 1, 1, 317, 7, 8, 9, 10]), (1, 19, [1, 1, 13, 14, 15]), (1, 27, [0, 7, 12]), (7, 32, [0, 2, 1, 5]), (9, 36, [0, 2, 1, 87, 12]), (1, 89, [0, 5, 7, 8, 9, 10]), (9, 92, [1, 1, 1, 7, 316, 8, 321, 9, 79, 10, 316])]
theorem lnt_5_ok : ∀ f ∈ lk_5, LNKf "OtherTown$Search" f := by
  have h : ltB "OtherTown$Search" lnt_5 = true := by decide +kernel
  have e : lnt_5.map (·.1) = lk_5 := by decide +kernel
  rw [← e]
  exact ltB_ok h
def vs_5_0 : List (Nat × Nat) := [(99, 1028), (100, 1028), (101, 1028), (102, 1028), (103, 1028), (104, 1028), (105, 1028)]
theorem vs_5_0_ok : ∀ q ∈ vs_5_0, VAL q.1 := by
  have h : vs_5_0.all (valB awL "OtherTown$Search" lk_5) = true := by decide +kernel
  have hc : ∀ q ∈ vs_5_0, CW q.1 := List.forall_mem_cons.mpr ⟨cw_99, List.forall_mem_cons.mpr ⟨cw_100, List.forall_mem_cons.mpr ⟨cw_101, List.forall_mem_cons.mpr ⟨cw_102, List.forall_mem_cons.mpr ⟨cw_103, List.forall_mem_cons.mpr ⟨cw_104, List.forall_mem_cons.mpr ⟨cw_105, fun _ h => absurd h List.not_mem_nil⟩⟩⟩⟩⟩⟩⟩
  exact fun q hq => valB_ok lnt_5_ok (hc q hq) (List.all_eq_true.mp h q hq)
theorem cw_106 : CW 106 := lw_g (lw_at lw_m5 186 rfl) rfl
theorem cw_107 : CW 107 := lw_g (lw_at lw_m5 228 rfl) rfl
def lnt_6 : List ((Nat × Nat × List Nat) × List Nat) := [((8, 1, [0, 3, 0, 99, 13, 14, 15]), [5187, 5188]), ((9, 7, [0, 1, 0, 100, 13]), [5191, 5192, 5194, 5195, 5196]), ((1, 13, [0, 4, 13]), [6024]), ((10, 13, [0, 4, 13]), [6024])]
def lk_6 : LTb := [(8, 1, [0, 3, 0, 99, 13, 14, 15]), (9, 7, [0, 1, 0, 100, 13]), (1, 13, [0, 4, 13]), (10, 13, [0, 4, 13])]
theorem lnt_6_ok : ∀ f ∈ lk_6, LNKf "OtherTown$Count" f := by
  have h : ltB "OtherTown$Count" lnt_6 = true := by decide +kernel
  have e : lnt_6.map (·.1) = lk_6 := by decide +kernel
  rw [← e]
  exact ltB_ok h
def vs_6_0 : List (Nat × Nat) := [(106, 1029), (107, 1029)]
theorem vs_6_0_ok : ∀ q ∈ vs_6_0, VAL q.1 := by
  have h : vs_6_0.all (valB awL "OtherTown$Count" lk_6) = true := by decide +kernel
  have hc : ∀ q ∈ vs_6_0, CW q.1 := List.forall_mem_cons.mpr ⟨cw_106, List.forall_mem_cons.mpr ⟨cw_107, fun _ h => absurd h List.not_mem_nil⟩⟩
  exact fun q hq => valB_ok lnt_6_ok (hc q hq) (List.all_eq_true.mp h q hq)
theorem cw_108 : CW 108 := lw_g (lw_at lw_m5 215 rfl) rfl
theorem cw_109 : CW 109 := lw_g (lw_at lw_m5 224 rfl) rfl
theorem cw_110 : CW 110 := lw_g (lw_at lw_m6 70 rfl) rfl
theorem cw_111 : CW 111 := lw_g (lw_at lw_m6 183 rfl) rfl
def lnt_7 : List ((Nat × Nat × List Nat) × List Nat) := [((1, 23, [1, 0, 14]), [6029, 6030]), ((1, 27, [1, 7, 4]), [1187]), ((9, 33, [0, 0, 1, 331, 22]), [3120, 3121, 5216]), ((9, 39, [0, 1, 2, 332, 22]), [3155, 3156, 5217]), ((5, 43, [7, 8, 9, 10]), [5218]), ((1, 45, [0, 2, 7, 8, 9, 10]), [4055]), ((1, 48, [0, 2, 14]), [6035, 6036]), ((1, 49, [1, 3, 14]), [6040, 6041]), ((1, 52, [1, 1, 14]), [6032, 6033]), ((1, 56, [1, 2, 12]), [4215]), ((9, 61, [0, 2, 1, 308, 4]), [5174, 5175, 5219]), ((1, 15, [0, 5, 14]), [6077]), ((9, 65, [0, 3, 1, 109, 14]), [35, 5220, 5222]), ((10, 15, [0, 5, 14]), [6077]), ((10, 69, [0, 6, 14]), [6079]), ((10, 71, [0, 7, 14]), [6080]), ((1, 9, [1, 4, 14]), [6075]), ((7, 73, [9]), [1017, 2098, 2099, 5225]), ((1, 69, [0, 6, 14]), [6079]), ((1, 71, [0, 7, 14]), [6080]), ((8, 3, [0, 3, 0, 99, 13, 14, 15]), [5188, 6071]), ((11, 9, [1, 4, 14]), [6075]), ((11, 15, [0, 5, 14]), [6077]), ((9, 19, [0, 1, 0, 100, 14]), [5195, 5196, 6072, 6073, 6074]), ((1, 79, [1, 1, 12]), [4212])]
def lk_7 : LTb := [(1, 23, [1, 0, 14]), (1, 27, [1, 7, 4]), (9, 33, [0, 0, 1, 331, 22]), (9, 39, [0, 1, 2, 332, 22]), (5, 43, [7, 8, 9, 10]), (1, 45, [0, 2, 7, 8, 9, 10]), (1, 48, [0, 2, 14]), (1, 49, [1, 3, 14]), (1, 52, [1, 1, 14]), (1, 56, [1, 2, 12]), (9, 61, [0, 2, 1, 308, 4]), (1, 15, [0, 5, 14]), (9, 65, [0, 3, 1, 109, 14]), (10, 15, [0, 5, 14]), (10, 69, [0, 6, 14]), (10, 71, [0, 7, 14]), (1, 9, [1, 4, 14]), (7, 73, [9]), (1, 69, [0, 6, 14]), (1, 71, [0, 7, 14]), (8, 3, [0, 3, 0, 99, 13, 14, 15]), (11, 9, [1, 4, 14]), (11, 15, [0, 5, 14]), (9, 19, [0, 1, 0, 100, 14]), (1, 79, [1, 1, 12])]
theorem lnt_7_ok : ∀ f ∈ lk_7, LNKf "OtherTown$Best" f := by
  have h : ltB "OtherTown$Best" lnt_7 = true := by decide +kernel
  have e : lnt_7.map (·.1) = lk_7 := by decide +kernel
  rw [← e]
  exact ltB_ok h
def vs_7_0 : List (Nat × Nat) := [(108, 1030), (109, 1030), (110, 1030), (111, 1030)]
theorem vs_7_0_ok : ∀ q ∈ vs_7_0, VAL q.1 := by
  have h : vs_7_0.all (valB awL "OtherTown$Best" lk_7) = true := by decide +kernel
  have hc : ∀ q ∈ vs_7_0, CW q.1 := List.forall_mem_cons.mpr ⟨cw_108, List.forall_mem_cons.mpr ⟨cw_109, List.forall_mem_cons.mpr ⟨cw_110, List.forall_mem_cons.mpr ⟨cw_111, fun _ h => absurd h List.not_mem_nil⟩⟩⟩⟩
  exact fun q hq => valB_ok lnt_7_ok (hc q hq) (List.all_eq_true.mp h q hq)
theorem cw_112 : CW 112 := lw_g (lw_at lw_m6 222 rfl) rfl
theorem cw_113 : CW 113 := lw_g (lw_at lw_m7 19 rfl) rfl
theorem cw_114 : CW 114 := lw_g (lw_at lw_m7 24 rfl) rfl
theorem cw_115 : CW 115 := lw_g (lw_at lw_m7 30 rfl) rfl
theorem cw_116 : CW 116 := lw_g (lw_at lw_m7 40 rfl) rfl
theorem cw_117 : CW 117 := lw_g (lw_at lw_m7 44 rfl) rfl
theorem cw_118 : CW 118 := lw_g (lw_at lw_m7 48 rfl) rfl
def lnt_8 : List ((Nat × Nat × List Nat) × List Nat) := [((8, 3, [8]), [1048, 1049, 6223]), ((11, 9, [1, 1, 16]), [6226]), ((11, 15, [1, 2, 16]), [6227]), ((11, 18, [1, 3, 16]), [6228]), ((11, 21, [1, 4, 16]), [6229]), ((11, 24, [0, 8, 16]), [6235]), ((11, 28, [1, 0, 16]), [6225]), ((1, 32, [1, 7, 4]), [1185]), ((9, 38, [0, 0, 1, 331, 22]), [3120, 3121, 6224]), ((1, 44, [1, 1, 12]), [4211]), ((1, 9, [1, 1, 16]), [6226]), ((1, 49, [0, 5, 16]), [6230]), ((11, 49, [0, 5, 16]), [6230]), ((1, 28, [1, 0, 16]), [6225]), ((1, 72, [0, 2, 4]), [1166]), ((1, 21, [1, 4, 16]), [6229]), ((1, 78, [0, 3, 4]), [1169]), ((7, 89, [10]), [7020]), ((9, 75, [0, 1, 1, 114, 16]), [42, 7021, 7023]), ((9, 84, [0, 1, 1, 115, 16]), [43, 7027, 7029]), ((9, 95, [0, 1, 1, 113, 16]), [7017, 7018, 7031]), ((7, 98, [11]), [7032]), ((9, 52, [0, 1, 2, 332, 22]), [3155, 3156, 7025]), ((5, 56, [7, 8, 9, 10]), [7026]), ((1, 61, [0, 2, 7, 8, 9, 10]), [4056]), ((1, 58, [0, 3, 7, 8, 9, 10]), [4062]), ((9, 68, [0, 1, 0, 117, 16]), [44, 7041, 7043]), ((1, 18, [1, 3, 16]), [6228]), ((1, 15, [1, 2, 16]), [6227]), ((1, 81, [0, 7, 16]), [6233]), ((10, 81, [0, 7, 16]), [6233]), ((1, 24, [0, 8, 16]), [6235]), ((1, 86, [0, 6, 16]), [6231]), ((10, 24, [0, 8, 16]), [6235]), ((10, 86, [0, 6, 16]), [6231]), ((9, 64, [0, 3, 1, 118, 16]), [45, 7045, 7047])]
def lk_8 : LTb := [(8, 3, [8]), (11, 9, [1, 1, 16]), (11, 15, [1, 2, 16]), (11, 18, [1, 3, 16]), (11, 21, [1, 4, 16]), (11, 24, [0, 8, 16]), (11, 28, [1, 0, 16]), (1, 32, [1, 7, 4]), (9, 38, [0, 0, 1, 331, 22]), (1, 44, [1, 1, 12]), (1, 9, [1, 1, 16]), (1, 49, [0, 5, 16]), (11, 49, [0, 5, 16]), (1, 28, [1, 0, 16]), (1, 72, [0, 2, 4]), (1, 21, [1, 4, 16]), (1, 78, [0, 3, 4]), (7, 89, [10]), (9, 75, [0, 1, 1, 114, 16]), (9, 84, [0, 1, 1, 115, 16]), (9, 95, [0, 1, 1, 113, 16]), (7, 98, [11]), (9, 52, [0, 1, 2, 332, 22]), (5, 56, [7, 8, 9, 10]), (1, 61, [0, 2, 7, 8, 9, 10]), (1, 58, [0, 3, 7, 8, 9, 10]), (9, 68, [0, 1, 0, 117, 16]), (1, 18, [1, 3, 16]), (1, 15, [1, 2, 16]), (1, 81, [0, 7, 16]), (10, 81, [0, 7, 16]), (1, 24, [0, 8, 16]), (1, 86, [0, 6, 16]), (10, 24, [0, 8, 16]), (10, 86, [0, 6, 16]), (9, 64, [0, 3, 1, 118, 16])]
theorem lnt_8_ok : ∀ f ∈ lk_8, LNKf "OtherTown$Bridge" f := by
  have h : ltB "OtherTown$Bridge" lnt_8 = true := by decide +kernel
  have e : lnt_8.map (·.1) = lk_8 := by decide +kernel
  rw [← e]
  exact ltB_ok h
def vs_8_0 : List (Nat × Nat) := [(112, 1031), (113, 1031), (114, 1031), (115, 1031), (116, 1031), (117, 1031), (118, 1031)]
theorem vs_8_0_ok : ∀ q ∈ vs_8_0, VAL q.1 := by
  have h : vs_8_0.all (valB awL "OtherTown$Bridge" lk_8) = true := by decide +kernel
  have hc : ∀ q ∈ vs_8_0, CW q.1 := List.forall_mem_cons.mpr ⟨cw_112, List.forall_mem_cons.mpr ⟨cw_113, List.forall_mem_cons.mpr ⟨cw_114, List.forall_mem_cons.mpr ⟨cw_115, List.forall_mem_cons.mpr ⟨cw_116, List.forall_mem_cons.mpr ⟨cw_117, List.forall_mem_cons.mpr ⟨cw_118, fun _ h => absurd h List.not_mem_nil⟩⟩⟩⟩⟩⟩⟩
  exact fun q hq => valB_ok lnt_8_ok (hc q hq) (List.all_eq_true.mp h q hq)
theorem cw_119 : CW 119 := lw_g (lw_at lw_m7 80 rfl) rfl
theorem cw_120 : CW 120 := lw_g (lw_at lw_m7 122 rfl) rfl
def lnt_9 : List ((Nat × Nat × List Nat) × List Nat) := [((8, 1, [8]), [1048, 1049, 7081])]
def lk_9 : LTb := [(8, 1, [8])]
theorem lnt_9_ok : ∀ f ∈ lk_9, LNKf "OtherTown$Keeper" f := by
  have h : ltB "OtherTown$Keeper" lnt_9 = true := by decide +kernel
  have e : lnt_9.map (·.1) = lk_9 := by decide +kernel
  rw [← e]
  exact ltB_ok h
def vs_9_0 : List (Nat × Nat) := [(119, 1032), (120, 1032)]
theorem vs_9_0_ok : ∀ q ∈ vs_9_0, VAL q.1 := by
  have h : vs_9_0.all (valB awL "OtherTown$Keeper" lk_9) = true := by decide +kernel
  have hc : ∀ q ∈ vs_9_0, CW q.1 := List.forall_mem_cons.mpr ⟨cw_119, List.forall_mem_cons.mpr ⟨cw_120, fun _ h => absurd h List.not_mem_nil⟩⟩
  exact fun q hq => valB_ok lnt_9_ok (hc q hq) (List.all_eq_true.mp h q hq)
theorem cw_121 : CW 121 := lw_g (lw_at lw_m7 87 rfl) rfl
theorem cw_122 : CW 122 := lw_g (lw_at lw_m7 120 rfl) rfl
def lnt_10 : List ((Nat × Nat × List Nat) × List Nat) := [((8, 1, [0, 0, 0, 119, 17, 18, 19, 20, 21]), [7079]), ((8, 7, [0, 2, 1, 120, 17, 18, 19, 20, 21]), [7089, 7112, 7114, 7121])]
def lk_10 : LTb := [(8, 1, [0, 0, 0, 119, 17, 18, 19, 20, 21]), (8, 7, [0, 2, 1, 120, 17, 18, 19, 20, 21])]
theorem lnt_10_ok : ∀ f ∈ lk_10, LNKf "OtherTown$Never" f := by
  have h : ltB "OtherTown$Never" lnt_10 = true := by decide +kernel
  have e : lnt_10.map (·.1) = lk_10 := by decide +kernel
  rw [← e]
  exact ltB_ok h
def vs_10_0 : List (Nat × Nat) := [(121, 1033), (122, 1033)]
theorem vs_10_0_ok : ∀ q ∈ vs_10_0, VAL q.1 := by
  have h : vs_10_0.all (valB awL "OtherTown$Never" lk_10) = true := by decide +kernel
  have hc : ∀ q ∈ vs_10_0, CW q.1 := List.forall_mem_cons.mpr ⟨cw_121, List.forall_mem_cons.mpr ⟨cw_122, fun _ h => absurd h List.not_mem_nil⟩⟩
  exact fun q hq => valB_ok lnt_10_ok (hc q hq) (List.all_eq_true.mp h q hq)
theorem cw_123 : CW 123 := lw_g (lw_at lw_m8 115 rfl) rfl
theorem cw_124 : CW 124 := lw_g (lw_at lw_m9 4 rfl) rfl
theorem cw_125 : CW 125 := lw_g (lw_at lw_m9 8 rfl) rfl
theorem cw_126 : CW 126 := lw_g (lw_at lw_m9 12 rfl) rfl
theorem cw_127 : CW 127 := lw_g (lw_at lw_m9 16 rfl) rfl
theorem cw_128 : CW 128 := lw_g (lw_at lw_m9 19 rfl) rfl
theorem cw_129 : CW 129 := lw_g (lw_at lw_m9 23 rfl) rfl
theorem cw_130 : CW 130 := lw_g (lw_at lw_m9 27 rfl) rfl
theorem cw_131 : CW 131 := lw_g (lw_at lw_m9 31 rfl) rfl
theorem cw_132 : CW 132 := lw_g (lw_at lw_m9 34 rfl) rfl
theorem cw_133 : CW 133 := lw_g (lw_at lw_m9 37 rfl) rfl
theorem cw_134 : CW 134 := lw_g (lw_at lw_m9 41 rfl) rfl
theorem cw_135 : CW 135 := lw_g (lw_at lw_m9 46 rfl) rfl
theorem cw_136 : CW 136 := lw_g (lw_at lw_m9 69 rfl) rfl
theorem cw_137 : CW 137 := lw_g (lw_at lw_m9 73 rfl) rfl
theorem cw_138 : CW 138 := lw_g (lw_at lw_m9 78 rfl) rfl
theorem cw_139 : CW 139 := lw_g (lw_at lw_m9 82 rfl) rfl
theorem cw_140 : CW 140 := lw_g (lw_at lw_m9 86 rfl) rfl
theorem cw_141 : CW 141 := lw_g (lw_at lw_m9 90 rfl) rfl
theorem cw_142 : CW 142 := lw_g (lw_at lw_m9 94 rfl) rfl
theorem cw_143 : CW 143 := lw_g (lw_at lw_m9 102 rfl) rfl
theorem cw_144 : CW 144 := lw_g (lw_at lw_m9 106 rfl) rfl
theorem cw_145 : CW 145 := lw_g (lw_at lw_m9 110 rfl) rfl
theorem cw_146 : CW 146 := lw_g (lw_at lw_m9 114 rfl) rfl
theorem cw_147 : CW 147 := lw_g (lw_at lw_m9 125 rfl) rfl
theorem cw_148 : CW 148 := lw_g (lw_at lw_m9 132 rfl) rfl
theorem cw_149 : CW 149 := lw_g (lw_at lw_m9 136 rfl) rfl
theorem cw_150 : CW 150 := lw_g (lw_at lw_m9 145 rfl) rfl
theorem cw_151 : CW 151 := lw_g (lw_at lw_m9 151 rfl) rfl
theorem cw_152 : CW 152 := lw_g (lw_at lw_m9 155 rfl) rfl
theorem cw_153 : CW 153 := lw_g (lw_at lw_m9 158 rfl) rfl
theorem cw_154 : CW 154 := lw_g (lw_at lw_m9 162 rfl) rfl
theorem cw_155 : CW 155 := lw_g (lw_at lw_m9 166 rfl) rfl
theorem cw_156 : CW 156 := lw_g (lw_at lw_m9 170 rfl) rfl
theorem cw_157 : CW 157 := lw_g (lw_at lw_m9 174 rfl) rfl
theorem cw_158 : CW 158 := lw_g (lw_at lw_m9 178 rfl) rfl
theorem cw_159 : CW 159 := lw_g (lw_at lw_m9 182 rfl) rfl
theorem cw_160 : CW 160 := lw_g (lw_at lw_m9 186 rfl) rfl
theorem cw_161 : CW 161 := lw_g (lw_at lw_m9 189 rfl) rfl
theorem cw_162 : CW 162 := lw_g (lw_at lw_m9 193 rfl) rfl
theorem cw_163 : CW 163 := lw_g (lw_at lw_m9 197 rfl) rfl
theorem cw_164 : CW 164 := lw_g (lw_at lw_m9 201 rfl) rfl
theorem cw_165 : CW 165 := lw_g (lw_at lw_m9 205 rfl) rfl
theorem cw_166 : CW 166 := lw_g (lw_at lw_m9 209 rfl) rfl
theorem cw_167 : CW 167 := lw_g (lw_at lw_m9 213 rfl) rfl
theorem cw_168 : CW 168 := lw_g (lw_at lw_m9 217 rfl) rfl
theorem cw_169 : CW 169 := lw_g (lw_at lw_m9 221 rfl) rfl
theorem cw_170 : CW 170 := lw_g (lw_at lw_m9 225 rfl) rfl
theorem cw_171 : CW 171 := lw_g (lw_at lw_m9 229 rfl) rfl
theorem cw_172 : CW 172 := lw_g (lw_at lw_m9 233 rfl) rfl
theorem cw_173 : CW 173 := lw_g (lw_at lw_m9 237 rfl) rfl
theorem cw_174 : CW 174 := lw_g (lw_at lw_m10 1 rfl) rfl
theorem cw_175 : CW 175 := lw_g (lw_at lw_m10 5 rfl) rfl
theorem cw_176 : CW 176 := lw_g (lw_at lw_m10 9 rfl) rfl
theorem cw_177 : CW 177 := lw_g (lw_at lw_m10 13 rfl) rfl
theorem cw_178 : CW 178 := lw_g (lw_at lw_m10 17 rfl) rfl
theorem cw_179 : CW 179 := lw_g (lw_at lw_m10 21 rfl) rfl
theorem cw_180 : CW 180 := lw_g (lw_at lw_m10 25 rfl) rfl
theorem cw_181 : CW 181 := lw_g (lw_at lw_m10 29 rfl) rfl
theorem cw_182 : CW 182 := lw_g (lw_at lw_m10 33 rfl) rfl
theorem cw_183 : CW 183 := lw_g (lw_at lw_m10 37 rfl) rfl
theorem cw_184 : CW 184 := lw_g (lw_at lw_m10 41 rfl) rfl
theorem cw_185 : CW 185 := lw_g (lw_at lw_m10 45 rfl) rfl
theorem cw_186 : CW 186 := lw_g (lw_at lw_m10 49 rfl) rfl
theorem cw_187 : CW 187 := lw_g (lw_at lw_m10 53 rfl) rfl
theorem cw_188 : CW 188 := lw_g (lw_at lw_m10 57 rfl) rfl
theorem cw_189 : CW 189 := lw_g (lw_at lw_m10 62 rfl) rfl
theorem cw_190 : CW 190 := lw_g (lw_at lw_m10 66 rfl) rfl
theorem cw_191 : CW 191 := lw_g (lw_at lw_m10 70 rfl) rfl
theorem cw_192 : CW 192 := lw_g (lw_at lw_m10 74 rfl) rfl
theorem cw_193 : CW 193 := lw_g (lw_at lw_m10 78 rfl) rfl
theorem cw_194 : CW 194 := lw_g (lw_at lw_m10 82 rfl) rfl
theorem cw_195 : CW 195 := lw_g (lw_at lw_m10 86 rfl) rfl
theorem cw_196 : CW 196 := lw_g (lw_at lw_m10 90 rfl) rfl
theorem cw_197 : CW 197 := lw_g (lw_at lw_m10 94 rfl) rfl
theorem cw_198 : CW 198 := lw_g (lw_at lw_m10 98 rfl) rfl
theorem cw_199 : CW 199 := lw_g (lw_at lw_m10 102 rfl) rfl
theorem cw_200 : CW 200 := lw_g (lw_at lw_m10 106 rfl) rfl
theorem cw_201 : CW 201 := lw_g (lw_at lw_m10 110 rfl) rfl
theorem cw_202 : CW 202 := lw_g (lw_at lw_m10 114 rfl) rfl
theorem cw_203 : CW 203 := lw_g (lw_at lw_m10 118 rfl) rfl
theorem cw_204 : CW 204 := lw_g (lw_at lw_m10 122 rfl) rfl
theorem cw_205 : CW 205 := lw_g (lw_at lw_m10 126 rfl) rfl
theorem cw_206 : CW 206 := lw_g (lw_at lw_m10 130 rfl) rfl
theorem cw_207 : CW 207 := lw_g (lw_at lw_m10 134 rfl) rfl
theorem cw_208 : CW 208 := lw_g (lw_at lw_m10 138 rfl) rfl
theorem cw_209 : CW 209 := lw_g (lw_at lw_m10 142 rfl) rfl
theorem cw_210 : CW 210 := lw_g (lw_at lw_m10 145 rfl) rfl
theorem cw_211 : CW 211 := lw_g (lw_at lw_m10 149 rfl) rfl
theorem cw_212 : CW 212 := lw_g (lw_at lw_m10 153 rfl) rfl
theorem cw_213 : CW 213 := lw_g (lw_at lw_m10 157 rfl) rfl
theorem cw_214 : CW 214 := lw_g (lw_at lw_m10 161 rfl) rfl
theorem cw_215 : CW 215 := lw_g (lw_at lw_m10 165 rfl) rfl
theorem cw_216 : CW 216 := lw_g (lw_at lw_m10 169 rfl) rfl
theorem cw_217 : CW 217 := lw_g (lw_at lw_m10 174 rfl) rfl
theorem cw_218 : CW 218 := lw_g (lw_at lw_m10 178 rfl) rfl
theorem cw_219 : CW 219 := lw_g (lw_at lw_m10 182 rfl) rfl
theorem cw_220 : CW 220 := lw_g (lw_at lw_m10 186 rfl) rfl
theorem cw_221 : CW 221 := lw_g (lw_at lw_m10 190 rfl) rfl
theorem cw_222 : CW 222 := lw_g (lw_at lw_m10 194 rfl) rfl
theorem cw_223 : CW 223 := lw_g (lw_at lw_m10 198 rfl) rfl
theorem cw_224 : CW 224 := lw_g (lw_at lw_m10 202 rfl) rfl
theorem cw_225 : CW 225 := lw_g (lw_at lw_m10 206 rfl) rfl
theorem cw_226 : CW 226 := lw_g (lw_at lw_m10 210 rfl) rfl
theorem cw_227 : CW 227 := lw_g (lw_at lw_m10 214 rfl) rfl
theorem cw_228 : CW 228 := lw_g (lw_at lw_m10 218 rfl) rfl
theorem cw_229 : CW 229 := lw_g (lw_at lw_m10 222 rfl) rfl
theorem cw_230 : CW 230 := lw_g (lw_at lw_m10 226 rfl) rfl
theorem cw_231 : CW 231 := lw_g (lw_at lw_m10 230 rfl) rfl
theorem cw_232 : CW 232 := lw_g (lw_at lw_m10 234 rfl) rfl
theorem cw_233 : CW 233 := lw_g (lw_at lw_m10 238 rfl) rfl
theorem cw_234 : CW 234 := lw_g (lw_at lw_m11 2 rfl) rfl
theorem cw_235 : CW 235 := lw_g (lw_at lw_m11 5 rfl) rfl
theorem cw_236 : CW 236 := lw_g (lw_at lw_m11 9 rfl) rfl
theorem cw_237 : CW 237 := lw_g (lw_at lw_m11 13 rfl) rfl
theorem cw_238 : CW 238 := lw_g (lw_at lw_m11 17 rfl) rfl
theorem cw_239 : CW 239 := lw_g (lw_at lw_m11 21 rfl) rfl
theorem cw_240 : CW 240 := lw_g (lw_at lw_m11 25 rfl) rfl
theorem cw_241 : CW 241 := lw_g (lw_at lw_m11 29 rfl) rfl
theorem cw_242 : CW 242 := lw_g (lw_at lw_m11 33 rfl) rfl
theorem cw_243 : CW 243 := lw_g (lw_at lw_m11 37 rfl) rfl
theorem cw_244 : CW 244 := lw_g (lw_at lw_m11 41 rfl) rfl
theorem cw_245 : CW 245 := lw_g (lw_at lw_m11 45 rfl) rfl
theorem cw_246 : CW 246 := lw_g (lw_at lw_m11 49 rfl) rfl
theorem cw_247 : CW 247 := lw_g (lw_at lw_m11 53 rfl) rfl
theorem cw_248 : CW 248 := lw_g (lw_at lw_m11 57 rfl) rfl
theorem cw_249 : CW 249 := lw_g (lw_at lw_m11 61 rfl) rfl
theorem cw_250 : CW 250 := lw_g (lw_at lw_m11 66 rfl) rfl
theorem cw_251 : CW 251 := lw_g (lw_at lw_m11 70 rfl) rfl
theorem cw_252 : CW 252 := lw_g (lw_at lw_m11 74 rfl) rfl
theorem cw_253 : CW 253 := lw_g (lw_at lw_m11 78 rfl) rfl
theorem cw_254 : CW 254 := lw_g (lw_at lw_m11 82 rfl) rfl
theorem cw_255 : CW 255 := lw_g (lw_at lw_m11 86 rfl) rfl
def lnt_11 : List ((Nat × Nat × List Nat) × List Nat) := [((8, 1, [8]), [1048, 1049, 8116]), ((11, 7, [1, 1, 1]), [8118]), ((11, 13, [0, 10, 1]), [8127]), ((11, 17, [1, 12, 1]), [8129]), ((11, 20, [1, 15, 1]), [8132]), ((11, 23, [1, 16, 1]), [8133]), ((11, 26, [1, 17, 1]), [8134]), ((11, 29, [1, 18, 1]), [8135]), ((11, 32, [1, 19, 1]), [8136]), ((11, 35, [1, 20, 1]), [8137]), ((11, 38, [1, 23, 1]), [8140]), ((11, 41, [1, 30, 1]), [8147]), ((11, 44, [1, 31, 1]), [8148]), ((11, 47, [1, 32, 1]), [8149]), ((11, 50, [1, 33, 1]), [8150]), ((11, 53, [1, 34, 1]), [8151]), ((11, 56, [1, 35, 1]), [8152]), ((11, 59, [1, 36, 1]), [8153]), ((11, 62, [1, 37, 1]), [8154]), ((1, 65, [0, 0, 1]), [8117]), ((10, 65, [0, 0, 1]), [8117]), ((1, 71, [0, 2, 1]), [8119]), ((1, 7, [1, 1, 1]), [8118]), ((10, 71, [0, 2, 1]), [8119]), ((9, 177, [0, 0, 0, 127, 1]), [55, 9013, 9015]), ((7, 162, [0, 3, 1, 128]), [9017, 9018]), ((9, 180, [0, 1, 1, 129, 1]), [56, 9020, 9022]), ((10, 107, [0, 9, 1]), [8126]), ((10, 103, [2, 13, 1]), [8130]), ((1, 23, [1, 16, 1]), [8133]), ((10, 74, [0, 3, 1]), [8120]), ((10, 77, [0, 5, 1]), [8122]), ((9, 124, [0, 0, 0, 130, 1]), [57, 9024, 9026]), ((9, 183, [0, 0, 0, 134, 1]), [59, 9038, 9040]), ((1, 103, [0, 13, 1]), [8130]), ((1, 93, [0, 6, 1]), [8123]), ((1, 84, [0, 4, 1]), [8121]), ((9, 130, [0, 2, 0, 137, 1]), [62, 9070, 9072]), ((1, 20, [1, 15, 1]), [8132]), ((7, 186, [0, 5, 0, 161]), [9187, 9188]), ((1, 26, [1, 17, 1]), [8134]), ((9, 190, [0, 2, 1, 162, 1]), [85, 9190, 9192]), ((10, 193, [2, 14, 1]), [8131]), ((10, 196, [0, 21, 1]), [8138]), ((10, 199, [0, 22, 1]), [8139]), ((10, 68, [0, 11, 1]), [8128]), ((1, 77, [0, 5, 1]), [8122]), ((9, 80, [0, 1, 1, 131, 1]), [58, 9028, 9030]), ((10, 84, [0, 4, 1]), [8121]), ((10, 87, [0, 8, 1]), [8125]), ((10, 90, [0, 7, 1]), [8124]), ((10, 93, [0, 6, 1]), [8123]), ((7, 96, [0, 1, 1, 132]), [9032, 9033]), ((1, 87, [0, 8, 1]), [8125]), ((1, 17, [1, 12, 1]), [8129]), ((7, 100, [0, 1, 1, 133]), [9035, 9036]), ((1, 90, [0, 7, 1]), [8124]), ((1, 74, [0, 3, 1]), [8120]), ((0, 134, [1, 1]), []), ((9, 120, [0, 1, 1, 135, 1]), [60, 9043, 9045]), ((9, 202, [0, 0, 0, 136, 1]), [61, 9066, 9068]), ((0, 136, [1, 2]), []), ((9, 205, [0, 2, 1, 143, 1]), [68, 9099, 9101]), ((9, 209, [0, 0, 0, 144, 1]), [69, 9103, 9105]), ((0, 138, [1, 3]), []), ((9, 212, [0, 0, 0, 149, 1]), [74, 9133, 9135]), ((0, 140, [1, 4]), []), ((9, 215, [0, 0, 0, 151, 1]), [76, 9148, 9150]), ((0, 142, [1, 5]), []), ((9, 218, [0, 0, 0, 154, 1]), [78, 9159, 9161]), ((0, 144, [1, 6]), []), ((9, 221, [0, 0, 0, 157, 1]), [81, 9171, 9173]), ((0, 146, [1, 7]), []), ((9, 224, [0, 0, 0, 158, 1]), [82, 9175, 9177]), ((0, 148, [1, 8]), []), ((9, 227, [0, 0, 0, 159, 1]), [83, 9179, 9181]), ((0, 150, [1, 9]), []), ((9, 230, [0, 0, 0, 160, 1]), [84, 9183, 9185]), ((9, 110, [0, 0, 1, 358, 24]), [9047, 9048, 9049]), ((9, 116, [0, 1, 1, 360, 24]), [9055, 9056, 9057]), ((0, 233, [1, 10]), []), ((9, 235, [0, 3, 1, 138, 1]), [63, 9075, 9077]), ((0, 239, [1, 11]), []), ((0, 241, [1, 12]), []), ((0, 243, [1, 13]), []), ((10, 13, [0, 10, 1]), [8127]), ((9, 170, [0, 1, 0, 139, 1]), [64, 9079, 9081]), ((9, 174, [0, 2, 1, 141, 1]), [66, 9087, 9089]), ((9, 127, [0, 1, 1, 140, 1]), [65, 9083, 9085]), ((9, 166, [0, 2, 1, 142, 1]), [67, 9091, 9093]), ((9, 245, [0, 1, 0, 145, 1]), [70, 9107, 9109]), ((0, 249, [1, 14]), []), ((0, 251, [1, 15]), []), ((0, 253, [1, 16]), []), ((9, 254, [0, 1, 1, 148, 1]), [73, 9129, 9131]), ((9, 152, [0, 0, 0, 146, 1]), [71, 9111, 9113]), ((9, 155, [0, 0, 1, 147, 1]), [72, 9122, 9124]), ((12, 257, [1, 17]), []), ((12, 259, [1, 18]), []), ((12, 261, [1, 19]), []), ((12, 263, [1, 20]), []), ((12, 265, [1, 21]), []), ((9, 158, [0, 1, 1, 150, 1]), [75, 9142, 9144]), ((12, 267, [1, 22]), []), ((12, 269, [1, 23]), []), ((9, 271, [0, 1, 1, 152, 1]), [77, 9152, 9154]), ((7, 274, [0, 2, 1, 153]), [9156, 9157]), ((9, 278, [0, 1, 1, 155, 1]), [79, 9163, 9165]), ((9, 281, [0, 1, 1, 156, 1]), [80, 9167, 9169]), ((1, 107, [0, 9, 1]), [8126]), ((1, 68, [0, 11, 1]), [8128]), ((1, 13, [0, 10, 1]), [8127]), ((9, 287, [0, 1, 1, 166, 1]), [86, 9206, 9208]), ((1, 193, [0, 14, 1]), [8131]), ((9, 290, [0, 1, 1, 168, 1]), [87, 9214, 9216]), ((9, 284, [0, 2, 1, 169, 1]), [88, 9218, 9220]), ((9, 293, [0, 1, 1, 171, 1]), [89, 9226, 9228]), ((9, 296, [0, 1, 1, 174, 1]), [90, 9238, 10000]), ((9, 305, [0, 0, 0, 177, 1]), [91, 10010, 10012]), ((9, 308, [0, 2, 1, 178, 1]), [92, 10014, 10016]), ((1, 38, [1, 23, 1]), [8140]), ((9, 299, [0, 1, 1, 179, 1]), [93, 10018, 10020]), ((9, 302, [0, 2, 1, 180, 1]), [94, 10022, 10024]), ((9, 312, [0, 0, 1, 182, 1]), [95, 10030, 10032]), ((9, 315, [0, 1, 1, 185, 1]), [96, 10042, 10044]), ((9, 318, [0, 2, 1, 186, 1]), [97, 10046, 10048]), ((9, 353, [0, 2, 0, 188, 1]), [98, 10054, 10056]), ((1, 327, [0, 26, 1]), [8143]), ((10, 321, [0, 25, 1]), [8142]), ((10, 324, [2, 24, 1]), [8141]), ((10, 327, [0, 26, 1]), [8143]), ((12, 330, [0, 1000000]), [10058]), ((10, 331, [0, 27, 1]), [8144]), ((1, 44, [1, 31, 1]), [8148]), ((1, 47, [1, 32, 1]), [8149]), ((9, 334, [0, 2, 0, 189, 1]), [99, 10059, 10061]), ((9, 337, [0, 0, 0, 190, 1]), [100, 10063, 10065]), ((1, 321, [0, 25, 1]), [8142]), ((9, 340, [0, 2, 1, 192, 1]), [102, 10071, 10073]), ((1, 324, [0, 24, 1]), [8141]), ((9, 343, [0, 0, 1, 191, 1]), [101, 10067, 10069]), ((1, 331, [0, 27, 1]), [8144]), ((1, 347, [0, 28, 1]), [8145]), ((1, 350, [0, 29, 1]), [8146]), ((10, 347, [0, 28, 1]), [8145]), ((10, 350, [0, 29, 1]), [8146]), ((1, 41, [1, 30, 1]), [8147]), ((9, 357, [0, 3, 1, 197, 1]), [103, 10091, 10093]), ((9, 360, [0, 1, 1, 201, 1]), [104, 10107, 10109]), ((9, 363, [0, 1, 1, 204, 1]), [105, 10119, 10121]), ((9, 369, [0, 0, 1, 209, 1]), [106, 10139, 10141]), ((7, 366, [0, 1, 1, 210]), [10143, 10144]), ((9, 382, [0, 0, 0, 212, 1]), [107, 10150, 10152]), ((9, 385, [0, 0, 0, 213, 1]), [108, 10154, 10156]), ((9, 388, [0, 0, 0, 217, 1]), [112, 10171, 10173]), ((1, 29, [1, 18, 1]), [8135]), ((9, 376, [0, 1, 0, 214, 1]), [109, 10158, 10160]), ((9, 379, [0, 0, 0, 215, 1]), [110, 10162, 10164]), ((1, 50, [1, 33, 1]), [8150]), ((9, 372, [0, 3, 1, 216, 1]), [111, 10166, 10168]), ((12, 375, [0, 65537]), [10170]), ((9, 397, [0, 0, 1, 222, 1]), [113, 10191, 10193]), ((9, 394, [0, 0, 0, 223, 1]), [114, 10195, 10197]), ((1, 391, [0, 38, 1]), [8155]), ((1, 62, [1, 37, 1]), [8154]), ((1, 53, [1, 34, 1]), [8151]), ((10, 391, [0, 38, 1]), [8155]), ((9, 409, [0, 1, 1, 225, 1]), [115, 10203, 10205]), ((9, 412, [0, 1, 1, 226, 1]), [116, 10207, 10209]), ((1, 400, [0, 39, 1]), [8156]), ((1, 56, [1, 35, 1]), [8152]), ((1, 59, [1, 36, 1]), [8153]), ((10, 400, [0, 39, 1]), [8156]), ((10, 403, [0, 40, 1]), [8157]), ((9, 406, [0, 3, 1, 227, 1]), [117, 10211, 10213]), ((1, 403, [0, 40, 1]), [8157]), ((9, 415, [0, 1, 1, 230, 1]), [118, 10223, 10225]), ((9, 418, [0, 2, 1, 231, 1]), [119, 10227, 10229]), ((9, 425, [0, 4, 1, 234, 1]), [120, 10239, 11001]), ((7, 421, [0, 4, 1, 235]), [11003, 11004]), ((9, 429, [0, 2, 1, 239, 1]), [121, 11018, 11020]), ((9, 432, [0, 1, 1, 244, 1]), [122, 11038, 11040]), ((9, 435, [0, 0, 0, 245, 1]), [123, 11042, 11044]), ((1, 196, [0, 21, 1]), [8138]), ((1, 32, [1, 19, 1]), [8136]), ((12, 438, [0, 65536]), [11062]), ((1, 199, [0, 22, 1]), [8139]), ((1, 35, [1, 20, 1]), [8137])]
def lk_11 : LTb := [(8, 1, [8]), (11, 7, [1, 1, 1]), (11, 13, [0, 10, 1]), (11, 17, [1, 12, 1]), (11, 20, [1, 15, 1]), (11, 23, [1, 16, 1]), (11, 26, [1, 17, 1]), (11, 29, [1, 18, 1]), (11, 32, [1, 19, 1]), (11, 35, [1, 20, 1]), (11, 38, [1, 23, 1]), (11, 41, [1, 30, 1]), (11, 44, [1, 31, 1]), (11, 47, [1, 32, 1]), (11, 50, [1, 33, 1]), (11, 53, [1, 34, 1]), (11, 56, [1, 35, 1]), (11, 59, [1, 36, 1]), (11, 62, [1, 37, 1]), (1, 65, [0, 0, 1]), (10, 65, [0, 0, 1]), (1, 71, [0, 2, 1]), (1, 7, [1, 1, 1]), (10, 71, [0, 2, 1]), (9, 177, [0, 0, 0, 127, 1]), (7, 162, [0, 3, 1, 128]), (9, 180, [0, 1, 1, 129, 1]), (10, 107, [0, 9, 1]), (10, 103, [2, 13, 1]), (1, 23, [1, 16, 1]), (10, 74, [0, 3, 1]), (10, 77, [0, 5, 1]), (9, 124, [0, 0, 0, 130, 1]), (9, 183, [0, 0, 0, 134, 1]), (1, 103, [0, 13, 1]), (1, 93, [0, 6, 1]), (1, 84, [0, 4, 1]), (9, 130, [0, 2, 0, 137, 1]), (1, 20, [1, 15, 1]), (7, 186, [0, 5, 0, 161]), (1, 26, [1, 17, 1]), (9, 190, [0, 2, 1, 162, 1]), (10, 193, [2, 14, 1]), (10, 196, [0, 21, 1]), (10, 199, [0, 22, 1]), (10, 68, [0, 11, 1]), (1, 77, [0, 5, 1]), (9, 80, [0, 1, 1, 131, 1]), (10, 84, [0, 4, 1]), (10, 87, [0, 8, 1]), (10, 90, [0, 7, 1]), (10, 93, [0, 6, 1]), (7, 96, [0, 1, 1, 132]), (1, 87, [0, 8, 1]), (1, 17, [1, 12, 1]), (7, 100, [0, 1, 1, 133]), (1, 90, [0, 7, 1]), (1, 74, [0, 3, 1]), (0, 134, [1, 1]), (9, 120, [0, 1, 1, 135, 1]), (9, 202, [0, 0, 0, 136, 1]), (0, 136, [1, 2]), (9, 205, [0, 2, 1, 143, 1]), (9, 209, [0, 0, 0, 144, 1]), (0, 138, [1, 3]), (9, 212, [0, 0, 0, 149, 1]), (0, 140, [1, 4]), (9, 215, [0, 0, 0, 151, 1]), (0, 142, [1, 5]), (9, 218, [0, 0, 0, 154, 1]), (0, 144, [1, 6]), (9, 221, [0, 0, 0, 157, 1]), (0, 146, [1, 7]), (9, 224, [0, 0, 0, 158, 1]), (0, 148, [1, 8]), (9, 227, [0, 0, 0, 159, 1]), (0, 150, [1, 9]), (9, 230, [0, 0, 0, 160, 1]), (9, 110, [0, 0, 1, 358, 24]), (9, 116, [0, 1, 1, 360, 24]), (0, 233, [1, 10]), (9, 235, [0, 3, 1, 138, 1]), (0, 239, [1, 11]), (0, 241, [1, 12]), (0, 243, [1, 13]), (10, 13, [0, 10, 1]), (9, 170, [0, 1, 0, 139, 1]), (9, 174, [0, 2, 1, 141, 1]), (9, 127, [0, 1, 1, 140, 1]), (9, 166, [0, 2, 1, 142, 1]), (9, 245, [0, 1, 0, 145, 1]), (0, 249, [1, 14]), (0, 251, [1, 15]), (0, 253, [1, 16]), (9, 254, [0, 1, 1, 148, 1]), (9, 152, [0, 0, 0, 146, 1]), (9, 155, [0, 0, 1, 147, 1]), (12, 257, [1, 17]), (12, 259, [1, 18]), (12, 261, [1, 19]), (12, 263, [1, 20]), (12, 265, [1, 21]), (9, 158, [0, 1, 1, 150, 1]), (12, 267, [1, 22]), (12, 269, [1, 23]), (9, 271, [0, 1, 1, 152, 1]), (7, 274, [0, 2, 1, 153]), (9, 278, [0, 1, 1, 155, 1]), (9, 281, [0, 1, 1, 156, 1]), (1, 107, [0, 9, 1]), (1, 68, [0, 11, 1]), (1, 13, [0, 10, 1]), (9, 287, [0, 1, 1, 166, 1]), (1, 193, [0, 14, 1]), (9, 290, [0, 1, 1, 168, 1]), (9, 284, [0, 2, 1, 169, 1]), (9, 293, [0, 1, 1, 171, 1]), (9, 296, [0, 1, 1, 174, 1]), (9, 305, [0, 0, 0, 177, 1]), (9, 308, [0, 2, 1, 178, 1]), (1, 38, [1, 23, 1]), (9, 299, [0, 1, 1, 179, 1]), (9, 302, [0, 2, 1, 180, 1]), (9, 312, [0, 0, 1, 182, 1]), (9, 315, [0, 1, 1, 185, 1]), (9, 318, [0, 2, 1, 186, 1]), (9, 353, [0, 2, 0, 188, 1]), (1, 327, [0, 26, 1]), (10, 321, [0, 25, 1]), (10, 324, [2, 24, 1]), (10, 327, [0, 26, 1]), (12, 330, [0, 1000000]), (10, 331, [0, 27, 1]), (1, 44, [1, 31, 1]), (1, 47, [1, 32, 1]), (9, 334, [0, 2, 0, 189, 1]), (9, 337, [0, 0, 0, 190, 1]), (1, 321, [0, 25, 1]), (9, 340, [0, 2, 1, 192, 1]), (1, 324, [0, 24, 1]), (9, 343, [0, 0, 1, 191, 1]), (1, 331, [0, 27, 1]), (1, 347, [0, 28, 1]), (1, 350, [0, 29, 1]), (10, 347, [0, 28, 1]), (10, 350, [0, 29, 1]), (1, 41, [1, 30, 1]), (9, 357, [0, 3, 1, 197, 1]), (9, 360, [0, 1, 1, 201, 1]), (9, 363, [0, 1, 1, 204, 1]), (9, 369, [0, 0, 1, 209, 1]), (7, 366, [0, 1, 1, 210]), (9, 382, [0, 0, 0, 212, 1]), (9, 385, [0, 0, 0, 213, 1]), (9, 388, [0, 0, 0, 217, 1]), (1, 29, [1, 18, 1]), (9, 376, [0, 1, 0, 214, 1]), (9, 379, [0, 0, 0, 215, 1]), (1, 50, [1, 33, 1]), (9, 372, [0, 3, 1, 216, 1]), (12, 375, [0, 65537]), (9, 397, [0, 0, 1, 222, 1]), (9, 394, [0, 0, 0, 223, 1]), (1, 391, [0, 38, 1]), (1, 62, [1, 37, 1]), (1, 53, [1, 34, 1]), (10, 391, [0, 38, 1]), (9, 409, [0, 1, 1, 225, 1]), (9, 412, [0, 1, 1, 226, 1]), (1, 400, [0, 39, 1]), (1, 56, [1, 35, 1]), (1, 59, [1, 36, 1]), (10, 400, [0, 39, 1]), (10, 403, [0, 40, 1]), (9, 406, [0, 3, 1, 227, 1]), (1, 403, [0, 40, 1]), (9, 415, [0, 1, 1, 230, 1]), (9, 418, [0, 2, 1, 231, 1]), (9, 425, [0, 4, 1, 234, 1]), (7, 421, [0, 4, 1, 235]), (9, 429, [0, 2, 1, 239, 1]), (9, 432, [0, 1, 1, 244, 1]), (9, 435, [0, 0, 0, 245, 1]), (1, 196, [0, 21, 1]), (1, 32, [1, 19, 1]), (12, 438, [0, 65536]), (1, 199, [0, 22, 1]), (1, 35, [1, 20, 1])]
theorem lnt_11_ok : ∀ f ∈ lk_11, LNKf "OtherTownModel" f := by
  have h : ltB "OtherTownModel" lnt_11 = true := by decide +kernel
  have e : lnt_11.map (·.1) = lk_11 := by decide +kernel
  rw [← e]
  exact ltB_ok h
def vs_11_0 : List (Nat × Nat) := [(123, 1005), (124, 1005), (125, 1005), (126, 1005), (127, 1005), (128, 1005), (129, 1005), (130, 1005), (131, 1005), (132, 1005), (133, 1005), (134, 1005), (135, 1005), (136, 1005), (137, 1005), (138, 1005), (139, 1005), (140, 1005), (141, 1005), (142, 1005)]
theorem vs_11_0_ok : ∀ q ∈ vs_11_0, VAL q.1 := by
  have h : vs_11_0.all (valB awL "OtherTownModel" lk_11) = true := by decide +kernel
  have hc : ∀ q ∈ vs_11_0, CW q.1 := List.forall_mem_cons.mpr ⟨cw_123, List.forall_mem_cons.mpr ⟨cw_124, List.forall_mem_cons.mpr ⟨cw_125, List.forall_mem_cons.mpr ⟨cw_126, List.forall_mem_cons.mpr ⟨cw_127, List.forall_mem_cons.mpr ⟨cw_128, List.forall_mem_cons.mpr ⟨cw_129, List.forall_mem_cons.mpr ⟨cw_130, List.forall_mem_cons.mpr ⟨cw_131, List.forall_mem_cons.mpr ⟨cw_132, List.forall_mem_cons.mpr ⟨cw_133, List.forall_mem_cons.mpr ⟨cw_134, List.forall_mem_cons.mpr ⟨cw_135, List.forall_mem_cons.mpr ⟨cw_136, List.forall_mem_cons.mpr ⟨cw_137, List.forall_mem_cons.mpr ⟨cw_138, List.forall_mem_cons.mpr ⟨cw_139, List.forall_mem_cons.mpr ⟨cw_140, List.forall_mem_cons.mpr ⟨cw_141, List.forall_mem_cons.mpr ⟨cw_142, fun _ h => absurd h List.not_mem_nil⟩⟩⟩⟩⟩⟩⟩⟩⟩⟩⟩⟩⟩⟩⟩⟩⟩⟩⟩⟩
  exact fun q hq => valB_ok lnt_11_ok (hc q hq) (List.all_eq_true.mp h q hq)
def vs_11_1 : List (Nat × Nat) := [(143, 1005), (144, 1005), (145, 1005), (146, 1005), (147, 1005), (148, 1005), (149, 1005), (150, 1005), (151, 1005), (152, 1005), (153, 1005), (154, 1005), (155, 1005), (156, 1005), (157, 1005), (158, 1005), (159, 1005), (160, 1005), (161, 1005), (162, 1005)]
theorem vs_11_1_ok : ∀ q ∈ vs_11_1, VAL q.1 := by
  have h : vs_11_1.all (valB awL "OtherTownModel" lk_11) = true := by decide +kernel
  have hc : ∀ q ∈ vs_11_1, CW q.1 := List.forall_mem_cons.mpr ⟨cw_143, List.forall_mem_cons.mpr ⟨cw_144, List.forall_mem_cons.mpr ⟨cw_145, List.forall_mem_cons.mpr ⟨cw_146, List.forall_mem_cons.mpr ⟨cw_147, List.forall_mem_cons.mpr ⟨cw_148, List.forall_mem_cons.mpr ⟨cw_149, List.forall_mem_cons.mpr ⟨cw_150, List.forall_mem_cons.mpr ⟨cw_151, List.forall_mem_cons.mpr ⟨cw_152, List.forall_mem_cons.mpr ⟨cw_153, List.forall_mem_cons.mpr ⟨cw_154, List.forall_mem_cons.mpr ⟨cw_155, List.forall_mem_cons.mpr ⟨cw_156, List.forall_mem_cons.mpr ⟨cw_157, List.forall_mem_cons.mpr ⟨cw_158, List.forall_mem_cons.mpr ⟨cw_159, List.forall_mem_cons.mpr ⟨cw_160, List.forall_mem_cons.mpr ⟨cw_161, List.forall_mem_cons.mpr ⟨cw_162, fun _ h => absurd h List.not_mem_nil⟩⟩⟩⟩⟩⟩⟩⟩⟩⟩⟩⟩⟩⟩⟩⟩⟩⟩⟩⟩
  exact fun q hq => valB_ok lnt_11_ok (hc q hq) (List.all_eq_true.mp h q hq)
def vs_11_2 : List (Nat × Nat) := [(163, 1005), (164, 1005), (165, 1005), (166, 1005), (167, 1005), (168, 1005), (169, 1005), (170, 1005), (171, 1005), (172, 1005), (173, 1005), (174, 1005), (175, 1005), (176, 1005), (177, 1005), (178, 1005), (179, 1005), (180, 1005), (181, 1005), (182, 1005)]
theorem vs_11_2_ok : ∀ q ∈ vs_11_2, VAL q.1 := by
  have h : vs_11_2.all (valB awL "OtherTownModel" lk_11) = true := by decide +kernel
  have hc : ∀ q ∈ vs_11_2, CW q.1 := List.forall_mem_cons.mpr ⟨cw_163, List.forall_mem_cons.mpr ⟨cw_164, List.forall_mem_cons.mpr ⟨cw_165, List.forall_mem_cons.mpr ⟨cw_166, List.forall_mem_cons.mpr ⟨cw_167, List.forall_mem_cons.mpr ⟨cw_168, List.forall_mem_cons.mpr ⟨cw_169, List.forall_mem_cons.mpr ⟨cw_170, List.forall_mem_cons.mpr ⟨cw_171, List.forall_mem_cons.mpr ⟨cw_172, List.forall_mem_cons.mpr ⟨cw_173, List.forall_mem_cons.mpr ⟨cw_174, List.forall_mem_cons.mpr ⟨cw_175, List.forall_mem_cons.mpr ⟨cw_176, List.forall_mem_cons.mpr ⟨cw_177, List.forall_mem_cons.mpr ⟨cw_178, List.forall_mem_cons.mpr ⟨cw_179, List.forall_mem_cons.mpr ⟨cw_180, List.forall_mem_cons.mpr ⟨cw_181, List.forall_mem_cons.mpr ⟨cw_182, fun _ h => absurd h List.not_mem_nil⟩⟩⟩⟩⟩⟩⟩⟩⟩⟩⟩⟩⟩⟩⟩⟩⟩⟩⟩⟩
  exact fun q hq => valB_ok lnt_11_ok (hc q hq) (List.all_eq_true.mp h q hq)
def vs_11_3 : List (Nat × Nat) := [(183, 1005), (184, 1005), (185, 1005), (186, 1005), (187, 1005), (188, 1005), (189, 1005), (190, 1005), (191, 1005), (192, 1005), (193, 1005), (194, 1005), (195, 1005), (196, 1005), (197, 1005), (198, 1005), (199, 1005), (200, 1005), (201, 1005), (202, 1005)]
theorem vs_11_3_ok : ∀ q ∈ vs_11_3, VAL q.1 := by
  have h : vs_11_3.all (valB awL "OtherTownModel" lk_11) = true := by decide +kernel
  have hc : ∀ q ∈ vs_11_3, CW q.1 := List.forall_mem_cons.mpr ⟨cw_183, List.forall_mem_cons.mpr ⟨cw_184, List.forall_mem_cons.mpr ⟨cw_185, List.forall_mem_cons.mpr ⟨cw_186, List.forall_mem_cons.mpr ⟨cw_187, List.forall_mem_cons.mpr ⟨cw_188, List.forall_mem_cons.mpr ⟨cw_189, List.forall_mem_cons.mpr ⟨cw_190, List.forall_mem_cons.mpr ⟨cw_191, List.forall_mem_cons.mpr ⟨cw_192, List.forall_mem_cons.mpr ⟨cw_193, List.forall_mem_cons.mpr ⟨cw_194, List.forall_mem_cons.mpr ⟨cw_195, List.forall_mem_cons.mpr ⟨cw_196, List.forall_mem_cons.mpr ⟨cw_197, List.forall_mem_cons.mpr ⟨cw_198, List.forall_mem_cons.mpr ⟨cw_199, List.forall_mem_cons.mpr ⟨cw_200, List.forall_mem_cons.mpr ⟨cw_201, List.forall_mem_cons.mpr ⟨cw_202, fun _ h => absurd h List.not_mem_nil⟩⟩⟩⟩⟩⟩⟩⟩⟩⟩⟩⟩⟩⟩⟩⟩⟩⟩⟩⟩
  exact fun q hq => valB_ok lnt_11_ok (hc q hq) (List.all_eq_true.mp h q hq)
def vs_11_4 : List (Nat × Nat) := [(203, 1005), (204, 1005), (205, 1005), (206, 1005), (207, 1005), (208, 1005), (209, 1005), (210, 1005), (211, 1005), (212, 1005), (213, 1005), (214, 1005), (215, 1005), (216, 1005), (217, 1005), (218, 1005), (219, 1005), (220, 1005), (221, 1005), (222, 1005)]
theorem vs_11_4_ok : ∀ q ∈ vs_11_4, VAL q.1 := by
  have h : vs_11_4.all (valB awL "OtherTownModel" lk_11) = true := by decide +kernel
  have hc : ∀ q ∈ vs_11_4, CW q.1 := List.forall_mem_cons.mpr ⟨cw_203, List.forall_mem_cons.mpr ⟨cw_204, List.forall_mem_cons.mpr ⟨cw_205, List.forall_mem_cons.mpr ⟨cw_206, List.forall_mem_cons.mpr ⟨cw_207, List.forall_mem_cons.mpr ⟨cw_208, List.forall_mem_cons.mpr ⟨cw_209, List.forall_mem_cons.mpr ⟨cw_210, List.forall_mem_cons.mpr ⟨cw_211, List.forall_mem_cons.mpr ⟨cw_212, List.forall_mem_cons.mpr ⟨cw_213, List.forall_mem_cons.mpr ⟨cw_214, List.forall_mem_cons.mpr ⟨cw_215, List.forall_mem_cons.mpr ⟨cw_216, List.forall_mem_cons.mpr ⟨cw_217, List.forall_mem_cons.mpr ⟨cw_218, List.forall_mem_cons.mpr ⟨cw_219, List.forall_mem_cons.mpr ⟨cw_220, List.forall_mem_cons.mpr ⟨cw_221, List.forall_mem_cons.mpr ⟨cw_222, fun _ h => absurd h List.not_mem_nil⟩⟩⟩⟩⟩⟩⟩⟩⟩⟩⟩⟩⟩⟩⟩⟩⟩⟩⟩⟩
  exact fun q hq => valB_ok lnt_11_ok (hc q hq) (List.all_eq_true.mp h q hq)
def vs_11_5 : List (Nat × Nat) := [(223, 1005), (224, 1005), (225, 1005), (226, 1005), (227, 1005), (228, 1005), (229, 1005), (230, 1005), (231, 1005), (232, 1005), (233, 1005), (234, 1005), (235, 1005), (236, 1005), (237, 1005), (238, 1005), (239, 1005), (240, 1005), (241, 1005), (242, 1005)]
theorem vs_11_5_ok : ∀ q ∈ vs_11_5, VAL q.1 := by
  have h : vs_11_5.all (valB awL "OtherTownModel" lk_11) = true := by decide +kernel
  have hc : ∀ q ∈ vs_11_5, CW q.1 := List.forall_mem_cons.mpr ⟨cw_223, List.forall_mem_cons.mpr ⟨cw_224, List.forall_mem_cons.mpr ⟨cw_225, List.forall_mem_cons.mpr ⟨cw_226, List.forall_mem_cons.mpr ⟨cw_227, List.forall_mem_cons.mpr ⟨cw_228, List.forall_mem_cons.mpr ⟨cw_229, List.forall_mem_cons.mpr ⟨cw_230, List.forall_mem_cons.mpr ⟨cw_231, List.forall_mem_cons.mpr ⟨cw_232, List.forall_mem_cons.mpr ⟨cw_233, List.forall_mem_cons.mpr ⟨cw_234, List.forall_mem_cons.mpr ⟨cw_235, List.forall_mem_cons.mpr ⟨cw_236, List.forall_mem_cons.mpr ⟨cw_237, List.forall_mem_cons.mpr ⟨cw_238, List.forall_mem_cons.mpr ⟨cw_239, List.forall_mem_cons.mpr ⟨cw_240, List.forall_mem_cons.mpr ⟨cw_241, List.forall_mem_cons.mpr ⟨cw_242, fun _ h => absurd h List.not_mem_nil⟩⟩⟩⟩⟩⟩⟩⟩⟩⟩⟩⟩⟩⟩⟩⟩⟩⟩⟩⟩
  exact fun q hq => valB_ok lnt_11_ok (hc q hq) (List.all_eq_true.mp h q hq)
def vs_11_6 : List (Nat × Nat) := [(243, 1005), (244, 1005), (245, 1005), (246, 1005), (247, 1005), (248, 1005), (249, 1005), (250, 1005), (251, 1005), (252, 1005), (253, 1005), (254, 1005), (255, 1005)]
theorem vs_11_6_ok : ∀ q ∈ vs_11_6, VAL q.1 := by
  have h : vs_11_6.all (valB awL "OtherTownModel" lk_11) = true := by decide +kernel
  have hc : ∀ q ∈ vs_11_6, CW q.1 := List.forall_mem_cons.mpr ⟨cw_243, List.forall_mem_cons.mpr ⟨cw_244, List.forall_mem_cons.mpr ⟨cw_245, List.forall_mem_cons.mpr ⟨cw_246, List.forall_mem_cons.mpr ⟨cw_247, List.forall_mem_cons.mpr ⟨cw_248, List.forall_mem_cons.mpr ⟨cw_249, List.forall_mem_cons.mpr ⟨cw_250, List.forall_mem_cons.mpr ⟨cw_251, List.forall_mem_cons.mpr ⟨cw_252, List.forall_mem_cons.mpr ⟨cw_253, List.forall_mem_cons.mpr ⟨cw_254, List.forall_mem_cons.mpr ⟨cw_255, fun _ h => absurd h List.not_mem_nil⟩⟩⟩⟩⟩⟩⟩⟩⟩⟩⟩⟩⟩
  exact fun q hq => valB_ok lnt_11_ok (hc q hq) (List.all_eq_true.mp h q hq)
theorem cw_256 : CW 256 := lw_g (lw_at lw_m7 94 rfl) rfl
theorem cw_257 : CW 257 := lw_g (lw_at lw_m7 117 rfl) rfl
def lnt_12 : List ((Nat × Nat × List Nat) × List Nat) := [((8, 1, [0, 0, 0, 119, 17, 18, 19, 20, 21]), [7079])]
def lk_12 : LTb := [(8, 1, [0, 0, 0, 119, 17, 18, 19, 20, 21])]
theorem lnt_12_ok : ∀ f ∈ lk_12, LNKf "OtherTown$Alike" f := by
  have h : ltB "OtherTown$Alike" lnt_12 = true := by decide +kernel
  have e : lnt_12.map (·.1) = lk_12 := by decide +kernel
  rw [← e]
  exact ltB_ok h
def vs_12_0 : List (Nat × Nat) := [(256, 1034), (257, 1034)]
theorem vs_12_0_ok : ∀ q ∈ vs_12_0, VAL q.1 := by
  have h : vs_12_0.all (valB awL "OtherTown$Alike" lk_12) = true := by decide +kernel
  have hc : ∀ q ∈ vs_12_0, CW q.1 := List.forall_mem_cons.mpr ⟨cw_256, List.forall_mem_cons.mpr ⟨cw_257, fun _ h => absurd h List.not_mem_nil⟩⟩
  exact fun q hq => valB_ok lnt_12_ok (hc q hq) (List.all_eq_true.mp h q hq)
theorem cw_258 : CW 258 := lw_g (lw_at lw_m7 101 rfl) rfl
theorem cw_259 : CW 259 := lw_g (lw_at lw_m7 128 rfl) rfl
def lnt_13 : List ((Nat × Nat × List Nat) × List Nat) := [((8, 1, [0, 0, 0, 119, 17, 18, 19, 20, 21]), [7079]), ((8, 7, [0, 2, 1, 120, 17, 18, 19, 20, 21]), [7103, 7112, 7114, 7129])]
def lk_13 : LTb := [(8, 1, [0, 0, 0, 119, 17, 18, 19, 20, 21]), (8, 7, [0, 2, 1, 120, 17, 18, 19, 20, 21])]
theorem lnt_13_ok : ∀ f ∈ lk_13, LNKf "OtherTown$Stern" f := by
  have h : ltB "OtherTown$Stern" lnt_13 = true := by decide +kernel
  have e : lnt_13.map (·.1) = lk_13 := by decide +kernel
  rw [← e]
  exact ltB_ok h
def vs_13_0 : List (Nat × Nat) := [(258, 1035), (259, 1035)]
theorem vs_13_0_ok : ∀ q ∈ vs_13_0, VAL q.1 := by
  have h : vs_13_0.all (valB awL "OtherTown$Stern" lk_13) = true := by decide +kernel
  have hc : ∀ q ∈ vs_13_0, CW q.1 := List.forall_mem_cons.mpr ⟨cw_258, List.forall_mem_cons.mpr ⟨cw_259, fun _ h => absurd h List.not_mem_nil⟩⟩
  exact fun q hq => valB_ok lnt_13_ok (hc q hq) (List.all_eq_true.mp h q hq)
theorem cw_260 : CW 260 := lw_g (lw_at lw_m7 108 rfl) rfl
theorem cw_261 : CW 261 := lw_g (lw_at lw_m7 125 rfl) rfl
def lnt_14 : List ((Nat × Nat × List Nat) × List Nat) := [((8, 1, [0, 0, 0, 119, 17, 18, 19, 20, 21]), [7079])]
def lk_14 : LTb := [(8, 1, [0, 0, 0, 119, 17, 18, 19, 20, 21])]
theorem lnt_14_ok : ∀ f ∈ lk_14, LNKf "OtherTown$Second" f := by
  have h : ltB "OtherTown$Second" lnt_14 = true := by decide +kernel
  have e : lnt_14.map (·.1) = lk_14 := by decide +kernel
  rw [← e]
  exact ltB_ok h
def vs_14_0 : List (Nat × Nat) := [(260, 1036), (261, 1036)]
theorem vs_14_0_ok : ∀ q ∈ vs_14_0, VAL q.1 := by
  have h : vs_14_0.all (valB awL "OtherTown$Second" lk_14) = true := by decide +kernel
  have hc : ∀ q ∈ vs_14_0, CW q.1 := List.forall_mem_cons.mpr ⟨cw_260, List.forall_mem_cons.mpr ⟨cw_261, fun _ h => absurd h List.not_mem_nil⟩⟩
  exact fun q hq => valB_ok lnt_14_ok (hc q hq) (List.all_eq_true.mp h q hq)
theorem cw_262 : CW 262 := lw_g (lw_at lw_m5 231 rfl) rfl
theorem cw_263 : CW 263 := lw_g (lw_at lw_m6 2 rfl) rfl
theorem cw_264 : CW 264 := lw_g (lw_at lw_m6 20 rfl) rfl
theorem cw_265 : CW 265 := lw_g (lw_at lw_m7 146 rfl) rfl
theorem cw_266 : CW 266 := lw_g (lw_at lw_m7 178 rfl) rfl
theorem cw_267 : CW 267 := lw_g (lw_at lw_m7 186 rfl) rfl
theorem cw_268 : CW 268 := lw_g (lw_at lw_m7 196 rfl) rfl
theorem cw_269 : CW 269 := lw_g (lw_at lw_m7 204 rfl) rfl
theorem cw_270 : CW 270 := lw_g (lw_at lw_m7 209 rfl) rfl
def lnt_15 : List ((Nat × Nat × List Nat) × List Nat) := [((1, 64, [0, 8, 15]), [7155]), ((10, 64, [0, 8, 15]), [7155]), ((1, 28, [1, 0, 15]), [6027, 6028]), ((1, 67, [1, 7, 4]), [1188]), ((9, 38, [0, 0, 1, 331, 22]), [3120, 3121, 5232]), ((1, 70, [1, 3, 15]), [6042, 6043]), ((1, 18, [1, 6, 15]), [7153]), ((1, 9, [1, 4, 15]), [7151]), ((1, 57, [1, 10, 4]), [1199]), ((1, 15, [1, 5, 15]), [7152]), ((1, 21, [1, 7, 15]), [7154]), ((1, 32, [1, 8, 4]), [1193]), ((9, 44, [0, 1, 2, 332, 22]), [3155, 3156, 6003]), ((5, 48, [11]), [6004]), ((1, 50, [0, 0, 11]), [4180]), ((1, 54, [0, 1, 11]), [4182]), ((8, 60, [0, 1, 1, 105, 13, 14, 15]), [6014, 6015, 6021, 6022]), ((8, 3, [0, 3, 0, 99, 13, 14, 15]), [5188, 7147]), ((11, 9, [1, 4, 15]), [7151]), ((11, 15, [1, 5, 15]), [7152]), ((11, 18, [1, 6, 15]), [7153]), ((11, 21, [1, 7, 15]), [7154]), ((9, 24, [0, 1, 0, 100, 15]), [5195, 5196, 7148, 7149, 7150]), ((7, 73, [0, 1, 1, 35]), [6138]), ((7, 77, [0, 2, 1, 5]), [4147]), ((1, 81, [0, 4, 4]), [1173]), ((9, 84, [0, 1, 1, 307, 4]), [5097, 5098, 7205]), ((1, 87, [0, 2, 15]), [6037, 6038]), ((9, 90, [0, 1, 1, 270, 15]), [49, 7206, 7208]), ((7, 93, [11]), [7210])]
def lk_15 : LTb := [(1, 64, [0, 8, 15]), (10, 64, [0, 8, 15]), (1, 28, [1, 0, 15]), (1, 67, [1, 7, 4]), (9, 38, [0, 0, 1, 331, 22]), (1, 70, [1, 3, 15]), (1, 18, [1, 6, 15]), (1, 9, [1, 4, 15]), (1, 57, [1, 10, 4]), (1, 15, [1, 5, 15]), (1, 21, [1, 7, 15]), (1, 32, [1, 8, 4]), (9, 44, [0, 1, 2, 332, 22]), (5, 48, [11]), (1, 50, [0, 0, 11]), (1, 54, [0, 1, 11]), (8, 60, [0, 1, 1, 105, 13, 14, 15]), (8, 3, [0, 3, 0, 99, 13, 14, 15]), (11, 9, [1, 4, 15]), (11, 15, [1, 5, 15]), (11, 18, [1, 6, 15]), (11, 21, [1, 7, 15]), (9, 24, [0, 1, 0, 100, 15]), (7, 73, [0, 1, 1, 35]), (7, 77, [0, 2, 1, 5]), (1, 81, [0, 4, 4]), (9, 84, [0, 1, 1, 307, 4]), (1, 87, [0, 2, 15]), (9, 90, [0, 1, 1, 270, 15]), (7, 93, [11])]
theorem lnt_15_ok : ∀ f ∈ lk_15, LNKf "OtherTown$Fits" f := by
  have h : ltB "OtherTown$Fits" lnt_15 = true := by decide +kernel
  have e : lnt_15.map (·.1) = lk_15 := by decide +kernel
  rw [← e]
  exact ltB_ok h
def vs_15_0 : List (Nat × Nat) := [(262, 1037), (263, 1037), (264, 1037), (265, 1037), (266, 1037), (267, 1037), (268, 1037), (269, 1037), (270, 1037)]
theorem vs_15_0_ok : ∀ q ∈ vs_15_0, VAL q.1 := by
  have h : vs_15_0.all (valB awL "OtherTown$Fits" lk_15) = true := by decide +kernel
  have hc : ∀ q ∈ vs_15_0, CW q.1 := List.forall_mem_cons.mpr ⟨cw_262, List.forall_mem_cons.mpr ⟨cw_263, List.forall_mem_cons.mpr ⟨cw_264, List.forall_mem_cons.mpr ⟨cw_265, List.forall_mem_cons.mpr ⟨cw_266, List.forall_mem_cons.mpr ⟨cw_267, List.forall_mem_cons.mpr ⟨cw_268, List.forall_mem_cons.mpr ⟨cw_269, List.forall_mem_cons.mpr ⟨cw_270, fun _ h => absurd h List.not_mem_nil⟩⟩⟩⟩⟩⟩⟩⟩⟩
  exact fun q hq => valB_ok lnt_15_ok (hc q hq) (List.all_eq_true.mp h q hq)
theorem cw_271 : CW 271 := lw_g (lw_at lw_m1 150 rfl) rfl
theorem cw_272 : CW 272 := lw_g (lw_at lw_m2 237 rfl) rfl
theorem cw_273 : CW 273 := lw_g (lw_at lw_m3 1 rfl) rfl
theorem cw_274 : CW 274 := lw_g (lw_at lw_m3 76 rfl) rfl
theorem cw_275 : CW 275 := lw_g (lw_at lw_m3 80 rfl) rfl
theorem cw_276 : CW 276 := lw_g (lw_at lw_m3 84 rfl) rfl
theorem cw_277 : CW 277 := lw_g (lw_at lw_m3 88 rfl) rfl
theorem cw_278 : CW 278 := lw_g (lw_at lw_m3 93 rfl) rfl
theorem cw_279 : CW 279 := lw_g (lw_at lw_m3 97 rfl) rfl
theorem cw_280 : CW 280 := lw_g (lw_at lw_m3 106 rfl) rfl
theorem cw_281 : CW 281 := lw_g (lw_at lw_m3 110 rfl) rfl
theorem cw_282 : CW 282 := lw_g (lw_at lw_m3 118 rfl) rfl
theorem cw_283 : CW 283 := lw_g (lw_at lw_m3 126 rfl) rfl
theorem cw_284 : CW 284 := lw_g (lw_at lw_m3 130 rfl) rfl
theorem cw_285 : CW 285 := lw_g (lw_at lw_m4 35 rfl) rfl
theorem cw_286 : CW 286 := lw_g (lw_at lw_m4 39 rfl) rfl
theorem cw_287 : CW 287 := lw_g (lw_at lw_m4 129 rfl) rfl
theorem cw_288 : CW 288 := lw_g (lw_at lw_m4 140 rfl) rfl
theorem cw_289 : CW 289 := lw_g (lw_at lw_m4 144 rfl) rfl
theorem cw_290 : CW 290 := lw_g (lw_at lw_m4 152 rfl) rfl
theorem cw_291 : CW 291 := lw_g (lw_at lw_m4 160 rfl) rfl
theorem cw_292 : CW 292 := lw_g (lw_at lw_m4 164 rfl) rfl
theorem cw_293 : CW 293 := lw_g (lw_at lw_m4 168 rfl) rfl
theorem cw_294 : CW 294 := lw_g (lw_at lw_m4 172 rfl) rfl
theorem cw_295 : CW 295 := lw_g (lw_at lw_m4 191 rfl) rfl
theorem cw_296 : CW 296 := lw_g (lw_at lw_m4 195 rfl) rfl
def lnt_16 : List ((Nat × Nat × List Nat) × List Nat) := [((8, 3, [8]), [1048, 1049, 1151]), ((2, 9, [4]), [1008, 1152, 1153]), ((8, 11, [0, 0, 0, 300, 4]), [1155]), ((11, 12, [1, 1, 2]), [2217]), ((11, 18, [1, 0, 2]), [2216]), ((9, 22, [0, 0, 2, 298, 3]), [1234, 1235, 1236]), ((11, 28, [1, 2, 2]), [2218]), ((9, 119, [0, 0, 0, 273, 2]), [2, 2238, 3000]), ((9, 122, [0, 0, 1, 296, 2]), [28, 4192, 4194]), ((1, 28, [1, 2, 2]), [2218]), ((1, 46, [0, 0, 5]), [2010]), ((9, 56, [0, 1, 0, 275, 2]), [4, 3077, 3079]), ((1, 12, [1, 1, 2]), [2217]), ((1, 125, [0, 0, 4]), [1161]), ((1, 98, [1, 6, 4]), [1182]), ((9, 128, [0, 0, 1, 338, 22]), [4196, 4197, 4198]), ((1, 113, [1, 7, 4]), [1191]), ((9, 36, [0, 0, 1, 276, 2]), [5, 3081, 3083]), ((1, 81, [1, 3, 5]), [2016]), ((0, 131, [1, 0]), []), ((9, 133, [0, 0, 1, 355, 24]), [3003, 3004, 3005]), ((0, 139, [1, 1]), []), ((9, 140, [0, 1, 1, 357, 24]), [3057, 3058, 3059]), ((0, 144, [1, 2]), []), ((0, 145, [1, 3]), []), ((0, 146, [1, 4]), []), ((0, 148, [1, 5]), []), ((0, 150, [1, 6]), []), ((0, 152, [1, 7]), []), ((0, 154, [1, 8]), []), ((0, 156, [1, 9]), []), ((9, 158, [0, 0, 0, 274, 2]), [3, 3073, 3075]), ((9, 161, [0, 0, 0, 282, 2]), [11, 3115, 3117]), ((9, 163, [0, 0, 0, 285, 2]), [17, 4032, 4034]), ((9, 166, [0, 0, 0, 288, 2]), [20, 4137, 4139]), ((9, 168, [0, 0, 0, 290, 2]), [22, 4149, 4151]), ((9, 170, [0, 0, 0, 292, 2]), [24, 4161, 4163]), ((9, 172, [0, 0, 0, 293, 2]), [25, 4165, 4167]), ((9, 174, [0, 0, 0, 294, 2]), [26, 4169, 4171]), ((9, 176, [0, 0, 0, 295, 2]), [27, 4188, 4190]), ((9, 49, [0, 0, 0, 277, 2]), [6, 3085, 3087]), ((0, 178, [1, 10]), []), ((9, 179, [0, 3, 1, 278, 2]), [7, 3090, 3092]), ((0, 183, [1, 11]), []), ((0, 185, [1, 12]), []), ((0, 187, [1, 13]), []), ((10, 125, [0, 0, 4]), [1161]), ((10, 189, [0, 1, 4]), [1164]), ((10, 191, [0, 2, 4]), [1167]), ((10, 193, [0, 3, 4]), [1170]), ((10, 32, [0, 3, 2]), [2219]), ((1, 40, [0, 1, 5]), [2012]), ((10, 45, [0, 4, 2]), [2221]), ((1, 32, [0, 3, 2]), [2219]), ((1, 18, [1, 0, 2]), [2216]), ((10, 28, [1, 2, 2]), [2218]), ((9, 71, [0, 1, 0, 279, 2]), [8, 3094, 3096]), ((9, 75, [0, 2, 1, 280, 2]), [9, 3103, 3105]), ((9, 52, [0, 1, 1, 311, 5]), [3098, 3099, 3100]), ((9, 67, [0, 2, 1, 281, 2]), [10, 3107, 3109]), ((1, 60, [0, 2, 5]), [2014]), ((7, 63, [0, 3, 1, 3]), [1124]), ((9, 195, [0, 0, 1, 331, 22]), [3119, 3120, 3121]), ((9, 198, [0, 2, 0, 283, 2]), [12, 3123, 3125]), ((9, 202, [0, 0, 2, 284, 2]), [13, 3127, 3129]), ((0, 206, [1, 14]), []), ((0, 208, [1, 15]), []), ((0, 210, [1, 16]), []), ((9, 212, [0, 1, 1, 304, 4]), [3176, 3177, 3178]), ((1, 215, [1, 10, 4]), [1202]), ((1, 219, [0, 4, 4]), [1175]), ((2, 108, [6]), [1021, 3180, 3181]), ((8, 221, [0, 4, 0, 313, 6]), [3182, 3183]), ((9, 224, [0, 1, 1, 334, 22]), [3213, 3214, 3215]), ((10, 219, [0, 4, 4]), [1175]), ((9, 78, [0, 0, 1, 312, 5]), [3131, 3132, 3133]), ((9, 85, [0, 1, 1, 301, 4]), [3145, 3146, 3147]), ((9, 246, [0, 1, 2, 286, 2]), [18, 4036, 4038]), ((0, 250, [1, 21]), []), ((9, 95, [0, 1, 1, 302, 4]), [3150, 3151, 4125]), ((9, 91, [0, 1, 1, 287, 2]), [19, 4126, 4128]), ((10, 252, [0, 1, 7, 8, 9, 10]), [4054]), ((1, 252, [0, 1, 7, 8, 9, 10]), [4054]), ((9, 102, [0, 1, 2, 332, 22]), [3155, 3156, 4130]), ((5, 108, [6]), [3180]), ((1, 110, [0, 1, 6]), [3190]), ((10, 118, [0, 2, 7, 8, 9, 10]), [4060]), ((1, 118, [0, 2, 7, 8, 9, 10]), [4060]), ((9, 255, [0, 1, 1, 305, 4]), [4131, 4132, 4133]), ((12, 258, [1, 22]), []), ((10, 260, [0, 3, 7, 8, 9, 10]), [4064]), ((12, 262, [1, 23]), []), ((10, 264, [0, 4, 7, 8, 9, 10]), [4067]), ((0, 227, [1, 17]), []), ((0, 229, [1, 18]), []), ((0, 231, [1, 19]), []), ((0, 233, [1, 20]), []), ((2, 116, [7]), [1022, 4044, 4045]), ((8, 235, [0, 1, 0, 314, 7, 8, 9, 10]), [4046, 4047]), ((2, 237, [8]), [1023, 4085, 4086]), ((8, 239, [0, 1, 0, 319, 8]), [4087, 4088]), ((2, 240, [9]), [1024, 4098, 4099]), ((8, 242, [0, 1, 0, 77, 9]), [4100, 4101]), ((2, 243, [10]), [1025, 4111, 4112]), ((8, 245, [0, 1, 0, 80, 10]), [4113, 4114]), ((1, 266, [0, 11, 4]), [1204]), ((9, 268, [0, 0, 1, 289, 2]), [21, 4141, 4143]), ((9, 87, [0, 1, 1, 303, 4]), [3169, 3170, 4145]), ((5, 116, [7, 8, 9, 10]), [4044]), ((1, 270, [0, 5, 7, 8, 9, 10]), [4071]), ((7, 271, [0, 2, 1, 5]), [4147]), ((10, 270, [0, 5, 7, 8, 9, 10]), [4071]), ((10, 266, [0, 11, 4]), [1204]), ((1, 275, [0, 12, 4]), [1205]), ((9, 278, [0, 2, 1, 306, 4]), [4153, 4154, 4155]), ((9, 280, [0, 1, 1, 291, 2]), [23, 4157, 4159]), ((1, 283, [1, 9, 4]), [1197]), ((10, 275, [0, 12, 4]), [1205]), ((1, 285, [1, 4, 6]), [3201]), ((10, 285, [1, 4, 6]), [3201]), ((1, 287, [0, 5, 4]), [1178]), ((10, 287, [0, 5, 4]), [1178]), ((1, 289, [1, 8, 4]), [1194]), ((2, 292, [11]), [1026, 4173, 4174]), ((8, 294, [0, 2, 0, 83, 11]), [4175, 4176]), ((1, 296, [0, 2, 6]), [3196]), ((1, 297, [0, 3, 6]), [3199])]
def lk_16 : LTb := [(8, 3, [8]), (2, 9, [4]), (8, 11, [0, 0, 0, 300, 4]), (11, 12, [1, 1, 2]), (11, 18, [1, 0, 2]), (9, 22, [0, 0, 2, 298, 3]), (11, 28, [1, 2, 2]), (9, 119, [0, 0, 0, 273, 2]), (9, 122, [0, 0, 1, 296, 2]), (1, 28, [1, 2, 2]), (1, 46, [0, 0, 5]), (9, 56, [0, 1, 0, 275, 2]), (1, 12, [1, 1, 2]), (1, 125, [0, 0, 4]), (1, 98, [1, 6, 4]), (9, 128, [0, 0, 1, 338, 22]), (1, 113, [1, 7, 4]), (9, 36, [0, 0, 1, 276, 2]), (1, 81, [1, 3, 5]), (0, 131, [1, 0]), (9, 133, [0, 0, 1, 355, 24]), (0, 139, [1, 1]), (9, 140, [0, 1, 1, 357, 24]), (0, 144, [1, 2]), (0, 145, [1, 3]), (0, 146, [1, 4]), (0, 148, [1, 5]), (0, 150, [1, 6]), (0, 152, [1, 7]), (0, 154, [1, 8]), (0, 156, [1, 9]), (9, 158, [0, 0, 0, 274, 2]), (9, 161, [0, 0, 0, 282, 2]), (9, 163, [0, 0, 0, 285, 2]), (9, 166, [0, 0, 0, 288, 2]), (9, 168, [0, 0, 0, 290, 2]), (9, 170, [0, 0, 0, 292, 2]), (9, 172, [0, 0, 0, 293, 2]), (9, 174, [0, 0, 0, 294, 2]), (9, 176, [0, 0, 0, 295, 2]), (9, 49, [0, 0, 0, 277, 2]), (0, 178, [1, 10]), (9, 179, [0, 3, 1, 278, 2]), (0, 183, [1, 11]), (0, 185, [1, 12]), (0, 187, [1, 13]), (10, 125, [0, 0, 4]), (10, 189, [0, 1, 4]), (10, 191, [0, 2, 4]), (10, 193, [0, 3, 4]), (10, 32, [0, 3, 2]), (1, 40, [0, 1, 5]), (10, 45, [0, 4, 2]), (1, 32, [0, 3, 2]), (1, 18, [1, 0, 2]), (10, 28, [1, 2, 2]), (9, 71, [0, 1, 0, 279, 2]), (9, 75, [0, 2, 1, 280, 2]), (9, 52, [0, 1, 1, 311, 5]), (9, 67, [0, 2, 1, 281, 2]), (1, 60, [0, 2, 5]), (7, 63, [0, 3, 1, 3]), (9, 195, [0, 0, 1, 331, 22]), (9, 198, [0, 2, 0, 283, 2]), (9, 202, [0, 0, 2, 284, 2]), (0, 206, [1, 14]), (0, 208, [1, 15]), (0, 210, [1, 16]), (9, 212, [0, 1, 1, 304, 4]), (1, 215, [1, 10, 4]), (1, 219, [0, 4, 4]), (2, 108, [6]), (8, 221, [0, 4, 0, 313, 6]), (9, 224, [0, 1, 1, 334, 22]), (10, 219, [0, 4, 4]), (9, 78, [0, 0, 1, 312, 5]), (9, 85, [0, 1, 1, 301, 4]), (9, 246, [0, 1, 2, 286, 2]), (0, 250, [1, 21]), (9, 95, [0, 1, 1, 302, 4]), (9, 91, [0, 1, 1, 287, 2]), (10, 252, [0, 1, 7, 8, 9, 10]), (1, 252, [0, 1, 7, 8, 9, 10]), (9, 102, [0, 1, 2, 332, 22]), (5, 108, [6]), (1, 110, [0, 1, 6]), (10, 118, [0, 2, 7, 8, 9, 10]), (1, 118, [0, 2, 7, 8, 9, 10]), (9, 255, [0, 1, 1, 305, 4]), (12, 258, [1, 22]), (10, 260, [0, 3, 7, 8, 9, 10]), (12, 262, [1, 23]), (10, 264, [0, 4, 7, 8, 9, 10]), (0, 227, [1, 17]), (0, 229, [1, 18]), (0, 231, [1, 19]), (0, 233, [1, 20]), (2, 116, [7]), (8, 235, [0, 1, 0, 314, 7, 8, 9, 10]), (2, 237, [8]), (8, 239, [0, 1, 0, 319, 8]), (2, 240, [9]), (8, 242, [0, 1, 0, 77, 9]), (2, 243, [10]), (8, 245, [0, 1, 0, 80, 10]), (1, 266, [0, 11, 4]), (9, 268, [0, 0, 1, 289, 2]), (9, 87, [0, 1, 1, 303, 4]), (5, 116, [7, 8, 9, 10]), (1, 270, [0, 5, 7, 8, 9, 10]), (7, 271, [0, 2, 1, 5]), (10, 270, [0, 5, 7, 8, 9, 10]), (10, 266, [0, 11, 4]), (1, 275, [0, 12, 4]), (9, 278, [0, 2, 1, 306, 4]), (9, 280, [0, 1, 1, 291, 2]), (1, 283, [1, 9, 4]), (10, 275, [0, 12, 4]), (1, 285, [1, 4, 6]), (10, 285, [1, 4, 6]), (1, 287, [0, 5, 4]), (10, 287, [0, 5, 4]), (1, 289, [1, 8, 4]), (2, 292, [11]), (8, 294, [0, 2, 0, 83, 11]), (1, 296, [0, 2, 6]), (1, 297, [0, 3, 6])]
theorem lnt_16_ok : ∀ f ∈ lk_16, LNKf "OtherTown$Reader" f := by
  have h : ltB "OtherTown$Reader" lnt_16 = true := by decide +kernel
  have e : lnt_16.map (·.1) = lk_16 := by decide +kernel
  rw [← e]
  exact ltB_ok h
def vs_16_0 : List (Nat × Nat) := [(271, 1006), (272, 1006), (273, 1006), (274, 1006), (275, 1006), (276, 1006), (277, 1006), (278, 1006), (279, 1006), (280, 1006), (281, 1006), (282, 1006), (283, 1006), (284, 1006), (285, 1006), (286, 1006), (287, 1006), (288, 1006), (289, 1006), (290, 1006)]
theorem vs_16_0_ok : ∀ q ∈ vs_16_0, VAL q.1 := by
  have h : vs_16_0.all (valB awL "OtherTown$Reader" lk_16) = true := by decide +kernel
  have hc : ∀ q ∈ vs_16_0, CW q.1 := List.forall_mem_cons.mpr ⟨cw_271, List.forall_mem_cons.mpr ⟨cw_272, List.forall_mem_cons.mpr ⟨cw_273, List.forall_mem_cons.mpr ⟨cw_274, List.forall_mem_cons.mpr ⟨cw_275, List.forall_mem_cons.mpr ⟨cw_276, List.forall_mem_cons.mpr ⟨cw_277, List.forall_mem_cons.mpr ⟨cw_278, List.forall_mem_cons.mpr ⟨cw_279, List.forall_mem_cons.mpr ⟨cw_280, List.forall_mem_cons.mpr ⟨cw_281, List.forall_mem_cons.mpr ⟨cw_282, List.forall_mem_cons.mpr ⟨cw_283, List.forall_mem_cons.mpr ⟨cw_284, List.forall_mem_cons.mpr ⟨cw_285, List.forall_mem_cons.mpr ⟨cw_286, List.forall_mem_cons.mpr ⟨cw_287, List.forall_mem_cons.mpr ⟨cw_288, List.forall_mem_cons.mpr ⟨cw_289, List.forall_mem_cons.mpr ⟨cw_290, fun _ h => absurd h List.not_mem_nil⟩⟩⟩⟩⟩⟩⟩⟩⟩⟩⟩⟩⟩⟩⟩⟩⟩⟩⟩⟩
  exact fun q hq => valB_ok lnt_16_ok (hc q hq) (List.all_eq_true.mp h q hq)
def vs_16_1 : List (Nat × Nat) := [(291, 1006), (292, 1006), (293, 1006), (294, 1006), (295, 1006), (296, 1006)]
theorem vs_16_1_ok : ∀ q ∈ vs_16_1, VAL q.1 := by
  have h : vs_16_1.all (valB awL "OtherTown$Reader" lk_16) = true := by decide +kernel
  have hc : ∀ q ∈ vs_16_1, CW q.1 := List.forall_mem_cons.mpr ⟨cw_291, List.forall_mem_cons.mpr ⟨cw_292, List.forall_mem_cons.mpr ⟨cw_293, List.forall_mem_cons.mpr ⟨cw_294, List.forall_mem_cons.mpr ⟨cw_295, List.forall_mem_cons.mpr ⟨cw_296, fun _ h => absurd h List.not_mem_nil⟩⟩⟩⟩⟩⟩
  exact fun q hq => valB_ok lnt_16_ok (hc q hq) (List.all_eq_true.mp h q hq)
theorem cw_297 : CW 297 := lw_g (lw_at lw_m1 136 rfl) rfl
theorem cw_298 : CW 298 := lw_g (lw_at lw_m1 237 rfl) rfl
theorem cw_299 : CW 299 := lw_g (lw_at lw_m2 1 rfl) rfl
def lnt_17 : List ((Nat × Nat × List Nat) × List Nat) := [((8, 3, [8]), [1048, 1049, 1137]), ((11, 9, [1, 0, 3]), [1138]), ((11, 15, [0, 1, 3]), [1139]), ((9, 22, [0, 0, 1, 299, 3]), [1, 1238, 2000]), ((1, 19, [0, 2, 3]), [1140]), ((10, 19, [0, 2, 3]), [1140]), ((1, 15, [0, 1, 3]), [1139]), ((2, 26, [5]), [1009, 2002, 2003]), ((0, 28, [1, 0]), []), ((8, 30, [0, 4, 0, 310, 5]), [2005, 2006]), ((7, 33, [0, 3, 1, 3]), [1124]), ((2, 37, [23]), [1011, 2027, 2028]), ((8, 39, [0, 0, 0, 348, 23]), [2029, 2030]), ((9, 40, [0, 1, 2, 349, 23]), [2058, 2059, 2060]), ((9, 44, [0, 0, 2, 350, 23]), [2153, 2154, 2155]), ((1, 9, [1, 0, 3]), [1138])]
def lk_17 : LTb := [(8, 3, [8]), (11, 9, [1, 0, 3]), (11, 15, [0, 1, 3]), (9, 22, [0, 0, 1, 299, 3]), (1, 19, [0, 2, 3]), (10, 19, [0, 2, 3]), (1, 15, [0, 1, 3]), (2, 26, [5]), (0, 28, [1, 0]), (8, 30, [0, 4, 0, 310, 5]), (7, 33, [0, 3, 1, 3]), (2, 37, [23]), (8, 39, [0, 0, 0, 348, 23]), (9, 40, [0, 1, 2, 349, 23]), (9, 44, [0, 0, 2, 350, 23]), (1, 9, [1, 0, 3])]
theorem lnt_17_ok : ∀ f ∈ lk_17, LNKf "OtherTown$Tokens" f := by
  have h : ltB "OtherTown$Tokens" lnt_17 = true := by decide +kernel
  have e : lnt_17.map (·.1) = lk_17 := by decide +kernel
  rw [← e]
  exact ltB_ok h
def vs_17_0 : List (Nat × Nat) := [(297, 1007), (298, 1007), (299, 1007)]
theorem vs_17_0_ok : ∀ q ∈ vs_17_0, VAL q.1 := by
  have h : vs_17_0.all (valB awL "OtherTown$Tokens" lk_17) = true := by decide +kernel
  have hc : ∀ q ∈ vs_17_0, CW q.1 := List.forall_mem_cons.mpr ⟨cw_297, List.forall_mem_cons.mpr ⟨cw_298, List.forall_mem_cons.mpr ⟨cw_299, fun _ h => absurd h List.not_mem_nil⟩⟩⟩
  exact fun q hq => valB_ok lnt_17_ok (hc q hq) (List.all_eq_true.mp h q hq)
theorem cw_300 : CW 300 := lw_g (lw_at lw_m1 156 rfl) rfl
theorem cw_301 : CW 301 := lw_g (lw_at lw_m3 148 rfl) rfl
theorem cw_302 : CW 302 := lw_g (lw_at lw_m3 152 rfl) rfl
theorem cw_303 : CW 303 := lw_g (lw_at lw_m3 171 rfl) rfl
theorem cw_304 : CW 304 := lw_g (lw_at lw_m3 179 rfl) rfl
theorem cw_305 : CW 305 := lw_g (lw_at lw_m4 134 rfl) rfl
theorem cw_306 : CW 306 := lw_g (lw_at lw_m4 156 rfl) rfl
theorem cw_307 : CW 307 := lw_g (lw_at lw_m5 99 rfl) rfl
theorem cw_308 : CW 308 := lw_g (lw_at lw_m5 176 rfl) rfl
theorem cw_309 : CW 309 := lw_g (lw_at lw_m6 143 rfl) rfl
def lnt_18 : List ((Nat × Nat × List Nat) × List Nat) := [((8, 3, [8]), [1048, 1049, 1157]), ((11, 9, [0, 5, 4]), [1176]), ((2, 15, [22]), [1004, 1051, 1158]), ((8, 17, [0, 0, 0, 330, 22]), [1053, 1159]), ((11, 18, [1, 6, 4]), [1180]), ((11, 22, [1, 7, 4]), [1184]), ((11, 25, [1, 8, 4]), [1192]), ((11, 28, [1, 9, 4]), [1196]), ((11, 32, [1, 10, 4]), [1198]), ((9, 58, [0, 1, 1, 302, 4]), [3149, 3150, 3151]), ((9, 62, [0, 1, 1, 303, 4]), [3168, 3169, 3170]), ((1, 18, [1, 6, 4]), [1180]), ((9, 35, [0, 0, 1, 331, 22]), [3120, 3121, 3153]), ((9, 39, [0, 1, 2, 332, 22]), [3154, 3155, 3156]), ((5, 43, [6]), [3166]), ((1, 45, [1, 0, 6]), [3187]), ((9, 49, [0, 1, 1, 357, 24]), [3058, 3059, 3167]), ((1, 22, [1, 7, 4]), [1184]), ((5, 55, [7, 8, 9, 10]), [3172]), ((1, 57, [1, 0, 7, 8, 9, 10]), [4051]), ((1, 65, [0, 1, 6]), [3189]), ((1, 68, [0, 2, 6]), [3194]), ((1, 71, [0, 2, 7, 8, 9, 10]), [4058]), ((1, 28, [1, 9, 4]), [1196]), ((1, 32, [1, 10, 4]), [1198]), ((9, 72, [0, 2, 1, 306, 4]), [4154, 4155, 5177])]
def lk_18 : LTb := [(8, 3, [8]), (11, 9, [0, 5, 4]), (2, 15, [22]), (8, 17, [0, 0, 0, 330, 22]), (11, 18, [1, 6, 4]), (11, 22, [1, 7, 4]), (11, 25, [1, 8, 4]), (11, 28, [1, 9, 4]), (11, 32, [1, 10, 4]), (9, 58, [0, 1, 1, 302, 4]), (9, 62, [0, 1, 1, 303, 4]), (1, 18, [1, 6, 4]), (9, 35, [0, 0, 1, 331, 22]), (9, 39, [0, 1, 2, 332, 22]), (5, 43, [6]), (1, 45, [1, 0, 6]), (9, 49, [0, 1, 1, 357, 24]), (1, 22, [1, 7, 4]), (5, 55, [7, 8, 9, 10]), (1, 57, [1, 0, 7, 8, 9, 10]), (1, 65, [0, 1, 6]), (1, 68, [0, 2, 6]), (1, 71, [0, 2, 7, 8, 9, 10]), (1, 28, [1, 9, 4]), (1, 32, [1, 10, 4]), (9, 72, [0, 2, 1, 306, 4])]
theorem lnt_18_ok : ∀ f ∈ lk_18, LNKf "OtherTown$Towns" f := by
  have h : ltB "OtherTown$Towns" lnt_18 = true := by decide +kernel
  have e : lnt_18.map (·.1) = lk_18 := by decide +kernel
  rw [← e]
  exact ltB_ok h
def vs_18_0 : List (Nat × Nat) := [(300, 1008), (301, 1008), (302, 1008), (303, 1008), (304, 1008), (305, 1008), (306, 1008), (307, 1008), (308, 1008), (309, 1008)]
theorem vs_18_0_ok : ∀ q ∈ vs_18_0, VAL q.1 := by
  have h : vs_18_0.all (valB awL "OtherTown$Towns" lk_18) = true := by decide +kernel
  have hc : ∀ q ∈ vs_18_0, CW q.1 := List.forall_mem_cons.mpr ⟨cw_300, List.forall_mem_cons.mpr ⟨cw_301, List.forall_mem_cons.mpr ⟨cw_302, List.forall_mem_cons.mpr ⟨cw_303, List.forall_mem_cons.mpr ⟨cw_304, List.forall_mem_cons.mpr ⟨cw_305, List.forall_mem_cons.mpr ⟨cw_306, List.forall_mem_cons.mpr ⟨cw_307, List.forall_mem_cons.mpr ⟨cw_308, List.forall_mem_cons.mpr ⟨cw_309, fun _ h => absurd h List.not_mem_nil⟩⟩⟩⟩⟩⟩⟩⟩⟩⟩
  exact fun q hq => valB_ok lnt_18_ok (hc q hq) (List.all_eq_true.mp h q hq)
theorem cw_310 : CW 310 := lw_g (lw_at lw_m2 7 rfl) rfl
theorem cw_311 : CW 311 := lw_g (lw_at lw_m3 101 rfl) rfl
theorem cw_312 : CW 312 := lw_g (lw_at lw_m3 134 rfl) rfl
def lnt_19 : List ((Nat × Nat × List Nat) × List Nat) := [((8, 1, [8]), [1048, 1049, 2008]), ((11, 7, [0, 0, 5]), [2009]), ((11, 13, [0, 1, 5]), [2011]), ((11, 16, [0, 2, 5]), [2013]), ((11, 19, [1, 3, 5]), [2015]), ((1, 7, [0, 0, 5]), [2009]), ((1, 19, [1, 3, 5]), [2015]), ((9, 23, [0, 1, 1, 357, 24]), [3058, 3059, 3102]), ((9, 29, [0, 0, 1, 355, 24]), [3004, 3005, 3135]), ((0, 33, [1, 1]), []), ((0, 35, [1, 2]), []), ((0, 37, [1, 3]), []), ((0, 39, [1, 4]), []), ((0, 41, [1, 5]), []), ((0, 43, [1, 6]), []), ((0, 45, [1, 7]), []), ((0, 47, [1, 8]), []), ((0, 49, [1, 9]), [])]
def lk_19 : LTb := [(8, 1, [8]), (11, 7, [0, 0, 5]), (11, 13, [0, 1, 5]), (11, 16, [0, 2, 5]), (11, 19, [1, 3, 5]), (1, 7, [0, 0, 5]), (1, 19, [1, 3, 5]), (9, 23, [0, 1, 1, 357, 24]), (9, 29, [0, 0, 1, 355, 24]), (0, 33, [1, 1]), (0, 35, [1, 2]), (0, 37, [1, 3]), (0, 39, [1, 4]), (0, 41, [1, 5]), (0, 43, [1, 6]), (0, 45, [1, 7]), (0, 47, [1, 8]), (0, 49, [1, 9])]
theorem lnt_19_ok : ∀ f ∈ lk_19, LNKf "OtherTown$Token" f := by
  have h : ltB "OtherTown$Token" lnt_19 = true := by decide +kernel
  have e : lnt_19.map (·.1) = lk_19 := by decide +kernel
  rw [← e]
  exact ltB_ok h
def vs_19_0 : List (Nat × Nat) := [(310, 1009), (311, 1009), (312, 1009)]
theorem vs_19_0_ok : ∀ q ∈ vs_19_0, VAL q.1 := by
  have h : vs_19_0.all (valB awL "OtherTown$Token" lk_19) = true := by decide +kernel
  have hc : ∀ q ∈ vs_19_0, CW q.1 := List.forall_mem_cons.mpr ⟨cw_310, List.forall_mem_cons.mpr ⟨cw_311, List.forall_mem_cons.mpr ⟨cw_312, fun _ h => absurd h List.not_mem_nil⟩⟩⟩
  exact fun q hq => valB_ok lnt_19_ok (hc q hq) (List.all_eq_true.mp h q hq)
theorem cw_313 : CW 313 := lw_g (lw_at lw_m3 184 rfl) rfl
def lnt_20 : List ((Nat × Nat × List Nat) × List Nat) := [((8, 1, [8]), [1048, 1049, 3185]), ((11, 7, [1, 0, 6]), [3186]), ((11, 13, [0, 1, 6]), [3188]), ((11, 17, [0, 2, 6]), [3193]), ((11, 20, [0, 3, 6]), [3197])]
def lk_20 : LTb := [(8, 1, [8]), (11, 7, [1, 0, 6]), (11, 13, [0, 1, 6]), (11, 17, [0, 2, 6]), (11, 20, [0, 3, 6])]
theorem lnt_20_ok : ∀ f ∈ lk_20, LNKf "OtherTown$House" f := by
  have h : ltB "OtherTown$House" lnt_20 = true := by decide +kernel
  have e : lnt_20.map (·.1) = lk_20 := by decide +kernel
  rw [← e]
  exact ltB_ok h
def vs_20_0 : List (Nat × Nat) := [(313, 1021)]
theorem vs_20_0_ok : ∀ q ∈ vs_20_0, VAL q.1 := by
  have h : vs_20_0.all (valB awL "OtherTown$House" lk_20) = true := by decide +kernel
  have hc : ∀ q ∈ vs_20_0, CW q.1 := List.forall_mem_cons.mpr ⟨cw_313, fun _ h => absurd h List.not_mem_nil⟩
  exact fun q hq => valB_ok lnt_20_ok (hc q hq) (List.all_eq_true.mp h q hq)
theorem cw_314 : CW 314 := lw_g (lw_at lw_m4 48 rfl) rfl
theorem cw_315 : CW 315 := lw_g (lw_at lw_m5 61 rfl) rfl
theorem cw_316 : CW 316 := lw_g (lw_at lw_m5 123 rfl) rfl
theorem cw_317 : CW 317 := lw_g (lw_at lw_m5 137 rfl) rfl
theorem cw_318 : CW 318 := lw_g (lw_at lw_m5 147 rfl) rfl
def lnt_21 : List ((Nat × Nat × List Nat) × List Nat) := [((8, 1, [8]), [1048, 1049, 4049]), ((11, 7, [1, 0, 7, 8, 9, 10]), [4050]), ((1, 13, [0, 4, 7, 8, 9, 10]), [4065])]
def lk_21 : LTb := [(8, 1, [8]), (11, 7, [1, 0, 7, 8, 9, 10]), (1, 13, [0, 4, 7, 8, 9, 10])]
theorem lnt_21_ok : ∀ f ∈ lk_21, LNKf "OtherTown$Sleeper" f := by
  have h : ltB "OtherTown$Sleeper" lnt_21 = true := by decide +kernel
  have e : lnt_21.map (·.1) = lk_21 := by decide +kernel
  rw [← e]
  exact ltB_ok h
def vs_21_0 : List (Nat × Nat) := [(314, 1022), (315, 1022), (316, 1022), (317, 1022), (318, 1022)]
theorem vs_21_0_ok : ∀ q ∈ vs_21_0, VAL q.1 := by
  have h : vs_21_0.all (valB awL "OtherTown$Sleeper" lk_21) = true := by decide +kernel
  have hc : ∀ q ∈ vs_21_0, CW q.1 := List.forall_mem_cons.mpr ⟨cw_314, List.forall_mem_cons.mpr ⟨cw_315, List.forall_mem_cons.mpr ⟨cw_316, List.forall_mem_cons.mpr ⟨cw_317, List.forall_mem_cons.mpr ⟨cw_318, fun _ h => absurd h List.not_mem_nil⟩⟩⟩⟩⟩
  exact fun q hq => valB_ok lnt_21_ok (hc q hq) (List.all_eq_true.mp h q hq)
theorem cw_319 : CW 319 := lw_g (lw_at lw_m4 89 rfl) rfl
theorem cw_320 : CW 320 := lw_g (lw_at lw_m5 60 rfl) rfl
theorem cw_321 : CW 321 := lw_g (lw_at lw_m5 127 rfl) rfl
def lnt_22 : List ((Nat × Nat × List Nat) × List Nat) := [((8, 1, [0, 1, 0, 314, 7, 8, 9, 10]), [4047, 4090]), ((8, 7, [0, 1, 1, 316, 7, 8, 9, 10]), [4097, 5115, 5117, 5128]), ((6, 11, [1, 9, 7, 8, 10]), [5129])]
def lk_22 : LTb := [(8, 1, [0, 1, 0, 314, 7, 8, 9, 10]), (8, 7, [0, 1, 1, 316, 7, 8, 9, 10]), (6, 11, [1, 9, 7, 8, 10])]
theorem lnt_22_ok : ∀ f ∈ lk_22, LNKf "OtherTown$Snorer" f := by
  have h : ltB "OtherTown$Snorer" lnt_22 = true := by decide +kernel
  have e : lnt_22.map (·.1) = lk_22 := by decide +kernel
  rw [← e]
  exact ltB_ok h
def vs_22_0 : List (Nat × Nat) := [(319, 1023), (320, 1023), (321, 1023)]
theorem vs_22_0_ok : ∀ q ∈ vs_22_0, VAL q.1 := by
  have h : vs_22_0.all (valB awL "OtherTown$Snorer" lk_22) = true := by decide +kernel
  have hc : ∀ q ∈ vs_22_0, CW q.1 := List.forall_mem_cons.mpr ⟨cw_319, List.forall_mem_cons.mpr ⟨cw_320, List.forall_mem_cons.mpr ⟨cw_321, fun _ h => absurd h List.not_mem_nil⟩⟩⟩
  exact fun q hq => valB_ok lnt_22_ok (hc q hq) (List.all_eq_true.mp h q hq)
theorem cw_322 : CW 322 := lw_g (lw_at lw_m1 60 rfl) rfl
def lnt_23 : List ((Nat × Nat × List Nat) × List Nat) := [((8, 1, [8]), [1048, 1049, 1061])]
def lk_23 : LTb := [(8, 1, [8])]
theorem lnt_23_ok : ∀ f ∈ lk_23, LNKf "java/util/AbstractCollection" f := by
  have h : ltB "java/util/AbstractCollection" lnt_23 = true := by decide +kernel
  have e : lnt_23.map (·.1) = lk_23 := by decide +kernel
  rw [← e]
  exact ltB_ok h
def vs_23_0 : List (Nat × Nat) := [(322, 1002)]
theorem vs_23_0_ok : ∀ q ∈ vs_23_0, VAL q.1 := by
  have h : vs_23_0.all (valB awL "java/util/AbstractCollection" lk_23) = true := by decide +kernel
  have hc : ∀ q ∈ vs_23_0, CW q.1 := List.forall_mem_cons.mpr ⟨cw_322, fun _ h => absurd h List.not_mem_nil⟩
  exact fun q hq => valB_ok lnt_23_ok (hc q hq) (List.all_eq_true.mp h q hq)
theorem cw_323 : CW 323 := lw_g (lw_at lw_m1 57 rfl) rfl
def lnt_24 : List ((Nat × Nat × List Nat) × List Nat) := [((8, 1, [0, 0, 0, 322, 22]), [1058, 1059]), ((11, 7, [0, 0, 22]), [1066])]
def lk_24 : LTb := [(8, 1, [0, 0, 0, 322, 22]), (11, 7, [0, 0, 22])]
theorem lnt_24_ok : ∀ f ∈ lk_24, LNKf "java/util/AbstractList" f := by
  have h : ltB "java/util/AbstractList" lnt_24 = true := by decide +kernel
  have e : lnt_24.map (·.1) = lk_24 := by decide +kernel
  rw [← e]
  exact ltB_ok h
def vs_24_0 : List (Nat × Nat) := [(323, 1003)]
theorem vs_24_0_ok : ∀ q ∈ vs_24_0, VAL q.1 := by
  have h : vs_24_0.all (valB awL "java/util/AbstractList" lk_24) = true := by decide +kernel
  have hc : ∀ q ∈ vs_24_0, CW q.1 := List.forall_mem_cons.mpr ⟨cw_323, fun _ h => absurd h List.not_mem_nil⟩
  exact fun q hq => valB_ok lnt_24_ok (hc q hq) (List.all_eq_true.mp h q hq)
theorem cw_324 : CW 324 := lw_g (lw_at lw_m2 107 rfl) rfl
theorem cw_325 : CW 325 := lw_g (lw_at lw_m3 13 rfl) rfl
theorem cw_326 : CW 326 := lw_g (lw_at lw_m3 64 rfl) rfl
theorem cw_327 : CW 327 := lw_g (lw_at lw_m9 61 rfl) rfl
def lnt_25 : List ((Nat × Nat × List Nat) × List Nat) := [((7, 84, [0, 5, 1, 362]), [3014, 3015]), ((7, 9, [0, 2, 0, 352]), [2148, 9062])]
def lk_25 : LTb := [(7, 84, [0, 5, 1, 362]), (7, 9, [0, 2, 0, 352])]
theorem lnt_25_ok : ∀ f ∈ lk_25, LNKf "java/lang/StringLatin1" f := by
  have h : ltB "java/lang/StringLatin1" lnt_25 = true := by decide +kernel
  have e : lnt_25.map (·.1) = lk_25 := by decide +kernel
  rw [← e]
  exact ltB_ok h
def vs_25_0 : List (Nat × Nat) := [(324, 1018), (325, 1018), (326, 1018), (327, 1018)]
theorem vs_25_0_ok : ∀ q ∈ vs_25_0, VAL q.1 := by
  have h : vs_25_0.all (valB awL "java/lang/StringLatin1" lk_25) = true := by decide +kernel
  have hc : ∀ q ∈ vs_25_0, CW q.1 := List.forall_mem_cons.mpr ⟨cw_324, List.forall_mem_cons.mpr ⟨cw_325, List.forall_mem_cons.mpr ⟨cw_326, List.forall_mem_cons.mpr ⟨cw_327, fun _ h => absurd h List.not_mem_nil⟩⟩⟩⟩
  exact fun q hq => valB_ok lnt_25_ok (hc q hq) (List.all_eq_true.mp h q hq)
theorem cw_328 : CW 328 := lw_g (lw_at lw_m2 152 rfl) rfl
def lnt_26 : List ((Nat × Nat × List Nat) × List Nat) := []
def lk_26 : LTb := []
theorem lnt_26_ok : ∀ f ∈ lk_26, LNKf "jdk/internal/util/Preconditions" f := by
  have h : ltB "jdk/internal/util/Preconditions" lnt_26 = true := by decide +kernel
  have e : lnt_26.map (·.1) = lk_26 := by decide +kernel
  rw [← e]
  exact ltB_ok h
def vs_26_0 : List (Nat × Nat) := [(328, 1019)]
theorem vs_26_0_ok : ∀ q ∈ vs_26_0, VAL q.1 := by
  have h : vs_26_0.all (valB awL "jdk/internal/util/Preconditions" lk_26) = true := by decide +kernel
  have hc : ∀ q ∈ vs_26_0, CW q.1 := List.forall_mem_cons.mpr ⟨cw_328, fun _ h => absurd h List.not_mem_nil⟩
  exact fun q hq => valB_ok lnt_26_ok (hc q hq) (List.all_eq_true.mp h q hq)
theorem cw_329 : CW 329 := lw_g (lw_at lw_m3 160 rfl) rfl
def lnt_27 : List ((Nat × Nat × List Nat) × List Nat) := [((7, 105, [0, 3, 1, 328]), [2151, 3161])]
def lk_27 : LTb := [(7, 105, [0, 3, 1, 328])]
theorem lnt_27_ok : ∀ f ∈ lk_27, LNKf "java/util/Objects" f := by
  have h : ltB "java/util/Objects" lnt_27 = true := by decide +kernel
  have e : lnt_27.map (·.1) = lk_27 := by decide +kernel
  rw [← e]
  exact ltB_ok h
def vs_27_0 : List (Nat × Nat) := [(329, 1020)]
theorem vs_27_0_ok : ∀ q ∈ vs_27_0, VAL q.1 := by
  have h : vs_27_0.all (valB awL "java/util/Objects" lk_27) = true := by decide +kernel
  have hc : ∀ q ∈ vs_27_0, CW q.1 := List.forall_mem_cons.mpr ⟨cw_329, fun _ h => absurd h List.not_mem_nil⟩
  exact fun q hq => valB_ok lnt_27_ok (hc q hq) (List.all_eq_true.mp h q hq)
theorem cw_330 : CW 330 := lw_g (lw_at lw_m1 54 rfl) rfl
theorem cw_331 : CW 331 := lw_g (lw_at lw_m3 122 rfl) rfl
theorem cw_332 : CW 332 := lw_g (lw_at lw_m3 157 rfl) rfl
theorem cw_333 : CW 333 := lw_g (lw_at lw_m3 165 rfl) rfl
theorem cw_334 : CW 334 := lw_g (lw_at lw_m3 216 rfl) rfl
theorem cw_335 : CW 335 := lw_g (lw_at lw_m3 220 rfl) rfl
theorem cw_336 : CW 336 := lw_g (lw_at lw_m3 224 rfl) rfl
theorem cw_337 : CW 337 := lw_g (lw_at lw_m3 228 rfl) rfl
theorem cw_338 : CW 338 := lw_g (lw_at lw_m4 199 rfl) rfl
theorem cw_339 : CW 339 := lw_g (lw_at lw_m5 15 rfl) rfl
theorem cw_340 : CW 340 := lw_g (lw_at lw_m7 226 rfl) rfl
theorem cw_341 : CW 341 := lw_g (lw_at lw_m7 230 rfl) rfl
def lnt_28 : List ((Nat × Nat × List Nat) × List Nat) := [((8, 1, [0, 0, 0, 323, 22]), [1055, 1056]), ((14, 39, [1, 200]), [1062]), ((11, 9, [1, 1, 22]), [1064]), ((1, 48, [0, 2, 22]), [1065]), ((7, 118, [0, 2, 1, 329]), [3158, 3159]), ((9, 123, [0, 1, 2, 333, 22]), [3162, 3163, 3164]), ((1, 9, [1, 1, 22]), [1064]), ((1, 63, [0, 0, 22]), [1067, 1068]), ((10, 63, [0, 0, 22]), [1067, 1068]), ((9, 131, [0, 3, 0, 335, 22]), [14, 3217, 3219]), ((9, 129, [0, 0, 2, 336, 22]), [15, 3221, 3223]), ((10, 48, [0, 2, 22]), [1065]), ((9, 69, [0, 1, 2, 337, 22]), [16, 3225, 3227]), ((7, 73, [0, 3, 1, 361]), [2074, 3229]), ((7, 66, [0, 2, 2, 369]), [3230, 3231]), ((10, 9, [1, 1, 22]), [1064]), ((7, 79, [10]), [4030]), ((4, 7, []), [4031]), ((9, 144, [0, 2, 0, 341, 22]), [52, 7227, 7229]), ((7, 112, [9]), [1017, 2098, 2099, 7231])]
def lk_28 : LTb := [(8, 1, [0, 0, 0, 323, 22]), (14, 39, [1, 200]), (11, 9, [1, 1, 22]), (1, 48, [0, 2, 22]), (7, 118, [0, 2, 1, 329]), (9, 123, [0, 1, 2, 333, 22]), (1, 9, [1, 1, 22]), (1, 63, [0, 0, 22]), (10, 63, [0, 0, 22]), (9, 131, [0, 3, 0, 335, 22]), (9, 129, [0, 0, 2, 336, 22]), (10, 48, [0, 2, 22]), (9, 69, [0, 1, 2, 337, 22]), (7, 73, [0, 3, 1, 361]), (7, 66, [0, 2, 2, 369]), (10, 9, [1, 1, 22]), (7, 79, [10]), (4, 7, []), (9, 144, [0, 2, 0, 341, 22]), (7, 112, [9])]
theorem lnt_28_ok : ∀ f ∈ lk_28, LNKf "java/util/ArrayList" f := by
  have h : ltB "java/util/ArrayList" lnt_28 = true := by decide +kernel
  have e : lnt_28.map (·.1) = lk_28 := by decide +kernel
  rw [← e]
  exact ltB_ok h
def vs_28_0 : List (Nat × Nat) := [(330, 1004), (331, 1004), (332, 1004), (333, 1004), (334, 1004), (335, 1004), (336, 1004), (337, 1004), (338, 1004), (339, 1004), (340, 1004), (341, 1004)]
theorem vs_28_0_ok : ∀ q ∈ vs_28_0, VAL q.1 := by
  have h : vs_28_0.all (valB awL "java/util/ArrayList" lk_28) = true := by decide +kernel
  have hc : ∀ q ∈ vs_28_0, CW q.1 := List.forall_mem_cons.mpr ⟨cw_330, List.forall_mem_cons.mpr ⟨cw_331, List.forall_mem_cons.mpr ⟨cw_332, List.forall_mem_cons.mpr ⟨cw_333, List.forall_mem_cons.mpr ⟨cw_334, List.forall_mem_cons.mpr ⟨cw_335, List.forall_mem_cons.mpr ⟨cw_336, List.forall_mem_cons.mpr ⟨cw_337, List.forall_mem_cons.mpr ⟨cw_338, List.forall_mem_cons.mpr ⟨cw_339, List.forall_mem_cons.mpr ⟨cw_340, List.forall_mem_cons.mpr ⟨cw_341, fun _ h => absurd h List.not_mem_nil⟩⟩⟩⟩⟩⟩⟩⟩⟩⟩⟩⟩
  exact fun q hq => valB_ok lnt_28_ok (hc q hq) (List.all_eq_true.mp h q hq)
theorem cw_342 : CW 342 := lw_g (lw_at lw_m2 34 rfl) rfl
theorem cw_343 : CW 343 := lw_g (lw_at lw_m2 64 rfl) rfl
theorem cw_344 : CW 344 := lw_g (lw_at lw_m2 68 rfl) rfl
theorem cw_345 : CW 345 := lw_g (lw_at lw_m2 104 rfl) rfl
theorem cw_346 : CW 346 := lw_g (lw_at lw_m2 170 rfl) rfl
theorem cw_347 : CW 347 := lw_g (lw_at lw_m2 178 rfl) rfl
def lnt_29 : List ((Nat × Nat × List Nat) × List Nat) := [((8, 3, [8]), [1048, 1049, 2035]), ((14, 18, [0, 1]), [2036]), ((11, 15, [1, 0, 23]), [2045]), ((11, 22, [3, 1, 23]), [2046]), ((1, 79, [0, 3, 23]), [2048]), ((9, 100, [0, 1, 0, 344, 23]), [2065, 2067, 2068, 11089]), ((9, 83, [0, 0, 1, 345, 23]), [2100, 2101, 2102, 2103, 2104]), ((7, 191, [0, 1, 1, 324]), [2105, 2106]), ((1, 15, [1, 0, 23]), [2045]), ((10, 79, [0, 3, 23]), [2048]), ((1, 22, [0, 1, 23]), [2046])]
def lk_29 : LTb := [(8, 3, [8]), (14, 18, [0, 1]), (11, 15, [1, 0, 23]), (11, 22, [3, 1, 23]), (1, 79, [0, 3, 23]), (9, 100, [0, 1, 0, 344, 23]), (9, 83, [0, 0, 1, 345, 23]), (7, 191, [0, 1, 1, 324]), (1, 15, [1, 0, 23]), (10, 79, [0, 3, 23]), (1, 22, [0, 1, 23])]
theorem lnt_29_ok : ∀ f ∈ lk_29, LNKf "java/lang/AbstractStringBuilder" f := by
  have h : ltB "java/lang/AbstractStringBuilder" lnt_29 = true := by decide +kernel
  have e : lnt_29.map (·.1) = lk_29 := by decide +kernel
  rw [← e]
  exact ltB_ok h
def vs_29_0 : List (Nat × Nat) := [(342, 1010), (343, 1010), (344, 1010), (345, 1010), (346, 1010), (347, 1010)]
theorem vs_29_0_ok : ∀ q ∈ vs_29_0, VAL q.1 := by
  have h : vs_29_0.all (valB awL "java/lang/AbstractStringBuilder" lk_29) = true := by decide +kernel
  have hc : ∀ q ∈ vs_29_0, CW q.1 := List.forall_mem_cons.mpr ⟨cw_342, List.forall_mem_cons.mpr ⟨cw_343, List.forall_mem_cons.mpr ⟨cw_344, List.forall_mem_cons.mpr ⟨cw_345, List.forall_mem_cons.mpr ⟨cw_346, List.forall_mem_cons.mpr ⟨cw_347, fun _ h => absurd h List.not_mem_nil⟩⟩⟩⟩⟩⟩
  exact fun q hq => valB_ok lnt_29_ok (hc q hq) (List.all_eq_true.mp h q hq)
theorem cw_348 : CW 348 := lw_g (lw_at lw_m2 31 rfl) rfl
theorem cw_349 : CW 349 := lw_g (lw_at lw_m2 61 rfl) rfl
theorem cw_350 : CW 350 := lw_g (lw_at lw_m2 156 rfl) rfl
theorem cw_351 : CW 351 := lw_g (lw_at lw_m2 176 rfl) rfl
def lnt_30 : List ((Nat × Nat × List Nat) × List Nat) := [((8, 1, [0, 1, 0, 342, 23]), [2032, 2033]), ((8, 50, [0, 1, 2, 343, 23]), [2057, 2062, 2063, 11088]), ((2, 18, [24]), [1012, 2157, 2158]), ((8, 137, [0, 1, 0, 353, 24]), [2159, 2160]), ((8, 343, [0, 0, 1, 347, 23]), [2057, 2172, 2173, 2177])]
def lk_30 : LTb := [(8, 1, [0, 1, 0, 342, 23]), (8, 50, [0, 1, 2, 343, 23]), (2, 18, [24]), (8, 137, [0, 1, 0, 353, 24]), (8, 343, [0, 0, 1, 347, 23])]
theorem lnt_30_ok : ∀ f ∈ lk_30, LNKf "java/lang/StringBuilder" f := by
  have h : ltB "java/lang/StringBuilder" lnt_30 = true := by decide +kernel
  have e : lnt_30.map (·.1) = lk_30 := by decide +kernel
  rw [← e]
  exact ltB_ok h
def vs_30_0 : List (Nat × Nat) := [(348, 1011), (349, 1011), (350, 1011), (351, 1011)]
theorem vs_30_0_ok : ∀ q ∈ vs_30_0, VAL q.1 := by
  have h : vs_30_0.all (valB awL "java/lang/StringBuilder" lk_30) = true := by decide +kernel
  have hc : ∀ q ∈ vs_30_0, CW q.1 := List.forall_mem_cons.mpr ⟨cw_348, List.forall_mem_cons.mpr ⟨cw_349, List.forall_mem_cons.mpr ⟨cw_350, List.forall_mem_cons.mpr ⟨cw_351, fun _ h => absurd h List.not_mem_nil⟩⟩⟩⟩
  exact fun q hq => valB_ok lnt_30_ok (hc q hq) (List.all_eq_true.mp h q hq)
theorem cw_352 : CW 352 := lw_g (lw_at lw_m2 149 rfl) rfl
theorem cw_353 : CW 353 := lw_g (lw_at lw_m2 161 rfl) rfl
theorem cw_354 : CW 354 := lw_g (lw_at lw_m2 164 rfl) rfl
theorem cw_355 : CW 355 := lw_g (lw_at lw_m3 6 rfl) rfl
theorem cw_356 : CW 356 := lw_g (lw_at lw_m3 10 rfl) rfl
theorem cw_357 : CW 357 := lw_g (lw_at lw_m3 60 rfl) rfl
theorem cw_358 : CW 358 := lw_g (lw_at lw_m9 50 rfl) rfl
theorem cw_359 : CW 359 := lw_g (lw_at lw_m9 54 rfl) rfl
theorem cw_360 : CW 360 := lw_g (lw_at lw_m9 58 rfl) rfl
def lnt_31 : List ((Nat × Nat × List Nat) × List Nat) := [((14, 1053, [1, 201]), [2127]), ((7, 1059, [0, 3, 1, 328]), [2150, 2151]), ((8, 489, [0, 2, 0, 354, 24]), [2162, 2163]), ((8, 1, [8]), [1048, 1049, 2165]), ((9, 552, [0, 0, 2, 346, 23]), [2166, 2167, 2168, 2169, 2170]), ((9, 549, [0, 0, 1, 351, 23]), [2171, 2172, 2173, 2174, 2175, 2178]), ((9, 1047, [0, 0, 1, 345, 23]), [2101, 2102, 2103, 2104, 2179]), ((11, 15, [3, 1, 24]), [2204]), ((7, 54, [0, 3, 2, 366]), [2180, 2181]), ((11, 9, [1, 0, 24]), [2203]), ((14, 38, [0, 1]), [2189]), ((1, 1048, [0, 2, 23]), [2047]), ((1, 19, [0, 2, 24]), [2205]), ((1, 23, [0, 3, 24]), [2206]), ((9, 492, [0, 0, 1, 356, 24]), [3007, 3008, 3009]), ((1, 9, [1, 0, 24]), [2203]), ((7, 628, [0, 1, 1, 325]), [3011, 3012]), ((10, 23, [2, 3, 24]), [2206]), ((10, 19, [0, 2, 24]), [2205]), ((1, 15, [0, 1, 24]), [2204]), ((6, 10, [1, 24]), [3061]), ((5, 10, [24]), [3061]), ((7, 541, [0, 2, 1, 326]), [3062, 3063]), ((9, 335, [0, 0, 1, 359, 24]), [9051, 9052, 9053]), ((7, 495, [0, 2, 1, 327]), [9059, 9060])]
def lk_31 : LTb := [(14, 1053, [1, 201]), (7, 1059, [0, 3, 1, 328]), (8, 489, [0, 2, 0, 354, 24]), (8, 1, [8]), (9, 552, [0, 0, 2, 346, 23]), (9, 549, [0, 0, 1, 351, 23]), (9, 1047, [0, 0, 1, 345, 23]), (11, 15, [3, 1, 24]), (7, 54, [0, 3, 2, 366]), (11, 9, [1, 0, 24]), (14, 38, [0, 1]), (1, 1048, [0, 2, 23]), (1, 19, [0, 2, 24]), (1, 23, [0, 3, 24]), (9, 492, [0, 0, 1, 356, 24]), (1, 9, [1, 0, 24]), (7, 628, [0, 1, 1, 325]), (10, 23, [2, 3, 24]), (10, 19, [0, 2, 24]), (1, 15, [0, 1, 24]), (6, 10, [1, 24]), (5, 10, [24]), (7, 541, [0, 2, 1, 326]), (9, 335, [0, 0, 1, 359, 24]), (7, 495, [0, 2, 1, 327])]
theorem lnt_31_ok : ∀ f ∈ lk_31, LNKf "java/lang/String" f := by
  have h : ltB "java/lang/String" lnt_31 = true := by decide +kernel
  have e : lnt_31.map (·.1) = lk_31 := by decide +kernel
  rw [← e]
  exact ltB_ok h
def vs_31_0 : List (Nat × Nat) := [(352, 1012), (353, 1012), (354, 1012), (355, 1012), (356, 1012), (357, 1012), (358, 1012), (359, 1012), (360, 1012)]
theorem vs_31_0_ok : ∀ q ∈ vs_31_0, VAL q.1 := by
  have h : vs_31_0.all (valB awL "java/lang/String" lk_31) = true := by decide +kernel
  have hc : ∀ q ∈ vs_31_0, CW q.1 := List.forall_mem_cons.mpr ⟨cw_352, List.forall_mem_cons.mpr ⟨cw_353, List.forall_mem_cons.mpr ⟨cw_354, List.forall_mem_cons.mpr ⟨cw_355, List.forall_mem_cons.mpr ⟨cw_356, List.forall_mem_cons.mpr ⟨cw_357, List.forall_mem_cons.mpr ⟨cw_358, List.forall_mem_cons.mpr ⟨cw_359, List.forall_mem_cons.mpr ⟨cw_360, fun _ h => absurd h List.not_mem_nil⟩⟩⟩⟩⟩⟩⟩⟩⟩
  exact fun q hq => valB_ok lnt_31_ok (hc q hq) (List.all_eq_true.mp h q hq)
theorem cw_361 : CW 361 := lw_g (lw_at lw_m2 75 rfl) rfl
theorem cw_362 : CW 362 := lw_g (lw_at lw_m3 16 rfl) rfl
theorem cw_363 : CW 363 := lw_g (lw_at lw_m3 20 rfl) rfl
def lnt_32 : List ((Nat × Nat × List Nat) × List Nat) := [((7, 194, [10]), [2076]), ((0, 200, [0, 2147483639]), [2079]), ((5, 60, [102]), [3017]), ((7, 62, [0, 4, 1, 363]), [3018, 3019])]
def lk_32 : LTb := [(7, 194, [10]), (0, 200, [0, 2147483639]), (5, 60, [102]), (7, 62, [0, 4, 1, 363])]
theorem lnt_32_ok : ∀ f ∈ lk_32, LNKf "jdk/internal/util/ArraysSupport" f := by
  have h : ltB "jdk/internal/util/ArraysSupport" lnt_32 = true := by decide +kernel
  have e : lnt_32.map (·.1) = lk_32 := by decide +kernel
  rw [← e]
  exact ltB_ok h
def vs_32_0 : List (Nat × Nat) := [(361, 1014), (362, 1014), (363, 1014)]
theorem vs_32_0_ok : ∀ q ∈ vs_32_0, VAL q.1 := by
  have h : vs_32_0.all (valB awL "jdk/internal/util/ArraysSupport" lk_32) = true := by decide +kernel
  have hc : ∀ q ∈ vs_32_0, CW q.1 := List.forall_mem_cons.mpr ⟨cw_361, List.forall_mem_cons.mpr ⟨cw_362, List.forall_mem_cons.mpr ⟨cw_363, fun _ h => absurd h List.not_mem_nil⟩⟩⟩
  exact fun q hq => valB_ok lnt_32_ok (hc q hq) (List.all_eq_true.mp h q hq)
theorem cw_366 : CW 366 := lw_g (lw_at lw_m2 182 rfl) rfl
theorem cw_367 : CW 367 := lw_g (lw_at lw_m2 185 rfl) rfl
theorem cw_368 : CW 368 := lw_g (lw_at lw_m2 188 rfl) rfl
theorem cw_369 : CW 369 := lw_g (lw_at lw_m3 232 rfl) rfl
theorem cw_370 : CW 370 := lw_g (lw_at lw_m4 26 rfl) rfl
def lnt_33 : List ((Nat × Nat × List Nat) × List Nat) := [((7, 339, [0, 3, 2, 367]), [2183, 2184]), ((7, 343, [0, 2, 0, 368]), [2186, 2187]), ((7, 304, [11]), [2094]), ((7, 150, [9]), [1017, 2097, 2098, 2099]), ((9, 86, [7, 202]), [3233, 3234, 4023, 11133]), ((7, 300, [0, 3, 2, 370]), [4024, 4025]), ((0, 110, [1, 202]), [4027]), ((4, 2, []), [4029])]
def lk_33 : LTb := [(7, 339, [0, 3, 2, 367]), (7, 343, [0, 2, 0, 368]), (7, 304, [11]), (7, 150, [9]), (9, 86, [7, 202]), (7, 300, [0, 3, 2, 370]), (0, 110, [1, 202]), (4, 2, [])]
theorem lnt_33_ok : ∀ f ∈ lk_33, LNKf "java/util/Arrays" f := by
  have h : ltB "java/util/Arrays" lnt_33 = true := by decide +kernel
  have e : lnt_33.map (·.1) = lk_33 := by decide +kernel
  rw [← e]
  exact ltB_ok h
def vs_33_0 : List (Nat × Nat) := [(366, 1016), (367, 1016), (368, 1016), (369, 1016), (370, 1016)]
theorem vs_33_0_ok : ∀ q ∈ vs_33_0, VAL q.1 := by
  have h : vs_33_0.all (valB awL "java/util/Arrays" lk_33) = true := by decide +kernel
  have hc : ∀ q ∈ vs_33_0, CW q.1 := List.forall_mem_cons.mpr ⟨cw_366, List.forall_mem_cons.mpr ⟨cw_367, List.forall_mem_cons.mpr ⟨cw_368, List.forall_mem_cons.mpr ⟨cw_369, List.forall_mem_cons.mpr ⟨cw_370, fun _ h => absurd h List.not_mem_nil⟩⟩⟩⟩⟩
  exact fun q hq => valB_ok lnt_33_ok (hc q hq) (List.all_eq_true.mp h q hq)
def vsAll : List Nat := vs_0_0.map (·.1) ++ vs_0_1.map (·.1) ++ vs_0_2.map (·.1) ++ vs_0_3.map (·.1) ++ vs_1_0.map (·.1) ++ vs_2_0.map (·.1) ++ vs_3_0.map (·.1) ++ vs_4_0.map (·.1) ++ vs_5_0.map (·.1) ++ vs_6_0.map (·.1) ++ vs_7_0.map (·.1) ++ vs_8_0.map (·.1) ++ vs_9_0.map (·.1) ++ vs_10_0.map (·.1) ++ vs_11_0.map (·.1) ++ vs_11_1.map (·.1) ++ vs_11_2.map (·.1) ++ vs_11_3.map (·.1) ++ vs_11_4.map (·.1) ++ vs_11_5.map (·.1) ++ vs_11_6.map (·.1) ++ vs_12_0.map (·.1) ++ vs_13_0.map (·.1) ++ vs_14_0.map (·.1) ++ vs_15_0.map (·.1) ++ vs_16_0.map (·.1) ++ vs_16_1.map (·.1) ++ vs_17_0.map (·.1) ++ vs_18_0.map (·.1) ++ vs_19_0.map (·.1) ++ vs_20_0.map (·.1) ++ vs_21_0.map (·.1) ++ vs_22_0.map (·.1) ++ vs_23_0.map (·.1) ++ vs_24_0.map (·.1) ++ vs_25_0.map (·.1) ++ vs_26_0.map (·.1) ++ vs_27_0.map (·.1) ++ vs_28_0.map (·.1) ++ vs_29_0.map (·.1) ++ vs_30_0.map (·.1) ++ vs_31_0.map (·.1) ++ vs_32_0.map (·.1) ++ vs_33_0.map (·.1)
theorem vsAll_ok : ∀ k ∈ vsAll, VAL k := by
  intro k hk
  unfold vsAll at hk
  simp only [List.mem_append, or_assoc] at hk
  rcases hk with hk | hk | hk | hk | hk | hk | hk | hk | hk | hk | hk | hk | hk | hk | hk | hk | hk | hk | hk | hk | hk | hk | hk | hk | hk | hk | hk | hk | hk | hk | hk | hk | hk | hk | hk | hk | hk | hk | hk | hk | hk | hk | hk | hk
  · obtain ⟨q, hq, rfl⟩ := List.mem_map.mp hk
    exact vs_0_0_ok q hq
  · obtain ⟨q, hq, rfl⟩ := List.mem_map.mp hk
    exact vs_0_1_ok q hq
  · obtain ⟨q, hq, rfl⟩ := List.mem_map.mp hk
    exact vs_0_2_ok q hq
  · obtain ⟨q, hq, rfl⟩ := List.mem_map.mp hk
    exact vs_0_3_ok q hq
  · obtain ⟨q, hq, rfl⟩ := List.mem_map.mp hk
    exact vs_1_0_ok q hq
  · obtain ⟨q, hq, rfl⟩ := List.mem_map.mp hk
    exact vs_2_0_ok q hq
  · obtain ⟨q, hq, rfl⟩ := List.mem_map.mp hk
    exact vs_3_0_ok q hq
  · obtain ⟨q, hq, rfl⟩ := List.mem_map.mp hk
    exact vs_4_0_ok q hq
  · obtain ⟨q, hq, rfl⟩ := List.mem_map.mp hk
    exact vs_5_0_ok q hq
  · obtain ⟨q, hq, rfl⟩ := List.mem_map.mp hk
    exact vs_6_0_ok q hq
  · obtain ⟨q, hq, rfl⟩ := List.mem_map.mp hk
    exact vs_7_0_ok q hq
  · obtain ⟨q, hq, rfl⟩ := List.mem_map.mp hk
    exact vs_8_0_ok q hq
  · obtain ⟨q, hq, rfl⟩ := List.mem_map.mp hk
    exact vs_9_0_ok q hq
  · obtain ⟨q, hq, rfl⟩ := List.mem_map.mp hk
    exact vs_10_0_ok q hq
  · obtain ⟨q, hq, rfl⟩ := List.mem_map.mp hk
    exact vs_11_0_ok q hq
  · obtain ⟨q, hq, rfl⟩ := List.mem_map.mp hk
    exact vs_11_1_ok q hq
  · obtain ⟨q, hq, rfl⟩ := List.mem_map.mp hk
    exact vs_11_2_ok q hq
  · obtain ⟨q, hq, rfl⟩ := List.mem_map.mp hk
    exact vs_11_3_ok q hq
  · obtain ⟨q, hq, rfl⟩ := List.mem_map.mp hk
    exact vs_11_4_ok q hq
  · obtain ⟨q, hq, rfl⟩ := List.mem_map.mp hk
    exact vs_11_5_ok q hq
  · obtain ⟨q, hq, rfl⟩ := List.mem_map.mp hk
    exact vs_11_6_ok q hq
  · obtain ⟨q, hq, rfl⟩ := List.mem_map.mp hk
    exact vs_12_0_ok q hq
  · obtain ⟨q, hq, rfl⟩ := List.mem_map.mp hk
    exact vs_13_0_ok q hq
  · obtain ⟨q, hq, rfl⟩ := List.mem_map.mp hk
    exact vs_14_0_ok q hq
  · obtain ⟨q, hq, rfl⟩ := List.mem_map.mp hk
    exact vs_15_0_ok q hq
  · obtain ⟨q, hq, rfl⟩ := List.mem_map.mp hk
    exact vs_16_0_ok q hq
  · obtain ⟨q, hq, rfl⟩ := List.mem_map.mp hk
    exact vs_16_1_ok q hq
  · obtain ⟨q, hq, rfl⟩ := List.mem_map.mp hk
    exact vs_17_0_ok q hq
  · obtain ⟨q, hq, rfl⟩ := List.mem_map.mp hk
    exact vs_18_0_ok q hq
  · obtain ⟨q, hq, rfl⟩ := List.mem_map.mp hk
    exact vs_19_0_ok q hq
  · obtain ⟨q, hq, rfl⟩ := List.mem_map.mp hk
    exact vs_20_0_ok q hq
  · obtain ⟨q, hq, rfl⟩ := List.mem_map.mp hk
    exact vs_21_0_ok q hq
  · obtain ⟨q, hq, rfl⟩ := List.mem_map.mp hk
    exact vs_22_0_ok q hq
  · obtain ⟨q, hq, rfl⟩ := List.mem_map.mp hk
    exact vs_23_0_ok q hq
  · obtain ⟨q, hq, rfl⟩ := List.mem_map.mp hk
    exact vs_24_0_ok q hq
  · obtain ⟨q, hq, rfl⟩ := List.mem_map.mp hk
    exact vs_25_0_ok q hq
  · obtain ⟨q, hq, rfl⟩ := List.mem_map.mp hk
    exact vs_26_0_ok q hq
  · obtain ⟨q, hq, rfl⟩ := List.mem_map.mp hk
    exact vs_27_0_ok q hq
  · obtain ⟨q, hq, rfl⟩ := List.mem_map.mp hk
    exact vs_28_0_ok q hq
  · obtain ⟨q, hq, rfl⟩ := List.mem_map.mp hk
    exact vs_29_0_ok q hq
  · obtain ⟨q, hq, rfl⟩ := List.mem_map.mp hk
    exact vs_30_0_ok q hq
  · obtain ⟨q, hq, rfl⟩ := List.mem_map.mp hk
    exact vs_31_0_ok q hq
  · obtain ⟨q, hq, rfl⟩ := List.mem_map.mp hk
    exact vs_32_0_ok q hq
  · obtain ⟨q, hq, rfl⟩ := List.mem_map.mp hk
    exact vs_33_0_ok q hq
theorem val_all : ∀ k, gk k → VAL k := by
  have h : ∀ k, k < 372 → ¬ k = 76 → ¬ k = 371 → ¬ k = 364 → ¬ k = 365 → vsAll.contains k = true := by decide +kernel
  exact fun k hk => vsAll_ok k (List.contains_iff_mem.mp (h k hk.1 hk.2.1 hk.2.2.1 hk.2.2.2.1 hk.2.2.2.2))
