/-! constants and links of the reference (printed by tool/gen_m.py) -/
set_option maxRecDepth 100000
theorem kb_m10 : (Int8.ofInt (-10)).toInt32 = (-10 : Int32) := by decide
theorem kb_m4 : (Int8.ofInt (-4)).toInt32 = (-4 : Int32) := by decide
theorem kb_m3 : (Int8.ofInt (-3)).toInt32 = (-3 : Int32) := by decide
theorem kb_m2 : (Int8.ofInt (-2)).toInt32 = (-2 : Int32) := by decide
theorem kb_6 : (Int8.ofInt (6)).toInt32 = (6 : Int32) := by decide
theorem kb_7 : (Int8.ofInt (7)).toInt32 = (7 : Int32) := by decide
theorem kb_8 : (Int8.ofInt (8)).toInt32 = (8 : Int32) := by decide
theorem kb_9 : (Int8.ofInt (9)).toInt32 = (9 : Int32) := by decide
theorem kb_10 : (Int8.ofInt (10)).toInt32 = (10 : Int32) := by decide
theorem kb_11 : (Int8.ofInt (11)).toInt32 = (11 : Int32) := by decide
theorem kb_12 : (Int8.ofInt (12)).toInt32 = (12 : Int32) := by decide
theorem kb_16 : (Int8.ofInt (16)).toInt32 = (16 : Int32) := by decide
theorem kb_19 : (Int8.ofInt (19)).toInt32 = (19 : Int32) := by decide
theorem kb_20 : (Int8.ofInt (20)).toInt32 = (20 : Int32) := by decide
theorem kb_31 : (Int8.ofInt (31)).toInt32 = (31 : Int32) := by decide
theorem kb_48 : (Int8.ofInt (48)).toInt32 = (48 : Int32) := by decide
theorem kb_57 : (Int8.ofInt (57)).toInt32 = (57 : Int32) := by decide
theorem kb_59 : (Int8.ofInt (59)).toInt32 = (59 : Int32) := by decide
theorem kb_60 : (Int8.ofInt (60)).toInt32 = (60 : Int32) := by decide
theorem kb_97 : (Int8.ofInt (97)).toInt32 = (97 : Int32) := by decide
theorem kb_100 : (Int8.ofInt (100)).toInt32 = (100 : Int32) := by decide
theorem kb_103 : (Int8.ofInt (103)).toInt32 = (103 : Int32) := by decide
theorem kb_108 : (Int8.ofInt (108)).toInt32 = (108 : Int32) := by decide
theorem kb_111 : (Int8.ofInt (111)).toInt32 = (111 : Int32) := by decide
theorem kb_112 : (Int8.ofInt (112)).toInt32 = (112 : Int32) := by decide
theorem kb_117 : (Int8.ofInt (117)).toInt32 = (117 : Int32) := by decide
theorem kc_m1 : Int32.ofInt (-1) = (-1 : Int32) := by decide
theorem kc_0 : Int32.ofInt (0) = (0 : Int32) := by decide
theorem kc_1 : Int32.ofInt (1) = (1 : Int32) := by decide
theorem kc_2 : Int32.ofInt (2) = (2 : Int32) := by decide
theorem kc_3 : Int32.ofInt (3) = (3 : Int32) := by decide
theorem kc_4 : Int32.ofInt (4) = (4 : Int32) := by decide
theorem kc_5 : Int32.ofInt (5) = (5 : Int32) := by decide
theorem ks_240 : (Int16.ofInt (240)).toInt32 = (240 : Int32) := by decide
theorem ks_255 : (Int16.ofInt (255)).toInt32 = (255 : Int32) := by decide
theorem ks_12345 : (Int16.ofInt (12345)).toInt32 = (12345 : Int32) := by decide
theorem lk0 : Cond.fieldLink RX6 7 (TX6 0).1 (TX6 0).2.1 (TX6 0).2.2.1 ∈ lw_all := q1230
theorem lk1 : Cond.fieldLink RX6 13 (TX6 1).1 (TX6 1).2.1 (TX6 1).2.2.1 ∈ lw_all := q1231
theorem lk2 : Cond.fieldLink RX6 123 (TX6 2).1 (TX6 2).2.1 (TX6 2).2.2.1 ∈ lw_all := q1232
theorem lk3 : Cond.fieldLink RX6 16 (TX6 3).1 (TX6 3).2.1 (TX6 3).2.2.1 ∈ lw_all := q1233
theorem lk4 : Cond.fieldLink RX6 134 (TX6 4).1 (TX6 4).2.1 (TX6 4).2.2.1 ∈ lw_all := q1234
theorem lk5 : Cond.fieldLink RX6 19 (TX6 5).1 (TX6 5).2.1 (TX6 5).2.2.1 ∈ lw_all := q1235
theorem lk6 : Cond.fieldLink RX6 22 (TX6 6).1 (TX6 6).2.1 (TX6 6).2.2.1 ∈ lw_all := q1236
theorem lk7 : Cond.fieldLink RX6 25 (TX6 7).1 (TX6 7).2.1 (TX6 7).2.2.1 ∈ lw_all := q1237
theorem lk8 : Cond.fieldLink RX6 169 (TX6 8).1 (TX6 8).2.1 (TX6 8).2.2.1 ∈ lw_all := q1238
theorem lk9 : Cond.fieldLink RX6 28 (TX6 9).1 (TX6 9).2.1 (TX6 9).2.2.1 ∈ lw_all := q1239
theorem lk10 : Cond.fieldLink RX6 31 (TX6 10).1 (TX6 10).2.1 (TX6 10).2.2.1 ∈ lw_all := q1240
theorem lk11 : Cond.fieldLink RX6 34 (TX6 11).1 (TX6 11).2.1 (TX6 11).2.2.1 ∈ lw_all := q1241
theorem lk12 : Cond.fieldLink RX6 182 (TX6 12).1 (TX6 12).2.1 (TX6 12).2.2.1 ∈ lw_all := q1242
theorem lk13 : Cond.fieldLink RX6 37 (TX6 13).1 (TX6 13).2.1 (TX6 13).2.2.1 ∈ lw_all := q1243
theorem lk14 : Cond.fieldLink RX6 40 (TX6 14).1 (TX6 14).2.1 (TX6 14).2.2.1 ∈ lw_all := q1244
theorem lk15 : Cond.fieldLink RX6 43 (TX6 15).1 (TX6 15).2.1 (TX6 15).2.2.1 ∈ lw_all := q1245
theorem lk16 : Cond.fieldLink RX6 185 (TX6 16).1 (TX6 16).2.1 (TX6 16).2.2.1 ∈ lw_all := q1246
theorem lk17 : Cond.fieldLink RX6 46 (TX6 17).1 (TX6 17).2.1 (TX6 17).2.2.1 ∈ lw_all := q1247
theorem lk18 : Cond.fieldLink RX6 49 (TX6 18).1 (TX6 18).2.1 (TX6 18).2.2.1 ∈ lw_all := q1248
theorem lk19 : Cond.fieldLink RX6 52 (TX6 19).1 (TX6 19).2.1 (TX6 19).2.2.1 ∈ lw_all := q1249
theorem lk20 : Cond.fieldLink RX6 55 (TX6 20).1 (TX6 20).2.1 (TX6 20).2.2.1 ∈ lw_all := q1250
theorem lk21 : Cond.fieldLink RX6 58 (TX6 21).1 (TX6 21).2.1 (TX6 21).2.2.1 ∈ lw_all := q1251
theorem lk22 : Cond.fieldLink RX6 205 (TX6 22).1 (TX6 22).2.1 (TX6 22).2.2.1 ∈ lw_all := q1252
theorem lk23 : Cond.fieldLink RX6 61 (TX6 23).1 (TX6 23).2.1 (TX6 23).2.2.1 ∈ lw_all := q1253
theorem lk24 : Cond.fieldLink RX6 64 (TX6 24).1 (TX6 24).2.1 (TX6 24).2.2.1 ∈ lw_all := q1254
theorem lk25 : Cond.fieldLink RX6 67 (TX6 25).1 (TX6 25).2.1 (TX6 25).2.2.1 ∈ lw_all := q1255
theorem lk26 : Cond.fieldLink RX6 70 (TX6 26).1 (TX6 26).2.1 (TX6 26).2.2.1 ∈ lw_all := q1256
theorem lk27 : Cond.fieldLink RX6 73 (TX6 27).1 (TX6 27).2.1 (TX6 27).2.2.1 ∈ lw_all := q1257
theorem lk28 : Cond.fieldLink RX6 76 (TX6 28).1 (TX6 28).2.1 (TX6 28).2.2.1 ∈ lw_all := q1258
theorem lk29 : Cond.fieldLink RX6 79 (TX6 29).1 (TX6 29).2.1 (TX6 29).2.2.1 ∈ lw_all := q1259
theorem lk30 : Cond.fieldLink RX6 82 (TX6 30).1 (TX6 30).2.1 (TX6 30).2.2.1 ∈ lw_all := q1260
theorem lk31 : Cond.fieldLink RX6 297 (TX6 31).1 (TX6 31).2.1 (TX6 31).2.2.1 ∈ lw_all := q1261
theorem lk32 : Cond.fieldLink RX6 85 (TX6 32).1 (TX6 32).2.1 (TX6 32).2.2.1 ∈ lw_all := q1262
theorem lk33 : Cond.fieldLink RX6 88 (TX6 33).1 (TX6 33).2.1 (TX6 33).2.2.1 ∈ lw_all := q1263
theorem lk34 : Cond.fieldLink RX6 91 (TX6 34).1 (TX6 34).2.1 (TX6 34).2.2.1 ∈ lw_all := q1264
theorem lk35 : Cond.fieldLink RX6 94 (TX6 35).1 (TX6 35).2.1 (TX6 35).2.2.1 ∈ lw_all := q1265
theorem lk36 : Cond.fieldLink RX6 97 (TX6 36).1 (TX6 36).2.1 (TX6 36).2.2.1 ∈ lw_all := q1266
theorem lk37 : Cond.fieldLink RX6 101 (TX6 37).1 (TX6 37).2.1 (TX6 37).2.2.1 ∈ lw_all := q1267
theorem lk38 : Cond.fieldLink RX6 104 (TX6 38).1 (TX6 38).2.1 (TX6 38).2.2.1 ∈ lw_all := q1268
theorem lk39 : Cond.fieldLink RX6 107 (TX6 39).1 (TX6 39).2.1 (TX6 39).2.2.1 ∈ lw_all := q1269
theorem lk40 : Cond.fieldLink RX6 110 (TX6 40).1 (TX6 40).2.1 (TX6 40).2.2.1 ∈ lw_all := q1270
theorem lk41 : Cond.fieldLink RX6 332 (TX6 41).1 (TX6 41).2.1 (TX6 41).2.2.1 ∈ lw_all := q1271
