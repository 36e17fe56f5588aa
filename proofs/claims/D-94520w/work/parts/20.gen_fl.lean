/-! fields of the Model by reference -/
set_option maxRecDepth 100000
section FLX
variable {D : va_G} {T : Nat → ClassId} {Z : Heap}
theorem fl_X11_7 : FL D T Z "EndingTownModel" 7 19 3 := FL.mk (by decide) (by decide) (by decide) q1367
theorem fp_X11_7 : FP D T Z "EndingTownModel" 7 19 3 false := FP.mk (by decide) (by decide) (by decide) rfl fl_X11_7
theorem fl_X11_13 : FL D T Z "EndingTownModel" 13 19 7 := FL.mk (by decide) (by decide) (by decide) q1371
theorem fl_X11_17 : FL D T Z "EndingTownModel" 17 19 8 := FL.mk (by decide) (by decide) (by decide) q1372
theorem fl_X11_20 : FL D T Z "EndingTownModel" 20 19 9 := FL.mk (by decide) (by decide) (by decide) q1373
theorem fl_X11_23 : FL D T Z "EndingTownModel" 23 19 10 := FL.mk (by decide) (by decide) (by decide) q1374
theorem fl_X11_26 : FL D T Z "EndingTownModel" 26 19 11 := FL.mk (by decide) (by decide) (by decide) q1375
theorem fl_X11_29 : FL D T Z "EndingTownModel" 29 19 12 := FL.mk (by decide) (by decide) (by decide) q1376
theorem fl_X11_32 : FL D T Z "EndingTownModel" 32 19 13 := FL.mk (by decide) (by decide) (by decide) q1377
theorem fl_X11_35 : FL D T Z "EndingTownModel" 35 19 14 := FL.mk (by decide) (by decide) (by decide) q1378
theorem fl_X11_38 : FL D T Z "EndingTownModel" 38 19 15 := FL.mk (by decide) (by decide) (by decide) q1379
theorem fl_X11_41 : FL D T Z "EndingTownModel" 41 19 16 := FL.mk (by decide) (by decide) (by decide) q1380
theorem fl_X11_44 : FL D T Z "EndingTownModel" 44 19 19 := FL.mk (by decide) (by decide) (by decide) q1383
theorem fp_X11_44 : FP D T Z "EndingTownModel" 44 19 19 false := FP.mk (by decide) (by decide) (by decide) rfl fl_X11_44
theorem fl_X11_47 : FL D T Z "EndingTownModel" 47 19 20 := FL.mk (by decide) (by decide) (by decide) q1384
theorem fl_X11_50 : FL D T Z "EndingTownModel" 50 19 37 := FL.mk (by decide) (by decide) (by decide) q1401
theorem fl_X11_53 : FL D T Z "EndingTownModel" 53 19 38 := FL.mk (by decide) (by decide) (by decide) q1402
theorem fl_X11_56 : FL D T Z "EndingTownModel" 56 19 39 := FL.mk (by decide) (by decide) (by decide) q1403
theorem fl_X11_59 : FL D T Z "EndingTownModel" 59 19 40 := FL.mk (by decide) (by decide) (by decide) q1404
theorem fl_X11_62 : FL D T Z "EndingTownModel" 62 19 41 := FL.mk (by decide) (by decide) (by decide) q1405
theorem fl_X11_65 : FL D T Z "EndingTownModel" 65 19 42 := FL.mk (by decide) (by decide) (by decide) q1406
theorem fl_X11_68 : FL D T Z "EndingTownModel" 68 19 43 := FL.mk (by decide) (by decide) (by decide) q1407
theorem fl_X11_71 : FL D T Z "EndingTownModel" 71 19 44 := FL.mk (by decide) (by decide) (by decide) q1408
theorem fl_X11_74 : FL D T Z "EndingTownModel" 74 19 45 := FL.mk (by decide) (by decide) (by decide) q1409
theorem fl_X11_77 : FL D T Z "EndingTownModel" 77 19 46 := FL.mk (by decide) (by decide) (by decide) q1410
theorem fl_X11_80 : FL D T Z "EndingTownModel" 80 19 47 := FL.mk (by decide) (by decide) (by decide) q1411
theorem fl_X11_83 : FL D T Z "EndingTownModel" 83 19 51 := FL.mk (by decide) (by decide) (by decide) q1415
theorem fl_X11_86 : FL D T Z "EndingTownModel" 86 19 52 := FL.mk (by decide) (by decide) (by decide) q1416
theorem fl_X11_89 : FL D T Z "EndingTownModel" 89 19 53 := FL.mk (by decide) (by decide) (by decide) q1417
theorem fl_X11_92 : FL D T Z "EndingTownModel" 92 19 54 := FL.mk (by decide) (by decide) (by decide) q1418
theorem fl_X11_95 : FL D T Z "EndingTownModel" 95 19 55 := FL.mk (by decide) (by decide) (by decide) q1419
theorem fl_X11_98 : FL D T Z "EndingTownModel" 98 19 56 := FL.mk (by decide) (by decide) (by decide) q1420
theorem fl_X11_101 : FL D T Z "EndingTownModel" 101 19 57 := FL.mk (by decide) (by decide) (by decide) q1421
theorem fl_X11_104 : FL D T Z "EndingTownModel" 104 19 58 := FL.mk (by decide) (by decide) (by decide) q1422
theorem fl_X11_107 : FL D T Z "EndingTownModel" 107 19 63 := FL.mk (by decide) (by decide) (by decide) q1427
theorem fl_X11_110 : FL D T Z "EndingTownModel" 110 19 64 := FL.mk (by decide) (by decide) (by decide) q1428
theorem fl_X11_113 : FL D T Z "EndingTownModel" 113 19 65 := FL.mk (by decide) (by decide) (by decide) q1429
theorem fp_X11_113 : FP D T Z "EndingTownModel" 113 19 65 false := FP.mk (by decide) (by decide) (by decide) rfl fl_X11_113
theorem fl_X11_116 : FL D T Z "EndingTownModel" 116 19 66 := FL.mk (by decide) (by decide) (by decide) q1430
theorem fl_X11_119 : FL D T Z "EndingTownModel" 119 19 73 := FL.mk (by decide) (by decide) (by decide) q1437
theorem fl_X11_122 : FL D T Z "EndingTownModel" 122 19 0 := FL.mk (by decide) (by decide) (by decide) q1364
theorem fp_X11_122 : FP D T Z "EndingTownModel" 122 19 0 false := FP.mk (by decide) (by decide) (by decide) rfl fl_X11_122
theorem fl_X11_125 : FL D T Z "EndingTownModel" 125 19 17 := FL.mk (by decide) (by decide) (by decide) q1381
theorem fp_X11_125 : FP D T Z "EndingTownModel" 125 19 17 false := FP.mk (by decide) (by decide) (by decide) rfl fl_X11_125
theorem fl_X11_132 : FL D T Z "EndingTownModel" 132 19 21 := FL.mk (by decide) (by decide) (by decide) q1385
theorem fp_X11_132 : FP D T Z "EndingTownModel" 132 19 21 false := FP.mk (by decide) (by decide) (by decide) rfl fl_X11_132
theorem fl_X11_135 : FL D T Z "EndingTownModel" 135 19 22 := FL.mk (by decide) (by decide) (by decide) q1386
theorem fp_X11_135 : FP D T Z "EndingTownModel" 135 19 22 false := FP.mk (by decide) (by decide) (by decide) rfl fl_X11_135
theorem fl_X11_142 : FL D T Z "EndingTownModel" 142 19 24 := FL.mk (by decide) (by decide) (by decide) q1388
theorem fp_X11_142 : FP D T Z "EndingTownModel" 142 19 24 false := FP.mk (by decide) (by decide) (by decide) rfl fl_X11_142
theorem fl_X11_145 : FL D T Z "EndingTownModel" 145 19 27 := FL.mk (by decide) (by decide) (by decide) q1391
theorem fp_X11_145 : FP D T Z "EndingTownModel" 145 19 27 false := FP.mk (by decide) (by decide) (by decide) rfl fl_X11_145
theorem fl_X11_149 : FL D T Z "EndingTownModel" 149 19 26 := FL.mk (by decide) (by decide) (by decide) q1390
theorem fp_X11_149 : FP D T Z "EndingTownModel" 149 19 26 false := FP.mk (by decide) (by decide) (by decide) rfl fl_X11_149
theorem fl_X11_152 : FL D T Z "EndingTownModel" 152 19 23 := FL.mk (by decide) (by decide) (by decide) q1387
theorem fp_X11_152 : FP D T Z "EndingTownModel" 152 19 23 false := FP.mk (by decide) (by decide) (by decide) rfl fl_X11_152
theorem fl_X11_162 : FL D T Z "EndingTownModel" 162 19 25 := FL.mk (by decide) (by decide) (by decide) q1389
theorem fp_X11_162 : FP D T Z "EndingTownModel" 162 19 25 false := FP.mk (by decide) (by decide) (by decide) rfl fl_X11_162
theorem fl_X11_173 : FL D T Z "EndingTownModel" 173 19 18 := FL.mk (by decide) (by decide) (by decide) q1382
theorem fp_X11_173 : FP D T Z "EndingTownModel" 173 19 18 false := FP.mk (by decide) (by decide) (by decide) rfl fl_X11_173
theorem fl_X11_197 : FL D T Z "EndingTownModel" 197 19 36 := FL.mk (by decide) (by decide) (by decide) q1400
theorem fp_X11_197 : FP D T Z "EndingTownModel" 197 19 36 false := FP.mk (by decide) (by decide) (by decide) rfl fl_X11_197
theorem fl_X11_201 : FL D T Z "EndingTownModel" 201 19 30 := FL.mk (by decide) (by decide) (by decide) q1394
theorem fp_X11_201 : FP D T Z "EndingTownModel" 201 19 30 false := FP.mk (by decide) (by decide) (by decide) rfl fl_X11_201
theorem fl_X11_207 : FL D T Z "EndingTownModel" 207 19 32 := FL.mk (by decide) (by decide) (by decide) q1396
theorem fp_X11_207 : FP D T Z "EndingTownModel" 207 19 32 false := FP.mk (by decide) (by decide) (by decide) rfl fl_X11_207
theorem fl_X11_210 : FL D T Z "EndingTownModel" 210 19 28 := FL.mk (by decide) (by decide) (by decide) q1392
theorem fp_X11_210 : FP D T Z "EndingTownModel" 210 19 28 false := FP.mk (by decide) (by decide) (by decide) rfl fl_X11_210
theorem fl_X11_216 : FL D T Z "EndingTownModel" 216 19 33 := FL.mk (by decide) (by decide) (by decide) q1397
theorem fp_X11_216 : FP D T Z "EndingTownModel" 216 19 33 false := FP.mk (by decide) (by decide) (by decide) rfl fl_X11_216
theorem fl_X11_219 : FL D T Z "EndingTownModel" 219 19 31 := FL.mk (by decide) (by decide) (by decide) q1395
theorem fp_X11_219 : FP D T Z "EndingTownModel" 219 19 31 false := FP.mk (by decide) (by decide) (by decide) rfl fl_X11_219
theorem fl_X11_225 : FL D T Z "EndingTownModel" 225 19 29 := FL.mk (by decide) (by decide) (by decide) q1393
theorem fp_X11_225 : FP D T Z "EndingTownModel" 225 19 29 false := FP.mk (by decide) (by decide) (by decide) rfl fl_X11_225
theorem fl_X11_228 : FL D T Z "EndingTownModel" 228 19 34 := FL.mk (by decide) (by decide) (by decide) q1398
theorem fp_X11_228 : FP D T Z "EndingTownModel" 228 19 34 false := FP.mk (by decide) (by decide) (by decide) rfl fl_X11_228
theorem fl_X11_231 : FL D T Z "EndingTownModel" 231 19 35 := FL.mk (by decide) (by decide) (by decide) q1399
theorem fp_X11_231 : FP D T Z "EndingTownModel" 231 19 35 false := FP.mk (by decide) (by decide) (by decide) rfl fl_X11_231
theorem fl_X11_260 : FL D T Z "EndingTownModel" 260 19 1 := FL.mk (by decide) (by decide) (by decide) q1365
theorem fp_X11_260 : FP D T Z "EndingTownModel" 260 19 1 false := FP.mk (by decide) (by decide) (by decide) rfl fl_X11_260
theorem fl_X11_263 : FL D T Z "EndingTownModel" 263 19 2 := FL.mk (by decide) (by decide) (by decide) q1366
theorem fp_X11_263 : FP D T Z "EndingTownModel" 263 19 2 false := FP.mk (by decide) (by decide) (by decide) rfl fl_X11_263
theorem fl_X11_266 : FL D T Z "EndingTownModel" 266 19 4 := FL.mk (by decide) (by decide) (by decide) q1368
theorem fp_X11_266 : FP D T Z "EndingTownModel" 266 19 4 false := FP.mk (by decide) (by decide) (by decide) rfl fl_X11_266
theorem fl_X11_269 : FL D T Z "EndingTownModel" 269 19 5 := FL.mk (by decide) (by decide) (by decide) q1369
theorem fp_X11_269 : FP D T Z "EndingTownModel" 269 19 5 false := FP.mk (by decide) (by decide) (by decide) rfl fl_X11_269
theorem fl_X11_272 : FL D T Z "EndingTownModel" 272 19 6 := FL.mk (by decide) (by decide) (by decide) q1370
theorem fp_X11_272 : FP D T Z "EndingTownModel" 272 19 6 false := FP.mk (by decide) (by decide) (by decide) rfl fl_X11_272
theorem fl_X11_279 : FL D T Z "EndingTownModel" 279 19 50 := FL.mk (by decide) (by decide) (by decide) q1414
theorem fp_X11_279 : FP D T Z "EndingTownModel" 279 19 50 false := FP.mk (by decide) (by decide) (by decide) rfl fl_X11_279
theorem fl_X11_282 : FL D T Z "EndingTownModel" 282 19 67 := FL.mk (by decide) (by decide) (by decide) q1431
theorem fp_X11_282 : FP D T Z "EndingTownModel" 282 19 67 false := FP.mk (by decide) (by decide) (by decide) rfl fl_X11_282
theorem fl_X11_285 : FL D T Z "EndingTownModel" 285 19 68 := FL.mk (by decide) (by decide) (by decide) q1432
theorem fp_X11_285 : FP D T Z "EndingTownModel" 285 19 68 false := FP.mk (by decide) (by decide) (by decide) rfl fl_X11_285
theorem fl_X11_288 : FL D T Z "EndingTownModel" 288 19 69 := FL.mk (by decide) (by decide) (by decide) q1433
theorem fp_X11_288 : FP D T Z "EndingTownModel" 288 19 69 false := FP.mk (by decide) (by decide) (by decide) rfl fl_X11_288
theorem fl_X11_305 : FL D T Z "EndingTownModel" 305 19 48 := FL.mk (by decide) (by decide) (by decide) q1412
theorem fp_X11_305 : FP D T Z "EndingTownModel" 305 19 48 false := FP.mk (by decide) (by decide) (by decide) rfl fl_X11_305
theorem fl_X11_321 : FL D T Z "EndingTownModel" 321 19 49 := FL.mk (by decide) (by decide) (by decide) q1413
theorem fp_X11_321 : FP D T Z "EndingTownModel" 321 19 49 false := FP.mk (by decide) (by decide) (by decide) rfl fl_X11_321
theorem fl_X11_343 : FL D T Z "EndingTownModel" 343 19 59 := FL.mk (by decide) (by decide) (by decide) q1423
theorem fp_X11_343 : FP D T Z "EndingTownModel" 343 19 59 false := FP.mk (by decide) (by decide) (by decide) rfl fl_X11_343
theorem fl_X11_352 : FL D T Z "EndingTownModel" 352 19 60 := FL.mk (by decide) (by decide) (by decide) q1424
theorem fp_X11_352 : FP D T Z "EndingTownModel" 352 19 60 false := FP.mk (by decide) (by decide) (by decide) rfl fl_X11_352
theorem fl_X11_355 : FL D T Z "EndingTownModel" 355 19 61 := FL.mk (by decide) (by decide) (by decide) q1425
theorem fp_X11_355 : FP D T Z "EndingTownModel" 355 19 61 false := FP.mk (by decide) (by decide) (by decide) rfl fl_X11_355
theorem fl_X11_375 : FL D T Z "EndingTownModel" 375 19 62 := FL.mk (by decide) (by decide) (by decide) q1426
theorem fp_X11_375 : FP D T Z "EndingTownModel" 375 19 62 false := FP.mk (by decide) (by decide) (by decide) rfl fl_X11_375
theorem fl_X11_430 : FL D T Z "EndingTownModel" 430 19 70 := FL.mk (by decide) (by decide) (by decide) q1434
theorem fp_X11_430 : FP D T Z "EndingTownModel" 430 19 70 false := FP.mk (by decide) (by decide) (by decide) rfl fl_X11_430
theorem fl_X11_433 : FL D T Z "EndingTownModel" 433 19 71 := FL.mk (by decide) (by decide) (by decide) q1435
theorem fp_X11_433 : FP D T Z "EndingTownModel" 433 19 71 false := FP.mk (by decide) (by decide) (by decide) rfl fl_X11_433
theorem fl_X11_436 : FL D T Z "EndingTownModel" 436 19 72 := FL.mk (by decide) (by decide) (by decide) q1436
theorem fp_X11_436 : FP D T Z "EndingTownModel" 436 19 72 false := FP.mk (by decide) (by decide) (by decide) rfl fl_X11_436
end FLX
theorem sw_out {x : Int32} {n : Nat} (h : ∀ j, j < n → ¬ x = nI j) (hn : n < 2 ^ 31) : x.toInt < 0 ∨ (n : Int) - 1 < x.toInt := by
  by_cases h0 : x.toInt < 0
  · exact Or.inl h0
  · refine Or.inr ?_
    by_cases h1 : (n : Int) - 1 < x.toInt
    · exact h1
    · refine absurd ?_ (h x.toInt.toNat (by omega))
      refine Int32.toInt_inj.mp ?_
      rw [nI_toInt (by omega)]
      omega
