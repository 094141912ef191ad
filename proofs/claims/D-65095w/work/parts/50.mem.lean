/-! THE PERMANENT CELLS (printed by gen/mem.py) -/
set_option maxRecDepth 100000
def hk (o : Int) : Int := (if o < 33 then (if o < 14 then (if o < 3 then (if o < 1 then 20 else (if o < 2 then 21 else 22)) else (if o < 8 then 23 else (if o < 9 then 24 else 25))) else (if o < 26 then (if o < 15 then 26 else (if o < 25 then 27 else 28)) else (if o < 31 then (if o < 27 then 29 else 30) else (if o < 32 then 31 else 32)))) else (if o < 39 then (if o < 36 then (if o < 34 then 33 else (if o < 35 then 34 else 35)) else (if o < 37 then 36 else (if o < 38 then 37 else 38))) else (if o < 61 then (if o < 40 then 39 else (if o < 41 then 40 else (if (o - 41) % 2 = 0 then 41 else 42))) else (if o < 84 then (if o < 64 then 43 else 44) else (if o < 124 then 45 else (if (o - 124) % 2 = 0 then 46 else 47))))))
def hx (o : Int) : Int := (if o < 33 then (if o < 14 then (if o < 3 then (if o < 1 then o - 0 else (if o < 2 then o - 1 else o - 2)) else (if o < 8 then o - 3 else (if o < 9 then o - 8 else o - 9))) else (if o < 26 then (if o < 15 then o - 14 else (if o < 25 then o - 15 else o - 25)) else (if o < 31 then (if o < 27 then o - 26 else o - 27) else (if o < 32 then o - 31 else o - 32)))) else (if o < 39 then (if o < 36 then (if o < 34 then o - 33 else (if o < 35 then o - 34 else o - 35)) else (if o < 37 then o - 36 else (if o < 38 then o - 37 else o - 38))) else (if o < 61 then (if o < 40 then o - 39 else (if o < 41 then o - 40 else (o - 41) / 2)) else (if o < 84 then (if o < 64 then o - 61 else o - 64) else (if o < 124 then o - 84 else (o - 124) / 2)))))
def lk (o : Int) : Int := (if o < 5 then (if o < 2 then (if o < 1 then 50 else 51) else (if o < 3 then 52 else (if o < 4 then 53 else 54))) else (if o < 8 then (if o < 6 then 55 else (if o < 7 then 56 else 57)) else (if o < 9 then 58 else (if o < 10 then 59 else (if (o - 10) % 3 = 0 then 60 else (if (o - 10) % 3 = 1 then 61 else 62))))))
def lx (o : Int) : Int := (if o < 5 then (if o < 2 then (if o < 1 then o - 0 else o - 1) else (if o < 3 then o - 2 else (if o < 4 then o - 3 else o - 4))) else (if o < 8 then (if o < 6 then o - 5 else (if o < 7 then o - 6 else o - 7)) else (if o < 9 then o - 8 else (if o < 10 then o - 9 else (o - 10) / 3))))
def kk (o : Int) : Int := (if o < 2 then (if o < 1 then 65 else 66) else (if o < 3 then 67 else (if o < 138 then 68 else 69)))
def kx (o : Int) : Int := (if o < 2 then (if o < 1 then o - 0 else o - 1) else (if o < 3 then o - 2 else (if o < 138 then o - 3 else o - 138)))
def pk (o : Int) : Int := (if o < 3 then (if o < 1 then 70 else (if o < 2 then 71 else 72)) else (if o < 4 then 73 else (if o < 5 then 74 else 75)))
def px (o : Int) : Int := (if o < 3 then (if o < 1 then o - 0 else (if o < 2 then o - 1 else o - 2)) else (if o < 4 then o - 3 else (if o < 5 then o - 4 else o - 5)))
def dk (o : Int) : Int := (if o < 3 then (if o < 1 then 107 else (if o < 2 then 108 else 109)) else (if o < 9 then (if o < 8 then 110 else 111) else (if o < 10 then 112 else 113)))
def dx (d o : Int) : Int := (if o < 3 then (if o < 1 then d else (if o < 2 then d else d)) else (if o < 9 then (if o < 8 then 5 * d + (o - 3) else d) else (if o < 10 then d else 5 * d + (o - 10))))
/-- class of a permanent cell; its index; the base of the house, layout, keys, code that it belongs to -/
def ck (a : Int) : Int := (if a < 1318 then (if a < 616 then (if a < 70 then (if a < 66 then (if a < 64 then 0 else (if a < 65 then 1 else 2)) else (if a < 68 then (if a < 67 then 3 else 4) else (if a < 69 then 5 else 6))) else (if a < 474 then (if a < 71 then 7 else (if a < 72 then 8 else (if (a - 72) % 201 = 0 then 9 else 10))) else (if a < 614 then (if a < 613 then kk (a - 474) else 11) else (if a < 615 then 12 else 13)))) else (if a < 1307 then (if a < 768 then (if a < 622 then pk (a - 616) else (if a < 628 then pk (a - 622) else hk (a - 628))) else (if a < 1038 then (if a < 908 then hk (a - 768) else lk (a - 908)) else (if a < 1168 then lk (a - 1038) else kk (a - 1168)))) else (if a < 1314 then (if a < 1308 then 14 else (if a < 1309 then 15 else 16)) else (if a < 1316 then (if a < 1315 then 80 else 81) else (if a < 1317 then 82 else 83))))) else (if a < 1332 then (if a < 1325 then (if a < 1321 then (if a < 1319 then 84 else (if a < 1320 then 85 else 86)) else (if a < 1323 then (if a < 1322 then 87 else 88) else (if a < 1324 then 89 else 90))) else (if a < 1328 then (if a < 1326 then 91 else (if a < 1327 then 92 else 93)) else (if a < 1330 then (if a < 1329 then 94 else 95) else (if a < 1331 then 96 else 97)))) else (if a < 1342 then (if a < 1338 then (if a < 1336 then (if (a - 1332) % 2 = 0 then 98 else 99) else (if a < 1337 then 100 else 101)) else (if a < 1340 then (if a < 1339 then 102 else 103) else (if a < 1341 then 104 else 105))) else (if a < 1400 then (if a < 1388 then (if a < 1343 then 106 else dk ((a - 1343) % 15)) else (if a < 1389 then 114 else 115)) else (if a < 1509 then (if a < 1401 then 120 else 121) else (if a < 1510 then 122 else 0))))))
def cx (a : Int) : Int := (if a < 1318 then (if a < 616 then (if a < 70 then (if a < 66 then (if a < 64 then 0 else (if a < 65 then a - 64 else a - 65)) else (if a < 68 then (if a < 67 then a - 66 else a - 67) else (if a < 69 then a - 68 else a - 69))) else (if a < 474 then (if a < 71 then a - 70 else (if a < 72 then a - 71 else (if (a - 72) % 201 = 0 then (a - 72) / 201 else 200 * ((a - 72) / 201) + (a - 72) % 201 - 1))) else (if a < 614 then (if a < 613 then kx (a - 474) else a - 613) else (if a < 615 then a - 614 else a - 615)))) else (if a < 1307 then (if a < 768 then (if a < 622 then px (a - 616) else (if a < 628 then px (a - 622) else hx (a - 628))) else (if a < 1038 then (if a < 908 then hx (a - 768) else lx (a - 908)) else (if a < 1168 then lx (a - 1038) else kx (a - 1168)))) else (if a < 1314 then (if a < 1308 then a - 1307 else (if a < 1309 then a - 1308 else a - 1309)) else (if a < 1316 then (if a < 1315 then a - 1314 else a - 1315) else (if a < 1317 then a - 1316 else a - 1317))))) else (if a < 1332 then (if a < 1325 then (if a < 1321 then (if a < 1319 then a - 1318 else (if a < 1320 then a - 1319 else a - 1320)) else (if a < 1323 then (if a < 1322 then a - 1321 else a - 1322) else (if a < 1324 then a - 1323 else a - 1324))) else (if a < 1328 then (if a < 1326 then a - 1325 else (if a < 1327 then a - 1326 else a - 1327)) else (if a < 1330 then (if a < 1329 then a - 1328 else a - 1329) else (if a < 1331 then a - 1330 else a - 1331)))) else (if a < 1342 then (if a < 1338 then (if a < 1336 then (a - 1332) / 2 else (if a < 1337 then a - 1336 else a - 1337)) else (if a < 1340 then (if a < 1339 then a - 1338 else a - 1339) else (if a < 1341 then a - 1340 else a - 1341))) else (if a < 1400 then (if a < 1388 then (if a < 1343 then a - 1342 else dx ((a - 1343) / 15) ((a - 1343) % 15)) else (if a < 1389 then a - 1388 else a - 1389)) else (if a < 1509 then (if a < 1401 then a - 1400 else a - 1400) else (if a < 1510 then a - 1509 else 0))))))
def cb (a : Int) : Int := (if a < 1318 then (if a < 616 then (if a < 70 then (if a < 66 then (if a < 64 then 0 else (if a < 65 then 0 else 0)) else (if a < 68 then (if a < 67 then 0 else 0) else (if a < 69 then 0 else 0))) else (if a < 474 then (if a < 71 then 0 else (if a < 72 then 0 else 0)) else (if a < 614 then (if a < 613 then 474 else 0) else (if a < 615 then 0 else 0)))) else (if a < 1307 then (if a < 768 then (if a < 622 then 616 else (if a < 628 then 622 else 628)) else (if a < 1038 then (if a < 908 then 768 else 908) else (if a < 1168 then 1038 else 1168))) else (if a < 1314 then (if a < 1308 then 0 else (if a < 1309 then 0 else 0)) else (if a < 1316 then (if a < 1315 then 0 else 0) else (if a < 1317 then 0 else 0))))) else (if a < 1332 then (if a < 1325 then (if a < 1321 then (if a < 1319 then 0 else (if a < 1320 then 0 else 0)) else (if a < 1323 then (if a < 1322 then 0 else 0) else (if a < 1324 then 0 else 0))) else (if a < 1328 then (if a < 1326 then 0 else (if a < 1327 then 0 else 0)) else (if a < 1330 then (if a < 1329 then 0 else 0) else (if a < 1331 then 0 else 0)))) else (if a < 1342 then (if a < 1338 then (if a < 1336 then 0 else (if a < 1337 then 0 else 0)) else (if a < 1340 then (if a < 1339 then 0 else 0) else (if a < 1341 then 0 else 0))) else (if a < 1400 then (if a < 1388 then (if a < 1343 then 0 else 0) else (if a < 1389 then 0 else 0)) else (if a < 1509 then (if a < 1401 then 0 else 0) else (if a < 1510 then 0 else 0))))))
def is_h (b : Int) : Prop := b = 628 ∨ b = 768
theorem ck_h {b o : Int} (hb : is_h b) (h0 : 0 ≤ o) (h1 : o < 140) : ck (b + o) = hk o := by
  rcases hb with rfl | rfl
  · exact (if_pos (by omega)).trans ((if_neg (by omega)).trans ((if_pos (by omega)).trans ((if_pos (by omega)).trans ((if_neg (by omega)).trans ((if_neg (by omega)).trans (congrArg hk (by omega)))))))
  · exact (if_pos (by omega)).trans ((if_neg (by omega)).trans ((if_pos (by omega)).trans ((if_neg (by omega)).trans ((if_pos (by omega)).trans ((if_pos (by omega)).trans (congrArg hk (by omega)))))))
theorem cx_h {b o : Int} (hb : is_h b) (h0 : 0 ≤ o) (h1 : o < 140) : cx (b + o) = hx o := by
  rcases hb with rfl | rfl
  · exact (if_pos (by omega)).trans ((if_neg (by omega)).trans ((if_pos (by omega)).trans ((if_pos (by omega)).trans ((if_neg (by omega)).trans ((if_neg (by omega)).trans (congrArg hx (by omega)))))))
  · exact (if_pos (by omega)).trans ((if_neg (by omega)).trans ((if_pos (by omega)).trans ((if_neg (by omega)).trans ((if_pos (by omega)).trans ((if_pos (by omega)).trans (congrArg hx (by omega)))))))
theorem cb_h {b o : Int} (hb : is_h b) (h0 : 0 ≤ o) (h1 : o < 140) : cb (b + o) = b := by
  rcases hb with rfl | rfl
  · exact (if_pos (by omega)).trans ((if_neg (by omega)).trans ((if_pos (by omega)).trans ((if_pos (by omega)).trans ((if_neg (by omega)).trans ((if_neg (by omega)))))))
  · exact (if_pos (by omega)).trans ((if_neg (by omega)).trans ((if_pos (by omega)).trans ((if_neg (by omega)).trans ((if_pos (by omega)).trans ((if_pos (by omega)))))))
def is_l (b : Int) : Prop := b = 908 ∨ b = 1038
theorem ck_l {b o : Int} (hb : is_l b) (h0 : 0 ≤ o) (h1 : o < 130) : ck (b + o) = lk o := by
  rcases hb with rfl | rfl
  · exact (if_pos (by omega)).trans ((if_neg (by omega)).trans ((if_pos (by omega)).trans ((if_neg (by omega)).trans ((if_pos (by omega)).trans ((if_neg (by omega)).trans (congrArg lk (by omega)))))))
  · exact (if_pos (by omega)).trans ((if_neg (by omega)).trans ((if_pos (by omega)).trans ((if_neg (by omega)).trans ((if_neg (by omega)).trans ((if_pos (by omega)).trans (congrArg lk (by omega)))))))
theorem cx_l {b o : Int} (hb : is_l b) (h0 : 0 ≤ o) (h1 : o < 130) : cx (b + o) = lx o := by
  rcases hb with rfl | rfl
  · exact (if_pos (by omega)).trans ((if_neg (by omega)).trans ((if_pos (by omega)).trans ((if_neg (by omega)).trans ((if_pos (by omega)).trans ((if_neg (by omega)).trans (congrArg lx (by omega)))))))
  · exact (if_pos (by omega)).trans ((if_neg (by omega)).trans ((if_pos (by omega)).trans ((if_neg (by omega)).trans ((if_neg (by omega)).trans ((if_pos (by omega)).trans (congrArg lx (by omega)))))))
theorem cb_l {b o : Int} (hb : is_l b) (h0 : 0 ≤ o) (h1 : o < 130) : cb (b + o) = b := by
  rcases hb with rfl | rfl
  · exact (if_pos (by omega)).trans ((if_neg (by omega)).trans ((if_pos (by omega)).trans ((if_neg (by omega)).trans ((if_pos (by omega)).trans ((if_neg (by omega)))))))
  · exact (if_pos (by omega)).trans ((if_neg (by omega)).trans ((if_pos (by omega)).trans ((if_neg (by omega)).trans ((if_neg (by omega)).trans ((if_pos (by omega)))))))
def is_k (b : Int) : Prop := b = 474 ∨ b = 1168
theorem ck_k {b o : Int} (hb : is_k b) (h0 : 0 ≤ o) (h1 : o < 139) : ck (b + o) = kk o := by
  rcases hb with rfl | rfl
  · exact (if_pos (by omega)).trans ((if_pos (by omega)).trans ((if_neg (by omega)).trans ((if_neg (by omega)).trans ((if_pos (by omega)).trans ((if_pos (by omega)).trans (congrArg kk (by omega)))))))
  · exact (if_pos (by omega)).trans ((if_neg (by omega)).trans ((if_pos (by omega)).trans ((if_neg (by omega)).trans ((if_neg (by omega)).trans ((if_neg (by omega)).trans (congrArg kk (by omega)))))))
theorem cx_k {b o : Int} (hb : is_k b) (h0 : 0 ≤ o) (h1 : o < 139) : cx (b + o) = kx o := by
  rcases hb with rfl | rfl
  · exact (if_pos (by omega)).trans ((if_pos (by omega)).trans ((if_neg (by omega)).trans ((if_neg (by omega)).trans ((if_pos (by omega)).trans ((if_pos (by omega)).trans (congrArg kx (by omega)))))))
  · exact (if_pos (by omega)).trans ((if_neg (by omega)).trans ((if_pos (by omega)).trans ((if_neg (by omega)).trans ((if_neg (by omega)).trans ((if_neg (by omega)).trans (congrArg kx (by omega)))))))
theorem cb_k {b o : Int} (hb : is_k b) (h0 : 0 ≤ o) (h1 : o < 139) : cb (b + o) = b := by
  rcases hb with rfl | rfl
  · exact (if_pos (by omega)).trans ((if_pos (by omega)).trans ((if_neg (by omega)).trans ((if_neg (by omega)).trans ((if_pos (by omega)).trans ((if_pos (by omega)))))))
  · exact (if_pos (by omega)).trans ((if_neg (by omega)).trans ((if_pos (by omega)).trans ((if_neg (by omega)).trans ((if_neg (by omega)).trans ((if_neg (by omega)))))))
def is_p (b : Int) : Prop := b = 616 ∨ b = 622
theorem ck_p {b o : Int} (hb : is_p b) (h0 : 0 ≤ o) (h1 : o < 6) : ck (b + o) = pk o := by
  rcases hb with rfl | rfl
  · exact (if_pos (by omega)).trans ((if_neg (by omega)).trans ((if_pos (by omega)).trans ((if_pos (by omega)).trans ((if_pos (by omega)).trans (congrArg pk (by omega))))))
  · exact (if_pos (by omega)).trans ((if_neg (by omega)).trans ((if_pos (by omega)).trans ((if_pos (by omega)).trans ((if_neg (by omega)).trans ((if_pos (by omega)).trans (congrArg pk (by omega)))))))
theorem cx_p {b o : Int} (hb : is_p b) (h0 : 0 ≤ o) (h1 : o < 6) : cx (b + o) = px o := by
  rcases hb with rfl | rfl
  · exact (if_pos (by omega)).trans ((if_neg (by omega)).trans ((if_pos (by omega)).trans ((if_pos (by omega)).trans ((if_pos (by omega)).trans (congrArg px (by omega))))))
  · exact (if_pos (by omega)).trans ((if_neg (by omega)).trans ((if_pos (by omega)).trans ((if_pos (by omega)).trans ((if_neg (by omega)).trans ((if_pos (by omega)).trans (congrArg px (by omega)))))))
theorem cb_p {b o : Int} (hb : is_p b) (h0 : 0 ≤ o) (h1 : o < 6) : cb (b + o) = b := by
  rcases hb with rfl | rfl
  · exact (if_pos (by omega)).trans ((if_neg (by omega)).trans ((if_pos (by omega)).trans ((if_pos (by omega)).trans ((if_pos (by omega))))))
  · exact (if_pos (by omega)).trans ((if_neg (by omega)).trans ((if_pos (by omega)).trans ((if_pos (by omega)).trans ((if_neg (by omega)).trans ((if_pos (by omega)))))))
theorem ck_20 {b : Int} (hb : is_h b) : ck (b) = 20 := (congrArg ck (by omega)).trans ((ck_h (o := 0) hb (by omega) (by omega)).trans ((if_pos (by omega)).trans ((if_pos (by omega)).trans ((if_pos (by omega)).trans ((if_pos (by omega)))))))
theorem cx_20 {b : Int} (hb : is_h b) : cx (b) = 0 := (congrArg cx (by omega)).trans ((cx_h (o := 0) hb (by omega) (by omega)).trans ((if_pos (by omega)).trans ((if_pos (by omega)).trans ((if_pos (by omega)).trans ((if_pos (by omega)).trans (by omega))))))
theorem cb_20 {b : Int} (hb : is_h b) : cb (b) = b := (congrArg cb (by omega)).trans (cb_h (o := 0) hb (by omega) (by omega))
theorem ck_21 {b : Int} (hb : is_h b) : ck (b + 1) = 21 := (ck_h (o := 1) hb (by omega) (by omega)).trans ((if_pos (by omega)).trans ((if_pos (by omega)).trans ((if_pos (by omega)).trans ((if_neg (by omega)).trans ((if_pos (by omega)))))))
theorem cx_21 {b : Int} (hb : is_h b) : cx (b + 1) = 0 := (cx_h (o := 1) hb (by omega) (by omega)).trans ((if_pos (by omega)).trans ((if_pos (by omega)).trans ((if_pos (by omega)).trans ((if_neg (by omega)).trans ((if_pos (by omega)).trans (by omega))))))
theorem cb_21 {b : Int} (hb : is_h b) : cb (b + 1) = b := cb_h (o := 1) hb (by omega) (by omega)
theorem ck_22 {b : Int} (hb : is_h b) : ck (b + 2) = 22 := (ck_h (o := 2) hb (by omega) (by omega)).trans ((if_pos (by omega)).trans ((if_pos (by omega)).trans ((if_pos (by omega)).trans ((if_neg (by omega)).trans ((if_neg (by omega)))))))
theorem cx_22 {b : Int} (hb : is_h b) : cx (b + 2) = 0 := (cx_h (o := 2) hb (by omega) (by omega)).trans ((if_pos (by omega)).trans ((if_pos (by omega)).trans ((if_pos (by omega)).trans ((if_neg (by omega)).trans ((if_neg (by omega)).trans (by omega))))))
theorem cb_22 {b : Int} (hb : is_h b) : cb (b + 2) = b := cb_h (o := 2) hb (by omega) (by omega)
theorem ck_23 {b x : Int} (hb : is_h b) (h0 : 0 ≤ x) (h1 : x < 5) : ck (b + (3 + x)) = 23 := (ck_h (o := (3 + x)) hb (by omega) (by omega)).trans ((if_pos (by omega)).trans ((if_pos (by omega)).trans ((if_neg (by omega)).trans ((if_pos (by omega))))))
theorem cx_23 {b x : Int} (hb : is_h b) (h0 : 0 ≤ x) (h1 : x < 5) : cx (b + (3 + x)) = x := (cx_h (o := (3 + x)) hb (by omega) (by omega)).trans ((if_pos (by omega)).trans ((if_pos (by omega)).trans ((if_neg (by omega)).trans ((if_pos (by omega)).trans (by omega)))))
theorem cb_23 {b x : Int} (hb : is_h b) (h0 : 0 ≤ x) (h1 : x < 5) : cb (b + (3 + x)) = b := cb_h (o := (3 + x)) hb (by omega) (by omega)
theorem ck_24 {b : Int} (hb : is_h b) : ck (b + 8) = 24 := (ck_h (o := 8) hb (by omega) (by omega)).trans ((if_pos (by omega)).trans ((if_pos (by omega)).trans ((if_neg (by omega)).trans ((if_neg (by omega)).trans ((if_pos (by omega)))))))
theorem cx_24 {b : Int} (hb : is_h b) : cx (b + 8) = 0 := (cx_h (o := 8) hb (by omega) (by omega)).trans ((if_pos (by omega)).trans ((if_pos (by omega)).trans ((if_neg (by omega)).trans ((if_neg (by omega)).trans ((if_pos (by omega)).trans (by omega))))))
theorem cb_24 {b : Int} (hb : is_h b) : cb (b + 8) = b := cb_h (o := 8) hb (by omega) (by omega)
theorem ck_25 {b x : Int} (hb : is_h b) (h0 : 0 ≤ x) (h1 : x < 5) : ck (b + (9 + x)) = 25 := (ck_h (o := (9 + x)) hb (by omega) (by omega)).trans ((if_pos (by omega)).trans ((if_pos (by omega)).trans ((if_neg (by omega)).trans ((if_neg (by omega)).trans ((if_neg (by omega)))))))
theorem cx_25 {b x : Int} (hb : is_h b) (h0 : 0 ≤ x) (h1 : x < 5) : cx (b + (9 + x)) = x := (cx_h (o := (9 + x)) hb (by omega) (by omega)).trans ((if_pos (by omega)).trans ((if_pos (by omega)).trans ((if_neg (by omega)).trans ((if_neg (by omega)).trans ((if_neg (by omega)).trans (by omega))))))
theorem cb_25 {b x : Int} (hb : is_h b) (h0 : 0 ≤ x) (h1 : x < 5) : cb (b + (9 + x)) = b := cb_h (o := (9 + x)) hb (by omega) (by omega)
theorem ck_26 {b : Int} (hb : is_h b) : ck (b + 14) = 26 := (ck_h (o := 14) hb (by omega) (by omega)).trans ((if_pos (by omega)).trans ((if_neg (by omega)).trans ((if_pos (by omega)).trans ((if_pos (by omega))))))
theorem cx_26 {b : Int} (hb : is_h b) : cx (b + 14) = 0 := (cx_h (o := 14) hb (by omega) (by omega)).trans ((if_pos (by omega)).trans ((if_neg (by omega)).trans ((if_pos (by omega)).trans ((if_pos (by omega)).trans (by omega)))))
theorem cb_26 {b : Int} (hb : is_h b) : cb (b + 14) = b := cb_h (o := 14) hb (by omega) (by omega)
theorem ck_27 {b x : Int} (hb : is_h b) (h0 : 0 ≤ x) (h1 : x < 10) : ck (b + (15 + x)) = 27 := (ck_h (o := (15 + x)) hb (by omega) (by omega)).trans ((if_pos (by omega)).trans ((if_neg (by omega)).trans ((if_pos (by omega)).trans ((if_neg (by omega)).trans ((if_pos (by omega)))))))
theorem cx_27 {b x : Int} (hb : is_h b) (h0 : 0 ≤ x) (h1 : x < 10) : cx (b + (15 + x)) = x := (cx_h (o := (15 + x)) hb (by omega) (by omega)).trans ((if_pos (by omega)).trans ((if_neg (by omega)).trans ((if_pos (by omega)).trans ((if_neg (by omega)).trans ((if_pos (by omega)).trans (by omega))))))
theorem cb_27 {b x : Int} (hb : is_h b) (h0 : 0 ≤ x) (h1 : x < 10) : cb (b + (15 + x)) = b := cb_h (o := (15 + x)) hb (by omega) (by omega)
theorem ck_28 {b : Int} (hb : is_h b) : ck (b + 25) = 28 := (ck_h (o := 25) hb (by omega) (by omega)).trans ((if_pos (by omega)).trans ((if_neg (by omega)).trans ((if_pos (by omega)).trans ((if_neg (by omega)).trans ((if_neg (by omega)))))))
theorem cx_28 {b : Int} (hb : is_h b) : cx (b + 25) = 0 := (cx_h (o := 25) hb (by omega) (by omega)).trans ((if_pos (by omega)).trans ((if_neg (by omega)).trans ((if_pos (by omega)).trans ((if_neg (by omega)).trans ((if_neg (by omega)).trans (by omega))))))
theorem cb_28 {b : Int} (hb : is_h b) : cb (b + 25) = b := cb_h (o := 25) hb (by omega) (by omega)
theorem ck_29 {b : Int} (hb : is_h b) : ck (b + 26) = 29 := (ck_h (o := 26) hb (by omega) (by omega)).trans ((if_pos (by omega)).trans ((if_neg (by omega)).trans ((if_neg (by omega)).trans ((if_pos (by omega)).trans ((if_pos (by omega)))))))
theorem cx_29 {b : Int} (hb : is_h b) : cx (b + 26) = 0 := (cx_h (o := 26) hb (by omega) (by omega)).trans ((if_pos (by omega)).trans ((if_neg (by omega)).trans ((if_neg (by omega)).trans ((if_pos (by omega)).trans ((if_pos (by omega)).trans (by omega))))))
theorem cb_29 {b : Int} (hb : is_h b) : cb (b + 26) = b := cb_h (o := 26) hb (by omega) (by omega)
theorem ck_30 {b x : Int} (hb : is_h b) (h0 : 0 ≤ x) (h1 : x < 4) : ck (b + (27 + x)) = 30 := (ck_h (o := (27 + x)) hb (by omega) (by omega)).trans ((if_pos (by omega)).trans ((if_neg (by omega)).trans ((if_neg (by omega)).trans ((if_pos (by omega)).trans ((if_neg (by omega)))))))
theorem cx_30 {b x : Int} (hb : is_h b) (h0 : 0 ≤ x) (h1 : x < 4) : cx (b + (27 + x)) = x := (cx_h (o := (27 + x)) hb (by omega) (by omega)).trans ((if_pos (by omega)).trans ((if_neg (by omega)).trans ((if_neg (by omega)).trans ((if_pos (by omega)).trans ((if_neg (by omega)).trans (by omega))))))
theorem cb_30 {b x : Int} (hb : is_h b) (h0 : 0 ≤ x) (h1 : x < 4) : cb (b + (27 + x)) = b := cb_h (o := (27 + x)) hb (by omega) (by omega)
theorem ck_31 {b : Int} (hb : is_h b) : ck (b + 31) = 31 := (ck_h (o := 31) hb (by omega) (by omega)).trans ((if_pos (by omega)).trans ((if_neg (by omega)).trans ((if_neg (by omega)).trans ((if_neg (by omega)).trans ((if_pos (by omega)))))))
theorem cx_31 {b : Int} (hb : is_h b) : cx (b + 31) = 0 := (cx_h (o := 31) hb (by omega) (by omega)).trans ((if_pos (by omega)).trans ((if_neg (by omega)).trans ((if_neg (by omega)).trans ((if_neg (by omega)).trans ((if_pos (by omega)).trans (by omega))))))
theorem cb_31 {b : Int} (hb : is_h b) : cb (b + 31) = b := cb_h (o := 31) hb (by omega) (by omega)
theorem ck_32 {b : Int} (hb : is_h b) : ck (b + 32) = 32 := (ck_h (o := 32) hb (by omega) (by omega)).trans ((if_pos (by omega)).trans ((if_neg (by omega)).trans ((if_neg (by omega)).trans ((if_neg (by omega)).trans ((if_neg (by omega)))))))
theorem cx_32 {b : Int} (hb : is_h b) : cx (b + 32) = 0 := (cx_h (o := 32) hb (by omega) (by omega)).trans ((if_pos (by omega)).trans ((if_neg (by omega)).trans ((if_neg (by omega)).trans ((if_neg (by omega)).trans ((if_neg (by omega)).trans (by omega))))))
theorem cb_32 {b : Int} (hb : is_h b) : cb (b + 32) = b := cb_h (o := 32) hb (by omega) (by omega)
theorem ck_33 {b : Int} (hb : is_h b) : ck (b + 33) = 33 := (ck_h (o := 33) hb (by omega) (by omega)).trans ((if_neg (by omega)).trans ((if_pos (by omega)).trans ((if_pos (by omega)).trans ((if_pos (by omega))))))
theorem cx_33 {b : Int} (hb : is_h b) : cx (b + 33) = 0 := (cx_h (o := 33) hb (by omega) (by omega)).trans ((if_neg (by omega)).trans ((if_pos (by omega)).trans ((if_pos (by omega)).trans ((if_pos (by omega)).trans (by omega)))))
theorem cb_33 {b : Int} (hb : is_h b) : cb (b + 33) = b := cb_h (o := 33) hb (by omega) (by omega)
theorem ck_34 {b : Int} (hb : is_h b) : ck (b + 34) = 34 := (ck_h (o := 34) hb (by omega) (by omega)).trans ((if_neg (by omega)).trans ((if_pos (by omega)).trans ((if_pos (by omega)).trans ((if_neg (by omega)).trans ((if_pos (by omega)))))))
theorem cx_34 {b : Int} (hb : is_h b) : cx (b + 34) = 0 := (cx_h (o := 34) hb (by omega) (by omega)).trans ((if_neg (by omega)).trans ((if_pos (by omega)).trans ((if_pos (by omega)).trans ((if_neg (by omega)).trans ((if_pos (by omega)).trans (by omega))))))
theorem cb_34 {b : Int} (hb : is_h b) : cb (b + 34) = b := cb_h (o := 34) hb (by omega) (by omega)
theorem ck_35 {b : Int} (hb : is_h b) : ck (b + 35) = 35 := (ck_h (o := 35) hb (by omega) (by omega)).trans ((if_neg (by omega)).trans ((if_pos (by omega)).trans ((if_pos (by omega)).trans ((if_neg (by omega)).trans ((if_neg (by omega)))))))
theorem cx_35 {b : Int} (hb : is_h b) : cx (b + 35) = 0 := (cx_h (o := 35) hb (by omega) (by omega)).trans ((if_neg (by omega)).trans ((if_pos (by omega)).trans ((if_pos (by omega)).trans ((if_neg (by omega)).trans ((if_neg (by omega)).trans (by omega))))))
theorem cb_35 {b : Int} (hb : is_h b) : cb (b + 35) = b := cb_h (o := 35) hb (by omega) (by omega)
theorem ck_36 {b : Int} (hb : is_h b) : ck (b + 36) = 36 := (ck_h (o := 36) hb (by omega) (by omega)).trans ((if_neg (by omega)).trans ((if_pos (by omega)).trans ((if_neg (by omega)).trans ((if_pos (by omega))))))
theorem cx_36 {b : Int} (hb : is_h b) : cx (b + 36) = 0 := (cx_h (o := 36) hb (by omega) (by omega)).trans ((if_neg (by omega)).trans ((if_pos (by omega)).trans ((if_neg (by omega)).trans ((if_pos (by omega)).trans (by omega)))))
theorem cb_36 {b : Int} (hb : is_h b) : cb (b + 36) = b := cb_h (o := 36) hb (by omega) (by omega)
theorem ck_37 {b : Int} (hb : is_h b) : ck (b + 37) = 37 := (ck_h (o := 37) hb (by omega) (by omega)).trans ((if_neg (by omega)).trans ((if_pos (by omega)).trans ((if_neg (by omega)).trans ((if_neg (by omega)).trans ((if_pos (by omega)))))))
theorem cx_37 {b : Int} (hb : is_h b) : cx (b + 37) = 0 := (cx_h (o := 37) hb (by omega) (by omega)).trans ((if_neg (by omega)).trans ((if_pos (by omega)).trans ((if_neg (by omega)).trans ((if_neg (by omega)).trans ((if_pos (by omega)).trans (by omega))))))
theorem cb_37 {b : Int} (hb : is_h b) : cb (b + 37) = b := cb_h (o := 37) hb (by omega) (by omega)
theorem ck_38 {b : Int} (hb : is_h b) : ck (b + 38) = 38 := (ck_h (o := 38) hb (by omega) (by omega)).trans ((if_neg (by omega)).trans ((if_pos (by omega)).trans ((if_neg (by omega)).trans ((if_neg (by omega)).trans ((if_neg (by omega)))))))
theorem cx_38 {b : Int} (hb : is_h b) : cx (b + 38) = 0 := (cx_h (o := 38) hb (by omega) (by omega)).trans ((if_neg (by omega)).trans ((if_pos (by omega)).trans ((if_neg (by omega)).trans ((if_neg (by omega)).trans ((if_neg (by omega)).trans (by omega))))))
theorem cb_38 {b : Int} (hb : is_h b) : cb (b + 38) = b := cb_h (o := 38) hb (by omega) (by omega)
theorem ck_39 {b : Int} (hb : is_h b) : ck (b + 39) = 39 := (ck_h (o := 39) hb (by omega) (by omega)).trans ((if_neg (by omega)).trans ((if_neg (by omega)).trans ((if_pos (by omega)).trans ((if_pos (by omega))))))
theorem cx_39 {b : Int} (hb : is_h b) : cx (b + 39) = 0 := (cx_h (o := 39) hb (by omega) (by omega)).trans ((if_neg (by omega)).trans ((if_neg (by omega)).trans ((if_pos (by omega)).trans ((if_pos (by omega)).trans (by omega)))))
theorem cb_39 {b : Int} (hb : is_h b) : cb (b + 39) = b := cb_h (o := 39) hb (by omega) (by omega)
theorem ck_40 {b : Int} (hb : is_h b) : ck (b + 40) = 40 := (ck_h (o := 40) hb (by omega) (by omega)).trans ((if_neg (by omega)).trans ((if_neg (by omega)).trans ((if_pos (by omega)).trans ((if_neg (by omega)).trans ((if_pos (by omega)))))))
theorem cx_40 {b : Int} (hb : is_h b) : cx (b + 40) = 0 := (cx_h (o := 40) hb (by omega) (by omega)).trans ((if_neg (by omega)).trans ((if_neg (by omega)).trans ((if_pos (by omega)).trans ((if_neg (by omega)).trans ((if_pos (by omega)).trans (by omega))))))
theorem cb_40 {b : Int} (hb : is_h b) : cb (b + 40) = b := cb_h (o := 40) hb (by omega) (by omega)
theorem ck_41 {b x : Int} (hb : is_h b) (h0 : 0 ≤ x) (h1 : x < 10) : ck (b + (41 + 2 * x)) = 41 := (ck_h (o := (41 + 2 * x)) hb (by omega) (by omega)).trans ((if_neg (by omega)).trans ((if_neg (by omega)).trans ((if_pos (by omega)).trans ((if_neg (by omega)).trans ((if_neg (by omega)).trans ((if_pos (by omega))))))))
theorem cx_41 {b x : Int} (hb : is_h b) (h0 : 0 ≤ x) (h1 : x < 10) : cx (b + (41 + 2 * x)) = x := (cx_h (o := (41 + 2 * x)) hb (by omega) (by omega)).trans ((if_neg (by omega)).trans ((if_neg (by omega)).trans ((if_pos (by omega)).trans ((if_neg (by omega)).trans ((if_neg (by omega)).trans (by omega))))))
theorem cb_41 {b x : Int} (hb : is_h b) (h0 : 0 ≤ x) (h1 : x < 10) : cb (b + (41 + 2 * x)) = b := cb_h (o := (41 + 2 * x)) hb (by omega) (by omega)
theorem ck_42 {b x : Int} (hb : is_h b) (h0 : 0 ≤ x) (h1 : x < 10) : ck (b + (42 + 2 * x)) = 42 := (ck_h (o := (42 + 2 * x)) hb (by omega) (by omega)).trans ((if_neg (by omega)).trans ((if_neg (by omega)).trans ((if_pos (by omega)).trans ((if_neg (by omega)).trans ((if_neg (by omega)).trans ((if_neg (by omega))))))))
theorem cx_42 {b x : Int} (hb : is_h b) (h0 : 0 ≤ x) (h1 : x < 10) : cx (b + (42 + 2 * x)) = x := (cx_h (o := (42 + 2 * x)) hb (by omega) (by omega)).trans ((if_neg (by omega)).trans ((if_neg (by omega)).trans ((if_pos (by omega)).trans ((if_neg (by omega)).trans ((if_neg (by omega)).trans (by omega))))))
theorem cb_42 {b x : Int} (hb : is_h b) (h0 : 0 ≤ x) (h1 : x < 10) : cb (b + (42 + 2 * x)) = b := cb_h (o := (42 + 2 * x)) hb (by omega) (by omega)
theorem ck_43 {b x : Int} (hb : is_h b) (h0 : 0 ≤ x) (h1 : x < 3) : ck (b + (61 + x)) = 43 := (ck_h (o := (61 + x)) hb (by omega) (by omega)).trans ((if_neg (by omega)).trans ((if_neg (by omega)).trans ((if_neg (by omega)).trans ((if_pos (by omega)).trans ((if_pos (by omega)))))))
theorem cx_43 {b x : Int} (hb : is_h b) (h0 : 0 ≤ x) (h1 : x < 3) : cx (b + (61 + x)) = x := (cx_h (o := (61 + x)) hb (by omega) (by omega)).trans ((if_neg (by omega)).trans ((if_neg (by omega)).trans ((if_neg (by omega)).trans ((if_pos (by omega)).trans ((if_pos (by omega)).trans (by omega))))))
theorem cb_43 {b x : Int} (hb : is_h b) (h0 : 0 ≤ x) (h1 : x < 3) : cb (b + (61 + x)) = b := cb_h (o := (61 + x)) hb (by omega) (by omega)
theorem ck_44 {b x : Int} (hb : is_h b) (h0 : 0 ≤ x) (h1 : x < 20) : ck (b + (64 + x)) = 44 := (ck_h (o := (64 + x)) hb (by omega) (by omega)).trans ((if_neg (by omega)).trans ((if_neg (by omega)).trans ((if_neg (by omega)).trans ((if_pos (by omega)).trans ((if_neg (by omega)))))))
theorem cx_44 {b x : Int} (hb : is_h b) (h0 : 0 ≤ x) (h1 : x < 20) : cx (b + (64 + x)) = x := (cx_h (o := (64 + x)) hb (by omega) (by omega)).trans ((if_neg (by omega)).trans ((if_neg (by omega)).trans ((if_neg (by omega)).trans ((if_pos (by omega)).trans ((if_neg (by omega)).trans (by omega))))))
theorem cb_44 {b x : Int} (hb : is_h b) (h0 : 0 ≤ x) (h1 : x < 20) : cb (b + (64 + x)) = b := cb_h (o := (64 + x)) hb (by omega) (by omega)
theorem ck_45 {b x : Int} (hb : is_h b) (h0 : 0 ≤ x) (h1 : x < 40) : ck (b + (84 + x)) = 45 := (ck_h (o := (84 + x)) hb (by omega) (by omega)).trans ((if_neg (by omega)).trans ((if_neg (by omega)).trans ((if_neg (by omega)).trans ((if_neg (by omega)).trans ((if_pos (by omega)))))))
theorem cx_45 {b x : Int} (hb : is_h b) (h0 : 0 ≤ x) (h1 : x < 40) : cx (b + (84 + x)) = x := (cx_h (o := (84 + x)) hb (by omega) (by omega)).trans ((if_neg (by omega)).trans ((if_neg (by omega)).trans ((if_neg (by omega)).trans ((if_neg (by omega)).trans ((if_pos (by omega)).trans (by omega))))))
theorem cb_45 {b x : Int} (hb : is_h b) (h0 : 0 ≤ x) (h1 : x < 40) : cb (b + (84 + x)) = b := cb_h (o := (84 + x)) hb (by omega) (by omega)
theorem ck_46 {b x : Int} (hb : is_h b) (h0 : 0 ≤ x) (h1 : x < 8) : ck (b + (124 + 2 * x)) = 46 := (ck_h (o := (124 + 2 * x)) hb (by omega) (by omega)).trans ((if_neg (by omega)).trans ((if_neg (by omega)).trans ((if_neg (by omega)).trans ((if_neg (by omega)).trans ((if_neg (by omega)).trans ((if_pos (by omega))))))))
theorem cx_46 {b x : Int} (hb : is_h b) (h0 : 0 ≤ x) (h1 : x < 8) : cx (b + (124 + 2 * x)) = x := (cx_h (o := (124 + 2 * x)) hb (by omega) (by omega)).trans ((if_neg (by omega)).trans ((if_neg (by omega)).trans ((if_neg (by omega)).trans ((if_neg (by omega)).trans ((if_neg (by omega)).trans (by omega))))))
theorem cb_46 {b x : Int} (hb : is_h b) (h0 : 0 ≤ x) (h1 : x < 8) : cb (b + (124 + 2 * x)) = b := cb_h (o := (124 + 2 * x)) hb (by omega) (by omega)
theorem ck_47 {b x : Int} (hb : is_h b) (h0 : 0 ≤ x) (h1 : x < 8) : ck (b + (125 + 2 * x)) = 47 := (ck_h (o := (125 + 2 * x)) hb (by omega) (by omega)).trans ((if_neg (by omega)).trans ((if_neg (by omega)).trans ((if_neg (by omega)).trans ((if_neg (by omega)).trans ((if_neg (by omega)).trans ((if_neg (by omega))))))))
theorem cx_47 {b x : Int} (hb : is_h b) (h0 : 0 ≤ x) (h1 : x < 8) : cx (b + (125 + 2 * x)) = x := (cx_h (o := (125 + 2 * x)) hb (by omega) (by omega)).trans ((if_neg (by omega)).trans ((if_neg (by omega)).trans ((if_neg (by omega)).trans ((if_neg (by omega)).trans ((if_neg (by omega)).trans (by omega))))))
theorem cb_47 {b x : Int} (hb : is_h b) (h0 : 0 ≤ x) (h1 : x < 8) : cb (b + (125 + 2 * x)) = b := cb_h (o := (125 + 2 * x)) hb (by omega) (by omega)
theorem ck_50 {b : Int} (hb : is_l b) : ck (b) = 50 := (congrArg ck (by omega)).trans ((ck_l (o := 0) hb (by omega) (by omega)).trans ((if_pos (by omega)).trans ((if_pos (by omega)).trans ((if_pos (by omega))))))
theorem cx_50 {b : Int} (hb : is_l b) : cx (b) = 0 := (congrArg cx (by omega)).trans ((cx_l (o := 0) hb (by omega) (by omega)).trans ((if_pos (by omega)).trans ((if_pos (by omega)).trans ((if_pos (by omega)).trans (by omega)))))
theorem cb_50 {b : Int} (hb : is_l b) : cb (b) = b := (congrArg cb (by omega)).trans (cb_l (o := 0) hb (by omega) (by omega))
theorem ck_51 {b : Int} (hb : is_l b) : ck (b + 1) = 51 := (ck_l (o := 1) hb (by omega) (by omega)).trans ((if_pos (by omega)).trans ((if_pos (by omega)).trans ((if_neg (by omega)))))
theorem cx_51 {b : Int} (hb : is_l b) : cx (b + 1) = 0 := (cx_l (o := 1) hb (by omega) (by omega)).trans ((if_pos (by omega)).trans ((if_pos (by omega)).trans ((if_neg (by omega)).trans (by omega))))
theorem cb_51 {b : Int} (hb : is_l b) : cb (b + 1) = b := cb_l (o := 1) hb (by omega) (by omega)
theorem ck_52 {b : Int} (hb : is_l b) : ck (b + 2) = 52 := (ck_l (o := 2) hb (by omega) (by omega)).trans ((if_pos (by omega)).trans ((if_neg (by omega)).trans ((if_pos (by omega)))))
theorem cx_52 {b : Int} (hb : is_l b) : cx (b + 2) = 0 := (cx_l (o := 2) hb (by omega) (by omega)).trans ((if_pos (by omega)).trans ((if_neg (by omega)).trans ((if_pos (by omega)).trans (by omega))))
theorem cb_52 {b : Int} (hb : is_l b) : cb (b + 2) = b := cb_l (o := 2) hb (by omega) (by omega)
theorem ck_53 {b : Int} (hb : is_l b) : ck (b + 3) = 53 := (ck_l (o := 3) hb (by omega) (by omega)).trans ((if_pos (by omega)).trans ((if_neg (by omega)).trans ((if_neg (by omega)).trans ((if_pos (by omega))))))
theorem cx_53 {b : Int} (hb : is_l b) : cx (b + 3) = 0 := (cx_l (o := 3) hb (by omega) (by omega)).trans ((if_pos (by omega)).trans ((if_neg (by omega)).trans ((if_neg (by omega)).trans ((if_pos (by omega)).trans (by omega)))))
theorem cb_53 {b : Int} (hb : is_l b) : cb (b + 3) = b := cb_l (o := 3) hb (by omega) (by omega)
theorem ck_54 {b : Int} (hb : is_l b) : ck (b + 4) = 54 := (ck_l (o := 4) hb (by omega) (by omega)).trans ((if_pos (by omega)).trans ((if_neg (by omega)).trans ((if_neg (by omega)).trans ((if_neg (by omega))))))
theorem cx_54 {b : Int} (hb : is_l b) : cx (b + 4) = 0 := (cx_l (o := 4) hb (by omega) (by omega)).trans ((if_pos (by omega)).trans ((if_neg (by omega)).trans ((if_neg (by omega)).trans ((if_neg (by omega)).trans (by omega)))))
theorem cb_54 {b : Int} (hb : is_l b) : cb (b + 4) = b := cb_l (o := 4) hb (by omega) (by omega)
theorem ck_55 {b : Int} (hb : is_l b) : ck (b + 5) = 55 := (ck_l (o := 5) hb (by omega) (by omega)).trans ((if_neg (by omega)).trans ((if_pos (by omega)).trans ((if_pos (by omega)))))
theorem cx_55 {b : Int} (hb : is_l b) : cx (b + 5) = 0 := (cx_l (o := 5) hb (by omega) (by omega)).trans ((if_neg (by omega)).trans ((if_pos (by omega)).trans ((if_pos (by omega)).trans (by omega))))
theorem cb_55 {b : Int} (hb : is_l b) : cb (b + 5) = b := cb_l (o := 5) hb (by omega) (by omega)
theorem ck_56 {b : Int} (hb : is_l b) : ck (b + 6) = 56 := (ck_l (o := 6) hb (by omega) (by omega)).trans ((if_neg (by omega)).trans ((if_pos (by omega)).trans ((if_neg (by omega)).trans ((if_pos (by omega))))))
theorem cx_56 {b : Int} (hb : is_l b) : cx (b + 6) = 0 := (cx_l (o := 6) hb (by omega) (by omega)).trans ((if_neg (by omega)).trans ((if_pos (by omega)).trans ((if_neg (by omega)).trans ((if_pos (by omega)).trans (by omega)))))
theorem cb_56 {b : Int} (hb : is_l b) : cb (b + 6) = b := cb_l (o := 6) hb (by omega) (by omega)
theorem ck_57 {b : Int} (hb : is_l b) : ck (b + 7) = 57 := (ck_l (o := 7) hb (by omega) (by omega)).trans ((if_neg (by omega)).trans ((if_pos (by omega)).trans ((if_neg (by omega)).trans ((if_neg (by omega))))))
theorem cx_57 {b : Int} (hb : is_l b) : cx (b + 7) = 0 := (cx_l (o := 7) hb (by omega) (by omega)).trans ((if_neg (by omega)).trans ((if_pos (by omega)).trans ((if_neg (by omega)).trans ((if_neg (by omega)).trans (by omega)))))
theorem cb_57 {b : Int} (hb : is_l b) : cb (b + 7) = b := cb_l (o := 7) hb (by omega) (by omega)
theorem ck_58 {b : Int} (hb : is_l b) : ck (b + 8) = 58 := (ck_l (o := 8) hb (by omega) (by omega)).trans ((if_neg (by omega)).trans ((if_neg (by omega)).trans ((if_pos (by omega)))))
theorem cx_58 {b : Int} (hb : is_l b) : cx (b + 8) = 0 := (cx_l (o := 8) hb (by omega) (by omega)).trans ((if_neg (by omega)).trans ((if_neg (by omega)).trans ((if_pos (by omega)).trans (by omega))))
theorem cb_58 {b : Int} (hb : is_l b) : cb (b + 8) = b := cb_l (o := 8) hb (by omega) (by omega)
theorem ck_59 {b : Int} (hb : is_l b) : ck (b + 9) = 59 := (ck_l (o := 9) hb (by omega) (by omega)).trans ((if_neg (by omega)).trans ((if_neg (by omega)).trans ((if_neg (by omega)).trans ((if_pos (by omega))))))
theorem cx_59 {b : Int} (hb : is_l b) : cx (b + 9) = 0 := (cx_l (o := 9) hb (by omega) (by omega)).trans ((if_neg (by omega)).trans ((if_neg (by omega)).trans ((if_neg (by omega)).trans ((if_pos (by omega)).trans (by omega)))))
theorem cb_59 {b : Int} (hb : is_l b) : cb (b + 9) = b := cb_l (o := 9) hb (by omega) (by omega)
theorem ck_60 {b x : Int} (hb : is_l b) (h0 : 0 ≤ x) (h1 : x < 40) : ck (b + (10 + 3 * x)) = 60 := (ck_l (o := (10 + 3 * x)) hb (by omega) (by omega)).trans ((if_neg (by omega)).trans ((if_neg (by omega)).trans ((if_neg (by omega)).trans ((if_neg (by omega)).trans ((if_pos (by omega)))))))
theorem cx_60 {b x : Int} (hb : is_l b) (h0 : 0 ≤ x) (h1 : x < 40) : cx (b + (10 + 3 * x)) = x := (cx_l (o := (10 + 3 * x)) hb (by omega) (by omega)).trans ((if_neg (by omega)).trans ((if_neg (by omega)).trans ((if_neg (by omega)).trans ((if_neg (by omega)).trans (by omega)))))
theorem cb_60 {b x : Int} (hb : is_l b) (h0 : 0 ≤ x) (h1 : x < 40) : cb (b + (10 + 3 * x)) = b := cb_l (o := (10 + 3 * x)) hb (by omega) (by omega)
theorem ck_61 {b x : Int} (hb : is_l b) (h0 : 0 ≤ x) (h1 : x < 40) : ck (b + (11 + 3 * x)) = 61 := (ck_l (o := (11 + 3 * x)) hb (by omega) (by omega)).trans ((if_neg (by omega)).trans ((if_neg (by omega)).trans ((if_neg (by omega)).trans ((if_neg (by omega)).trans ((if_neg (by omega)).trans ((if_pos (by omega))))))))
theorem cx_61 {b x : Int} (hb : is_l b) (h0 : 0 ≤ x) (h1 : x < 40) : cx (b + (11 + 3 * x)) = x := (cx_l (o := (11 + 3 * x)) hb (by omega) (by omega)).trans ((if_neg (by omega)).trans ((if_neg (by omega)).trans ((if_neg (by omega)).trans ((if_neg (by omega)).trans (by omega)))))
theorem cb_61 {b x : Int} (hb : is_l b) (h0 : 0 ≤ x) (h1 : x < 40) : cb (b + (11 + 3 * x)) = b := cb_l (o := (11 + 3 * x)) hb (by omega) (by omega)
theorem ck_62 {b x : Int} (hb : is_l b) (h0 : 0 ≤ x) (h1 : x < 40) : ck (b + (12 + 3 * x)) = 62 := (ck_l (o := (12 + 3 * x)) hb (by omega) (by omega)).trans ((if_neg (by omega)).trans ((if_neg (by omega)).trans ((if_neg (by omega)).trans ((if_neg (by omega)).trans ((if_neg (by omega)).trans ((if_neg (by omega))))))))
theorem cx_62 {b x : Int} (hb : is_l b) (h0 : 0 ≤ x) (h1 : x < 40) : cx (b + (12 + 3 * x)) = x := (cx_l (o := (12 + 3 * x)) hb (by omega) (by omega)).trans ((if_neg (by omega)).trans ((if_neg (by omega)).trans ((if_neg (by omega)).trans ((if_neg (by omega)).trans (by omega)))))
theorem cb_62 {b x : Int} (hb : is_l b) (h0 : 0 ≤ x) (h1 : x < 40) : cb (b + (12 + 3 * x)) = b := cb_l (o := (12 + 3 * x)) hb (by omega) (by omega)
theorem ck_65 {b : Int} (hb : is_k b) : ck (b) = 65 := (congrArg ck (by omega)).trans ((ck_k (o := 0) hb (by omega) (by omega)).trans ((if_pos (by omega)).trans ((if_pos (by omega)))))
theorem cx_65 {b : Int} (hb : is_k b) : cx (b) = 0 := (congrArg cx (by omega)).trans ((cx_k (o := 0) hb (by omega) (by omega)).trans ((if_pos (by omega)).trans ((if_pos (by omega)).trans (by omega))))
theorem cb_65 {b : Int} (hb : is_k b) : cb (b) = b := (congrArg cb (by omega)).trans (cb_k (o := 0) hb (by omega) (by omega))
theorem ck_66 {b : Int} (hb : is_k b) : ck (b + 1) = 66 := (ck_k (o := 1) hb (by omega) (by omega)).trans ((if_pos (by omega)).trans ((if_neg (by omega))))
theorem cx_66 {b : Int} (hb : is_k b) : cx (b + 1) = 0 := (cx_k (o := 1) hb (by omega) (by omega)).trans ((if_pos (by omega)).trans ((if_neg (by omega)).trans (by omega)))
theorem cb_66 {b : Int} (hb : is_k b) : cb (b + 1) = b := cb_k (o := 1) hb (by omega) (by omega)
theorem ck_67 {b : Int} (hb : is_k b) : ck (b + 2) = 67 := (ck_k (o := 2) hb (by omega) (by omega)).trans ((if_neg (by omega)).trans ((if_pos (by omega))))
theorem cx_67 {b : Int} (hb : is_k b) : cx (b + 2) = 0 := (cx_k (o := 2) hb (by omega) (by omega)).trans ((if_neg (by omega)).trans ((if_pos (by omega)).trans (by omega)))
theorem cb_67 {b : Int} (hb : is_k b) : cb (b + 2) = b := cb_k (o := 2) hb (by omega) (by omega)
theorem ck_68 {b x : Int} (hb : is_k b) (h0 : 0 ≤ x) (h1 : x < 135) : ck (b + (3 + x)) = 68 := (ck_k (o := (3 + x)) hb (by omega) (by omega)).trans ((if_neg (by omega)).trans ((if_neg (by omega)).trans ((if_pos (by omega)))))
theorem cx_68 {b x : Int} (hb : is_k b) (h0 : 0 ≤ x) (h1 : x < 135) : cx (b + (3 + x)) = x := (cx_k (o := (3 + x)) hb (by omega) (by omega)).trans ((if_neg (by omega)).trans ((if_neg (by omega)).trans ((if_pos (by omega)).trans (by omega))))
theorem cb_68 {b x : Int} (hb : is_k b) (h0 : 0 ≤ x) (h1 : x < 135) : cb (b + (3 + x)) = b := cb_k (o := (3 + x)) hb (by omega) (by omega)
theorem ck_69 {b : Int} (hb : is_k b) : ck (b + 138) = 69 := (ck_k (o := 138) hb (by omega) (by omega)).trans ((if_neg (by omega)).trans ((if_neg (by omega)).trans ((if_neg (by omega)))))
theorem cx_69 {b : Int} (hb : is_k b) : cx (b + 138) = 0 := (cx_k (o := 138) hb (by omega) (by omega)).trans ((if_neg (by omega)).trans ((if_neg (by omega)).trans ((if_neg (by omega)).trans (by omega))))
theorem cb_69 {b : Int} (hb : is_k b) : cb (b + 138) = b := cb_k (o := 138) hb (by omega) (by omega)
theorem ck_70 {b : Int} (hb : is_p b) : ck (b) = 70 := (congrArg ck (by omega)).trans ((ck_p (o := 0) hb (by omega) (by omega)).trans ((if_pos (by omega)).trans ((if_pos (by omega)))))
theorem cx_70 {b : Int} (hb : is_p b) : cx (b) = 0 := (congrArg cx (by omega)).trans ((cx_p (o := 0) hb (by omega) (by omega)).trans ((if_pos (by omega)).trans ((if_pos (by omega)).trans (by omega))))
theorem cb_70 {b : Int} (hb : is_p b) : cb (b) = b := (congrArg cb (by omega)).trans (cb_p (o := 0) hb (by omega) (by omega))
theorem ck_71 {b : Int} (hb : is_p b) : ck (b + 1) = 71 := (ck_p (o := 1) hb (by omega) (by omega)).trans ((if_pos (by omega)).trans ((if_neg (by omega)).trans ((if_pos (by omega)))))
theorem cx_71 {b : Int} (hb : is_p b) : cx (b + 1) = 0 := (cx_p (o := 1) hb (by omega) (by omega)).trans ((if_pos (by omega)).trans ((if_neg (by omega)).trans ((if_pos (by omega)).trans (by omega))))
theorem cb_71 {b : Int} (hb : is_p b) : cb (b + 1) = b := cb_p (o := 1) hb (by omega) (by omega)
theorem ck_72 {b : Int} (hb : is_p b) : ck (b + 2) = 72 := (ck_p (o := 2) hb (by omega) (by omega)).trans ((if_pos (by omega)).trans ((if_neg (by omega)).trans ((if_neg (by omega)))))
theorem cx_72 {b : Int} (hb : is_p b) : cx (b + 2) = 0 := (cx_p (o := 2) hb (by omega) (by omega)).trans ((if_pos (by omega)).trans ((if_neg (by omega)).trans ((if_neg (by omega)).trans (by omega))))
theorem cb_72 {b : Int} (hb : is_p b) : cb (b + 2) = b := cb_p (o := 2) hb (by omega) (by omega)
theorem ck_73 {b : Int} (hb : is_p b) : ck (b + 3) = 73 := (ck_p (o := 3) hb (by omega) (by omega)).trans ((if_neg (by omega)).trans ((if_pos (by omega))))
theorem cx_73 {b : Int} (hb : is_p b) : cx (b + 3) = 0 := (cx_p (o := 3) hb (by omega) (by omega)).trans ((if_neg (by omega)).trans ((if_pos (by omega)).trans (by omega)))
theorem cb_73 {b : Int} (hb : is_p b) : cb (b + 3) = b := cb_p (o := 3) hb (by omega) (by omega)
theorem ck_74 {b : Int} (hb : is_p b) : ck (b + 4) = 74 := (ck_p (o := 4) hb (by omega) (by omega)).trans ((if_neg (by omega)).trans ((if_neg (by omega)).trans ((if_pos (by omega)))))
theorem cx_74 {b : Int} (hb : is_p b) : cx (b + 4) = 0 := (cx_p (o := 4) hb (by omega) (by omega)).trans ((if_neg (by omega)).trans ((if_neg (by omega)).trans ((if_pos (by omega)).trans (by omega))))
theorem cb_74 {b : Int} (hb : is_p b) : cb (b + 4) = b := cb_p (o := 4) hb (by omega) (by omega)
theorem ck_75 {b : Int} (hb : is_p b) : ck (b + 5) = 75 := (ck_p (o := 5) hb (by omega) (by omega)).trans ((if_neg (by omega)).trans ((if_neg (by omega)).trans ((if_neg (by omega)))))
theorem cx_75 {b : Int} (hb : is_p b) : cx (b + 5) = 0 := (cx_p (o := 5) hb (by omega) (by omega)).trans ((if_neg (by omega)).trans ((if_neg (by omega)).trans ((if_neg (by omega)).trans (by omega))))
theorem cb_75 {b : Int} (hb : is_p b) : cb (b + 5) = b := cb_p (o := 5) hb (by omega) (by omega)
theorem ck_1 : ck (64) = 1 := by decide
theorem cx_1 : cx (64) = 0 := by decide
theorem cb_1 : cb (64) = 0 := by decide
theorem ck_2 : ck (65) = 2 := by decide
theorem cx_2 : cx (65) = 0 := by decide
theorem cb_2 : cb (65) = 0 := by decide
theorem ck_3 : ck (66) = 3 := by decide
theorem cx_3 : cx (66) = 0 := by decide
theorem cb_3 : cb (66) = 0 := by decide
theorem ck_4 : ck (67) = 4 := by decide
theorem cx_4 : cx (67) = 0 := by decide
theorem cb_4 : cb (67) = 0 := by decide
theorem ck_5 : ck (68) = 5 := by decide
theorem cx_5 : cx (68) = 0 := by decide
theorem cb_5 : cb (68) = 0 := by decide
theorem ck_6 : ck (69) = 6 := by decide
theorem cx_6 : cx (69) = 0 := by decide
theorem cb_6 : cb (69) = 0 := by decide
theorem ck_7 : ck (70) = 7 := by decide
theorem cx_7 : cx (70) = 0 := by decide
theorem cb_7 : cb (70) = 0 := by decide
theorem ck_8 : ck (71) = 8 := by decide
theorem cx_8 : cx (71) = 0 := by decide
theorem cb_8 : cb (71) = 0 := by decide
theorem ck_9 {x : Int} (h0 : 0 ≤ x) (h1 : x < 2) : ck (72 + 201 * x) = 9 := (if_pos (by omega)).trans ((if_pos (by omega)).trans ((if_neg (by omega)).trans ((if_pos (by omega)).trans ((if_neg (by omega)).trans ((if_neg (by omega)).trans ((if_pos (by omega))))))))
theorem cx_9 {x : Int} (h0 : 0 ≤ x) (h1 : x < 2) : cx (72 + 201 * x) = x := (if_pos (by omega)).trans ((if_pos (by omega)).trans ((if_neg (by omega)).trans ((if_pos (by omega)).trans ((if_neg (by omega)).trans ((if_neg (by omega)).trans ((if_pos (by omega)).trans (by omega)))))))
theorem cb_9 {x : Int} (h0 : 0 ≤ x) (h1 : x < 2) : cb (72 + 201 * x) = 0 := (if_pos (by omega)).trans ((if_pos (by omega)).trans ((if_neg (by omega)).trans ((if_pos (by omega)).trans ((if_neg (by omega)).trans ((if_neg (by omega)))))))
theorem ck_10 {x r : Int} (h0 : 0 ≤ x) (h1 : x < 2) (h2 : 0 ≤ r) (h3 : r < 200) : ck (73 + 201 * x + r) = 10 := (if_pos (by omega)).trans ((if_pos (by omega)).trans ((if_neg (by omega)).trans ((if_pos (by omega)).trans ((if_neg (by omega)).trans ((if_neg (by omega)).trans ((if_neg (by omega))))))))
theorem cx_10 {x r : Int} (h0 : 0 ≤ x) (h1 : x < 2) (h2 : 0 ≤ r) (h3 : r < 200) : cx (73 + 201 * x + r) = 200 * x + r := (if_pos (by omega)).trans ((if_pos (by omega)).trans ((if_neg (by omega)).trans ((if_pos (by omega)).trans ((if_neg (by omega)).trans ((if_neg (by omega)).trans ((if_neg (by omega)).trans (by omega)))))))
theorem cb_10 {x r : Int} (h0 : 0 ≤ x) (h1 : x < 2) (h2 : 0 ≤ r) (h3 : r < 200) : cb (73 + 201 * x + r) = 0 := (if_pos (by omega)).trans ((if_pos (by omega)).trans ((if_neg (by omega)).trans ((if_pos (by omega)).trans ((if_neg (by omega)).trans ((if_neg (by omega)))))))
theorem ck_11 : ck (613) = 11 := by decide
theorem cx_11 : cx (613) = 0 := by decide
theorem cb_11 : cb (613) = 0 := by decide
theorem ck_12 : ck (614) = 12 := by decide
theorem cx_12 : cx (614) = 0 := by decide
theorem cb_12 : cb (614) = 0 := by decide
theorem ck_13 : ck (615) = 13 := by decide
theorem cx_13 : cx (615) = 0 := by decide
theorem cb_13 : cb (615) = 0 := by decide
theorem ck_14 : ck (1307) = 14 := by decide
theorem cx_14 : cx (1307) = 0 := by decide
theorem cb_14 : cb (1307) = 0 := by decide
theorem ck_15 : ck (1308) = 15 := by decide
theorem cx_15 : cx (1308) = 0 := by decide
theorem cb_15 : cb (1308) = 0 := by decide
theorem ck_16 {x : Int} (h0 : 0 ≤ x) (h1 : x < 5) : ck (1309 + x) = 16 := (if_pos (by omega)).trans ((if_neg (by omega)).trans ((if_neg (by omega)).trans ((if_pos (by omega)).trans ((if_neg (by omega)).trans ((if_neg (by omega)))))))
theorem cx_16 {x : Int} (h0 : 0 ≤ x) (h1 : x < 5) : cx (1309 + x) = x := (if_pos (by omega)).trans ((if_neg (by omega)).trans ((if_neg (by omega)).trans ((if_pos (by omega)).trans ((if_neg (by omega)).trans ((if_neg (by omega)).trans (by omega))))))
theorem cb_16 {x : Int} (h0 : 0 ≤ x) (h1 : x < 5) : cb (1309 + x) = 0 := (if_pos (by omega)).trans ((if_neg (by omega)).trans ((if_neg (by omega)).trans ((if_pos (by omega)).trans ((if_neg (by omega)).trans ((if_neg (by omega)))))))
theorem ck_80 : ck (1314) = 80 := by decide
theorem cx_80 : cx (1314) = 0 := by decide
theorem cb_80 : cb (1314) = 0 := by decide
theorem ck_81 : ck (1315) = 81 := by decide
theorem cx_81 : cx (1315) = 0 := by decide
theorem cb_81 : cb (1315) = 0 := by decide
theorem ck_82 : ck (1316) = 82 := by decide
theorem cx_82 : cx (1316) = 0 := by decide
theorem cb_82 : cb (1316) = 0 := by decide
theorem ck_83 : ck (1317) = 83 := by decide
theorem cx_83 : cx (1317) = 0 := by decide
theorem cb_83 : cb (1317) = 0 := by decide
theorem ck_84 : ck (1318) = 84 := by decide
theorem cx_84 : cx (1318) = 0 := by decide
theorem cb_84 : cb (1318) = 0 := by decide
theorem ck_85 : ck (1319) = 85 := by decide
theorem cx_85 : cx (1319) = 0 := by decide
theorem cb_85 : cb (1319) = 0 := by decide
theorem ck_86 : ck (1320) = 86 := by decide
theorem cx_86 : cx (1320) = 0 := by decide
theorem cb_86 : cb (1320) = 0 := by decide
theorem ck_87 : ck (1321) = 87 := by decide
theorem cx_87 : cx (1321) = 0 := by decide
theorem cb_87 : cb (1321) = 0 := by decide
theorem ck_88 : ck (1322) = 88 := by decide
theorem cx_88 : cx (1322) = 0 := by decide
theorem cb_88 : cb (1322) = 0 := by decide
theorem ck_89 : ck (1323) = 89 := by decide
theorem cx_89 : cx (1323) = 0 := by decide
theorem cb_89 : cb (1323) = 0 := by decide
theorem ck_90 : ck (1324) = 90 := by decide
theorem cx_90 : cx (1324) = 0 := by decide
theorem cb_90 : cb (1324) = 0 := by decide
theorem ck_91 : ck (1325) = 91 := by decide
theorem cx_91 : cx (1325) = 0 := by decide
theorem cb_91 : cb (1325) = 0 := by decide
theorem ck_92 : ck (1326) = 92 := by decide
theorem cx_92 : cx (1326) = 0 := by decide
theorem cb_92 : cb (1326) = 0 := by decide
theorem ck_93 : ck (1327) = 93 := by decide
theorem cx_93 : cx (1327) = 0 := by decide
theorem cb_93 : cb (1327) = 0 := by decide
theorem ck_94 : ck (1328) = 94 := by decide
theorem cx_94 : cx (1328) = 0 := by decide
theorem cb_94 : cb (1328) = 0 := by decide
theorem ck_95 : ck (1329) = 95 := by decide
theorem cx_95 : cx (1329) = 0 := by decide
theorem cb_95 : cb (1329) = 0 := by decide
theorem ck_96 : ck (1330) = 96 := by decide
theorem cx_96 : cx (1330) = 0 := by decide
theorem cb_96 : cb (1330) = 0 := by decide
theorem ck_97 : ck (1331) = 97 := by decide
theorem cx_97 : cx (1331) = 0 := by decide
theorem cb_97 : cb (1331) = 0 := by decide
theorem ck_98 {x : Int} (h0 : 0 ≤ x) (h1 : x < 2) : ck (1332 + 2 * x) = 98 := (if_neg (by omega)).trans ((if_neg (by omega)).trans ((if_pos (by omega)).trans ((if_pos (by omega)).trans ((if_pos (by omega)).trans ((if_pos (by omega)))))))
theorem cx_98 {x : Int} (h0 : 0 ≤ x) (h1 : x < 2) : cx (1332 + 2 * x) = x := (if_neg (by omega)).trans ((if_neg (by omega)).trans ((if_pos (by omega)).trans ((if_pos (by omega)).trans ((if_pos (by omega)).trans (by omega)))))
theorem cb_98 {x : Int} (h0 : 0 ≤ x) (h1 : x < 2) : cb (1332 + 2 * x) = 0 := (if_neg (by omega)).trans ((if_neg (by omega)).trans ((if_pos (by omega)).trans ((if_pos (by omega)).trans ((if_pos (by omega))))))
theorem ck_99 {x : Int} (h0 : 0 ≤ x) (h1 : x < 2) : ck (1333 + 2 * x) = 99 := (if_neg (by omega)).trans ((if_neg (by omega)).trans ((if_pos (by omega)).trans ((if_pos (by omega)).trans ((if_pos (by omega)).trans ((if_neg (by omega)))))))
theorem cx_99 {x : Int} (h0 : 0 ≤ x) (h1 : x < 2) : cx (1333 + 2 * x) = x := (if_neg (by omega)).trans ((if_neg (by omega)).trans ((if_pos (by omega)).trans ((if_pos (by omega)).trans ((if_pos (by omega)).trans (by omega)))))
theorem cb_99 {x : Int} (h0 : 0 ≤ x) (h1 : x < 2) : cb (1333 + 2 * x) = 0 := (if_neg (by omega)).trans ((if_neg (by omega)).trans ((if_pos (by omega)).trans ((if_pos (by omega)).trans ((if_pos (by omega))))))
theorem ck_100 : ck (1336) = 100 := by decide
theorem cx_100 : cx (1336) = 0 := by decide
theorem cb_100 : cb (1336) = 0 := by decide
theorem ck_101 : ck (1337) = 101 := by decide
theorem cx_101 : cx (1337) = 0 := by decide
theorem cb_101 : cb (1337) = 0 := by decide
theorem ck_102 : ck (1338) = 102 := by decide
theorem cx_102 : cx (1338) = 0 := by decide
theorem cb_102 : cb (1338) = 0 := by decide
theorem ck_103 : ck (1339) = 103 := by decide
theorem cx_103 : cx (1339) = 0 := by decide
theorem cb_103 : cb (1339) = 0 := by decide
theorem ck_104 : ck (1340) = 104 := by decide
theorem cx_104 : cx (1340) = 0 := by decide
theorem cb_104 : cb (1340) = 0 := by decide
theorem ck_105 : ck (1341) = 105 := by decide
theorem cx_105 : cx (1341) = 0 := by decide
theorem cb_105 : cb (1341) = 0 := by decide
theorem ck_106 : ck (1342) = 106 := by decide
theorem cx_106 : cx (1342) = 0 := by decide
theorem cb_106 : cb (1342) = 0 := by decide
theorem ck_107 {x : Int} (h0 : 0 ≤ x) (h1 : x < 3) : ck (1343 + 15 * x) = 107 := (if_neg (by omega)).trans ((if_neg (by omega)).trans ((if_neg (by omega)).trans ((if_pos (by omega)).trans ((if_pos (by omega)).trans ((if_neg (by omega)).trans ((if_pos (by omega)).trans ((if_pos (by omega)))))))))
theorem cx_107 {x : Int} (h0 : 0 ≤ x) (h1 : x < 3) : cx (1343 + 15 * x) = x := (if_neg (by omega)).trans ((if_neg (by omega)).trans ((if_neg (by omega)).trans ((if_pos (by omega)).trans ((if_pos (by omega)).trans ((if_neg (by omega)).trans ((if_pos (by omega)).trans ((if_pos (by omega)).trans (by omega))))))))
theorem cb_107 {x : Int} (h0 : 0 ≤ x) (h1 : x < 3) : cb (1343 + 15 * x) = 0 := (if_neg (by omega)).trans ((if_neg (by omega)).trans ((if_neg (by omega)).trans ((if_pos (by omega)).trans ((if_pos (by omega)).trans ((if_neg (by omega)))))))
theorem ck_108 {x : Int} (h0 : 0 ≤ x) (h1 : x < 3) : ck (1344 + 15 * x) = 108 := (if_neg (by omega)).trans ((if_neg (by omega)).trans ((if_neg (by omega)).trans ((if_pos (by omega)).trans ((if_pos (by omega)).trans ((if_neg (by omega)).trans ((if_pos (by omega)).trans ((if_neg (by omega)).trans ((if_pos (by omega))))))))))
theorem cx_108 {x : Int} (h0 : 0 ≤ x) (h1 : x < 3) : cx (1344 + 15 * x) = x := (if_neg (by omega)).trans ((if_neg (by omega)).trans ((if_neg (by omega)).trans ((if_pos (by omega)).trans ((if_pos (by omega)).trans ((if_neg (by omega)).trans ((if_pos (by omega)).trans ((if_neg (by omega)).trans ((if_pos (by omega)).trans (by omega)))))))))
theorem cb_108 {x : Int} (h0 : 0 ≤ x) (h1 : x < 3) : cb (1344 + 15 * x) = 0 := (if_neg (by omega)).trans ((if_neg (by omega)).trans ((if_neg (by omega)).trans ((if_pos (by omega)).trans ((if_pos (by omega)).trans ((if_neg (by omega)))))))
theorem ck_109 {x : Int} (h0 : 0 ≤ x) (h1 : x < 3) : ck (1345 + 15 * x) = 109 := (if_neg (by omega)).trans ((if_neg (by omega)).trans ((if_neg (by omega)).trans ((if_pos (by omega)).trans ((if_pos (by omega)).trans ((if_neg (by omega)).trans ((if_pos (by omega)).trans ((if_neg (by omega)).trans ((if_neg (by omega))))))))))
theorem cx_109 {x : Int} (h0 : 0 ≤ x) (h1 : x < 3) : cx (1345 + 15 * x) = x := (if_neg (by omega)).trans ((if_neg (by omega)).trans ((if_neg (by omega)).trans ((if_pos (by omega)).trans ((if_pos (by omega)).trans ((if_neg (by omega)).trans ((if_pos (by omega)).trans ((if_neg (by omega)).trans ((if_neg (by omega)).trans (by omega)))))))))
theorem cb_109 {x : Int} (h0 : 0 ≤ x) (h1 : x < 3) : cb (1345 + 15 * x) = 0 := (if_neg (by omega)).trans ((if_neg (by omega)).trans ((if_neg (by omega)).trans ((if_pos (by omega)).trans ((if_pos (by omega)).trans ((if_neg (by omega)))))))
theorem ck_110 {x s : Int} (h0 : 0 ≤ x) (h1 : x < 3) (h2 : 0 ≤ s) (h3 : s < 5) : ck (1346 + 15 * x + s) = 110 := (if_neg (by omega)).trans ((if_neg (by omega)).trans ((if_neg (by omega)).trans ((if_pos (by omega)).trans ((if_pos (by omega)).trans ((if_neg (by omega)).trans ((if_neg (by omega)).trans ((if_pos (by omega)).trans ((if_pos (by omega))))))))))
theorem cx_110 {x s : Int} (h0 : 0 ≤ x) (h1 : x < 3) (h2 : 0 ≤ s) (h3 : s < 5) : cx (1346 + 15 * x + s) = 5 * x + s := (if_neg (by omega)).trans ((if_neg (by omega)).trans ((if_neg (by omega)).trans ((if_pos (by omega)).trans ((if_pos (by omega)).trans ((if_neg (by omega)).trans ((if_neg (by omega)).trans ((if_pos (by omega)).trans ((if_pos (by omega)).trans (by omega)))))))))
theorem cb_110 {x s : Int} (h0 : 0 ≤ x) (h1 : x < 3) (h2 : 0 ≤ s) (h3 : s < 5) : cb (1346 + 15 * x + s) = 0 := (if_neg (by omega)).trans ((if_neg (by omega)).trans ((if_neg (by omega)).trans ((if_pos (by omega)).trans ((if_pos (by omega)).trans ((if_neg (by omega)))))))
theorem ck_111 {x : Int} (h0 : 0 ≤ x) (h1 : x < 3) : ck (1351 + 15 * x) = 111 := (if_neg (by omega)).trans ((if_neg (by omega)).trans ((if_neg (by omega)).trans ((if_pos (by omega)).trans ((if_pos (by omega)).trans ((if_neg (by omega)).trans ((if_neg (by omega)).trans ((if_pos (by omega)).trans ((if_neg (by omega))))))))))
theorem cx_111 {x : Int} (h0 : 0 ≤ x) (h1 : x < 3) : cx (1351 + 15 * x) = x := (if_neg (by omega)).trans ((if_neg (by omega)).trans ((if_neg (by omega)).trans ((if_pos (by omega)).trans ((if_pos (by omega)).trans ((if_neg (by omega)).trans ((if_neg (by omega)).trans ((if_pos (by omega)).trans ((if_neg (by omega)).trans (by omega)))))))))
theorem cb_111 {x : Int} (h0 : 0 ≤ x) (h1 : x < 3) : cb (1351 + 15 * x) = 0 := (if_neg (by omega)).trans ((if_neg (by omega)).trans ((if_neg (by omega)).trans ((if_pos (by omega)).trans ((if_pos (by omega)).trans ((if_neg (by omega)))))))
theorem ck_112 {x : Int} (h0 : 0 ≤ x) (h1 : x < 3) : ck (1352 + 15 * x) = 112 := (if_neg (by omega)).trans ((if_neg (by omega)).trans ((if_neg (by omega)).trans ((if_pos (by omega)).trans ((if_pos (by omega)).trans ((if_neg (by omega)).trans ((if_neg (by omega)).trans ((if_neg (by omega)).trans ((if_pos (by omega))))))))))
theorem cx_112 {x : Int} (h0 : 0 ≤ x) (h1 : x < 3) : cx (1352 + 15 * x) = x := (if_neg (by omega)).trans ((if_neg (by omega)).trans ((if_neg (by omega)).trans ((if_pos (by omega)).trans ((if_pos (by omega)).trans ((if_neg (by omega)).trans ((if_neg (by omega)).trans ((if_neg (by omega)).trans ((if_pos (by omega)).trans (by omega)))))))))
theorem cb_112 {x : Int} (h0 : 0 ≤ x) (h1 : x < 3) : cb (1352 + 15 * x) = 0 := (if_neg (by omega)).trans ((if_neg (by omega)).trans ((if_neg (by omega)).trans ((if_pos (by omega)).trans ((if_pos (by omega)).trans ((if_neg (by omega)))))))
theorem ck_113 {x s : Int} (h0 : 0 ≤ x) (h1 : x < 3) (h2 : 0 ≤ s) (h3 : s < 5) : ck (1353 + 15 * x + s) = 113 := (if_neg (by omega)).trans ((if_neg (by omega)).trans ((if_neg (by omega)).trans ((if_pos (by omega)).trans ((if_pos (by omega)).trans ((if_neg (by omega)).trans ((if_neg (by omega)).trans ((if_neg (by omega)).trans ((if_neg (by omega))))))))))
theorem cx_113 {x s : Int} (h0 : 0 ≤ x) (h1 : x < 3) (h2 : 0 ≤ s) (h3 : s < 5) : cx (1353 + 15 * x + s) = 5 * x + s := (if_neg (by omega)).trans ((if_neg (by omega)).trans ((if_neg (by omega)).trans ((if_pos (by omega)).trans ((if_pos (by omega)).trans ((if_neg (by omega)).trans ((if_neg (by omega)).trans ((if_neg (by omega)).trans ((if_neg (by omega)).trans (by omega)))))))))
theorem cb_113 {x s : Int} (h0 : 0 ≤ x) (h1 : x < 3) (h2 : 0 ≤ s) (h3 : s < 5) : cb (1353 + 15 * x + s) = 0 := (if_neg (by omega)).trans ((if_neg (by omega)).trans ((if_neg (by omega)).trans ((if_pos (by omega)).trans ((if_pos (by omega)).trans ((if_neg (by omega)))))))
theorem ck_114 : ck (1388) = 114 := by decide
theorem cx_114 : cx (1388) = 0 := by decide
theorem cb_114 : cb (1388) = 0 := by decide
theorem ck_115 {x : Int} (h0 : 0 ≤ x) (h1 : x < 11) : ck (1389 + x) = 115 := (if_neg (by omega)).trans ((if_neg (by omega)).trans ((if_neg (by omega)).trans ((if_pos (by omega)).trans ((if_neg (by omega)).trans ((if_neg (by omega)))))))
theorem cx_115 {x : Int} (h0 : 0 ≤ x) (h1 : x < 11) : cx (1389 + x) = x := (if_neg (by omega)).trans ((if_neg (by omega)).trans ((if_neg (by omega)).trans ((if_pos (by omega)).trans ((if_neg (by omega)).trans ((if_neg (by omega)).trans (by omega))))))
theorem cb_115 {x : Int} (h0 : 0 ≤ x) (h1 : x < 11) : cb (1389 + x) = 0 := (if_neg (by omega)).trans ((if_neg (by omega)).trans ((if_neg (by omega)).trans ((if_pos (by omega)).trans ((if_neg (by omega)).trans ((if_neg (by omega)))))))
theorem ck_120 : ck (1400) = 120 := by decide
theorem cx_120 : cx (1400) = 0 := by decide
theorem cb_120 : cb (1400) = 0 := by decide
theorem ck_121 {x : Int} (h0 : 1 ≤ x) (h1 : x < 109) : ck (1400 + x) = 121 := (if_neg (by omega)).trans ((if_neg (by omega)).trans ((if_neg (by omega)).trans ((if_neg (by omega)).trans ((if_pos (by omega)).trans ((if_neg (by omega)))))))
theorem cx_121 {x : Int} (h0 : 1 ≤ x) (h1 : x < 109) : cx (1400 + x) = x := (if_neg (by omega)).trans ((if_neg (by omega)).trans ((if_neg (by omega)).trans ((if_neg (by omega)).trans ((if_pos (by omega)).trans ((if_neg (by omega)).trans (by omega))))))
theorem cb_121 {x : Int} (h0 : 1 ≤ x) (h1 : x < 109) : cb (1400 + x) = 0 := (if_neg (by omega)).trans ((if_neg (by omega)).trans ((if_neg (by omega)).trans ((if_neg (by omega)).trans ((if_pos (by omega)).trans ((if_neg (by omega)))))))
theorem ck_122 : ck (1509) = 122 := by decide
theorem cx_122 : cx (1509) = 0 := by decide
theorem cb_122 : cb (1509) = 0 := by decide
def ftp (i : Int) : Int := (if i < 80 then (if i < 37 then (if i < 18 then (if i < 10 then (if i < 6 then (if i < 4 then (if i < 3 then (-7) else 1401) else (if i < 5 then (-7) else 1402)) else (if i < 8 then (if i < 7 then 1403 else (-7)) else (if i < 9 then 1404 else 1405))) else (if i < 14 then (if i < 12 then (if i < 11 then 1406 else 1407) else (if i < 13 then 1408 else 1409)) else (if i < 16 then (if i < 15 then 1410 else 1411) else (if i < 17 then 1412 else 1413)))) else (if i < 26 then (if i < 22 then (if i < 20 then (if i < 19 then 1414 else 1415) else (if i < 21 then 1416 else (-7))) else (if i < 24 then (if i < 23 then 1417 else 1418) else (if i < 25 then 1419 else (-7)))) else (if i < 31 then (if i < 29 then (if i < 27 then 1420 else (-7)) else (if i < 30 then 1421 else 1422)) else (if i < 33 then (if i < 32 then (-7) else 1423) else (if i < 34 then 1424 else (-7)))))) else (if i < 56 then (if i < 45 then (if i < 41 then (if i < 39 then (if i < 38 then 1425 else 1426) else (if i < 40 then 1427 else 1428)) else (if i < 43 then (if i < 42 then 1429 else 1430) else (if i < 44 then 1431 else 1432))) else (if i < 49 then (if i < 47 then (if i < 46 then 1433 else 1434) else (if i < 48 then 1435 else 1436)) else (if i < 51 then (if i < 50 then 1437 else 1438) else (if i < 52 then 1439 else (-7))))) else (if i < 71 then (if i < 60 then (if i < 58 then (if i < 57 then 1440 else 1441) else (if i < 59 then 1442 else 1443)) else (if i < 69 then (if i < 61 then 1444 else (-7)) else (if i < 70 then 1445 else 1446))) else (if i < 75 then (if i < 73 then (if i < 72 then 1447 else (-7)) else (if i < 74 then 1448 else 1449)) else (if i < 77 then (if i < 76 then 1450 else 1451) else (if i < 78 then 1452 else (if i < 79 then 1453 else 1454))))))) else (if i < 112 then (if i < 96 then (if i < 88 then (if i < 84 then (if i < 82 then (if i < 81 then 1455 else 1456) else (if i < 83 then 1457 else 1458)) else (if i < 86 then (if i < 85 then 1459 else 1460) else (if i < 87 then 1461 else (-7)))) else (if i < 92 then (if i < 90 then (if i < 89 then 1462 else 1463) else (if i < 91 then 1464 else 1465)) else (if i < 94 then (if i < 93 then 1466 else 1467) else (if i < 95 then 1468 else 1469)))) else (if i < 104 then (if i < 100 then (if i < 98 then (if i < 97 then (-7) else 1470) else (if i < 99 then 1471 else 1472)) else (if i < 102 then (if i < 101 then 1473 else 1474) else (if i < 103 then 1475 else 1476))) else (if i < 108 then (if i < 106 then (if i < 105 then 1477 else 1478) else (if i < 107 then 1479 else 1480)) else (if i < 110 then (if i < 109 then 1481 else 1482) else (if i < 111 then 1483 else 1484))))) else (if i < 131 then (if i < 120 then (if i < 116 then (if i < 114 then (if i < 113 then (-7) else 1485) else (if i < 115 then 1486 else 1487)) else (if i < 118 then (if i < 117 then 1488 else 1489) else (if i < 119 then 1490 else 1491))) else (if i < 127 then (if i < 122 then (if i < 121 then 1492 else 1493) else (if i < 126 then (-7) else 1494)) else (if i < 129 then (if i < 128 then 1495 else 1496) else (if i < 130 then 1497 else 1498)))) else (if i < 143 then (if i < 139 then (if i < 133 then (if i < 132 then 1499 else 1500) else (if i < 138 then (-7) else 1501)) else (if i < 141 then (if i < 140 then (-7) else 1502) else (if i < 142 then (-7) else 1503))) else (if i < 147 then (if i < 145 then (if i < 144 then (-7) else 1504) else (if i < 146 then 1505 else 1506)) else (if i < 156 then (if i < 155 then (-7) else 1507) else (if i < 158 then (-7) else (if i < 159 then 1508 else (-7)))))))))
/-- fixed pointers (-7: none) -/
def fpc (c x b i : Int) : Int := (if c < 50 then (if c < 24 then (if c < 9 then (if c < 5 then (if c < 2 then (if c < 1 then (-7) else (if i = 1 then 65 else (if i = 2 then 68 else (if i = 3 then 70 else (if i = 4 then 615 else (if i = 5 then 616 else (if i = 6 then 622 else (if i = 12 then 1307 else (if i = 13 then 1314 else (-7)))))))))) else (if c < 3 then (if i = 0 then 66 else (if i = 1 then 67 else (-7))) else (-7))) else (if c < 7 then (if c < 6 then (if i = 0 then 69 else (if i = 1 then 64 else (-7))) else (-7)) else (if c < 8 then (if i = 0 then 71 else (if i = 7 then 613 else (if i = 8 then 614 else (-7)))) else (if 0 ≤ i ∧ i < 2 then 72 + 201 * i else (-7))))) else (if c < 16 then (if c < 14 then (if c < 10 then (if 0 ≤ i ∧ i < 200 then 73 + 201 * x + i else (-7)) else (-7)) else (if c < 15 then (if i = 0 then 1308 else (-7)) else (if 0 ≤ i ∧ i < 5 then 1309 + i else (-7)))) else (if c < 21 then (if c < 20 then (-7) else (if i = 0 then b + 1 else (if i = 1 then b + 8 else (if i = 2 then b + 14 else (if i = 3 then b + 25 else (if i = 4 then b + 26 else (if i = 5 then b + 31 else (if i = 7 then b + 32 else (if i = 8 then b + 33 else (if i = 9 then b + 34 else (if i = 18 then b + 35 else (if i = 19 then b + 36 else (if i = 20 then b + 37 else (if i = 21 then b + 38 else (if i = 22 then b + 39 else (if i = 23 then b + 40 else (-7))))))))))))))))) else (if c < 22 then (if i = 0 then b + 2 else (-7)) else (if c < 23 then (if 0 ≤ i ∧ i < 5 then b + (3 + i) else (-7)) else (-7)))))) else (if c < 36 then (if c < 29 then (if c < 26 then (if c < 25 then (if 0 ≤ i ∧ i < 5 then b + (9 + i) else (-7)) else (-7)) else (if c < 27 then (if 0 ≤ i ∧ i < 10 then b + (15 + i) else (-7)) else (-7))) else (if c < 34 then (if c < 30 then (if 0 ≤ i ∧ i < 4 then b + (27 + i) else (-7)) else (-7)) else (if c < 35 then (if 0 ≤ i ∧ i < 10 then b + (41 + 2 * i) else (-7)) else (-7)))) else (if c < 40 then (if c < 38 then (if c < 37 then (if 0 ≤ i ∧ i < 3 then b + (61 + i) else (-7)) else (-7)) else (if c < 39 then (if 0 ≤ i ∧ i < 20 then b + (64 + i) else (-7)) else (if 0 ≤ i ∧ i < 40 then b + (84 + i) else (-7)))) else (if c < 42 then (if c < 41 then (if 0 ≤ i ∧ i < 8 then b + (124 + 2 * i) else (-7)) else (if i = 2 then b + (42 + 2 * x) else (-7))) else (if c < 46 then (-7) else (if c < 47 then (if i = 3 then b + (125 + 2 * x) else (-7)) else (-7))))))) else (if c < 97 then (if c < 68 then (if c < 61 then (if c < 52 then (if c < 51 then (if i = 0 then b + 1 else (if i = 2 then b + 2 else (if i = 3 then b + 3 else (if i = 4 then b + 4 else (if i = 6 then b + 5 else (if i = 7 then b + 6 else (if i = 9 then b + 7 else (if i = 10 then b + 8 else (if i = 11 then b + 9 else (-7)))))))))) else (if 0 ≤ i ∧ i < 40 then b + (10 + 3 * i) else (-7))) else (if c < 60 then (-7) else (if i = 0 then x else (if i = 1 then b + (11 + 3 * x) else (if i = 5 then b + (12 + 3 * x) else (-7)))))) else (if c < 66 then (if c < 65 then (-7) else (if i = 0 then b + 1 else (if i = 1 then b + 2 else (if i = 2 then b + 138 else (-7))))) else (if c < 67 then (-7) else (if 0 ≤ i ∧ i < 135 then b + (3 + i) else (-7))))) else (if c < 76 then (if c < 71 then (if c < 70 then (-7) else (if i = 0 then b + 1 else (if i = 2 then b + 2 else (if i = 3 then b + 3 else (if i = 5 then b + 4 else (if i = 6 then b + 5 else (-7))))))) else (if c < 75 then (-7) else (if 0 ≤ i ∧ i < 10 then i + 1 else (-7)))) else (if c < 81 then (if c < 80 then (-7) else (if 0 ≤ i ∧ i < 9 then 1315 + i else (if i = 20 then 1324 else (if i = 22 then 1325 else (if i = 23 then 1326 else (if i = 24 then 1327 else (if i = 25 then 1328 else (if i = 26 then 1329 else (if i = 28 then 1330 else (if i = 30 then 1331 else (if i = 31 then 1336 else (if i = 32 then 1337 else (if i = 36 then 1338 else (if i = 37 then 1340 else (if i = 38 then 1342 else (if i = 41 then 1388 else (if i = 42 then 64 else (-7)))))))))))))))))) else (if c < 88 then (-7) else (if c < 89 then (if 0 ≤ i ∧ i < 11 then 1389 + i else (-7)) else (-7)))))) else (if c < 107 then (if c < 103 then (if c < 99 then (if c < 98 then (if 0 ≤ i ∧ i < 2 then 1332 + 2 * i else (-7)) else (if i = 0 then x else (if i = 1 then 1333 + 2 * x else (-7)))) else (if c < 102 then (-7) else (if i = 0 then 1339 else (-7)))) else (if c < 105 then (if c < 104 then (-7) else (if i = 0 then 1341 else (-7))) else (if c < 106 then (-7) else (if 0 ≤ i ∧ i < 3 then 1343 + 15 * i else (-7))))) else (if c < 111 then (if c < 109 then (if c < 108 then (if i = 0 then 1344 + 15 * x else (if i = 1 then 1351 + 15 * x else (-7))) else (if i = 0 then 1345 + 15 * x else (-7))) else (if c < 110 then (if 0 ≤ i ∧ i < 5 then 1346 + 15 * x + i else (-7)) else (-7))) else (if c < 113 then (if c < 112 then (if i = 0 then 1352 + 15 * x else (-7)) else (if 0 ≤ i ∧ i < 5 then 1353 + 15 * x + i else (-7))) else (if c < 120 then (-7) else (if c < 121 then ftp i else (-7))))))))
def fp (a i : Int) : Int := fpc (ck a) (cx a) (cb a) i
def ftl (x : Int) : Int := (if x < 55 then (if x < 28 then (if x < 14 then (if x < 7 then (if x < 4 then (if x < 2 then 4400 else (if x < 3 then 240 else 240)) else (if x < 5 then 240 else (if x < 6 then 240 else 240))) else (if x < 10 then (if x < 8 then 6400 else (if x < 9 then 240 else 240)) else (if x < 12 then (if x < 11 then 10 else 10) else (if x < 13 then 240 else 24)))) else (if x < 21 then (if x < 17 then (if x < 15 then 96 else (if x < 16 then 11 else 11)) else (if x < 19 then (if x < 18 then 3 else 3) else (if x < 20 then 196 else 196))) else (if x < 24 then (if x < 22 then 400 else (if x < 23 then 400 else 13)) else (if x < 26 then (if x < 25 then 13 else 16) else (if x < 27 then 64 else 200))))) else (if x < 41 then (if x < 34 then (if x < 31 then (if x < 29 then 240 else (if x < 30 then 240 else 240)) else (if x < 32 then 240 else (if x < 33 then 240 else 240))) else (if x < 37 then (if x < 35 then 240 else (if x < 36 then 240 else 40)) else (if x < 39 then (if x < 38 then 40 else 41) else (if x < 40 then 41 else 11)))) else (if x < 48 then (if x < 44 then (if x < 42 then 11 else (if x < 43 then 11 else 11)) else (if x < 46 then (if x < 45 then 11 else 10) else (if x < 47 then 10 else 18))) else (if x < 51 then (if x < 49 then 32 else (if x < 50 then 32 else 8)) else (if x < 53 then (if x < 52 then 8 else 8) else (if x < 54 then 8 else 384)))))) else (if x < 82 then (if x < 68 then (if x < 61 then (if x < 58 then (if x < 56 then 16 else (if x < 57 then 16 else 16)) else (if x < 59 then 16 else (if x < 60 then 16 else 16))) else (if x < 64 then (if x < 62 then 16 else (if x < 63 then 12 else 12)) else (if x < 66 then (if x < 65 then 2 else 2) else (if x < 67 then 2 else 6)))) else (if x < 75 then (if x < 71 then (if x < 69 then 6 else (if x < 70 then 6 else 8)) else (if x < 73 then (if x < 72 then 8 else 8) else (if x < 74 then 3 else 3))) else (if x < 78 then (if x < 76 then 3 else (if x < 77 then 20 else 20)) else (if x < 80 then (if x < 79 then 20 else 40) else (if x < 81 then 40 else 40))))) else (if x < 95 then (if x < 88 then (if x < 85 then (if x < 83 then 40 else (if x < 84 then 40 else 40)) else (if x < 86 then 64 else (if x < 87 then 64 else 64))) else (if x < 91 then (if x < 89 then 64 else (if x < 90 then 11 else 11)) else (if x < 93 then (if x < 92 then 11 else 10) else (if x < 94 then 10 else 41)))) else (if x < 102 then (if x < 98 then (if x < 96 then 41 else (if x < 97 then 41 else 19200)) else (if x < 100 then (if x < 99 then 135 else 3780) else (if x < 101 then 28 else 160))) else (if x < 105 then (if x < 103 then 4100 else (if x < 104 then 4100 else 135)) else (if x < 107 then (if x < 106 then 3780 else 196) else (if x < 108 then 400 else 48)))))))
/-- lengths of arrays (0: no array) -/
def flc (c x : Int) : Int := (if c < 61 then (if c < 31 then (if c < 15 then (if c < 8 then (if c < 5 then (if c < 3 then 0 else (if c < 4 then 41 else 41)) else (if c < 6 then 0 else (if c < 7 then 135 else 0))) else (if c < 11 then (if c < 9 then 2 else (if c < 10 then 200 else 48)) else (if c < 12 then 48 else (if c < 13 then 28 else 0)))) else (if c < 25 then (if c < 22 then (if c < 16 then 5 else (if c < 17 then 110 else 0)) else (if c < 23 then 5 else (if c < 24 then 110 else 5))) else (if c < 28 then (if c < 26 then 48 else (if c < 27 then 10 else 24)) else (if c < 29 then 24 else (if c < 30 then 4 else 24))))) else (if c < 43 then (if c < 37 then (if c < 34 then (if c < 32 then 196 else (if c < 33 then 11 else 11)) else (if c < 35 then 10 else (if c < 36 then 3 else 3))) else (if c < 40 then (if c < 38 then 16 else (if c < 39 then 20 else 40)) else (if c < 41 then 8 else (if c < 42 then 0 else 3)))) else (if c < 54 then (if c < 51 then (if c < 47 then 0 else (if c < 48 then 48 else 0)) else (if c < 52 then 40 else (if c < 53 then 240 else 10))) else (if c < 57 then (if c < 55 then 10 else (if c < 56 then 800 else 3200)) else (if c < 59 then (if c < 58 then 1600 else 48) else (if c < 60 then 48 else 0)))))) else (if c < 91 then (if c < 75 then (if c < 69 then (if c < 66 then (if c < 62 then 48 else (if c < 63 then 4 else 0)) else (if c < 67 then 135 else (if c < 68 then 135 else 28))) else (if c < 72 then (if c < 70 then 28 else (if c < 71 then 0 else 800)) else (if c < 73 then 12 else (if c < 74 then 13 else 80)))) else (if c < 85 then (if c < 82 then (if c < 76 then 10 else (if c < 81 then 0 else 240)) else (if c < 83 then 240 else (if c < 84 then 240 else 240))) else (if c < 88 then (if c < 86 then 240 else (if c < 87 then 240 else 240)) else (if c < 89 then 11 else (if c < 90 then 16 else 10))))) else (if c < 105 then (if c < 97 then (if c < 94 then (if c < 92 then 10 else (if c < 93 then 18 else 18)) else (if c < 95 then 32 else (if c < 96 then 32 else 256))) else (if c < 102 then (if c < 98 then 2 else (if c < 101 then 0 else 196)) else (if c < 103 then 0 else (if c < 104 then 4100 else 0)))) else (if c < 112 then (if c < 109 then (if c < 106 then 4100 else (if c < 107 then 3 else 0)) else (if c < 110 then 5 else (if c < 111 then 110 else 0))) else (if c < 115 then (if c < 113 then 5 else (if c < 114 then 110 else 10)) else (if c < 122 then (if c < 121 then 0 else ftl x) else (if c < 123 then 1 else 0)))))))
def fl (a : Int) : Int := flc (ck a) (cx a)
/-- the twin's variable that a slot of the component stands for (-1: none, -2: a special one); its index -/
def lvc (H Q L c x b i : Int) : Int := (if c < 61 then (if c < 35 then (if c < 24 then (if c < 10 then (if c < 2 then (if c < 1 then (-1) else (if i = 0 then 1 else (if 7 ≤ i ∧ i < 12 then (-2) else (-1)))) else (if c < 7 then (-1) else (if c < 8 then (if i = 2 then 133 else (if i = 3 then 134 else (if i = 4 then 135 else (if i = 5 then 136 else (if i = 6 then 137 else (if i = 1 then (-2) else (-1))))))) else (-1)))) else (if c < 20 then (if c < 11 then (if 0 ≤ i ∧ i < 48 then 129 else (-1)) else (-1)) else (if c < 21 then (if b = H then (if i = 6 then 27 else (if i = 10 then 118 else (if i = 12 then 2 else (if i = 13 then 122 else (if i = 14 then 123 else (if i = 15 then 124 else (if i = 16 then 125 else (if i = 17 then 21 else (if i = 11 then (-2) else (-1)))))))))) else (-1)) else (if c < 23 then (-1) else (if b = H then (if 0 ≤ i ∧ i < 110 then 3 else (-1)) else (-1)))))) else (if c < 29 then (if c < 26 then (if c < 25 then (-1) else (if b = H then (if 0 ≤ i ∧ i < 48 then 5 else (-1)) else (-1))) else (if c < 27 then (-1) else (if c < 28 then (if b = H then (if 0 ≤ i ∧ i < 24 then 16 else (-1)) else (-1)) else (if b = H then (if 0 ≤ i ∧ i < 24 then 17 else (-1)) else (-1))))) else (if c < 32 then (if c < 30 then (-1) else (if c < 31 then (if b = H then (if 0 ≤ i ∧ i < 24 then 18 else (-1)) else (-1)) else (if b = H then (if 0 ≤ i ∧ i < 196 then 26 else (-1)) else (-1)))) else (if c < 33 then (if b = H then (if 0 ≤ i ∧ i < 11 then 19 else (-1)) else (-1)) else (if c < 34 then (if b = H then (if 0 ≤ i ∧ i < 11 then 20 else (-1)) else (-1)) else (-1)))))) else (if c < 48 then (if c < 42 then (if c < 37 then (if c < 36 then (if b = H then (if 0 ≤ i ∧ i < 3 then 22 else (-1)) else (-1)) else (-1)) else (if c < 38 then (if b = H then (if True then (-2) else (-1)) else (-1)) else (if c < 41 then (-1) else (if b = H then (if i = 0 then 120 else (if i = 1 then 121 else (-1))) else (-1))))) else (if c < 45 then (if c < 43 then (if b = H then (if i = 0 then 117 else (if i = 1 then 118 else (if i = 2 then 119 else (-1)))) else (-1)) else (if c < 44 then (if b = H then (if i = 0 then 23 else (if i = 1 then 100 else (if i = 2 then 101 else (if i = 3 then 102 else (-1))))) else (-1)) else (if b = H then (if i = 0 then 103 else (if i = 1 then 104 else (if i = 2 then 105 else (-1)))) else (-1)))) else (if c < 46 then (if b = H then (if i = 0 then 106 else (if i = 1 then 107 else (if i = 2 then 108 else (if i = 3 then 109 else (if i = 4 then 110 else (if i = 5 then 111 else (-1))))))) else (-1)) else (if c < 47 then (if b = H then (if i = 0 then 75 else (if i = 1 then 76 else (if i = 2 then 77 else (if i = 4 then 78 else (-1))))) else (-1)) else (if b = H then (if 0 ≤ i ∧ i < 48 then 79 else (-1)) else (-1)))))) else (if c < 54 then (if c < 51 then (if c < 50 then (-1) else (if b = L then (if True then (-2) else (-1)) else (-1))) else (if c < 52 then (if b = L then (if True then (-2) else (-1)) else (-1)) else (if c < 53 then (if b = L then (if True then (-2) else (-1)) else (-1)) else (if b = L then (if True then (-2) else (-1)) else (-1))))) else (if c < 57 then (if c < 55 then (if b = L then (if True then (-2) else (-1)) else (-1)) else (if c < 56 then (if b = L then (if True then (-2) else (-1)) else (-1)) else (if b = L then (if True then (-2) else (-1)) else (-1)))) else (if c < 58 then (if b = L then (if True then (-2) else (-1)) else (-1)) else (if c < 60 then (-1) else (if b = L then (if i < 7 then (-2) else (-1)) else (-1)))))))) else (if c < 91 then (if c < 74 then (if c < 68 then (if c < 63 then (if c < 62 then (if b = L then (if True then (-2) else (-1)) else (-1)) else (if b = L then (if True then (-2) else (-1)) else (-1))) else (if c < 66 then (-1) else (if c < 67 then (if b = Q then (if 0 ≤ i ∧ i < 135 then 130 else (-1)) else (-1)) else (-1)))) else (if c < 71 then (if c < 69 then (if b = Q then (if 0 ≤ i ∧ i < 28 then 131 else (-1)) else (-1)) else (if c < 70 then (-1) else (if b = 622 then (if True then (-2) else (-1)) else (-1)))) else (if c < 72 then (if b = 622 then (if True then (-2) else (-1)) else (-1)) else (if c < 73 then (if b = 622 then (if True then (-2) else (-1)) else (-1)) else (if b = 622 then (if True then (-2) else (-1)) else (-1)))))) else (if c < 84 then (if c < 81 then (if c < 80 then (-1) else (if i = 9 then 52 else (if i = 10 then 54 else (if i = 11 then 53 else (if i = 12 then 55 else (if i = 13 then 65 else (if i = 14 then 61 else (if i = 15 then 63 else (if i = 16 then 64 else (if i = 17 then 67 else (if i = 18 then 62 else (if i = 19 then 68 else (if i = 21 then 66 else (if i = 27 then 72 else (if i = 29 then 112 else (if i = 33 then 25 else (if i = 39 then 4 else (if i = 40 then 87 else (if i = 34 ∨ i = 35 then (-2) else (-1)))))))))))))))))))) else (if c < 82 then (if 0 ≤ i ∧ i < 240 then 40 else (-1)) else (if c < 83 then (if 0 ≤ i ∧ i < 240 then 41 else (-1)) else (if 0 ≤ i ∧ i < 240 then 42 else (-1))))) else (if c < 87 then (if c < 85 then (if 0 ≤ i ∧ i < 240 then 45 else (-1)) else (if c < 86 then (if 0 ≤ i ∧ i < 240 then 43 else (-1)) else (if 0 ≤ i ∧ i < 240 then 44 else (-1)))) else (if c < 89 then (-1) else (if c < 90 then (if 0 ≤ i ∧ i < 16 then 37 else (-1)) else (if 0 ≤ i ∧ i < 10 then 69 else (-1))))))) else (if c < 102 then (if c < 96 then (if c < 93 then (if c < 92 then (if 0 ≤ i ∧ i < 10 then 70 else (-1)) else (if 0 ≤ i ∧ i < 18 then 71 else (-1))) else (if c < 94 then (-1) else (if c < 95 then (if 0 ≤ i ∧ i < 32 then 73 else (-1)) else (if 0 ≤ i ∧ i < 32 then 74 else (-1))))) else (if c < 99 then (if c < 97 then (if 0 ≤ i ∧ i < 256 ∧ i % 4 = 0 then 113 else (if 0 ≤ i ∧ i < 256 ∧ i % 4 = 1 then 114 else (if 0 ≤ i ∧ i < 256 ∧ i % 4 = 2 then 115 else (if 0 ≤ i ∧ i < 256 ∧ i % 4 = 3 then 116 else (-1))))) else (if c < 98 then (-1) else (if 2 ≤ i then (-2) else (-1)))) else (if c < 100 then (if True then (-2) else (-1)) else (if c < 101 then (if True then (-2) else (-1)) else (if 0 ≤ i ∧ i < 196 then 24 else (-1)))))) else (if c < 110 then (if c < 104 then (if c < 103 then (if i = 1 then 141 else (-1)) else (if 0 ≤ i ∧ i < 4100 then 140 else (-1))) else (if c < 105 then (if i = 1 then 143 else (-1)) else (if c < 106 then (if 0 ≤ i ∧ i < 4100 then 142 else (-1)) else (-1)))) else (if c < 114 then (if c < 111 then (if 0 ≤ i ∧ i < 110 then 3 else (-1)) else (if c < 113 then (-1) else (if 0 ≤ i ∧ i < 110 then 3 else (-1)))) else (if c < 115 then (-1) else (if c < 116 then (if i = 0 then 56 else (if i = 1 then 58 else (if i = 2 then 59 else (if i = 3 then 57 else (if i = 4 then 60 else (-1)))))) else (-1))))))))
def ljc (c x i : Int) : Int := (if c < 67 then (if c < 30 then (if c < 21 then (if c < 8 then (if c < 2 then (if c < 1 then 0 else (if i = 0 then 0 else 0)) else (if c < 7 then 0 else (if i = 2 then 0 else (if i = 3 then 0 else (if i = 4 then 0 else (if i = 5 then 0 else (if i = 6 then 0 else 0))))))) else (if c < 11 then (if c < 10 then 0 else (if 0 ≤ i ∧ i < 48 then 48 * x + i else 0)) else (if c < 20 then 0 else (if i = 6 then 0 else (if i = 10 then 10 else (if i = 12 then 0 else (if i = 13 then 0 else (if i = 14 then 0 else (if i = 15 then 0 else (if i = 16 then 0 else (if i = 17 then 0 else 0))))))))))) else (if c < 26 then (if c < 24 then (if c < 23 then 0 else (if 0 ≤ i ∧ i < 110 then 110 * x + i else 0)) else (if c < 25 then 0 else (if 0 ≤ i ∧ i < 48 then 48 * x + i else 0))) else (if c < 28 then (if c < 27 then 0 else (if 0 ≤ i ∧ i < 24 then 24 * x + i else 0)) else (if c < 29 then (if 0 ≤ i ∧ i < 24 then i else 0) else 0)))) else (if c < 42 then (if c < 34 then (if c < 32 then (if c < 31 then (if 0 ≤ i ∧ i < 24 then 24 * x + i else 0) else (if 0 ≤ i ∧ i < 196 then i else 0)) else (if c < 33 then (if 0 ≤ i ∧ i < 11 then i else 0) else (if 0 ≤ i ∧ i < 11 then i else 0))) else (if c < 36 then (if c < 35 then 0 else (if 0 ≤ i ∧ i < 3 then i else 0)) else (if c < 41 then 0 else (if i = 0 then x else (if i = 1 then x else 0))))) else (if c < 46 then (if c < 44 then (if c < 43 then (if i = 0 then x else (if i = 1 then x else (if i = 2 then x else 0))) else (if i = 0 then x else (if i = 1 then x else (if i = 2 then x else (if i = 3 then x else 0))))) else (if c < 45 then (if i = 0 then x else (if i = 1 then x else (if i = 2 then x else 0))) else (if i = 0 then x else (if i = 1 then x else (if i = 2 then x else (if i = 3 then x else (if i = 4 then x else (if i = 5 then x else 0)))))))) else (if c < 48 then (if c < 47 then (if i = 0 then x else (if i = 1 then x else (if i = 2 then x else (if i = 4 then x else 0)))) else (if 0 ≤ i ∧ i < 48 then 48 * x + i else 0)) else (if c < 66 then 0 else (if 0 ≤ i ∧ i < 135 then i else 0)))))) else (if c < 94 then (if c < 85 then (if c < 81 then (if c < 69 then (if c < 68 then 0 else (if 0 ≤ i ∧ i < 28 then 28 * x + i else 0)) else (if c < 80 then 0 else (if i = 9 then 0 else (if i = 10 then 0 else (if i = 11 then 0 else (if i = 12 then 0 else (if i = 13 then 0 else (if i = 14 then 0 else (if i = 15 then 0 else (if i = 16 then 0 else (if i = 17 then 0 else (if i = 18 then 0 else (if i = 19 then 0 else (if i = 21 then 0 else (if i = 27 then 0 else (if i = 29 then 0 else (if i = 33 then 0 else (if i = 39 then 0 else (if i = 40 then 0 else 0))))))))))))))))))) else (if c < 83 then (if c < 82 then (if 0 ≤ i ∧ i < 240 then i else 0) else (if 0 ≤ i ∧ i < 240 then i else 0)) else (if c < 84 then (if 0 ≤ i ∧ i < 240 then i else 0) else (if 0 ≤ i ∧ i < 240 then i else 0)))) else (if c < 90 then (if c < 87 then (if c < 86 then (if 0 ≤ i ∧ i < 240 then i else 0) else (if 0 ≤ i ∧ i < 240 then i else 0)) else (if c < 89 then 0 else (if 0 ≤ i ∧ i < 16 then i else 0))) else (if c < 92 then (if c < 91 then (if 0 ≤ i ∧ i < 10 then i else 0) else (if 0 ≤ i ∧ i < 10 then i else 0)) else (if c < 93 then (if 0 ≤ i ∧ i < 18 then i else 0) else 0)))) else (if c < 105 then (if c < 101 then (if c < 96 then (if c < 95 then (if 0 ≤ i ∧ i < 32 then i else 0) else (if 0 ≤ i ∧ i < 32 then i else 0)) else (if c < 97 then (if 0 ≤ i ∧ i < 256 ∧ i % 4 = 0 then i / 4 else (if 0 ≤ i ∧ i < 256 ∧ i % 4 = 1 then i / 4 else (if 0 ≤ i ∧ i < 256 ∧ i % 4 = 2 then i / 4 else (if 0 ≤ i ∧ i < 256 ∧ i % 4 = 3 then i / 4 else 0)))) else 0)) else (if c < 103 then (if c < 102 then (if 0 ≤ i ∧ i < 196 then i else 0) else (if i = 1 then 0 else 0)) else (if c < 104 then (if 0 ≤ i ∧ i < 4100 then i else 0) else (if i = 1 then 0 else 0)))) else (if c < 113 then (if c < 110 then (if c < 106 then (if 0 ≤ i ∧ i < 4100 then i else 0) else 0) else (if c < 111 then (if 0 ≤ i ∧ i < 110 then 550 + 110 * x + i else 0) else 0)) else (if c < 115 then (if c < 114 then (if 0 ≤ i ∧ i < 110 then 2200 + 110 * x + i else 0) else 0) else (if c < 116 then (if i = 0 then x else (if i = 1 then x else (if i = 2 then x else (if i = 3 then x else (if i = 4 then x else 0))))) else 0))))))
def lv (H Q L a i : Int) : Int := lvc H Q L (ck a) (cx a) (cb a) i
def lj (a i : Int) : Int := ljc (ck a) (cx a) i
theorem fp_of {a i c x b : Int} (h1 : ck a = c) (h2 : cx a = x) (h3 : cb a = b) : fp a i = fpc c x b i := by subst h1 h2 h3; rfl
theorem fl_of {a c x : Int} (h1 : ck a = c) (h2 : cx a = x) : fl a = flc c x := by subst h1 h2; rfl
theorem lv_of {H Q L a i c x b : Int} (h1 : ck a = c) (h2 : cx a = x) (h3 : cb a = b) : lv H Q L a i = lvc H Q L c x b i := by subst h1 h2 h3; rfl
theorem lj_of {a i c x : Int} (h1 : ck a = c) (h2 : cx a = x) : lj a i = ljc c x i := by subst h1 h2; rfl
/-- pointers and lengths are as the constructors made them; the constant counts -/
def cnt (k : Int) : Int := (if k < 8 then (if k < 4 then (if k < 2 then (if k < 1 then 0 else 5) else (if k < 3 then 5 else 10)) else (if k < 6 then (if k < 5 then 2 else 4) else (if k < 7 then 8 else 2))) else (if k < 12 then (if k < 10 then (if k < 9 then 10 else 1) else (if k < 11 then 1 else 3)) else (if k < 14 then (if k < 13 then 16 else 20) else (if k < 15 then 40 else 8))))
def Rm0 (h : Hp) : Prop := (∀ k : Int, 0 ≤ k → k < 16 → rd h 18 k = cnt k) ∧ ln h 18 = 16 ∧ ln h 23 = 0
def Sh (h : Hp) : Prop := (∀ a i : Int, fp a i ≠ -7 → h.1 a i = fp a i) ∧ (∀ a : Int, fl a ≠ 0 → ln h a = fl a) ∧ 1510 ≤ nx h ∧ Rm0 h
theorem Sh.ptr {h : Hp} {a i v : Int} (s : Sh h) (e : fp a i = v) (n : v ≠ -7) : rd h a i = v := (s.1 a i (fun q => n (e.symm.trans q))).trans e
theorem Sh.len {h : Hp} {a v : Int} (s : Sh h) (e : fl a = v) (n : v ≠ 0) : ln h a = v := (s.2.1 a (fun q => n (e.symm.trans q))).trans e
def At (H Q L a i v j : Int) : Prop := lv H Q L a i = v ∧ lj a i = j ∧ fp a i = -7 ∧ 0 ≤ i ∧ 64 ≤ a ∧ a < 1400
def Sc (H Q L a i : Int) : Prop := lv H Q L a i = -1 ∧ fp a i = -7 ∧ 0 ≤ i ∧ 64 ≤ a ∧ a < 1400
theorem p_1_1 {h : Hp} (sh : Sh h) : rd h 64 1 = 65 := sh.ptr (by decide +kernel) (by decide)
theorem p_1_2 {h : Hp} (sh : Sh h) : rd h 64 2 = 68 := sh.ptr (by decide +kernel) (by decide)
theorem p_1_3 {h : Hp} (sh : Sh h) : rd h 64 3 = 70 := sh.ptr (by decide +kernel) (by decide)
theorem p_1_4 {h : Hp} (sh : Sh h) : rd h 64 4 = 615 := sh.ptr (by decide +kernel) (by decide)
theorem p_1_5 {h : Hp} (sh : Sh h) : rd h 64 5 = 616 := sh.ptr (by decide +kernel) (by decide)
theorem p_1_6 {h : Hp} (sh : Sh h) : rd h 64 6 = 622 := sh.ptr (by decide +kernel) (by decide)
theorem p_1_12 {h : Hp} (sh : Sh h) : rd h 64 12 = 1307 := sh.ptr (by decide +kernel) (by decide)
theorem p_1_13 {h : Hp} (sh : Sh h) : rd h 64 13 = 1314 := sh.ptr (by decide +kernel) (by decide)
theorem p_2_0 {h : Hp} (sh : Sh h) : rd h 65 0 = 66 := sh.ptr (by decide +kernel) (by decide)
theorem p_2_1 {h : Hp} (sh : Sh h) : rd h 65 1 = 67 := sh.ptr (by decide +kernel) (by decide)
theorem p_5_0 {h : Hp} (sh : Sh h) : rd h 68 0 = 69 := sh.ptr (by decide +kernel) (by decide)
theorem p_5_1 {h : Hp} (sh : Sh h) : rd h 68 1 = 64 := sh.ptr (by decide +kernel) (by decide)
theorem p_7_0 {h : Hp} (sh : Sh h) : rd h 70 0 = 71 := sh.ptr (by decide +kernel) (by decide)
theorem p_7_7 {h : Hp} (sh : Sh h) : rd h 70 7 = 613 := sh.ptr (by decide +kernel) (by decide)
theorem p_7_8 {h : Hp} (sh : Sh h) : rd h 70 8 = 614 := sh.ptr (by decide +kernel) (by decide)
theorem p_8 {i : Int} (i0 : 0 ≤ i) (i1 : i < 2) {h : Hp} (sh : Sh h) : rd h (71) i = 72 + 201 * i := sh.ptr ((fp_of (ck_8) (cx_8) (cb_8)).trans ((if_pos (by decide)).trans ((if_pos (by decide)).trans ((if_pos (by decide)).trans ((if_neg (by decide)).trans ((if_neg (by decide)).trans ((if_neg (by decide)).trans ((if_pos (by omega)))))))))) (by omega)
theorem p_9 {x : Int} {i : Int} (h0 : 0 ≤ x) (h1 : x < 2) (i0 : 0 ≤ i) (i1 : i < 200) {h : Hp} (sh : Sh h) : rd h (72 + 201 * x) i = 73 + 201 * x + i := sh.ptr ((fp_of (ck_9 h0 h1) (cx_9 h0 h1) (cb_9 h0 h1)).trans ((if_pos (by decide)).trans ((if_pos (by decide)).trans ((if_neg (by decide)).trans ((if_pos (by decide)).trans ((if_pos (by decide)).trans ((if_pos (by decide)).trans ((if_pos (by omega)))))))))) (by omega)
theorem p_14_0 {h : Hp} (sh : Sh h) : rd h 1307 0 = 1308 := sh.ptr (by decide +kernel) (by decide)
theorem p_15 {i : Int} (i0 : 0 ≤ i) (i1 : i < 5) {h : Hp} (sh : Sh h) : rd h (1308) i = 1309 + i := sh.ptr ((fp_of (ck_15) (cx_15) (cb_15)).trans ((if_pos (by decide)).trans ((if_pos (by decide)).trans ((if_neg (by decide)).trans ((if_pos (by decide)).trans ((if_neg (by decide)).trans ((if_neg (by decide)).trans ((if_pos (by omega)))))))))) (by omega)
theorem p_20_0 {b : Int} (hb : is_h b) {h : Hp} (sh : Sh h) : rd h (b) 0 = b + 1 := sh.ptr ((fp_of (ck_20 hb) (cx_20 hb) (cb_20 hb)).trans ((if_pos (by decide)).trans ((if_pos (by decide)).trans ((if_neg (by decide)).trans ((if_neg (by decide)).trans ((if_pos (by decide)).trans ((if_neg (by decide)).trans ((if_pos (by omega)))))))))) (by rcases hb with rfl | rfl <;> omega)
theorem p_20_1 {b : Int} (hb : is_h b) {h : Hp} (sh : Sh h) : rd h (b) 1 = b + 8 := sh.ptr ((fp_of (ck_20 hb) (cx_20 hb) (cb_20 hb)).trans ((if_pos (by decide)).trans ((if_pos (by decide)).trans ((if_neg (by decide)).trans ((if_neg (by decide)).trans ((if_pos (by decide)).trans ((if_neg (by decide)).trans ((if_neg (by omega)).trans ((if_pos (by omega))))))))))) (by rcases hb with rfl | rfl <;> omega)
theorem p_20_2 {b : Int} (hb : is_h b) {h : Hp} (sh : Sh h) : rd h (b) 2 = b + 14 := sh.ptr ((fp_of (ck_20 hb) (cx_20 hb) (cb_20 hb)).trans ((if_pos (by decide)).trans ((if_pos (by decide)).trans ((if_neg (by decide)).trans ((if_neg (by decide)).trans ((if_pos (by decide)).trans ((if_neg (by decide)).trans ((if_neg (by omega)).trans ((if_neg (by omega)).trans ((if_pos (by omega)))))))))))) (by rcases hb with rfl | rfl <;> omega)
theorem p_20_3 {b : Int} (hb : is_h b) {h : Hp} (sh : Sh h) : rd h (b) 3 = b + 25 := sh.ptr ((fp_of (ck_20 hb) (cx_20 hb) (cb_20 hb)).trans ((if_pos (by decide)).trans ((if_pos (by decide)).trans ((if_neg (by decide)).trans ((if_neg (by decide)).trans ((if_pos (by decide)).trans ((if_neg (by decide)).trans ((if_neg (by omega)).trans ((if_neg (by omega)).trans ((if_neg (by omega)).trans ((if_pos (by omega))))))))))))) (by rcases hb with rfl | rfl <;> omega)
theorem p_20_4 {b : Int} (hb : is_h b) {h : Hp} (sh : Sh h) : rd h (b) 4 = b + 26 := sh.ptr ((fp_of (ck_20 hb) (cx_20 hb) (cb_20 hb)).trans ((if_pos (by decide)).trans ((if_pos (by decide)).trans ((if_neg (by decide)).trans ((if_neg (by decide)).trans ((if_pos (by decide)).trans ((if_neg (by decide)).trans ((if_neg (by omega)).trans ((if_neg (by omega)).trans ((if_neg (by omega)).trans ((if_neg (by omega)).trans ((if_pos (by omega)))))))))))))) (by rcases hb with rfl | rfl <;> omega)
theorem p_20_5 {b : Int} (hb : is_h b) {h : Hp} (sh : Sh h) : rd h (b) 5 = b + 31 := sh.ptr ((fp_of (ck_20 hb) (cx_20 hb) (cb_20 hb)).trans ((if_pos (by decide)).trans ((if_pos (by decide)).trans ((if_neg (by decide)).trans ((if_neg (by decide)).trans ((if_pos (by decide)).trans ((if_neg (by decide)).trans ((if_neg (by omega)).trans ((if_neg (by omega)).trans ((if_neg (by omega)).trans ((if_neg (by omega)).trans ((if_neg (by omega)).trans ((if_pos (by omega))))))))))))))) (by rcases hb with rfl | rfl <;> omega)
theorem p_20_7 {b : Int} (hb : is_h b) {h : Hp} (sh : Sh h) : rd h (b) 7 = b + 32 := sh.ptr ((fp_of (ck_20 hb) (cx_20 hb) (cb_20 hb)).trans ((if_pos (by decide)).trans ((if_pos (by decide)).trans ((if_neg (by decide)).trans ((if_neg (by decide)).trans ((if_pos (by decide)).trans ((if_neg (by decide)).trans ((if_neg (by omega)).trans ((if_neg (by omega)).trans ((if_neg (by omega)).trans ((if_neg (by omega)).trans ((if_neg (by omega)).trans ((if_neg (by omega)).trans ((if_pos (by omega)))))))))))))))) (by rcases hb with rfl | rfl <;> omega)
theorem p_20_8 {b : Int} (hb : is_h b) {h : Hp} (sh : Sh h) : rd h (b) 8 = b + 33 := sh.ptr ((fp_of (ck_20 hb) (cx_20 hb) (cb_20 hb)).trans ((if_pos (by decide)).trans ((if_pos (by decide)).trans ((if_neg (by decide)).trans ((if_neg (by decide)).trans ((if_pos (by decide)).trans ((if_neg (by decide)).trans ((if_neg (by omega)).trans ((if_neg (by omega)).trans ((if_neg (by omega)).trans ((if_neg (by omega)).trans ((if_neg (by omega)).trans ((if_neg (by omega)).trans ((if_neg (by omega)).trans ((if_pos (by omega))))))))))))))))) (by rcases hb with rfl | rfl <;> omega)
theorem p_20_9 {b : Int} (hb : is_h b) {h : Hp} (sh : Sh h) : rd h (b) 9 = b + 34 := sh.ptr ((fp_of (ck_20 hb) (cx_20 hb) (cb_20 hb)).trans ((if_pos (by decide)).trans ((if_pos (by decide)).trans ((if_neg (by decide)).trans ((if_neg (by decide)).trans ((if_pos (by decide)).trans ((if_neg (by decide)).trans ((if_neg (by omega)).trans ((if_neg (by omega)).trans ((if_neg (by omega)).trans ((if_neg (by omega)).trans ((if_neg (by omega)).trans ((if_neg (by omega)).trans ((if_neg (by omega)).trans ((if_neg (by omega)).trans ((if_pos (by omega)))))))))))))))))) (by rcases hb with rfl | rfl <;> omega)
theorem p_20_18 {b : Int} (hb : is_h b) {h : Hp} (sh : Sh h) : rd h (b) 18 = b + 35 := sh.ptr ((fp_of (ck_20 hb) (cx_20 hb) (cb_20 hb)).trans ((if_pos (by decide)).trans ((if_pos (by decide)).trans ((if_neg (by decide)).trans ((if_neg (by decide)).trans ((if_pos (by decide)).trans ((if_neg (by decide)).trans ((if_neg (by omega)).trans ((if_neg (by omega)).trans ((if_neg (by omega)).trans ((if_neg (by omega)).trans ((if_neg (by omega)).trans ((if_neg (by omega)).trans ((if_neg (by omega)).trans ((if_neg (by omega)).trans ((if_neg (by omega)).trans ((if_pos (by omega))))))))))))))))))) (by rcases hb with rfl | rfl <;> omega)
theorem p_20_19 {b : Int} (hb : is_h b) {h : Hp} (sh : Sh h) : rd h (b) 19 = b + 36 := sh.ptr ((fp_of (ck_20 hb) (cx_20 hb) (cb_20 hb)).trans ((if_pos (by decide)).trans ((if_pos (by decide)).trans ((if_neg (by decide)).trans ((if_neg (by decide)).trans ((if_pos (by decide)).trans ((if_neg (by decide)).trans ((if_neg (by omega)).trans ((if_neg (by omega)).trans ((if_neg (by omega)).trans ((if_neg (by omega)).trans ((if_neg (by omega)).trans ((if_neg (by omega)).trans ((if_neg (by omega)).trans ((if_neg (by omega)).trans ((if_neg (by omega)).trans ((if_neg (by omega)).trans ((if_pos (by omega)))))))))))))))))))) (by rcases hb with rfl | rfl <;> omega)
theorem p_20_20 {b : Int} (hb : is_h b) {h : Hp} (sh : Sh h) : rd h (b) 20 = b + 37 := sh.ptr ((fp_of (ck_20 hb) (cx_20 hb) (cb_20 hb)).trans ((if_pos (by decide)).trans ((if_pos (by decide)).trans ((if_neg (by decide)).trans ((if_neg (by decide)).trans ((if_pos (by decide)).trans ((if_neg (by decide)).trans ((if_neg (by omega)).trans ((if_neg (by omega)).trans ((if_neg (by omega)).trans ((if_neg (by omega)).trans ((if_neg (by omega)).trans ((if_neg (by omega)).trans ((if_neg (by omega)).trans ((if_neg (by omega)).trans ((if_neg (by omega)).trans ((if_neg (by omega)).trans ((if_neg (by omega)).trans ((if_pos (by omega))))))))))))))))))))) (by rcases hb with rfl | rfl <;> omega)
theorem p_20_21 {b : Int} (hb : is_h b) {h : Hp} (sh : Sh h) : rd h (b) 21 = b + 38 := sh.ptr ((fp_of (ck_20 hb) (cx_20 hb) (cb_20 hb)).trans ((if_pos (by decide)).trans ((if_pos (by decide)).trans ((if_neg (by decide)).trans ((if_neg (by decide)).trans ((if_pos (by decide)).trans ((if_neg (by decide)).trans ((if_neg (by omega)).trans ((if_neg (by omega)).trans ((if_neg (by omega)).trans ((if_neg (by omega)).trans ((if_neg (by omega)).trans ((if_neg (by omega)).trans ((if_neg (by omega)).trans ((if_neg (by omega)).trans ((if_neg (by omega)).trans ((if_neg (by omega)).trans ((if_neg (by omega)).trans ((if_neg (by omega)).trans ((if_pos (by omega)))))))))))))))))))))) (by rcases hb with rfl | rfl <;> omega)
theorem p_20_22 {b : Int} (hb : is_h b) {h : Hp} (sh : Sh h) : rd h (b) 22 = b + 39 := sh.ptr ((fp_of (ck_20 hb) (cx_20 hb) (cb_20 hb)).trans ((if_pos (by decide)).trans ((if_pos (by decide)).trans ((if_neg (by decide)).trans ((if_neg (by decide)).trans ((if_pos (by decide)).trans ((if_neg (by decide)).trans ((if_neg (by omega)).trans ((if_neg (by omega)).trans ((if_neg (by omega)).trans ((if_neg (by omega)).trans ((if_neg (by omega)).trans ((if_neg (by omega)).trans ((if_neg (by omega)).trans ((if_neg (by omega)).trans ((if_neg (by omega)).trans ((if_neg (by omega)).trans ((if_neg (by omega)).trans ((if_neg (by omega)).trans ((if_neg (by omega)).trans ((if_pos (by omega))))))))))))))))))))))) (by rcases hb with rfl | rfl <;> omega)
theorem p_20_23 {b : Int} (hb : is_h b) {h : Hp} (sh : Sh h) : rd h (b) 23 = b + 40 := sh.ptr ((fp_of (ck_20 hb) (cx_20 hb) (cb_20 hb)).trans ((if_pos (by decide)).trans ((if_pos (by decide)).trans ((if_neg (by decide)).trans ((if_neg (by decide)).trans ((if_pos (by decide)).trans ((if_neg (by decide)).trans ((if_neg (by omega)).trans ((if_neg (by omega)).trans ((if_neg (by omega)).trans ((if_neg (by omega)).trans ((if_neg (by omega)).trans ((if_neg (by omega)).trans ((if_neg (by omega)).trans ((if_neg (by omega)).trans ((if_neg (by omega)).trans ((if_neg (by omega)).trans ((if_neg (by omega)).trans ((if_neg (by omega)).trans ((if_neg (by omega)).trans ((if_neg (by omega)).trans ((if_pos (by omega)))))))))))))))))))))))) (by rcases hb with rfl | rfl <;> omega)
theorem p_21_0 {b : Int} (hb : is_h b) {h : Hp} (sh : Sh h) : rd h (b + 1) 0 = b + 2 := sh.ptr ((fp_of (ck_21 hb) (cx_21 hb) (cb_21 hb)).trans ((if_pos (by decide)).trans ((if_pos (by decide)).trans ((if_neg (by decide)).trans ((if_neg (by decide)).trans ((if_neg (by decide)).trans ((if_pos (by decide)).trans ((if_pos (by omega)))))))))) (by rcases hb with rfl | rfl <;> omega)
theorem p_22 {b : Int} (hb : is_h b) {i : Int} (i0 : 0 ≤ i) (i1 : i < 5) {h : Hp} (sh : Sh h) : rd h (b + 2) i = b + (3 + i) := sh.ptr ((fp_of (ck_22 hb) (cx_22 hb) (cb_22 hb)).trans ((if_pos (by decide)).trans ((if_pos (by decide)).trans ((if_neg (by decide)).trans ((if_neg (by decide)).trans ((if_neg (by decide)).trans ((if_neg (by decide)).trans ((if_pos (by decide)).trans ((if_pos (by omega))))))))))) (by rcases hb with rfl | rfl <;> omega)
theorem p_24 {b : Int} (hb : is_h b) {i : Int} (i0 : 0 ≤ i) (i1 : i < 5) {h : Hp} (sh : Sh h) : rd h (b + 8) i = b + (9 + i) := sh.ptr ((fp_of (ck_24 hb) (cx_24 hb) (cb_24 hb)).trans ((if_pos (by decide)).trans ((if_neg (by decide)).trans ((if_pos (by decide)).trans ((if_pos (by decide)).trans ((if_pos (by decide)).trans ((if_pos (by decide)).trans ((if_pos (by omega)))))))))) (by rcases hb with rfl | rfl <;> omega)
theorem p_26 {b : Int} (hb : is_h b) {i : Int} (i0 : 0 ≤ i) (i1 : i < 10) {h : Hp} (sh : Sh h) : rd h (b + 14) i = b + (15 + i) := sh.ptr ((fp_of (ck_26 hb) (cx_26 hb) (cb_26 hb)).trans ((if_pos (by decide)).trans ((if_neg (by decide)).trans ((if_pos (by decide)).trans ((if_pos (by decide)).trans ((if_neg (by decide)).trans ((if_pos (by decide)).trans ((if_pos (by omega)))))))))) (by rcases hb with rfl | rfl <;> omega)
theorem p_29 {b : Int} (hb : is_h b) {i : Int} (i0 : 0 ≤ i) (i1 : i < 4) {h : Hp} (sh : Sh h) : rd h (b + 26) i = b + (27 + i) := sh.ptr ((fp_of (ck_29 hb) (cx_29 hb) (cb_29 hb)).trans ((if_pos (by decide)).trans ((if_neg (by decide)).trans ((if_pos (by decide)).trans ((if_neg (by decide)).trans ((if_pos (by decide)).trans ((if_pos (by decide)).trans ((if_pos (by omega)))))))))) (by rcases hb with rfl | rfl <;> omega)
theorem p_34 {b : Int} (hb : is_h b) {i : Int} (i0 : 0 ≤ i) (i1 : i < 10) {h : Hp} (sh : Sh h) : rd h (b + 34) i = b + (41 + 2 * i) := sh.ptr ((fp_of (ck_34 hb) (cx_34 hb) (cb_34 hb)).trans ((if_pos (by decide)).trans ((if_neg (by decide)).trans ((if_pos (by decide)).trans ((if_neg (by decide)).trans ((if_neg (by decide)).trans ((if_pos (by decide)).trans ((if_pos (by omega)))))))))) (by rcases hb with rfl | rfl <;> omega)
theorem p_36 {b : Int} (hb : is_h b) {i : Int} (i0 : 0 ≤ i) (i1 : i < 3) {h : Hp} (sh : Sh h) : rd h (b + 36) i = b + (61 + i) := sh.ptr ((fp_of (ck_36 hb) (cx_36 hb) (cb_36 hb)).trans ((if_pos (by decide)).trans ((if_neg (by decide)).trans ((if_neg (by decide)).trans ((if_pos (by decide)).trans ((if_pos (by decide)).trans ((if_pos (by decide)).trans ((if_pos (by omega)))))))))) (by rcases hb with rfl | rfl <;> omega)
theorem p_38 {b : Int} (hb : is_h b) {i : Int} (i0 : 0 ≤ i) (i1 : i < 20) {h : Hp} (sh : Sh h) : rd h (b + 38) i = b + (64 + i) := sh.ptr ((fp_of (ck_38 hb) (cx_38 hb) (cb_38 hb)).trans ((if_pos (by decide)).trans ((if_neg (by decide)).trans ((if_neg (by decide)).trans ((if_pos (by decide)).trans ((if_neg (by decide)).trans ((if_pos (by decide)).trans ((if_pos (by omega)))))))))) (by rcases hb with rfl | rfl <;> omega)
theorem p_39 {b : Int} (hb : is_h b) {i : Int} (i0 : 0 ≤ i) (i1 : i < 40) {h : Hp} (sh : Sh h) : rd h (b + 39) i = b + (84 + i) := sh.ptr ((fp_of (ck_39 hb) (cx_39 hb) (cb_39 hb)).trans ((if_pos (by decide)).trans ((if_neg (by decide)).trans ((if_neg (by decide)).trans ((if_pos (by decide)).trans ((if_neg (by decide)).trans ((if_neg (by decide)).trans ((if_pos (by omega)))))))))) (by rcases hb with rfl | rfl <;> omega)
theorem p_40 {b : Int} (hb : is_h b) {i : Int} (i0 : 0 ≤ i) (i1 : i < 8) {h : Hp} (sh : Sh h) : rd h (b + 40) i = b + (124 + 2 * i) := sh.ptr ((fp_of (ck_40 hb) (cx_40 hb) (cb_40 hb)).trans ((if_pos (by decide)).trans ((if_neg (by decide)).trans ((if_neg (by decide)).trans ((if_neg (by decide)).trans ((if_pos (by decide)).trans ((if_pos (by decide)).trans ((if_pos (by omega)))))))))) (by rcases hb with rfl | rfl <;> omega)
theorem p_41_2 {b x : Int} (hb : is_h b) (h0 : 0 ≤ x) (h1 : x < 10) {h : Hp} (sh : Sh h) : rd h (b + (41 + 2 * x)) 2 = b + (42 + 2 * x) := sh.ptr ((fp_of (ck_41 hb h0 h1) (cx_41 hb h0 h1) (cb_41 hb h0 h1)).trans ((if_pos (by decide)).trans ((if_neg (by decide)).trans ((if_neg (by decide)).trans ((if_neg (by decide)).trans ((if_pos (by decide)).trans ((if_neg (by decide)).trans ((if_pos (by omega)))))))))) (by rcases hb with rfl | rfl <;> omega)
theorem p_46_3 {b x : Int} (hb : is_h b) (h0 : 0 ≤ x) (h1 : x < 8) {h : Hp} (sh : Sh h) : rd h (b + (124 + 2 * x)) 3 = b + (125 + 2 * x) := sh.ptr ((fp_of (ck_46 hb h0 h1) (cx_46 hb h0 h1) (cb_46 hb h0 h1)).trans ((if_pos (by decide)).trans ((if_neg (by decide)).trans ((if_neg (by decide)).trans ((if_neg (by decide)).trans ((if_neg (by decide)).trans ((if_neg (by decide)).trans ((if_pos (by decide)).trans ((if_pos (by omega))))))))))) (by rcases hb with rfl | rfl <;> omega)
theorem p_50_0 {b : Int} (hb : is_l b) {h : Hp} (sh : Sh h) : rd h (b) 0 = b + 1 := sh.ptr ((fp_of (ck_50 hb) (cx_50 hb) (cb_50 hb)).trans ((if_neg (by decide)).trans ((if_pos (by decide)).trans ((if_pos (by decide)).trans ((if_pos (by decide)).trans ((if_pos (by decide)).trans ((if_pos (by decide)).trans ((if_pos (by omega)))))))))) (by rcases hb with rfl | rfl <;> omega)
theorem p_50_2 {b : Int} (hb : is_l b) {h : Hp} (sh : Sh h) : rd h (b) 2 = b + 2 := sh.ptr ((fp_of (ck_50 hb) (cx_50 hb) (cb_50 hb)).trans ((if_neg (by decide)).trans ((if_pos (by decide)).trans ((if_pos (by decide)).trans ((if_pos (by decide)).trans ((if_pos (by decide)).trans ((if_pos (by decide)).trans ((if_neg (by omega)).trans ((if_pos (by omega))))))))))) (by rcases hb with rfl | rfl <;> omega)
theorem p_50_3 {b : Int} (hb : is_l b) {h : Hp} (sh : Sh h) : rd h (b) 3 = b + 3 := sh.ptr ((fp_of (ck_50 hb) (cx_50 hb) (cb_50 hb)).trans ((if_neg (by decide)).trans ((if_pos (by decide)).trans ((if_pos (by decide)).trans ((if_pos (by decide)).trans ((if_pos (by decide)).trans ((if_pos (by decide)).trans ((if_neg (by omega)).trans ((if_neg (by omega)).trans ((if_pos (by omega)))))))))))) (by rcases hb with rfl | rfl <;> omega)
theorem p_50_4 {b : Int} (hb : is_l b) {h : Hp} (sh : Sh h) : rd h (b) 4 = b + 4 := sh.ptr ((fp_of (ck_50 hb) (cx_50 hb) (cb_50 hb)).trans ((if_neg (by decide)).trans ((if_pos (by decide)).trans ((if_pos (by decide)).trans ((if_pos (by decide)).trans ((if_pos (by decide)).trans ((if_pos (by decide)).trans ((if_neg (by omega)).trans ((if_neg (by omega)).trans ((if_neg (by omega)).trans ((if_pos (by omega))))))))))))) (by rcases hb with rfl | rfl <;> omega)
theorem p_50_6 {b : Int} (hb : is_l b) {h : Hp} (sh : Sh h) : rd h (b) 6 = b + 5 := sh.ptr ((fp_of (ck_50 hb) (cx_50 hb) (cb_50 hb)).trans ((if_neg (by decide)).trans ((if_pos (by decide)).trans ((if_pos (by decide)).trans ((if_pos (by decide)).trans ((if_pos (by decide)).trans ((if_pos (by decide)).trans ((if_neg (by omega)).trans ((if_neg (by omega)).trans ((if_neg (by omega)).trans ((if_neg (by omega)).trans ((if_pos (by omega)))))))))))))) (by rcases hb with rfl | rfl <;> omega)
theorem p_50_7 {b : Int} (hb : is_l b) {h : Hp} (sh : Sh h) : rd h (b) 7 = b + 6 := sh.ptr ((fp_of (ck_50 hb) (cx_50 hb) (cb_50 hb)).trans ((if_neg (by decide)).trans ((if_pos (by decide)).trans ((if_pos (by decide)).trans ((if_pos (by decide)).trans ((if_pos (by decide)).trans ((if_pos (by decide)).trans ((if_neg (by omega)).trans ((if_neg (by omega)).trans ((if_neg (by omega)).trans ((if_neg (by omega)).trans ((if_neg (by omega)).trans ((if_pos (by omega))))))))))))))) (by rcases hb with rfl | rfl <;> omega)
theorem p_50_9 {b : Int} (hb : is_l b) {h : Hp} (sh : Sh h) : rd h (b) 9 = b + 7 := sh.ptr ((fp_of (ck_50 hb) (cx_50 hb) (cb_50 hb)).trans ((if_neg (by decide)).trans ((if_pos (by decide)).trans ((if_pos (by decide)).trans ((if_pos (by decide)).trans ((if_pos (by decide)).trans ((if_pos (by decide)).trans ((if_neg (by omega)).trans ((if_neg (by omega)).trans ((if_neg (by omega)).trans ((if_neg (by omega)).trans ((if_neg (by omega)).trans ((if_neg (by omega)).trans ((if_pos (by omega)))))))))))))))) (by rcases hb with rfl | rfl <;> omega)
theorem p_50_10 {b : Int} (hb : is_l b) {h : Hp} (sh : Sh h) : rd h (b) 10 = b + 8 := sh.ptr ((fp_of (ck_50 hb) (cx_50 hb) (cb_50 hb)).trans ((if_neg (by decide)).trans ((if_pos (by decide)).trans ((if_pos (by decide)).trans ((if_pos (by decide)).trans ((if_pos (by decide)).trans ((if_pos (by decide)).trans ((if_neg (by omega)).trans ((if_neg (by omega)).trans ((if_neg (by omega)).trans ((if_neg (by omega)).trans ((if_neg (by omega)).trans ((if_neg (by omega)).trans ((if_neg (by omega)).trans ((if_pos (by omega))))))))))))))))) (by rcases hb with rfl | rfl <;> omega)
theorem p_50_11 {b : Int} (hb : is_l b) {h : Hp} (sh : Sh h) : rd h (b) 11 = b + 9 := sh.ptr ((fp_of (ck_50 hb) (cx_50 hb) (cb_50 hb)).trans ((if_neg (by decide)).trans ((if_pos (by decide)).trans ((if_pos (by decide)).trans ((if_pos (by decide)).trans ((if_pos (by decide)).trans ((if_pos (by decide)).trans ((if_neg (by omega)).trans ((if_neg (by omega)).trans ((if_neg (by omega)).trans ((if_neg (by omega)).trans ((if_neg (by omega)).trans ((if_neg (by omega)).trans ((if_neg (by omega)).trans ((if_neg (by omega)).trans ((if_pos (by omega)))))))))))))))))) (by rcases hb with rfl | rfl <;> omega)
theorem p_51 {b : Int} (hb : is_l b) {i : Int} (i0 : 0 ≤ i) (i1 : i < 40) {h : Hp} (sh : Sh h) : rd h (b + 1) i = b + (10 + 3 * i) := sh.ptr ((fp_of (ck_51 hb) (cx_51 hb) (cb_51 hb)).trans ((if_neg (by decide)).trans ((if_pos (by decide)).trans ((if_pos (by decide)).trans ((if_pos (by decide)).trans ((if_pos (by decide)).trans ((if_neg (by decide)).trans ((if_pos (by omega)))))))))) (by rcases hb with rfl | rfl <;> omega)
theorem p_60_0 {b x : Int} (hb : is_l b) (h0 : 0 ≤ x) (h1 : x < 40) {h : Hp} (sh : Sh h) : rd h (b + (10 + 3 * x)) 0 = x := sh.ptr ((fp_of (ck_60 hb h0 h1) (cx_60 hb h0 h1) (cb_60 hb h0 h1)).trans ((if_neg (by decide)).trans ((if_pos (by decide)).trans ((if_pos (by decide)).trans ((if_pos (by decide)).trans ((if_neg (by decide)).trans ((if_neg (by decide)).trans ((if_pos (by omega)))))))))) (by rcases hb with rfl | rfl <;> omega)
theorem p_60_1 {b x : Int} (hb : is_l b) (h0 : 0 ≤ x) (h1 : x < 40) {h : Hp} (sh : Sh h) : rd h (b + (10 + 3 * x)) 1 = b + (11 + 3 * x) := sh.ptr ((fp_of (ck_60 hb h0 h1) (cx_60 hb h0 h1) (cb_60 hb h0 h1)).trans ((if_neg (by decide)).trans ((if_pos (by decide)).trans ((if_pos (by decide)).trans ((if_pos (by decide)).trans ((if_neg (by decide)).trans ((if_neg (by decide)).trans ((if_neg (by omega)).trans ((if_pos (by omega))))))))))) (by rcases hb with rfl | rfl <;> omega)
theorem p_60_5 {b x : Int} (hb : is_l b) (h0 : 0 ≤ x) (h1 : x < 40) {h : Hp} (sh : Sh h) : rd h (b + (10 + 3 * x)) 5 = b + (12 + 3 * x) := sh.ptr ((fp_of (ck_60 hb h0 h1) (cx_60 hb h0 h1) (cb_60 hb h0 h1)).trans ((if_neg (by decide)).trans ((if_pos (by decide)).trans ((if_pos (by decide)).trans ((if_pos (by decide)).trans ((if_neg (by decide)).trans ((if_neg (by decide)).trans ((if_neg (by omega)).trans ((if_neg (by omega)).trans ((if_pos (by omega)))))))))))) (by rcases hb with rfl | rfl <;> omega)
theorem p_65_0 {b : Int} (hb : is_k b) {h : Hp} (sh : Sh h) : rd h (b) 0 = b + 1 := sh.ptr ((fp_of (ck_65 hb) (cx_65 hb) (cb_65 hb)).trans ((if_neg (by decide)).trans ((if_pos (by decide)).trans ((if_pos (by decide)).trans ((if_neg (by decide)).trans ((if_pos (by decide)).trans ((if_neg (by decide)).trans ((if_pos (by omega)))))))))) (by rcases hb with rfl | rfl <;> omega)
theorem p_65_1 {b : Int} (hb : is_k b) {h : Hp} (sh : Sh h) : rd h (b) 1 = b + 2 := sh.ptr ((fp_of (ck_65 hb) (cx_65 hb) (cb_65 hb)).trans ((if_neg (by decide)).trans ((if_pos (by decide)).trans ((if_pos (by decide)).trans ((if_neg (by decide)).trans ((if_pos (by decide)).trans ((if_neg (by decide)).trans ((if_neg (by omega)).trans ((if_pos (by omega))))))))))) (by rcases hb with rfl | rfl <;> omega)
theorem p_65_2 {b : Int} (hb : is_k b) {h : Hp} (sh : Sh h) : rd h (b) 2 = b + 138 := sh.ptr ((fp_of (ck_65 hb) (cx_65 hb) (cb_65 hb)).trans ((if_neg (by decide)).trans ((if_pos (by decide)).trans ((if_pos (by decide)).trans ((if_neg (by decide)).trans ((if_pos (by decide)).trans ((if_neg (by decide)).trans ((if_neg (by omega)).trans ((if_neg (by omega)).trans ((if_pos (by omega)))))))))))) (by rcases hb with rfl | rfl <;> omega)
theorem p_67 {b : Int} (hb : is_k b) {i : Int} (i0 : 0 ≤ i) (i1 : i < 135) {h : Hp} (sh : Sh h) : rd h (b + 2) i = b + (3 + i) := sh.ptr ((fp_of (ck_67 hb) (cx_67 hb) (cb_67 hb)).trans ((if_neg (by decide)).trans ((if_pos (by decide)).trans ((if_pos (by decide)).trans ((if_neg (by decide)).trans ((if_neg (by decide)).trans ((if_neg (by decide)).trans ((if_pos (by omega)))))))))) (by rcases hb with rfl | rfl <;> omega)
theorem p_70_0 {b : Int} (hb : is_p b) {h : Hp} (sh : Sh h) : rd h (b) 0 = b + 1 := sh.ptr ((fp_of (ck_70 hb) (cx_70 hb) (cb_70 hb)).trans ((if_neg (by decide)).trans ((if_pos (by decide)).trans ((if_neg (by decide)).trans ((if_pos (by decide)).trans ((if_pos (by decide)).trans ((if_neg (by decide)).trans ((if_pos (by omega)))))))))) (by rcases hb with rfl | rfl <;> omega)
theorem p_70_2 {b : Int} (hb : is_p b) {h : Hp} (sh : Sh h) : rd h (b) 2 = b + 2 := sh.ptr ((fp_of (ck_70 hb) (cx_70 hb) (cb_70 hb)).trans ((if_neg (by decide)).trans ((if_pos (by decide)).trans ((if_neg (by decide)).trans ((if_pos (by decide)).trans ((if_pos (by decide)).trans ((if_neg (by decide)).trans ((if_neg (by omega)).trans ((if_pos (by omega))))))))))) (by rcases hb with rfl | rfl <;> omega)
theorem p_70_3 {b : Int} (hb : is_p b) {h : Hp} (sh : Sh h) : rd h (b) 3 = b + 3 := sh.ptr ((fp_of (ck_70 hb) (cx_70 hb) (cb_70 hb)).trans ((if_neg (by decide)).trans ((if_pos (by decide)).trans ((if_neg (by decide)).trans ((if_pos (by decide)).trans ((if_pos (by decide)).trans ((if_neg (by decide)).trans ((if_neg (by omega)).trans ((if_neg (by omega)).trans ((if_pos (by omega)))))))))))) (by rcases hb with rfl | rfl <;> omega)
theorem p_70_5 {b : Int} (hb : is_p b) {h : Hp} (sh : Sh h) : rd h (b) 5 = b + 4 := sh.ptr ((fp_of (ck_70 hb) (cx_70 hb) (cb_70 hb)).trans ((if_neg (by decide)).trans ((if_pos (by decide)).trans ((if_neg (by decide)).trans ((if_pos (by decide)).trans ((if_pos (by decide)).trans ((if_neg (by decide)).trans ((if_neg (by omega)).trans ((if_neg (by omega)).trans ((if_neg (by omega)).trans ((if_pos (by omega))))))))))))) (by rcases hb with rfl | rfl <;> omega)
theorem p_70_6 {b : Int} (hb : is_p b) {h : Hp} (sh : Sh h) : rd h (b) 6 = b + 5 := sh.ptr ((fp_of (ck_70 hb) (cx_70 hb) (cb_70 hb)).trans ((if_neg (by decide)).trans ((if_pos (by decide)).trans ((if_neg (by decide)).trans ((if_pos (by decide)).trans ((if_pos (by decide)).trans ((if_neg (by decide)).trans ((if_neg (by omega)).trans ((if_neg (by omega)).trans ((if_neg (by omega)).trans ((if_neg (by omega)).trans ((if_pos (by omega)))))))))))))) (by rcases hb with rfl | rfl <;> omega)
theorem p_75 {b : Int} (hb : is_p b) {i : Int} (i0 : 0 ≤ i) (i1 : i < 10) {h : Hp} (sh : Sh h) : rd h (b + 5) i = i + 1 := sh.ptr ((fp_of (ck_75 hb) (cx_75 hb) (cb_75 hb)).trans ((if_neg (by decide)).trans ((if_pos (by decide)).trans ((if_neg (by decide)).trans ((if_pos (by decide)).trans ((if_neg (by decide)).trans ((if_neg (by decide)).trans ((if_pos (by omega)))))))))) (by rcases hb with rfl | rfl <;> omega)
theorem p_80_0 {h : Hp} (sh : Sh h) : rd h 1314 0 = 1315 := sh.ptr (by decide +kernel) (by decide)
theorem p_80_1 {h : Hp} (sh : Sh h) : rd h 1314 1 = 1316 := sh.ptr (by decide +kernel) (by decide)
theorem p_80_2 {h : Hp} (sh : Sh h) : rd h 1314 2 = 1317 := sh.ptr (by decide +kernel) (by decide)
theorem p_80_3 {h : Hp} (sh : Sh h) : rd h 1314 3 = 1318 := sh.ptr (by decide +kernel) (by decide)
theorem p_80_4 {h : Hp} (sh : Sh h) : rd h 1314 4 = 1319 := sh.ptr (by decide +kernel) (by decide)
theorem p_80_5 {h : Hp} (sh : Sh h) : rd h 1314 5 = 1320 := sh.ptr (by decide +kernel) (by decide)
theorem p_80_6 {h : Hp} (sh : Sh h) : rd h 1314 6 = 1321 := sh.ptr (by decide +kernel) (by decide)
theorem p_80_7 {h : Hp} (sh : Sh h) : rd h 1314 7 = 1322 := sh.ptr (by decide +kernel) (by decide)
theorem p_80_8 {h : Hp} (sh : Sh h) : rd h 1314 8 = 1323 := sh.ptr (by decide +kernel) (by decide)
theorem p_80_20 {h : Hp} (sh : Sh h) : rd h 1314 20 = 1324 := sh.ptr (by decide +kernel) (by decide)
theorem p_80_22 {h : Hp} (sh : Sh h) : rd h 1314 22 = 1325 := sh.ptr (by decide +kernel) (by decide)
theorem p_80_23 {h : Hp} (sh : Sh h) : rd h 1314 23 = 1326 := sh.ptr (by decide +kernel) (by decide)
theorem p_80_24 {h : Hp} (sh : Sh h) : rd h 1314 24 = 1327 := sh.ptr (by decide +kernel) (by decide)
theorem p_80_25 {h : Hp} (sh : Sh h) : rd h 1314 25 = 1328 := sh.ptr (by decide +kernel) (by decide)
theorem p_80_26 {h : Hp} (sh : Sh h) : rd h 1314 26 = 1329 := sh.ptr (by decide +kernel) (by decide)
theorem p_80_28 {h : Hp} (sh : Sh h) : rd h 1314 28 = 1330 := sh.ptr (by decide +kernel) (by decide)
theorem p_80_30 {h : Hp} (sh : Sh h) : rd h 1314 30 = 1331 := sh.ptr (by decide +kernel) (by decide)
theorem p_80_31 {h : Hp} (sh : Sh h) : rd h 1314 31 = 1336 := sh.ptr (by decide +kernel) (by decide)
theorem p_80_32 {h : Hp} (sh : Sh h) : rd h 1314 32 = 1337 := sh.ptr (by decide +kernel) (by decide)
theorem p_80_36 {h : Hp} (sh : Sh h) : rd h 1314 36 = 1338 := sh.ptr (by decide +kernel) (by decide)
theorem p_80_37 {h : Hp} (sh : Sh h) : rd h 1314 37 = 1340 := sh.ptr (by decide +kernel) (by decide)
theorem p_80_38 {h : Hp} (sh : Sh h) : rd h 1314 38 = 1342 := sh.ptr (by decide +kernel) (by decide)
theorem p_80_41 {h : Hp} (sh : Sh h) : rd h 1314 41 = 1388 := sh.ptr (by decide +kernel) (by decide)
theorem p_80_42 {h : Hp} (sh : Sh h) : rd h 1314 42 = 64 := sh.ptr (by decide +kernel) (by decide)
theorem p_88 {i : Int} (i0 : 0 ≤ i) (i1 : i < 11) {h : Hp} (sh : Sh h) : rd h (1322) i = 1389 + i := sh.ptr ((fp_of (ck_88) (cx_88) (cb_88)).trans ((if_neg (by decide)).trans ((if_pos (by decide)).trans ((if_neg (by decide)).trans ((if_neg (by decide)).trans ((if_neg (by decide)).trans ((if_neg (by decide)).trans ((if_pos (by decide)).trans ((if_pos (by omega))))))))))) (by omega)
theorem p_97 {i : Int} (i0 : 0 ≤ i) (i1 : i < 2) {h : Hp} (sh : Sh h) : rd h (1331) i = 1332 + 2 * i := sh.ptr ((fp_of (ck_97) (cx_97) (cb_97)).trans ((if_neg (by decide)).trans ((if_neg (by decide)).trans ((if_pos (by decide)).trans ((if_pos (by decide)).trans ((if_pos (by decide)).trans ((if_pos (by decide)).trans ((if_pos (by omega)))))))))) (by omega)
theorem p_98_0 {x : Int} (h0 : 0 ≤ x) (h1 : x < 2) {h : Hp} (sh : Sh h) : rd h (1332 + 2 * x) 0 = x := sh.ptr ((fp_of (ck_98 h0 h1) (cx_98 h0 h1) (cb_98 h0 h1)).trans ((if_neg (by decide)).trans ((if_neg (by decide)).trans ((if_pos (by decide)).trans ((if_pos (by decide)).trans ((if_pos (by decide)).trans ((if_neg (by decide)).trans ((if_pos (by omega)))))))))) (by omega)
theorem p_98_1 {x : Int} (h0 : 0 ≤ x) (h1 : x < 2) {h : Hp} (sh : Sh h) : rd h (1332 + 2 * x) 1 = 1333 + 2 * x := sh.ptr ((fp_of (ck_98 h0 h1) (cx_98 h0 h1) (cb_98 h0 h1)).trans ((if_neg (by decide)).trans ((if_neg (by decide)).trans ((if_pos (by decide)).trans ((if_pos (by decide)).trans ((if_pos (by decide)).trans ((if_neg (by decide)).trans ((if_neg (by omega)).trans ((if_pos (by omega))))))))))) (by omega)
theorem p_102_0 {h : Hp} (sh : Sh h) : rd h 1338 0 = 1339 := sh.ptr (by decide +kernel) (by decide)
theorem p_104_0 {h : Hp} (sh : Sh h) : rd h 1340 0 = 1341 := sh.ptr (by decide +kernel) (by decide)
theorem p_106 {i : Int} (i0 : 0 ≤ i) (i1 : i < 3) {h : Hp} (sh : Sh h) : rd h (1342) i = 1343 + 15 * i := sh.ptr ((fp_of (ck_106) (cx_106) (cb_106)).trans ((if_neg (by decide)).trans ((if_neg (by decide)).trans ((if_pos (by decide)).trans ((if_neg (by decide)).trans ((if_neg (by decide)).trans ((if_neg (by decide)).trans ((if_pos (by omega)))))))))) (by omega)
theorem p_107_0 {x : Int} (h0 : 0 ≤ x) (h1 : x < 3) {h : Hp} (sh : Sh h) : rd h (1343 + 15 * x) 0 = 1344 + 15 * x := sh.ptr ((fp_of (ck_107 h0 h1) (cx_107 h0 h1) (cb_107 h0 h1)).trans ((if_neg (by decide)).trans ((if_neg (by decide)).trans ((if_neg (by decide)).trans ((if_pos (by decide)).trans ((if_pos (by decide)).trans ((if_pos (by decide)).trans ((if_pos (by omega)))))))))) (by omega)
theorem p_107_1 {x : Int} (h0 : 0 ≤ x) (h1 : x < 3) {h : Hp} (sh : Sh h) : rd h (1343 + 15 * x) 1 = 1351 + 15 * x := sh.ptr ((fp_of (ck_107 h0 h1) (cx_107 h0 h1) (cb_107 h0 h1)).trans ((if_neg (by decide)).trans ((if_neg (by decide)).trans ((if_neg (by decide)).trans ((if_pos (by decide)).trans ((if_pos (by decide)).trans ((if_pos (by decide)).trans ((if_neg (by omega)).trans ((if_pos (by omega))))))))))) (by omega)
theorem p_108_0 {x : Int} (h0 : 0 ≤ x) (h1 : x < 3) {h : Hp} (sh : Sh h) : rd h (1344 + 15 * x) 0 = 1345 + 15 * x := sh.ptr ((fp_of (ck_108 h0 h1) (cx_108 h0 h1) (cb_108 h0 h1)).trans ((if_neg (by decide)).trans ((if_neg (by decide)).trans ((if_neg (by decide)).trans ((if_pos (by decide)).trans ((if_pos (by decide)).trans ((if_neg (by decide)).trans ((if_pos (by omega)))))))))) (by omega)
theorem p_109 {x : Int} {i : Int} (h0 : 0 ≤ x) (h1 : x < 3) (i0 : 0 ≤ i) (i1 : i < 5) {h : Hp} (sh : Sh h) : rd h (1345 + 15 * x) i = 1346 + 15 * x + i := sh.ptr ((fp_of (ck_109 h0 h1) (cx_109 h0 h1) (cb_109 h0 h1)).trans ((if_neg (by decide)).trans ((if_neg (by decide)).trans ((if_neg (by decide)).trans ((if_pos (by decide)).trans ((if_neg (by decide)).trans ((if_pos (by decide)).trans ((if_pos (by omega)))))))))) (by omega)
theorem p_111_0 {x : Int} (h0 : 0 ≤ x) (h1 : x < 3) {h : Hp} (sh : Sh h) : rd h (1351 + 15 * x) 0 = 1352 + 15 * x := sh.ptr ((fp_of (ck_111 h0 h1) (cx_111 h0 h1) (cb_111 h0 h1)).trans ((if_neg (by decide)).trans ((if_neg (by decide)).trans ((if_neg (by decide)).trans ((if_neg (by decide)).trans ((if_pos (by decide)).trans ((if_pos (by decide)).trans ((if_pos (by omega)))))))))) (by omega)
theorem p_112 {x : Int} {i : Int} (h0 : 0 ≤ x) (h1 : x < 3) (i0 : 0 ≤ i) (i1 : i < 5) {h : Hp} (sh : Sh h) : rd h (1352 + 15 * x) i = 1353 + 15 * x + i := sh.ptr ((fp_of (ck_112 h0 h1) (cx_112 h0 h1) (cb_112 h0 h1)).trans ((if_neg (by decide)).trans ((if_neg (by decide)).trans ((if_neg (by decide)).trans ((if_neg (by decide)).trans ((if_pos (by decide)).trans ((if_neg (by decide)).trans ((if_pos (by omega)))))))))) (by omega)
theorem l_3 {h : Hp} (sh : Sh h) : ln h 66 = 41 := sh.len (by decide +kernel) (by decide)
theorem l_4 {h : Hp} (sh : Sh h) : ln h 67 = 41 := sh.len (by decide +kernel) (by decide)
theorem l_6 {h : Hp} (sh : Sh h) : ln h 69 = 135 := sh.len (by decide +kernel) (by decide)
theorem l_8 {h : Hp} (sh : Sh h) : ln h 71 = 2 := sh.len (by decide +kernel) (by decide)
theorem l_9 {x : Int} (h0 : 0 ≤ x) (h1 : x < 2) {h : Hp} (sh : Sh h) : ln h (72 + 201 * x) = 200 := sh.len ((fl_of (ck_9 h0 h1) (cx_9 h0 h1)).trans ((if_pos (by decide)).trans ((if_pos (by decide)).trans ((if_pos (by decide)).trans ((if_neg (by decide)).trans ((if_pos (by decide)).trans ((if_neg (by decide)).trans ((if_pos (by decide)))))))))) (by decide)
theorem l_10 {x r : Int} (h0 : 0 ≤ x) (h1 : x < 2) (h2 : 0 ≤ r) (h3 : r < 200) {h : Hp} (sh : Sh h) : ln h (73 + 201 * x + r) = 48 := sh.len ((fl_of (ck_10 h0 h1 h2 h3) (cx_10 h0 h1 h2 h3)).trans ((if_pos (by decide)).trans ((if_pos (by decide)).trans ((if_pos (by decide)).trans ((if_neg (by decide)).trans ((if_pos (by decide)).trans ((if_neg (by decide)).trans ((if_neg (by decide)))))))))) (by decide)
theorem l_11 {h : Hp} (sh : Sh h) : ln h 613 = 48 := sh.len (by decide +kernel) (by decide)
theorem l_12 {h : Hp} (sh : Sh h) : ln h 614 = 28 := sh.len (by decide +kernel) (by decide)
theorem l_15 {h : Hp} (sh : Sh h) : ln h 1308 = 5 := sh.len (by decide +kernel) (by decide)
theorem l_16 {x : Int} (h0 : 0 ≤ x) (h1 : x < 5) {h : Hp} (sh : Sh h) : ln h (1309 + x) = 110 := sh.len ((fl_of (ck_16 h0 h1) (cx_16 h0 h1)).trans ((if_pos (by decide)).trans ((if_pos (by decide)).trans ((if_neg (by decide)).trans ((if_pos (by decide)).trans ((if_pos (by decide)).trans ((if_neg (by decide)).trans ((if_pos (by decide)))))))))) (by decide)
theorem l_22 {b : Int} (hb : is_h b) {h : Hp} (sh : Sh h) : ln h (b + 2) = 5 := sh.len ((fl_of (ck_22 hb) (cx_22 hb)).trans ((if_pos (by decide)).trans ((if_pos (by decide)).trans ((if_neg (by decide)).trans ((if_pos (by decide)).trans ((if_neg (by decide)).trans ((if_pos (by decide))))))))) (by decide)
theorem l_23 {b x : Int} (hb : is_h b) (h0 : 0 ≤ x) (h1 : x < 5) {h : Hp} (sh : Sh h) : ln h (b + (3 + x)) = 110 := sh.len ((fl_of (ck_23 hb h0 h1) (cx_23 hb h0 h1)).trans ((if_pos (by decide)).trans ((if_pos (by decide)).trans ((if_neg (by decide)).trans ((if_pos (by decide)).trans ((if_neg (by decide)).trans ((if_neg (by decide)).trans ((if_pos (by decide)))))))))) (by decide)
theorem l_24 {b : Int} (hb : is_h b) {h : Hp} (sh : Sh h) : ln h (b + 8) = 5 := sh.len ((fl_of (ck_24 hb) (cx_24 hb)).trans ((if_pos (by decide)).trans ((if_pos (by decide)).trans ((if_neg (by decide)).trans ((if_pos (by decide)).trans ((if_neg (by decide)).trans ((if_neg (by decide)).trans ((if_neg (by decide)))))))))) (by decide)
theorem l_25 {b x : Int} (hb : is_h b) (h0 : 0 ≤ x) (h1 : x < 5) {h : Hp} (sh : Sh h) : ln h (b + (9 + x)) = 48 := sh.len ((fl_of (ck_25 hb h0 h1) (cx_25 hb h0 h1)).trans ((if_pos (by decide)).trans ((if_pos (by decide)).trans ((if_neg (by decide)).trans ((if_neg (by decide)).trans ((if_pos (by decide)).trans ((if_pos (by decide))))))))) (by decide)
theorem l_26 {b : Int} (hb : is_h b) {h : Hp} (sh : Sh h) : ln h (b + 14) = 10 := sh.len ((fl_of (ck_26 hb) (cx_26 hb)).trans ((if_pos (by decide)).trans ((if_pos (by decide)).trans ((if_neg (by decide)).trans ((if_neg (by decide)).trans ((if_pos (by decide)).trans ((if_neg (by decide)).trans ((if_pos (by decide)))))))))) (by decide)
theorem l_27 {b x : Int} (hb : is_h b) (h0 : 0 ≤ x) (h1 : x < 10) {h : Hp} (sh : Sh h) : ln h (b + (15 + x)) = 24 := sh.len ((fl_of (ck_27 hb h0 h1) (cx_27 hb h0 h1)).trans ((if_pos (by decide)).trans ((if_pos (by decide)).trans ((if_neg (by decide)).trans ((if_neg (by decide)).trans ((if_pos (by decide)).trans ((if_neg (by decide)).trans ((if_neg (by decide)))))))))) (by decide)
theorem l_28 {b : Int} (hb : is_h b) {h : Hp} (sh : Sh h) : ln h (b + 25) = 24 := sh.len ((fl_of (ck_28 hb) (cx_28 hb)).trans ((if_pos (by decide)).trans ((if_pos (by decide)).trans ((if_neg (by decide)).trans ((if_neg (by decide)).trans ((if_neg (by decide)).trans ((if_pos (by decide))))))))) (by decide)
theorem l_29 {b : Int} (hb : is_h b) {h : Hp} (sh : Sh h) : ln h (b + 26) = 4 := sh.len ((fl_of (ck_29 hb) (cx_29 hb)).trans ((if_pos (by decide)).trans ((if_pos (by decide)).trans ((if_neg (by decide)).trans ((if_neg (by decide)).trans ((if_neg (by decide)).trans ((if_neg (by decide)).trans ((if_pos (by decide)))))))))) (by decide)
theorem l_30 {b x : Int} (hb : is_h b) (h0 : 0 ≤ x) (h1 : x < 4) {h : Hp} (sh : Sh h) : ln h (b + (27 + x)) = 24 := sh.len ((fl_of (ck_30 hb h0 h1) (cx_30 hb h0 h1)).trans ((if_pos (by decide)).trans ((if_pos (by decide)).trans ((if_neg (by decide)).trans ((if_neg (by decide)).trans ((if_neg (by decide)).trans ((if_neg (by decide)).trans ((if_neg (by decide)))))))))) (by decide)
theorem l_31 {b : Int} (hb : is_h b) {h : Hp} (sh : Sh h) : ln h (b + 31) = 196 := sh.len ((fl_of (ck_31 hb) (cx_31 hb)).trans ((if_pos (by decide)).trans ((if_neg (by decide)).trans ((if_pos (by decide)).trans ((if_pos (by decide)).trans ((if_pos (by decide)).trans ((if_pos (by decide))))))))) (by decide)
theorem l_32 {b : Int} (hb : is_h b) {h : Hp} (sh : Sh h) : ln h (b + 32) = 11 := sh.len ((fl_of (ck_32 hb) (cx_32 hb)).trans ((if_pos (by decide)).trans ((if_neg (by decide)).trans ((if_pos (by decide)).trans ((if_pos (by decide)).trans ((if_pos (by decide)).trans ((if_neg (by decide)).trans ((if_pos (by decide)))))))))) (by decide)
theorem l_33 {b : Int} (hb : is_h b) {h : Hp} (sh : Sh h) : ln h (b + 33) = 11 := sh.len ((fl_of (ck_33 hb) (cx_33 hb)).trans ((if_pos (by decide)).trans ((if_neg (by decide)).trans ((if_pos (by decide)).trans ((if_pos (by decide)).trans ((if_pos (by decide)).trans ((if_neg (by decide)).trans ((if_neg (by decide)))))))))) (by decide)
theorem l_34 {b : Int} (hb : is_h b) {h : Hp} (sh : Sh h) : ln h (b + 34) = 10 := sh.len ((fl_of (ck_34 hb) (cx_34 hb)).trans ((if_pos (by decide)).trans ((if_neg (by decide)).trans ((if_pos (by decide)).trans ((if_pos (by decide)).trans ((if_neg (by decide)).trans ((if_pos (by decide))))))))) (by decide)
theorem l_35 {b : Int} (hb : is_h b) {h : Hp} (sh : Sh h) : ln h (b + 35) = 3 := sh.len ((fl_of (ck_35 hb) (cx_35 hb)).trans ((if_pos (by decide)).trans ((if_neg (by decide)).trans ((if_pos (by decide)).trans ((if_pos (by decide)).trans ((if_neg (by decide)).trans ((if_neg (by decide)).trans ((if_pos (by decide)))))))))) (by decide)
theorem l_36 {b : Int} (hb : is_h b) {h : Hp} (sh : Sh h) : ln h (b + 36) = 3 := sh.len ((fl_of (ck_36 hb) (cx_36 hb)).trans ((if_pos (by decide)).trans ((if_neg (by decide)).trans ((if_pos (by decide)).trans ((if_pos (by decide)).trans ((if_neg (by decide)).trans ((if_neg (by decide)).trans ((if_neg (by decide)))))))))) (by decide)
theorem l_37 {b : Int} (hb : is_h b) {h : Hp} (sh : Sh h) : ln h (b + 37) = 16 := sh.len ((fl_of (ck_37 hb) (cx_37 hb)).trans ((if_pos (by decide)).trans ((if_neg (by decide)).trans ((if_pos (by decide)).trans ((if_neg (by decide)).trans ((if_pos (by decide)).trans ((if_pos (by decide))))))))) (by decide)
theorem l_38 {b : Int} (hb : is_h b) {h : Hp} (sh : Sh h) : ln h (b + 38) = 20 := sh.len ((fl_of (ck_38 hb) (cx_38 hb)).trans ((if_pos (by decide)).trans ((if_neg (by decide)).trans ((if_pos (by decide)).trans ((if_neg (by decide)).trans ((if_pos (by decide)).trans ((if_neg (by decide)).trans ((if_pos (by decide)))))))))) (by decide)
theorem l_39 {b : Int} (hb : is_h b) {h : Hp} (sh : Sh h) : ln h (b + 39) = 40 := sh.len ((fl_of (ck_39 hb) (cx_39 hb)).trans ((if_pos (by decide)).trans ((if_neg (by decide)).trans ((if_pos (by decide)).trans ((if_neg (by decide)).trans ((if_pos (by decide)).trans ((if_neg (by decide)).trans ((if_neg (by decide)))))))))) (by decide)
theorem l_40 {b : Int} (hb : is_h b) {h : Hp} (sh : Sh h) : ln h (b + 40) = 8 := sh.len ((fl_of (ck_40 hb) (cx_40 hb)).trans ((if_pos (by decide)).trans ((if_neg (by decide)).trans ((if_pos (by decide)).trans ((if_neg (by decide)).trans ((if_neg (by decide)).trans ((if_pos (by decide))))))))) (by decide)
theorem l_42 {b x : Int} (hb : is_h b) (h0 : 0 ≤ x) (h1 : x < 10) {h : Hp} (sh : Sh h) : ln h (b + (42 + 2 * x)) = 3 := sh.len ((fl_of (ck_42 hb h0 h1) (cx_42 hb h0 h1)).trans ((if_pos (by decide)).trans ((if_neg (by decide)).trans ((if_pos (by decide)).trans ((if_neg (by decide)).trans ((if_neg (by decide)).trans ((if_neg (by decide)).trans ((if_neg (by decide)))))))))) (by decide)
theorem l_47 {b x : Int} (hb : is_h b) (h0 : 0 ≤ x) (h1 : x < 8) {h : Hp} (sh : Sh h) : ln h (b + (125 + 2 * x)) = 48 := sh.len ((fl_of (ck_47 hb h0 h1) (cx_47 hb h0 h1)).trans ((if_pos (by decide)).trans ((if_neg (by decide)).trans ((if_neg (by decide)).trans ((if_pos (by decide)).trans ((if_pos (by decide)).trans ((if_neg (by decide)).trans ((if_pos (by decide)))))))))) (by decide)
theorem l_51 {b : Int} (hb : is_l b) {h : Hp} (sh : Sh h) : ln h (b + 1) = 40 := sh.len ((fl_of (ck_51 hb) (cx_51 hb)).trans ((if_pos (by decide)).trans ((if_neg (by decide)).trans ((if_neg (by decide)).trans ((if_pos (by decide)).trans ((if_neg (by decide)).trans ((if_pos (by decide))))))))) (by decide)
theorem l_52 {b : Int} (hb : is_l b) {h : Hp} (sh : Sh h) : ln h (b + 2) = 240 := sh.len ((fl_of (ck_52 hb) (cx_52 hb)).trans ((if_pos (by decide)).trans ((if_neg (by decide)).trans ((if_neg (by decide)).trans ((if_pos (by decide)).trans ((if_neg (by decide)).trans ((if_neg (by decide)).trans ((if_pos (by decide)))))))))) (by decide)
theorem l_53 {b : Int} (hb : is_l b) {h : Hp} (sh : Sh h) : ln h (b + 3) = 10 := sh.len ((fl_of (ck_53 hb) (cx_53 hb)).trans ((if_pos (by decide)).trans ((if_neg (by decide)).trans ((if_neg (by decide)).trans ((if_pos (by decide)).trans ((if_neg (by decide)).trans ((if_neg (by decide)).trans ((if_neg (by decide)))))))))) (by decide)
theorem l_54 {b : Int} (hb : is_l b) {h : Hp} (sh : Sh h) : ln h (b + 4) = 10 := sh.len ((fl_of (ck_54 hb) (cx_54 hb)).trans ((if_pos (by decide)).trans ((if_neg (by decide)).trans ((if_neg (by decide)).trans ((if_neg (by decide)).trans ((if_pos (by decide)).trans ((if_pos (by decide))))))))) (by decide)
theorem l_55 {b : Int} (hb : is_l b) {h : Hp} (sh : Sh h) : ln h (b + 5) = 800 := sh.len ((fl_of (ck_55 hb) (cx_55 hb)).trans ((if_pos (by decide)).trans ((if_neg (by decide)).trans ((if_neg (by decide)).trans ((if_neg (by decide)).trans ((if_pos (by decide)).trans ((if_neg (by decide)).trans ((if_pos (by decide)))))))))) (by decide)
theorem l_56 {b : Int} (hb : is_l b) {h : Hp} (sh : Sh h) : ln h (b + 6) = 3200 := sh.len ((fl_of (ck_56 hb) (cx_56 hb)).trans ((if_pos (by decide)).trans ((if_neg (by decide)).trans ((if_neg (by decide)).trans ((if_neg (by decide)).trans ((if_pos (by decide)).trans ((if_neg (by decide)).trans ((if_neg (by decide)))))))))) (by decide)
theorem l_57 {b : Int} (hb : is_l b) {h : Hp} (sh : Sh h) : ln h (b + 7) = 1600 := sh.len ((fl_of (ck_57 hb) (cx_57 hb)).trans ((if_pos (by decide)).trans ((if_neg (by decide)).trans ((if_neg (by decide)).trans ((if_neg (by decide)).trans ((if_neg (by decide)).trans ((if_pos (by decide)).trans ((if_pos (by decide)))))))))) (by decide)
theorem l_58 {b : Int} (hb : is_l b) {h : Hp} (sh : Sh h) : ln h (b + 8) = 48 := sh.len ((fl_of (ck_58 hb) (cx_58 hb)).trans ((if_pos (by decide)).trans ((if_neg (by decide)).trans ((if_neg (by decide)).trans ((if_neg (by decide)).trans ((if_neg (by decide)).trans ((if_pos (by decide)).trans ((if_neg (by decide)))))))))) (by decide)
theorem l_59 {b : Int} (hb : is_l b) {h : Hp} (sh : Sh h) : ln h (b + 9) = 48 := sh.len ((fl_of (ck_59 hb) (cx_59 hb)).trans ((if_pos (by decide)).trans ((if_neg (by decide)).trans ((if_neg (by decide)).trans ((if_neg (by decide)).trans ((if_neg (by decide)).trans ((if_neg (by decide)).trans ((if_pos (by decide)))))))))) (by decide)
theorem l_61 {b x : Int} (hb : is_l b) (h0 : 0 ≤ x) (h1 : x < 40) {h : Hp} (sh : Sh h) : ln h (b + (11 + 3 * x)) = 48 := sh.len ((fl_of (ck_61 hb h0 h1) (cx_61 hb h0 h1)).trans ((if_neg (by decide)).trans ((if_pos (by decide)).trans ((if_pos (by decide)).trans ((if_pos (by decide)).trans ((if_pos (by decide)).trans ((if_pos (by decide))))))))) (by decide)
theorem l_62 {b x : Int} (hb : is_l b) (h0 : 0 ≤ x) (h1 : x < 40) {h : Hp} (sh : Sh h) : ln h (b + (12 + 3 * x)) = 4 := sh.len ((fl_of (ck_62 hb h0 h1) (cx_62 hb h0 h1)).trans ((if_neg (by decide)).trans ((if_pos (by decide)).trans ((if_pos (by decide)).trans ((if_pos (by decide)).trans ((if_pos (by decide)).trans ((if_neg (by decide)).trans ((if_pos (by decide)))))))))) (by decide)
theorem l_66 {b : Int} (hb : is_k b) {h : Hp} (sh : Sh h) : ln h (b + 1) = 135 := sh.len ((fl_of (ck_66 hb) (cx_66 hb)).trans ((if_neg (by decide)).trans ((if_pos (by decide)).trans ((if_pos (by decide)).trans ((if_pos (by decide)).trans ((if_neg (by decide)).trans ((if_pos (by decide))))))))) (by decide)
theorem l_67 {b : Int} (hb : is_k b) {h : Hp} (sh : Sh h) : ln h (b + 2) = 135 := sh.len ((fl_of (ck_67 hb) (cx_67 hb)).trans ((if_neg (by decide)).trans ((if_pos (by decide)).trans ((if_pos (by decide)).trans ((if_pos (by decide)).trans ((if_neg (by decide)).trans ((if_neg (by decide)).trans ((if_pos (by decide)))))))))) (by decide)
theorem l_68 {b x : Int} (hb : is_k b) (h0 : 0 ≤ x) (h1 : x < 135) {h : Hp} (sh : Sh h) : ln h (b + (3 + x)) = 28 := sh.len ((fl_of (ck_68 hb h0 h1) (cx_68 hb h0 h1)).trans ((if_neg (by decide)).trans ((if_pos (by decide)).trans ((if_pos (by decide)).trans ((if_pos (by decide)).trans ((if_neg (by decide)).trans ((if_neg (by decide)).trans ((if_neg (by decide)))))))))) (by decide)
theorem l_69 {b : Int} (hb : is_k b) {h : Hp} (sh : Sh h) : ln h (b + 138) = 28 := sh.len ((fl_of (ck_69 hb) (cx_69 hb)).trans ((if_neg (by decide)).trans ((if_pos (by decide)).trans ((if_pos (by decide)).trans ((if_neg (by decide)).trans ((if_pos (by decide)).trans ((if_pos (by decide))))))))) (by decide)
theorem l_71 {b : Int} (hb : is_p b) {h : Hp} (sh : Sh h) : ln h (b + 1) = 800 := sh.len ((fl_of (ck_71 hb) (cx_71 hb)).trans ((if_neg (by decide)).trans ((if_pos (by decide)).trans ((if_pos (by decide)).trans ((if_neg (by decide)).trans ((if_pos (by decide)).trans ((if_neg (by decide)).trans ((if_neg (by decide)))))))))) (by decide)
theorem l_72 {b : Int} (hb : is_p b) {h : Hp} (sh : Sh h) : ln h (b + 2) = 12 := sh.len ((fl_of (ck_72 hb) (cx_72 hb)).trans ((if_neg (by decide)).trans ((if_pos (by decide)).trans ((if_pos (by decide)).trans ((if_neg (by decide)).trans ((if_neg (by decide)).trans ((if_pos (by decide))))))))) (by decide)
theorem l_73 {b : Int} (hb : is_p b) {h : Hp} (sh : Sh h) : ln h (b + 3) = 13 := sh.len ((fl_of (ck_73 hb) (cx_73 hb)).trans ((if_neg (by decide)).trans ((if_pos (by decide)).trans ((if_pos (by decide)).trans ((if_neg (by decide)).trans ((if_neg (by decide)).trans ((if_neg (by decide)).trans ((if_pos (by decide)))))))))) (by decide)
theorem l_74 {b : Int} (hb : is_p b) {h : Hp} (sh : Sh h) : ln h (b + 4) = 80 := sh.len ((fl_of (ck_74 hb) (cx_74 hb)).trans ((if_neg (by decide)).trans ((if_pos (by decide)).trans ((if_pos (by decide)).trans ((if_neg (by decide)).trans ((if_neg (by decide)).trans ((if_neg (by decide)).trans ((if_neg (by decide)))))))))) (by decide)
theorem l_75 {b : Int} (hb : is_p b) {h : Hp} (sh : Sh h) : ln h (b + 5) = 10 := sh.len ((fl_of (ck_75 hb) (cx_75 hb)).trans ((if_neg (by decide)).trans ((if_pos (by decide)).trans ((if_neg (by decide)).trans ((if_pos (by decide)).trans ((if_pos (by decide)).trans ((if_pos (by decide))))))))) (by decide)
theorem l_81 {h : Hp} (sh : Sh h) : ln h 1315 = 240 := sh.len (by decide +kernel) (by decide)
theorem l_82 {h : Hp} (sh : Sh h) : ln h 1316 = 240 := sh.len (by decide +kernel) (by decide)
theorem l_83 {h : Hp} (sh : Sh h) : ln h 1317 = 240 := sh.len (by decide +kernel) (by decide)
theorem l_84 {h : Hp} (sh : Sh h) : ln h 1318 = 240 := sh.len (by decide +kernel) (by decide)
theorem l_85 {h : Hp} (sh : Sh h) : ln h 1319 = 240 := sh.len (by decide +kernel) (by decide)
theorem l_86 {h : Hp} (sh : Sh h) : ln h 1320 = 240 := sh.len (by decide +kernel) (by decide)
theorem l_87 {h : Hp} (sh : Sh h) : ln h 1321 = 240 := sh.len (by decide +kernel) (by decide)
theorem l_88 {h : Hp} (sh : Sh h) : ln h 1322 = 11 := sh.len (by decide +kernel) (by decide)
theorem l_89 {h : Hp} (sh : Sh h) : ln h 1323 = 16 := sh.len (by decide +kernel) (by decide)
theorem l_90 {h : Hp} (sh : Sh h) : ln h 1324 = 10 := sh.len (by decide +kernel) (by decide)
theorem l_91 {h : Hp} (sh : Sh h) : ln h 1325 = 10 := sh.len (by decide +kernel) (by decide)
theorem l_92 {h : Hp} (sh : Sh h) : ln h 1326 = 18 := sh.len (by decide +kernel) (by decide)
theorem l_93 {h : Hp} (sh : Sh h) : ln h 1327 = 18 := sh.len (by decide +kernel) (by decide)
theorem l_94 {h : Hp} (sh : Sh h) : ln h 1328 = 32 := sh.len (by decide +kernel) (by decide)
theorem l_95 {h : Hp} (sh : Sh h) : ln h 1329 = 32 := sh.len (by decide +kernel) (by decide)
theorem l_96 {h : Hp} (sh : Sh h) : ln h 1330 = 256 := sh.len (by decide +kernel) (by decide)
theorem l_97 {h : Hp} (sh : Sh h) : ln h 1331 = 2 := sh.len (by decide +kernel) (by decide)
theorem l_101 {h : Hp} (sh : Sh h) : ln h 1337 = 196 := sh.len (by decide +kernel) (by decide)
theorem l_103 {h : Hp} (sh : Sh h) : ln h 1339 = 4100 := sh.len (by decide +kernel) (by decide)
theorem l_105 {h : Hp} (sh : Sh h) : ln h 1341 = 4100 := sh.len (by decide +kernel) (by decide)
theorem l_106 {h : Hp} (sh : Sh h) : ln h 1342 = 3 := sh.len (by decide +kernel) (by decide)
theorem l_109 {x : Int} (h0 : 0 ≤ x) (h1 : x < 3) {h : Hp} (sh : Sh h) : ln h (1345 + 15 * x) = 5 := sh.len ((fl_of (ck_109 h0 h1) (cx_109 h0 h1)).trans ((if_neg (by decide)).trans ((if_neg (by decide)).trans ((if_neg (by decide)).trans ((if_pos (by decide)).trans ((if_neg (by decide)).trans ((if_pos (by decide))))))))) (by decide)
theorem l_110 {x s : Int} (h0 : 0 ≤ x) (h1 : x < 3) (h2 : 0 ≤ s) (h3 : s < 5) {h : Hp} (sh : Sh h) : ln h (1346 + 15 * x + s) = 110 := sh.len ((fl_of (ck_110 h0 h1 h2 h3) (cx_110 h0 h1 h2 h3)).trans ((if_neg (by decide)).trans ((if_neg (by decide)).trans ((if_neg (by decide)).trans ((if_pos (by decide)).trans ((if_neg (by decide)).trans ((if_neg (by decide)).trans ((if_pos (by decide)))))))))) (by decide)
theorem l_112 {x : Int} (h0 : 0 ≤ x) (h1 : x < 3) {h : Hp} (sh : Sh h) : ln h (1352 + 15 * x) = 5 := sh.len ((fl_of (ck_112 h0 h1) (cx_112 h0 h1)).trans ((if_neg (by decide)).trans ((if_neg (by decide)).trans ((if_neg (by decide)).trans ((if_neg (by decide)).trans ((if_pos (by decide)).trans ((if_pos (by decide))))))))) (by decide)
theorem l_113 {x s : Int} (h0 : 0 ≤ x) (h1 : x < 3) (h2 : 0 ≤ s) (h3 : s < 5) {h : Hp} (sh : Sh h) : ln h (1353 + 15 * x + s) = 110 := sh.len ((fl_of (ck_113 h0 h1 h2 h3) (cx_113 h0 h1 h2 h3)).trans ((if_neg (by decide)).trans ((if_neg (by decide)).trans ((if_neg (by decide)).trans ((if_neg (by decide)).trans ((if_pos (by decide)).trans ((if_neg (by decide)).trans ((if_pos (by decide)))))))))) (by decide)
theorem l_114 {h : Hp} (sh : Sh h) : ln h 1388 = 10 := sh.len (by decide +kernel) (by decide)
theorem l_122 {h : Hp} (sh : Sh h) : ln h 1509 = 1 := sh.len (by decide +kernel) (by decide)
theorem tp_3 {h : Hp} (sh : Sh h) : rd h 1400 3 = 1401 := sh.ptr (by decide +kernel) (by decide)
theorem tl_3 {h : Hp} (sh : Sh h) : ln h 1401 = 4400 := sh.len (by decide +kernel) (by decide)
theorem tp_5 {h : Hp} (sh : Sh h) : rd h 1400 5 = 1402 := sh.ptr (by decide +kernel) (by decide)
theorem tl_5 {h : Hp} (sh : Sh h) : ln h 1402 = 240 := sh.len (by decide +kernel) (by decide)
theorem tp_6 {h : Hp} (sh : Sh h) : rd h 1400 6 = 1403 := sh.ptr (by decide +kernel) (by decide)
theorem tl_6 {h : Hp} (sh : Sh h) : ln h 1403 = 240 := sh.len (by decide +kernel) (by decide)
theorem tp_8 {h : Hp} (sh : Sh h) : rd h 1400 8 = 1404 := sh.ptr (by decide +kernel) (by decide)
theorem tl_8 {h : Hp} (sh : Sh h) : ln h 1404 = 240 := sh.len (by decide +kernel) (by decide)
theorem tp_9 {h : Hp} (sh : Sh h) : rd h 1400 9 = 1405 := sh.ptr (by decide +kernel) (by decide)
theorem tl_9 {h : Hp} (sh : Sh h) : ln h 1405 = 240 := sh.len (by decide +kernel) (by decide)
theorem tp_10 {h : Hp} (sh : Sh h) : rd h 1400 10 = 1406 := sh.ptr (by decide +kernel) (by decide)
theorem tl_10 {h : Hp} (sh : Sh h) : ln h 1406 = 240 := sh.len (by decide +kernel) (by decide)
theorem tp_11 {h : Hp} (sh : Sh h) : rd h 1400 11 = 1407 := sh.ptr (by decide +kernel) (by decide)
theorem tl_11 {h : Hp} (sh : Sh h) : ln h 1407 = 6400 := sh.len (by decide +kernel) (by decide)
theorem tp_12 {h : Hp} (sh : Sh h) : rd h 1400 12 = 1408 := sh.ptr (by decide +kernel) (by decide)
theorem tl_12 {h : Hp} (sh : Sh h) : ln h 1408 = 240 := sh.len (by decide +kernel) (by decide)
theorem tp_13 {h : Hp} (sh : Sh h) : rd h 1400 13 = 1409 := sh.ptr (by decide +kernel) (by decide)
theorem tl_13 {h : Hp} (sh : Sh h) : ln h 1409 = 240 := sh.len (by decide +kernel) (by decide)
theorem tp_14 {h : Hp} (sh : Sh h) : rd h 1400 14 = 1410 := sh.ptr (by decide +kernel) (by decide)
theorem tl_14 {h : Hp} (sh : Sh h) : ln h 1410 = 10 := sh.len (by decide +kernel) (by decide)
theorem tp_15 {h : Hp} (sh : Sh h) : rd h 1400 15 = 1411 := sh.ptr (by decide +kernel) (by decide)
theorem tl_15 {h : Hp} (sh : Sh h) : ln h 1411 = 10 := sh.len (by decide +kernel) (by decide)
theorem tp_16 {h : Hp} (sh : Sh h) : rd h 1400 16 = 1412 := sh.ptr (by decide +kernel) (by decide)
theorem tl_16 {h : Hp} (sh : Sh h) : ln h 1412 = 240 := sh.len (by decide +kernel) (by decide)
theorem tp_17 {h : Hp} (sh : Sh h) : rd h 1400 17 = 1413 := sh.ptr (by decide +kernel) (by decide)
theorem tl_17 {h : Hp} (sh : Sh h) : ln h 1413 = 24 := sh.len (by decide +kernel) (by decide)
theorem tp_18 {h : Hp} (sh : Sh h) : rd h 1400 18 = 1414 := sh.ptr (by decide +kernel) (by decide)
theorem tl_18 {h : Hp} (sh : Sh h) : ln h 1414 = 96 := sh.len (by decide +kernel) (by decide)
theorem tp_19 {h : Hp} (sh : Sh h) : rd h 1400 19 = 1415 := sh.ptr (by decide +kernel) (by decide)
theorem tl_19 {h : Hp} (sh : Sh h) : ln h 1415 = 11 := sh.len (by decide +kernel) (by decide)
theorem tp_20 {h : Hp} (sh : Sh h) : rd h 1400 20 = 1416 := sh.ptr (by decide +kernel) (by decide)
theorem tl_20 {h : Hp} (sh : Sh h) : ln h 1416 = 11 := sh.len (by decide +kernel) (by decide)
theorem tp_22 {h : Hp} (sh : Sh h) : rd h 1400 22 = 1417 := sh.ptr (by decide +kernel) (by decide)
theorem tl_22 {h : Hp} (sh : Sh h) : ln h 1417 = 3 := sh.len (by decide +kernel) (by decide)
theorem tp_23 {h : Hp} (sh : Sh h) : rd h 1400 23 = 1418 := sh.ptr (by decide +kernel) (by decide)
theorem tl_23 {h : Hp} (sh : Sh h) : ln h 1418 = 3 := sh.len (by decide +kernel) (by decide)
theorem tp_24 {h : Hp} (sh : Sh h) : rd h 1400 24 = 1419 := sh.ptr (by decide +kernel) (by decide)
theorem tl_24 {h : Hp} (sh : Sh h) : ln h 1419 = 196 := sh.len (by decide +kernel) (by decide)
theorem tp_26 {h : Hp} (sh : Sh h) : rd h 1400 26 = 1420 := sh.ptr (by decide +kernel) (by decide)
theorem tl_26 {h : Hp} (sh : Sh h) : ln h 1420 = 196 := sh.len (by decide +kernel) (by decide)
theorem tp_29 {h : Hp} (sh : Sh h) : rd h 1400 29 = 1421 := sh.ptr (by decide +kernel) (by decide)
theorem tl_29 {h : Hp} (sh : Sh h) : ln h 1421 = 400 := sh.len (by decide +kernel) (by decide)
theorem tp_30 {h : Hp} (sh : Sh h) : rd h 1400 30 = 1422 := sh.ptr (by decide +kernel) (by decide)
theorem tl_30 {h : Hp} (sh : Sh h) : ln h 1422 = 400 := sh.len (by decide +kernel) (by decide)
theorem tp_32 {h : Hp} (sh : Sh h) : rd h 1400 32 = 1423 := sh.ptr (by decide +kernel) (by decide)
theorem tl_32 {h : Hp} (sh : Sh h) : ln h 1423 = 13 := sh.len (by decide +kernel) (by decide)
theorem tp_33 {h : Hp} (sh : Sh h) : rd h 1400 33 = 1424 := sh.ptr (by decide +kernel) (by decide)
theorem tl_33 {h : Hp} (sh : Sh h) : ln h 1424 = 13 := sh.len (by decide +kernel) (by decide)
theorem tp_37 {h : Hp} (sh : Sh h) : rd h 1400 37 = 1425 := sh.ptr (by decide +kernel) (by decide)
theorem tl_37 {h : Hp} (sh : Sh h) : ln h 1425 = 16 := sh.len (by decide +kernel) (by decide)
theorem tp_38 {h : Hp} (sh : Sh h) : rd h 1400 38 = 1426 := sh.ptr (by decide +kernel) (by decide)
theorem tl_38 {h : Hp} (sh : Sh h) : ln h 1426 = 64 := sh.len (by decide +kernel) (by decide)
theorem tp_39 {h : Hp} (sh : Sh h) : rd h 1400 39 = 1427 := sh.ptr (by decide +kernel) (by decide)
theorem tl_39 {h : Hp} (sh : Sh h) : ln h 1427 = 200 := sh.len (by decide +kernel) (by decide)
theorem tp_40 {h : Hp} (sh : Sh h) : rd h 1400 40 = 1428 := sh.ptr (by decide +kernel) (by decide)
theorem tl_40 {h : Hp} (sh : Sh h) : ln h 1428 = 240 := sh.len (by decide +kernel) (by decide)
theorem tp_41 {h : Hp} (sh : Sh h) : rd h 1400 41 = 1429 := sh.ptr (by decide +kernel) (by decide)
theorem tl_41 {h : Hp} (sh : Sh h) : ln h 1429 = 240 := sh.len (by decide +kernel) (by decide)
theorem tp_42 {h : Hp} (sh : Sh h) : rd h 1400 42 = 1430 := sh.ptr (by decide +kernel) (by decide)
theorem tl_42 {h : Hp} (sh : Sh h) : ln h 1430 = 240 := sh.len (by decide +kernel) (by decide)
theorem tp_43 {h : Hp} (sh : Sh h) : rd h 1400 43 = 1431 := sh.ptr (by decide +kernel) (by decide)
theorem tl_43 {h : Hp} (sh : Sh h) : ln h 1431 = 240 := sh.len (by decide +kernel) (by decide)
theorem tp_44 {h : Hp} (sh : Sh h) : rd h 1400 44 = 1432 := sh.ptr (by decide +kernel) (by decide)
theorem tl_44 {h : Hp} (sh : Sh h) : ln h 1432 = 240 := sh.len (by decide +kernel) (by decide)
theorem tp_45 {h : Hp} (sh : Sh h) : rd h 1400 45 = 1433 := sh.ptr (by decide +kernel) (by decide)
theorem tl_45 {h : Hp} (sh : Sh h) : ln h 1433 = 240 := sh.len (by decide +kernel) (by decide)
theorem tp_46 {h : Hp} (sh : Sh h) : rd h 1400 46 = 1434 := sh.ptr (by decide +kernel) (by decide)
theorem tl_46 {h : Hp} (sh : Sh h) : ln h 1434 = 240 := sh.len (by decide +kernel) (by decide)
theorem tp_47 {h : Hp} (sh : Sh h) : rd h 1400 47 = 1435 := sh.ptr (by decide +kernel) (by decide)
theorem tl_47 {h : Hp} (sh : Sh h) : ln h 1435 = 240 := sh.len (by decide +kernel) (by decide)
theorem tp_48 {h : Hp} (sh : Sh h) : rd h 1400 48 = 1436 := sh.ptr (by decide +kernel) (by decide)
theorem tl_48 {h : Hp} (sh : Sh h) : ln h 1436 = 40 := sh.len (by decide +kernel) (by decide)
theorem tp_49 {h : Hp} (sh : Sh h) : rd h 1400 49 = 1437 := sh.ptr (by decide +kernel) (by decide)
theorem tl_49 {h : Hp} (sh : Sh h) : ln h 1437 = 40 := sh.len (by decide +kernel) (by decide)
theorem tp_50 {h : Hp} (sh : Sh h) : rd h 1400 50 = 1438 := sh.ptr (by decide +kernel) (by decide)
theorem tl_50 {h : Hp} (sh : Sh h) : ln h 1438 = 41 := sh.len (by decide +kernel) (by decide)
theorem tp_51 {h : Hp} (sh : Sh h) : rd h 1400 51 = 1439 := sh.ptr (by decide +kernel) (by decide)
theorem tl_51 {h : Hp} (sh : Sh h) : ln h 1439 = 41 := sh.len (by decide +kernel) (by decide)
theorem tp_56 {h : Hp} (sh : Sh h) : rd h 1400 56 = 1440 := sh.ptr (by decide +kernel) (by decide)
theorem tl_56 {h : Hp} (sh : Sh h) : ln h 1440 = 11 := sh.len (by decide +kernel) (by decide)
theorem tp_57 {h : Hp} (sh : Sh h) : rd h 1400 57 = 1441 := sh.ptr (by decide +kernel) (by decide)
theorem tl_57 {h : Hp} (sh : Sh h) : ln h 1441 = 11 := sh.len (by decide +kernel) (by decide)
theorem tp_58 {h : Hp} (sh : Sh h) : rd h 1400 58 = 1442 := sh.ptr (by decide +kernel) (by decide)
theorem tl_58 {h : Hp} (sh : Sh h) : ln h 1442 = 11 := sh.len (by decide +kernel) (by decide)
theorem tp_59 {h : Hp} (sh : Sh h) : rd h 1400 59 = 1443 := sh.ptr (by decide +kernel) (by decide)
theorem tl_59 {h : Hp} (sh : Sh h) : ln h 1443 = 11 := sh.len (by decide +kernel) (by decide)
theorem tp_60 {h : Hp} (sh : Sh h) : rd h 1400 60 = 1444 := sh.ptr (by decide +kernel) (by decide)
theorem tl_60 {h : Hp} (sh : Sh h) : ln h 1444 = 11 := sh.len (by decide +kernel) (by decide)
theorem tp_69 {h : Hp} (sh : Sh h) : rd h 1400 69 = 1445 := sh.ptr (by decide +kernel) (by decide)
theorem tl_69 {h : Hp} (sh : Sh h) : ln h 1445 = 10 := sh.len (by decide +kernel) (by decide)
theorem tp_70 {h : Hp} (sh : Sh h) : rd h 1400 70 = 1446 := sh.ptr (by decide +kernel) (by decide)
theorem tl_70 {h : Hp} (sh : Sh h) : ln h 1446 = 10 := sh.len (by decide +kernel) (by decide)
theorem tp_71 {h : Hp} (sh : Sh h) : rd h 1400 71 = 1447 := sh.ptr (by decide +kernel) (by decide)
theorem tl_71 {h : Hp} (sh : Sh h) : ln h 1447 = 18 := sh.len (by decide +kernel) (by decide)
theorem tp_73 {h : Hp} (sh : Sh h) : rd h 1400 73 = 1448 := sh.ptr (by decide +kernel) (by decide)
theorem tl_73 {h : Hp} (sh : Sh h) : ln h 1448 = 32 := sh.len (by decide +kernel) (by decide)
theorem tp_74 {h : Hp} (sh : Sh h) : rd h 1400 74 = 1449 := sh.ptr (by decide +kernel) (by decide)
theorem tl_74 {h : Hp} (sh : Sh h) : ln h 1449 = 32 := sh.len (by decide +kernel) (by decide)
theorem tp_75 {h : Hp} (sh : Sh h) : rd h 1400 75 = 1450 := sh.ptr (by decide +kernel) (by decide)
theorem tl_75 {h : Hp} (sh : Sh h) : ln h 1450 = 8 := sh.len (by decide +kernel) (by decide)
theorem tp_76 {h : Hp} (sh : Sh h) : rd h 1400 76 = 1451 := sh.ptr (by decide +kernel) (by decide)
theorem tl_76 {h : Hp} (sh : Sh h) : ln h 1451 = 8 := sh.len (by decide +kernel) (by decide)
theorem tp_77 {h : Hp} (sh : Sh h) : rd h 1400 77 = 1452 := sh.ptr (by decide +kernel) (by decide)
theorem tl_77 {h : Hp} (sh : Sh h) : ln h 1452 = 8 := sh.len (by decide +kernel) (by decide)
theorem tp_78 {h : Hp} (sh : Sh h) : rd h 1400 78 = 1453 := sh.ptr (by decide +kernel) (by decide)
theorem tl_78 {h : Hp} (sh : Sh h) : ln h 1453 = 8 := sh.len (by decide +kernel) (by decide)
theorem tp_79 {h : Hp} (sh : Sh h) : rd h 1400 79 = 1454 := sh.ptr (by decide +kernel) (by decide)
theorem tl_79 {h : Hp} (sh : Sh h) : ln h 1454 = 384 := sh.len (by decide +kernel) (by decide)
theorem tp_80 {h : Hp} (sh : Sh h) : rd h 1400 80 = 1455 := sh.ptr (by decide +kernel) (by decide)
theorem tl_80 {h : Hp} (sh : Sh h) : ln h 1455 = 16 := sh.len (by decide +kernel) (by decide)
theorem tp_81 {h : Hp} (sh : Sh h) : rd h 1400 81 = 1456 := sh.ptr (by decide +kernel) (by decide)
theorem tl_81 {h : Hp} (sh : Sh h) : ln h 1456 = 16 := sh.len (by decide +kernel) (by decide)
theorem tp_82 {h : Hp} (sh : Sh h) : rd h 1400 82 = 1457 := sh.ptr (by decide +kernel) (by decide)
theorem tl_82 {h : Hp} (sh : Sh h) : ln h 1457 = 16 := sh.len (by decide +kernel) (by decide)
theorem tp_83 {h : Hp} (sh : Sh h) : rd h 1400 83 = 1458 := sh.ptr (by decide +kernel) (by decide)
theorem tl_83 {h : Hp} (sh : Sh h) : ln h 1458 = 16 := sh.len (by decide +kernel) (by decide)
theorem tp_84 {h : Hp} (sh : Sh h) : rd h 1400 84 = 1459 := sh.ptr (by decide +kernel) (by decide)
theorem tl_84 {h : Hp} (sh : Sh h) : ln h 1459 = 16 := sh.len (by decide +kernel) (by decide)
theorem tp_85 {h : Hp} (sh : Sh h) : rd h 1400 85 = 1460 := sh.ptr (by decide +kernel) (by decide)
theorem tl_85 {h : Hp} (sh : Sh h) : ln h 1460 = 16 := sh.len (by decide +kernel) (by decide)
theorem tp_86 {h : Hp} (sh : Sh h) : rd h 1400 86 = 1461 := sh.ptr (by decide +kernel) (by decide)
theorem tl_86 {h : Hp} (sh : Sh h) : ln h 1461 = 16 := sh.len (by decide +kernel) (by decide)
theorem tp_88 {h : Hp} (sh : Sh h) : rd h 1400 88 = 1462 := sh.ptr (by decide +kernel) (by decide)
theorem tl_88 {h : Hp} (sh : Sh h) : ln h 1462 = 12 := sh.len (by decide +kernel) (by decide)
theorem tp_89 {h : Hp} (sh : Sh h) : rd h 1400 89 = 1463 := sh.ptr (by decide +kernel) (by decide)
theorem tl_89 {h : Hp} (sh : Sh h) : ln h 1463 = 12 := sh.len (by decide +kernel) (by decide)
theorem tp_90 {h : Hp} (sh : Sh h) : rd h 1400 90 = 1464 := sh.ptr (by decide +kernel) (by decide)
theorem tl_90 {h : Hp} (sh : Sh h) : ln h 1464 = 2 := sh.len (by decide +kernel) (by decide)
theorem tp_91 {h : Hp} (sh : Sh h) : rd h 1400 91 = 1465 := sh.ptr (by decide +kernel) (by decide)
theorem tl_91 {h : Hp} (sh : Sh h) : ln h 1465 = 2 := sh.len (by decide +kernel) (by decide)
theorem tp_92 {h : Hp} (sh : Sh h) : rd h 1400 92 = 1466 := sh.ptr (by decide +kernel) (by decide)
theorem tl_92 {h : Hp} (sh : Sh h) : ln h 1466 = 2 := sh.len (by decide +kernel) (by decide)
theorem tp_93 {h : Hp} (sh : Sh h) : rd h 1400 93 = 1467 := sh.ptr (by decide +kernel) (by decide)
theorem tl_93 {h : Hp} (sh : Sh h) : ln h 1467 = 6 := sh.len (by decide +kernel) (by decide)
theorem tp_94 {h : Hp} (sh : Sh h) : rd h 1400 94 = 1468 := sh.ptr (by decide +kernel) (by decide)
theorem tl_94 {h : Hp} (sh : Sh h) : ln h 1468 = 6 := sh.len (by decide +kernel) (by decide)
theorem tp_95 {h : Hp} (sh : Sh h) : rd h 1400 95 = 1469 := sh.ptr (by decide +kernel) (by decide)
theorem tl_95 {h : Hp} (sh : Sh h) : ln h 1469 = 6 := sh.len (by decide +kernel) (by decide)
theorem tp_97 {h : Hp} (sh : Sh h) : rd h 1400 97 = 1470 := sh.ptr (by decide +kernel) (by decide)
theorem tl_97 {h : Hp} (sh : Sh h) : ln h 1470 = 8 := sh.len (by decide +kernel) (by decide)
theorem tp_98 {h : Hp} (sh : Sh h) : rd h 1400 98 = 1471 := sh.ptr (by decide +kernel) (by decide)
theorem tl_98 {h : Hp} (sh : Sh h) : ln h 1471 = 8 := sh.len (by decide +kernel) (by decide)
theorem tp_99 {h : Hp} (sh : Sh h) : rd h 1400 99 = 1472 := sh.ptr (by decide +kernel) (by decide)
theorem tl_99 {h : Hp} (sh : Sh h) : ln h 1472 = 8 := sh.len (by decide +kernel) (by decide)
theorem tp_100 {h : Hp} (sh : Sh h) : rd h 1400 100 = 1473 := sh.ptr (by decide +kernel) (by decide)
theorem tl_100 {h : Hp} (sh : Sh h) : ln h 1473 = 3 := sh.len (by decide +kernel) (by decide)
theorem tp_101 {h : Hp} (sh : Sh h) : rd h 1400 101 = 1474 := sh.ptr (by decide +kernel) (by decide)
theorem tl_101 {h : Hp} (sh : Sh h) : ln h 1474 = 3 := sh.len (by decide +kernel) (by decide)
theorem tp_102 {h : Hp} (sh : Sh h) : rd h 1400 102 = 1475 := sh.ptr (by decide +kernel) (by decide)
theorem tl_102 {h : Hp} (sh : Sh h) : ln h 1475 = 3 := sh.len (by decide +kernel) (by decide)
theorem tp_103 {h : Hp} (sh : Sh h) : rd h 1400 103 = 1476 := sh.ptr (by decide +kernel) (by decide)
theorem tl_103 {h : Hp} (sh : Sh h) : ln h 1476 = 20 := sh.len (by decide +kernel) (by decide)
theorem tp_104 {h : Hp} (sh : Sh h) : rd h 1400 104 = 1477 := sh.ptr (by decide +kernel) (by decide)
theorem tl_104 {h : Hp} (sh : Sh h) : ln h 1477 = 20 := sh.len (by decide +kernel) (by decide)
theorem tp_105 {h : Hp} (sh : Sh h) : rd h 1400 105 = 1478 := sh.ptr (by decide +kernel) (by decide)
theorem tl_105 {h : Hp} (sh : Sh h) : ln h 1478 = 20 := sh.len (by decide +kernel) (by decide)
theorem tp_106 {h : Hp} (sh : Sh h) : rd h 1400 106 = 1479 := sh.ptr (by decide +kernel) (by decide)
theorem tl_106 {h : Hp} (sh : Sh h) : ln h 1479 = 40 := sh.len (by decide +kernel) (by decide)
theorem tp_107 {h : Hp} (sh : Sh h) : rd h 1400 107 = 1480 := sh.ptr (by decide +kernel) (by decide)
theorem tl_107 {h : Hp} (sh : Sh h) : ln h 1480 = 40 := sh.len (by decide +kernel) (by decide)
theorem tp_108 {h : Hp} (sh : Sh h) : rd h 1400 108 = 1481 := sh.ptr (by decide +kernel) (by decide)
theorem tl_108 {h : Hp} (sh : Sh h) : ln h 1481 = 40 := sh.len (by decide +kernel) (by decide)
theorem tp_109 {h : Hp} (sh : Sh h) : rd h 1400 109 = 1482 := sh.ptr (by decide +kernel) (by decide)
theorem tl_109 {h : Hp} (sh : Sh h) : ln h 1482 = 40 := sh.len (by decide +kernel) (by decide)
theorem tp_110 {h : Hp} (sh : Sh h) : rd h 1400 110 = 1483 := sh.ptr (by decide +kernel) (by decide)
theorem tl_110 {h : Hp} (sh : Sh h) : ln h 1483 = 40 := sh.len (by decide +kernel) (by decide)
theorem tp_111 {h : Hp} (sh : Sh h) : rd h 1400 111 = 1484 := sh.ptr (by decide +kernel) (by decide)
theorem tl_111 {h : Hp} (sh : Sh h) : ln h 1484 = 40 := sh.len (by decide +kernel) (by decide)
theorem tp_113 {h : Hp} (sh : Sh h) : rd h 1400 113 = 1485 := sh.ptr (by decide +kernel) (by decide)
theorem tl_113 {h : Hp} (sh : Sh h) : ln h 1485 = 64 := sh.len (by decide +kernel) (by decide)
theorem tp_114 {h : Hp} (sh : Sh h) : rd h 1400 114 = 1486 := sh.ptr (by decide +kernel) (by decide)
theorem tl_114 {h : Hp} (sh : Sh h) : ln h 1486 = 64 := sh.len (by decide +kernel) (by decide)
theorem tp_115 {h : Hp} (sh : Sh h) : rd h 1400 115 = 1487 := sh.ptr (by decide +kernel) (by decide)
theorem tl_115 {h : Hp} (sh : Sh h) : ln h 1487 = 64 := sh.len (by decide +kernel) (by decide)
theorem tp_116 {h : Hp} (sh : Sh h) : rd h 1400 116 = 1488 := sh.ptr (by decide +kernel) (by decide)
theorem tl_116 {h : Hp} (sh : Sh h) : ln h 1488 = 64 := sh.len (by decide +kernel) (by decide)
theorem tp_117 {h : Hp} (sh : Sh h) : rd h 1400 117 = 1489 := sh.ptr (by decide +kernel) (by decide)
theorem tl_117 {h : Hp} (sh : Sh h) : ln h 1489 = 11 := sh.len (by decide +kernel) (by decide)
theorem tp_118 {h : Hp} (sh : Sh h) : rd h 1400 118 = 1490 := sh.ptr (by decide +kernel) (by decide)
theorem tl_118 {h : Hp} (sh : Sh h) : ln h 1490 = 11 := sh.len (by decide +kernel) (by decide)
theorem tp_119 {h : Hp} (sh : Sh h) : rd h 1400 119 = 1491 := sh.ptr (by decide +kernel) (by decide)
theorem tl_119 {h : Hp} (sh : Sh h) : ln h 1491 = 11 := sh.len (by decide +kernel) (by decide)
theorem tp_120 {h : Hp} (sh : Sh h) : rd h 1400 120 = 1492 := sh.ptr (by decide +kernel) (by decide)
theorem tl_120 {h : Hp} (sh : Sh h) : ln h 1492 = 10 := sh.len (by decide +kernel) (by decide)
theorem tp_121 {h : Hp} (sh : Sh h) : rd h 1400 121 = 1493 := sh.ptr (by decide +kernel) (by decide)
theorem tl_121 {h : Hp} (sh : Sh h) : ln h 1493 = 10 := sh.len (by decide +kernel) (by decide)
theorem tp_126 {h : Hp} (sh : Sh h) : rd h 1400 126 = 1494 := sh.ptr (by decide +kernel) (by decide)
theorem tl_126 {h : Hp} (sh : Sh h) : ln h 1494 = 41 := sh.len (by decide +kernel) (by decide)
theorem tp_127 {h : Hp} (sh : Sh h) : rd h 1400 127 = 1495 := sh.ptr (by decide +kernel) (by decide)
theorem tl_127 {h : Hp} (sh : Sh h) : ln h 1495 = 41 := sh.len (by decide +kernel) (by decide)
theorem tp_128 {h : Hp} (sh : Sh h) : rd h 1400 128 = 1496 := sh.ptr (by decide +kernel) (by decide)
theorem tl_128 {h : Hp} (sh : Sh h) : ln h 1496 = 41 := sh.len (by decide +kernel) (by decide)
theorem tp_129 {h : Hp} (sh : Sh h) : rd h 1400 129 = 1497 := sh.ptr (by decide +kernel) (by decide)
theorem tl_129 {h : Hp} (sh : Sh h) : ln h 1497 = 19200 := sh.len (by decide +kernel) (by decide)
theorem tp_130 {h : Hp} (sh : Sh h) : rd h 1400 130 = 1498 := sh.ptr (by decide +kernel) (by decide)
theorem tl_130 {h : Hp} (sh : Sh h) : ln h 1498 = 135 := sh.len (by decide +kernel) (by decide)
theorem tp_131 {h : Hp} (sh : Sh h) : rd h 1400 131 = 1499 := sh.ptr (by decide +kernel) (by decide)
theorem tl_131 {h : Hp} (sh : Sh h) : ln h 1499 = 3780 := sh.len (by decide +kernel) (by decide)
theorem tp_132 {h : Hp} (sh : Sh h) : rd h 1400 132 = 1500 := sh.ptr (by decide +kernel) (by decide)
theorem tl_132 {h : Hp} (sh : Sh h) : ln h 1500 = 28 := sh.len (by decide +kernel) (by decide)
theorem tp_138 {h : Hp} (sh : Sh h) : rd h 1400 138 = 1501 := sh.ptr (by decide +kernel) (by decide)
theorem tl_138 {h : Hp} (sh : Sh h) : ln h 1501 = 160 := sh.len (by decide +kernel) (by decide)
theorem tp_140 {h : Hp} (sh : Sh h) : rd h 1400 140 = 1502 := sh.ptr (by decide +kernel) (by decide)
theorem tl_140 {h : Hp} (sh : Sh h) : ln h 1502 = 4100 := sh.len (by decide +kernel) (by decide)
theorem tp_142 {h : Hp} (sh : Sh h) : rd h 1400 142 = 1503 := sh.ptr (by decide +kernel) (by decide)
theorem tl_142 {h : Hp} (sh : Sh h) : ln h 1503 = 4100 := sh.len (by decide +kernel) (by decide)
theorem tp_144 {h : Hp} (sh : Sh h) : rd h 1400 144 = 1504 := sh.ptr (by decide +kernel) (by decide)
theorem tl_144 {h : Hp} (sh : Sh h) : ln h 1504 = 135 := sh.len (by decide +kernel) (by decide)
theorem tp_145 {h : Hp} (sh : Sh h) : rd h 1400 145 = 1505 := sh.ptr (by decide +kernel) (by decide)
theorem tl_145 {h : Hp} (sh : Sh h) : ln h 1505 = 3780 := sh.len (by decide +kernel) (by decide)
theorem tp_146 {h : Hp} (sh : Sh h) : rd h 1400 146 = 1506 := sh.ptr (by decide +kernel) (by decide)
theorem tl_146 {h : Hp} (sh : Sh h) : ln h 1506 = 196 := sh.len (by decide +kernel) (by decide)
theorem tp_155 {h : Hp} (sh : Sh h) : rd h 1400 155 = 1507 := sh.ptr (by decide +kernel) (by decide)
theorem tl_155 {h : Hp} (sh : Sh h) : ln h 1507 = 400 := sh.len (by decide +kernel) (by decide)
theorem tp_158 {h : Hp} (sh : Sh h) : rd h 1400 158 = 1508 := sh.ptr (by decide +kernel) (by decide)
theorem tl_158 {h : Hp} (sh : Sh h) : ln h 1508 = 48 := sh.len (by decide +kernel) (by decide)
theorem a_1 {H : Int} {Q : Int} {L : Int} : At H Q L (64) 0 1 (0) := ⟨(lv_of (ck_1) (cx_1) (cb_1)).trans ((if_pos (by decide)).trans ((if_pos (by decide)).trans ((if_pos (by decide)).trans ((if_pos (by decide)).trans ((if_pos (by decide)).trans ((if_neg (by decide)).trans (((if_pos (by omega)))))))))), (lj_of (ck_1) (cx_1)).trans ((if_pos (by decide)).trans ((if_pos (by decide)).trans ((if_pos (by decide)).trans ((if_pos (by decide)).trans ((if_pos (by decide)).trans ((if_neg (by decide)).trans ((if_pos (by omega))))))))), (fp_of (ck_1) (cx_1) (cb_1)).trans ((if_pos (by decide)).trans ((if_pos (by decide)).trans ((if_pos (by decide)).trans ((if_pos (by decide)).trans ((if_pos (by decide)).trans ((if_neg (by decide)).trans ((if_neg (by omega)).trans ((if_neg (by omega)).trans ((if_neg (by omega)).trans ((if_neg (by omega)).trans ((if_neg (by omega)).trans ((if_neg (by omega)).trans ((if_neg (by omega)).trans ((if_neg (by omega)))))))))))))))), by omega, by omega, by omega⟩
theorem a_7_133 {H : Int} {Q : Int} {L : Int} : At H Q L (70) 2 133 (0) := ⟨(lv_of (ck_7) (cx_7) (cb_7)).trans ((if_pos (by decide)).trans ((if_pos (by decide)).trans ((if_pos (by decide)).trans ((if_pos (by decide)).trans ((if_neg (by decide)).trans ((if_neg (by decide)).trans ((if_pos (by decide)).trans (((if_pos (by omega))))))))))), (lj_of (ck_7) (cx_7)).trans ((if_pos (by decide)).trans ((if_pos (by decide)).trans ((if_pos (by decide)).trans ((if_pos (by decide)).trans ((if_neg (by decide)).trans ((if_neg (by decide)).trans ((if_pos (by omega))))))))), (fp_of (ck_7) (cx_7) (cb_7)).trans ((if_pos (by decide)).trans ((if_pos (by decide)).trans ((if_pos (by decide)).trans ((if_neg (by decide)).trans ((if_neg (by decide)).trans ((if_pos (by decide)).trans ((if_neg (by omega)).trans ((if_neg (by omega)).trans ((if_neg (by omega))))))))))), by omega, by omega, by omega⟩
theorem a_7_134 {H : Int} {Q : Int} {L : Int} : At H Q L (70) 3 134 (0) := ⟨(lv_of (ck_7) (cx_7) (cb_7)).trans ((if_pos (by decide)).trans ((if_pos (by decide)).trans ((if_pos (by decide)).trans ((if_pos (by decide)).trans ((if_neg (by decide)).trans ((if_neg (by decide)).trans ((if_pos (by decide)).trans (((if_neg (by omega)).trans ((if_pos (by omega)))))))))))), (lj_of (ck_7) (cx_7)).trans ((if_pos (by decide)).trans ((if_pos (by decide)).trans ((if_pos (by decide)).trans ((if_pos (by decide)).trans ((if_neg (by decide)).trans ((if_neg (by decide)).trans ((if_neg (by omega)).trans ((if_pos (by omega)))))))))), (fp_of (ck_7) (cx_7) (cb_7)).trans ((if_pos (by decide)).trans ((if_pos (by decide)).trans ((if_pos (by decide)).trans ((if_neg (by decide)).trans ((if_neg (by decide)).trans ((if_pos (by decide)).trans ((if_neg (by omega)).trans ((if_neg (by omega)).trans ((if_neg (by omega))))))))))), by omega, by omega, by omega⟩
theorem a_7_135 {H : Int} {Q : Int} {L : Int} : At H Q L (70) 4 135 (0) := ⟨(lv_of (ck_7) (cx_7) (cb_7)).trans ((if_pos (by decide)).trans ((if_pos (by decide)).trans ((if_pos (by decide)).trans ((if_pos (by decide)).trans ((if_neg (by decide)).trans ((if_neg (by decide)).trans ((if_pos (by decide)).trans (((if_neg (by omega)).trans ((if_neg (by omega)).trans ((if_pos (by omega))))))))))))), (lj_of (ck_7) (cx_7)).trans ((if_pos (by decide)).trans ((if_pos (by decide)).trans ((if_pos (by decide)).trans ((if_pos (by decide)).trans ((if_neg (by decide)).trans ((if_neg (by decide)).trans ((if_neg (by omega)).trans ((if_neg (by omega)).trans ((if_pos (by omega))))))))))), (fp_of (ck_7) (cx_7) (cb_7)).trans ((if_pos (by decide)).trans ((if_pos (by decide)).trans ((if_pos (by decide)).trans ((if_neg (by decide)).trans ((if_neg (by decide)).trans ((if_pos (by decide)).trans ((if_neg (by omega)).trans ((if_neg (by omega)).trans ((if_neg (by omega))))))))))), by omega, by omega, by omega⟩
theorem a_7_136 {H : Int} {Q : Int} {L : Int} : At H Q L (70) 5 136 (0) := ⟨(lv_of (ck_7) (cx_7) (cb_7)).trans ((if_pos (by decide)).trans ((if_pos (by decide)).trans ((if_pos (by decide)).trans ((if_pos (by decide)).trans ((if_neg (by decide)).trans ((if_neg (by decide)).trans ((if_pos (by decide)).trans (((if_neg (by omega)).trans ((if_neg (by omega)).trans ((if_neg (by omega)).trans ((if_pos (by omega)))))))))))))), (lj_of (ck_7) (cx_7)).trans ((if_pos (by decide)).trans ((if_pos (by decide)).trans ((if_pos (by decide)).trans ((if_pos (by decide)).trans ((if_neg (by decide)).trans ((if_neg (by decide)).trans ((if_neg (by omega)).trans ((if_neg (by omega)).trans ((if_neg (by omega)).trans ((if_pos (by omega)))))))))))), (fp_of (ck_7) (cx_7) (cb_7)).trans ((if_pos (by decide)).trans ((if_pos (by decide)).trans ((if_pos (by decide)).trans ((if_neg (by decide)).trans ((if_neg (by decide)).trans ((if_pos (by decide)).trans ((if_neg (by omega)).trans ((if_neg (by omega)).trans ((if_neg (by omega))))))))))), by omega, by omega, by omega⟩
theorem a_7_137 {H : Int} {Q : Int} {L : Int} : At H Q L (70) 6 137 (0) := ⟨(lv_of (ck_7) (cx_7) (cb_7)).trans ((if_pos (by decide)).trans ((if_pos (by decide)).trans ((if_pos (by decide)).trans ((if_pos (by decide)).trans ((if_neg (by decide)).trans ((if_neg (by decide)).trans ((if_pos (by decide)).trans (((if_neg (by omega)).trans ((if_neg (by omega)).trans ((if_neg (by omega)).trans ((if_neg (by omega)).trans ((if_pos (by omega))))))))))))))), (lj_of (ck_7) (cx_7)).trans ((if_pos (by decide)).trans ((if_pos (by decide)).trans ((if_pos (by decide)).trans ((if_pos (by decide)).trans ((if_neg (by decide)).trans ((if_neg (by decide)).trans ((if_neg (by omega)).trans ((if_neg (by omega)).trans ((if_neg (by omega)).trans ((if_neg (by omega)).trans ((if_pos (by omega))))))))))))), (fp_of (ck_7) (cx_7) (cb_7)).trans ((if_pos (by decide)).trans ((if_pos (by decide)).trans ((if_pos (by decide)).trans ((if_neg (by decide)).trans ((if_neg (by decide)).trans ((if_pos (by decide)).trans ((if_neg (by omega)).trans ((if_neg (by omega)).trans ((if_neg (by omega))))))))))), by omega, by omega, by omega⟩
theorem a_10 {H : Int} {Q : Int} {L : Int} {x r : Int} {i : Int} (h0 : 0 ≤ x) (h1 : x < 2) (h2 : 0 ≤ r) (h3 : r < 200) (i0 : 0 ≤ i) (i1 : i < 48) : At H Q L (73 + 201 * x + r) i 129 (48 * (200 * x + r) + i) := ⟨(lv_of (ck_10 h0 h1 h2 h3) (cx_10 h0 h1 h2 h3) (cb_10 h0 h1 h2 h3)).trans ((if_pos (by decide)).trans ((if_pos (by decide)).trans ((if_pos (by decide)).trans ((if_neg (by decide)).trans ((if_pos (by decide)).trans ((if_pos (by decide)).trans (((if_pos (by omega)))))))))), (lj_of (ck_10 h0 h1 h2 h3) (cx_10 h0 h1 h2 h3)).trans ((if_pos (by decide)).trans ((if_pos (by decide)).trans ((if_pos (by decide)).trans ((if_neg (by decide)).trans ((if_pos (by decide)).trans ((if_neg (by decide)).trans ((if_pos (by omega))))))))), (fp_of (ck_10 h0 h1 h2 h3) (cx_10 h0 h1 h2 h3) (cb_10 h0 h1 h2 h3)).trans ((if_pos (by decide)).trans ((if_pos (by decide)).trans ((if_neg (by decide)).trans ((if_pos (by decide)).trans ((if_pos (by decide)).trans ((if_neg (by decide)))))))), by omega, by omega, by omega⟩
theorem a_20_27 {Q : Int} {L : Int} {H : Int} (hb : is_h H) : At H Q L (H) 6 27 (0) := ⟨(lv_of (ck_20 hb) (cx_20 hb) (cb_20 hb)).trans ((if_pos (by decide)).trans ((if_pos (by decide)).trans ((if_pos (by decide)).trans ((if_neg (by decide)).trans ((if_neg (by decide)).trans ((if_pos (by decide)).trans ((if_pos rfl).trans ((if_pos (by omega)))))))))), (lj_of (ck_20 hb) (cx_20 hb)).trans ((if_pos (by decide)).trans ((if_pos (by decide)).trans ((if_pos (by decide)).trans ((if_neg (by decide)).trans ((if_neg (by decide)).trans ((if_neg (by decide)).trans ((if_pos (by omega))))))))), (fp_of (ck_20 hb) (cx_20 hb) (cb_20 hb)).trans ((if_pos (by decide)).trans ((if_pos (by decide)).trans ((if_neg (by decide)).trans ((if_neg (by decide)).trans ((if_pos (by decide)).trans ((if_neg (by decide)).trans ((if_neg (by omega)).trans ((if_neg (by omega)).trans ((if_neg (by omega)).trans ((if_neg (by omega)).trans ((if_neg (by omega)).trans ((if_neg (by omega)).trans ((if_neg (by omega)).trans ((if_neg (by omega)).trans ((if_neg (by omega)).trans ((if_neg (by omega)).trans ((if_neg (by omega)).trans ((if_neg (by omega)).trans ((if_neg (by omega)).trans ((if_neg (by omega)).trans ((if_neg (by omega))))))))))))))))))))))), by omega, by rcases hb with rfl | rfl <;> omega, by rcases hb with rfl | rfl <;> omega⟩
theorem a_20_118 {Q : Int} {L : Int} {H : Int} (hb : is_h H) : At H Q L (H) 10 118 (10) := ⟨(lv_of (ck_20 hb) (cx_20 hb) (cb_20 hb)).trans ((if_pos (by decide)).trans ((if_pos (by decide)).trans ((if_pos (by decide)).trans ((if_neg (by decide)).trans ((if_neg (by decide)).trans ((if_pos (by decide)).trans ((if_pos rfl).trans ((if_neg (by omega)).trans ((if_pos (by omega))))))))))), (lj_of (ck_20 hb) (cx_20 hb)).trans ((if_pos (by decide)).trans ((if_pos (by decide)).trans ((if_pos (by decide)).trans ((if_neg (by decide)).trans ((if_neg (by decide)).trans ((if_neg (by decide)).trans ((if_neg (by omega)).trans ((if_pos (by omega)))))))))), (fp_of (ck_20 hb) (cx_20 hb) (cb_20 hb)).trans ((if_pos (by decide)).trans ((if_pos (by decide)).trans ((if_neg (by decide)).trans ((if_neg (by decide)).trans ((if_pos (by decide)).trans ((if_neg (by decide)).trans ((if_neg (by omega)).trans ((if_neg (by omega)).trans ((if_neg (by omega)).trans ((if_neg (by omega)).trans ((if_neg (by omega)).trans ((if_neg (by omega)).trans ((if_neg (by omega)).trans ((if_neg (by omega)).trans ((if_neg (by omega)).trans ((if_neg (by omega)).trans ((if_neg (by omega)).trans ((if_neg (by omega)).trans ((if_neg (by omega)).trans ((if_neg (by omega)).trans ((if_neg (by omega))))))))))))))))))))))), by omega, by rcases hb with rfl | rfl <;> omega, by rcases hb with rfl | rfl <;> omega⟩
theorem a_20_2 {Q : Int} {L : Int} {H : Int} (hb : is_h H) : At H Q L (H) 12 2 (0) := ⟨(lv_of (ck_20 hb) (cx_20 hb) (cb_20 hb)).trans ((if_pos (by decide)).trans ((if_pos (by decide)).trans ((if_pos (by decide)).trans ((if_neg (by decide)).trans ((if_neg (by decide)).trans ((if_pos (by decide)).trans ((if_pos rfl).trans ((if_neg (by omega)).trans ((if_neg (by omega)).trans ((if_pos (by omega)))))))))))), (lj_of (ck_20 hb) (cx_20 hb)).trans ((if_pos (by decide)).trans ((if_pos (by decide)).trans ((if_pos (by decide)).trans ((if_neg (by decide)).trans ((if_neg (by decide)).trans ((if_neg (by decide)).trans ((if_neg (by omega)).trans ((if_neg (by omega)).trans ((if_pos (by omega))))))))))), (fp_of (ck_20 hb) (cx_20 hb) (cb_20 hb)).trans ((if_pos (by decide)).trans ((if_pos (by decide)).trans ((if_neg (by decide)).trans ((if_neg (by decide)).trans ((if_pos (by decide)).trans ((if_neg (by decide)).trans ((if_neg (by omega)).trans ((if_neg (by omega)).trans ((if_neg (by omega)).trans ((if_neg (by omega)).trans ((if_neg (by omega)).trans ((if_neg (by omega)).trans ((if_neg (by omega)).trans ((if_neg (by omega)).trans ((if_neg (by omega)).trans ((if_neg (by omega)).trans ((if_neg (by omega)).trans ((if_neg (by omega)).trans ((if_neg (by omega)).trans ((if_neg (by omega)).trans ((if_neg (by omega))))))))))))))))))))))), by omega, by rcases hb with rfl | rfl <;> omega, by rcases hb with rfl | rfl <;> omega⟩
theorem a_20_122 {Q : Int} {L : Int} {H : Int} (hb : is_h H) : At H Q L (H) 13 122 (0) := ⟨(lv_of (ck_20 hb) (cx_20 hb) (cb_20 hb)).trans ((if_pos (by decide)).trans ((if_pos (by decide)).trans ((if_pos (by decide)).trans ((if_neg (by decide)).trans ((if_neg (by decide)).trans ((if_pos (by decide)).trans ((if_pos rfl).trans ((if_neg (by omega)).trans ((if_neg (by omega)).trans ((if_neg (by omega)).trans ((if_pos (by omega))))))))))))), (lj_of (ck_20 hb) (cx_20 hb)).trans ((if_pos (by decide)).trans ((if_pos (by decide)).trans ((if_pos (by decide)).trans ((if_neg (by decide)).trans ((if_neg (by decide)).trans ((if_neg (by decide)).trans ((if_neg (by omega)).trans ((if_neg (by omega)).trans ((if_neg (by omega)).trans ((if_pos (by omega)))))))))))), (fp_of (ck_20 hb) (cx_20 hb) (cb_20 hb)).trans ((if_pos (by decide)).trans ((if_pos (by decide)).trans ((if_neg (by decide)).trans ((if_neg (by decide)).trans ((if_pos (by decide)).trans ((if_neg (by decide)).trans ((if_neg (by omega)).trans ((if_neg (by omega)).trans ((if_neg (by omega)).trans ((if_neg (by omega)).trans ((if_neg (by omega)).trans ((if_neg (by omega)).trans ((if_neg (by omega)).trans ((if_neg (by omega)).trans ((if_neg (by omega)).trans ((if_neg (by omega)).trans ((if_neg (by omega)).trans ((if_neg (by omega)).trans ((if_neg (by omega)).trans ((if_neg (by omega)).trans ((if_neg (by omega))))))))))))))))))))))), by omega, by rcases hb with rfl | rfl <;> omega, by rcases hb with rfl | rfl <;> omega⟩
theorem a_20_123 {Q : Int} {L : Int} {H : Int} (hb : is_h H) : At H Q L (H) 14 123 (0) := ⟨(lv_of (ck_20 hb) (cx_20 hb) (cb_20 hb)).trans ((if_pos (by decide)).trans ((if_pos (by decide)).trans ((if_pos (by decide)).trans ((if_neg (by decide)).trans ((if_neg (by decide)).trans ((if_pos (by decide)).trans ((if_pos rfl).trans ((if_neg (by omega)).trans ((if_neg (by omega)).trans ((if_neg (by omega)).trans ((if_neg (by omega)).trans ((if_pos (by omega)))))))))))))), (lj_of (ck_20 hb) (cx_20 hb)).trans ((if_pos (by decide)).trans ((if_pos (by decide)).trans ((if_pos (by decide)).trans ((if_neg (by decide)).trans ((if_neg (by decide)).trans ((if_neg (by decide)).trans ((if_neg (by omega)).trans ((if_neg (by omega)).trans ((if_neg (by omega)).trans ((if_neg (by omega)).trans ((if_pos (by omega))))))))))))), (fp_of (ck_20 hb) (cx_20 hb) (cb_20 hb)).trans ((if_pos (by decide)).trans ((if_pos (by decide)).trans ((if_neg (by decide)).trans ((if_neg (by decide)).trans ((if_pos (by decide)).trans ((if_neg (by decide)).trans ((if_neg (by omega)).trans ((if_neg (by omega)).trans ((if_neg (by omega)).trans ((if_neg (by omega)).trans ((if_neg (by omega)).trans ((if_neg (by omega)).trans ((if_neg (by omega)).trans ((if_neg (by omega)).trans ((if_neg (by omega)).trans ((if_neg (by omega)).trans ((if_neg (by omega)).trans ((if_neg (by omega)).trans ((if_neg (by omega)).trans ((if_neg (by omega)).trans ((if_neg (by omega))))))))))))))))))))))), by omega, by rcases hb with rfl | rfl <;> omega, by rcases hb with rfl | rfl <;> omega⟩
theorem a_20_124 {Q : Int} {L : Int} {H : Int} (hb : is_h H) : At H Q L (H) 15 124 (0) := ⟨(lv_of (ck_20 hb) (cx_20 hb) (cb_20 hb)).trans ((if_pos (by decide)).trans ((if_pos (by decide)).trans ((if_pos (by decide)).trans ((if_neg (by decide)).trans ((if_neg (by decide)).trans ((if_pos (by decide)).trans ((if_pos rfl).trans ((if_neg (by omega)).trans ((if_neg (by omega)).trans ((if_neg (by omega)).trans ((if_neg (by omega)).trans ((if_neg (by omega)).trans ((if_pos (by omega))))))))))))))), (lj_of (ck_20 hb) (cx_20 hb)).trans ((if_pos (by decide)).trans ((if_pos (by decide)).trans ((if_pos (by decide)).trans ((if_neg (by decide)).trans ((if_neg (by decide)).trans ((if_neg (by decide)).trans ((if_neg (by omega)).trans ((if_neg (by omega)).trans ((if_neg (by omega)).trans ((if_neg (by omega)).trans ((if_neg (by omega)).trans ((if_pos (by omega)))))))))))))), (fp_of (ck_20 hb) (cx_20 hb) (cb_20 hb)).trans ((if_pos (by decide)).trans ((if_pos (by decide)).trans ((if_neg (by decide)).trans ((if_neg (by decide)).trans ((if_pos (by decide)).trans ((if_neg (by decide)).trans ((if_neg (by omega)).trans ((if_neg (by omega)).trans ((if_neg (by omega)).trans ((if_neg (by omega)).trans ((if_neg (by omega)).trans ((if_neg (by omega)).trans ((if_neg (by omega)).trans ((if_neg (by omega)).trans ((if_neg (by omega)).trans ((if_neg (by omega)).trans ((if_neg (by omega)).trans ((if_neg (by omega)).trans ((if_neg (by omega)).trans ((if_neg (by omega)).trans ((if_neg (by omega))))))))))))))))))))))), by omega, by rcases hb with rfl | rfl <;> omega, by rcases hb with rfl | rfl <;> omega⟩
theorem a_20_125 {Q : Int} {L : Int} {H : Int} (hb : is_h H) : At H Q L (H) 16 125 (0) := ⟨(lv_of (ck_20 hb) (cx_20 hb) (cb_20 hb)).trans ((if_pos (by decide)).trans ((if_pos (by decide)).trans ((if_pos (by decide)).trans ((if_neg (by decide)).trans ((if_neg (by decide)).trans ((if_pos (by decide)).trans ((if_pos rfl).trans ((if_neg (by omega)).trans ((if_neg (by omega)).trans ((if_neg (by omega)).trans ((if_neg (by omega)).trans ((if_neg (by omega)).trans ((if_neg (by omega)).trans ((if_pos (by omega)))))))))))))))), (lj_of (ck_20 hb) (cx_20 hb)).trans ((if_pos (by decide)).trans ((if_pos (by decide)).trans ((if_pos (by decide)).trans ((if_neg (by decide)).trans ((if_neg (by decide)).trans ((if_neg (by decide)).trans ((if_neg (by omega)).trans ((if_neg (by omega)).trans ((if_neg (by omega)).trans ((if_neg (by omega)).trans ((if_neg (by omega)).trans ((if_neg (by omega)).trans ((if_pos (by omega))))))))))))))), (fp_of (ck_20 hb) (cx_20 hb) (cb_20 hb)).trans ((if_pos (by decide)).trans ((if_pos (by decide)).trans ((if_neg (by decide)).trans ((if_neg (by decide)).trans ((if_pos (by decide)).trans ((if_neg (by decide)).trans ((if_neg (by omega)).trans ((if_neg (by omega)).trans ((if_neg (by omega)).trans ((if_neg (by omega)).trans ((if_neg (by omega)).trans ((if_neg (by omega)).trans ((if_neg (by omega)).trans ((if_neg (by omega)).trans ((if_neg (by omega)).trans ((if_neg (by omega)).trans ((if_neg (by omega)).trans ((if_neg (by omega)).trans ((if_neg (by omega)).trans ((if_neg (by omega)).trans ((if_neg (by omega))))))))))))))))))))))), by omega, by rcases hb with rfl | rfl <;> omega, by rcases hb with rfl | rfl <;> omega⟩
theorem a_20_21 {Q : Int} {L : Int} {H : Int} (hb : is_h H) : At H Q L (H) 17 21 (0) := ⟨(lv_of (ck_20 hb) (cx_20 hb) (cb_20 hb)).trans ((if_pos (by decide)).trans ((if_pos (by decide)).trans ((if_pos (by decide)).trans ((if_neg (by decide)).trans ((if_neg (by decide)).trans ((if_pos (by decide)).trans ((if_pos rfl).trans ((if_neg (by omega)).trans ((if_neg (by omega)).trans ((if_neg (by omega)).trans ((if_neg (by omega)).trans ((if_neg (by omega)).trans ((if_neg (by omega)).trans ((if_neg (by omega)).trans ((if_pos (by omega))))))))))))))))), (lj_of (ck_20 hb) (cx_20 hb)).trans ((if_pos (by decide)).trans ((if_pos (by decide)).trans ((if_pos (by decide)).trans ((if_neg (by decide)).trans ((if_neg (by decide)).trans ((if_neg (by decide)).trans ((if_neg (by omega)).trans ((if_neg (by omega)).trans ((if_neg (by omega)).trans ((if_neg (by omega)).trans ((if_neg (by omega)).trans ((if_neg (by omega)).trans ((if_neg (by omega)).trans ((if_pos (by omega)))))))))))))))), (fp_of (ck_20 hb) (cx_20 hb) (cb_20 hb)).trans ((if_pos (by decide)).trans ((if_pos (by decide)).trans ((if_neg (by decide)).trans ((if_neg (by decide)).trans ((if_pos (by decide)).trans ((if_neg (by decide)).trans ((if_neg (by omega)).trans ((if_neg (by omega)).trans ((if_neg (by omega)).trans ((if_neg (by omega)).trans ((if_neg (by omega)).trans ((if_neg (by omega)).trans ((if_neg (by omega)).trans ((if_neg (by omega)).trans ((if_neg (by omega)).trans ((if_neg (by omega)).trans ((if_neg (by omega)).trans ((if_neg (by omega)).trans ((if_neg (by omega)).trans ((if_neg (by omega)).trans ((if_neg (by omega))))))))))))))))))))))), by omega, by rcases hb with rfl | rfl <;> omega, by rcases hb with rfl | rfl <;> omega⟩
theorem a_23 {Q : Int} {L : Int} {H x : Int} (hb : is_h H) {i : Int} (h0 : 0 ≤ x) (h1 : x < 5) (i0 : 0 ≤ i) (i1 : i < 110) : At H Q L (H + (3 + x)) i 3 (110 * x + i) := ⟨(lv_of (ck_23 hb h0 h1) (cx_23 hb h0 h1) (cb_23 hb h0 h1)).trans ((if_pos (by decide)).trans ((if_pos (by decide)).trans ((if_pos (by decide)).trans ((if_neg (by decide)).trans ((if_neg (by decide)).trans ((if_neg (by decide)).trans ((if_neg (by decide)).trans ((if_pos rfl).trans ((if_pos (by omega))))))))))), (lj_of (ck_23 hb h0 h1) (cx_23 hb h0 h1)).trans ((if_pos (by decide)).trans ((if_pos (by decide)).trans ((if_neg (by decide)).trans ((if_pos (by decide)).trans ((if_pos (by decide)).trans ((if_neg (by decide)).trans ((if_pos (by omega))))))))), (fp_of (ck_23 hb h0 h1) (cx_23 hb h0 h1) (cb_23 hb h0 h1)).trans ((if_pos (by decide)).trans ((if_pos (by decide)).trans ((if_neg (by decide)).trans ((if_neg (by decide)).trans ((if_neg (by decide)).trans ((if_neg (by decide)).trans ((if_neg (by decide))))))))), by omega, by rcases hb with rfl | rfl <;> omega, by rcases hb with rfl | rfl <;> omega⟩
theorem a_25 {Q : Int} {L : Int} {H x : Int} (hb : is_h H) {i : Int} (h0 : 0 ≤ x) (h1 : x < 5) (i0 : 0 ≤ i) (i1 : i < 48) : At H Q L (H + (9 + x)) i 5 (48 * x + i) := ⟨(lv_of (ck_25 hb h0 h1) (cx_25 hb h0 h1) (cb_25 hb h0 h1)).trans ((if_pos (by decide)).trans ((if_pos (by decide)).trans ((if_neg (by decide)).trans ((if_pos (by decide)).trans ((if_pos (by decide)).trans ((if_neg (by decide)).trans ((if_pos rfl).trans ((if_pos (by omega)))))))))), (lj_of (ck_25 hb h0 h1) (cx_25 hb h0 h1)).trans ((if_pos (by decide)).trans ((if_pos (by decide)).trans ((if_neg (by decide)).trans ((if_pos (by decide)).trans ((if_neg (by decide)).trans ((if_neg (by decide)).trans ((if_pos (by omega))))))))), (fp_of (ck_25 hb h0 h1) (cx_25 hb h0 h1) (cb_25 hb h0 h1)).trans ((if_pos (by decide)).trans ((if_neg (by decide)).trans ((if_pos (by decide)).trans ((if_pos (by decide)).trans ((if_pos (by decide)).trans ((if_neg (by decide)))))))), by omega, by rcases hb with rfl | rfl <;> omega, by rcases hb with rfl | rfl <;> omega⟩
theorem a_27 {Q : Int} {L : Int} {H x : Int} (hb : is_h H) {i : Int} (h0 : 0 ≤ x) (h1 : x < 10) (i0 : 0 ≤ i) (i1 : i < 24) : At H Q L (H + (15 + x)) i 16 (24 * x + i) := ⟨(lv_of (ck_27 hb h0 h1) (cx_27 hb h0 h1) (cb_27 hb h0 h1)).trans ((if_pos (by decide)).trans ((if_pos (by decide)).trans ((if_neg (by decide)).trans ((if_pos (by decide)).trans ((if_neg (by decide)).trans ((if_neg (by decide)).trans ((if_pos (by decide)).trans ((if_pos rfl).trans ((if_pos (by omega))))))))))), (lj_of (ck_27 hb h0 h1) (cx_27 hb h0 h1)).trans ((if_pos (by decide)).trans ((if_pos (by decide)).trans ((if_neg (by decide)).trans ((if_neg (by decide)).trans ((if_pos (by decide)).trans ((if_neg (by decide)).trans ((if_pos (by omega))))))))), (fp_of (ck_27 hb h0 h1) (cx_27 hb h0 h1) (cb_27 hb h0 h1)).trans ((if_pos (by decide)).trans ((if_neg (by decide)).trans ((if_pos (by decide)).trans ((if_pos (by decide)).trans ((if_neg (by decide)).trans ((if_neg (by decide)))))))), by omega, by rcases hb with rfl | rfl <;> omega, by rcases hb with rfl | rfl <;> omega⟩
theorem a_28 {Q : Int} {L : Int} {H : Int} (hb : is_h H) {i : Int} (i0 : 0 ≤ i) (i1 : i < 24) : At H Q L (H + 25) i 17 (i) := ⟨(lv_of (ck_28 hb) (cx_28 hb) (cb_28 hb)).trans ((if_pos (by decide)).trans ((if_pos (by decide)).trans ((if_neg (by decide)).trans ((if_pos (by decide)).trans ((if_neg (by decide)).trans ((if_neg (by decide)).trans ((if_neg (by decide)).trans ((if_pos rfl).trans ((if_pos (by omega))))))))))), (lj_of (ck_28 hb) (cx_28 hb)).trans ((if_pos (by decide)).trans ((if_pos (by decide)).trans ((if_neg (by decide)).trans ((if_neg (by decide)).trans ((if_neg (by decide)).trans ((if_pos (by decide)).trans ((if_pos (by omega))))))))), (fp_of (ck_28 hb) (cx_28 hb) (cb_28 hb)).trans ((if_pos (by decide)).trans ((if_neg (by decide)).trans ((if_pos (by decide)).trans ((if_pos (by decide)).trans ((if_neg (by decide)).trans ((if_neg (by decide)))))))), by omega, by rcases hb with rfl | rfl <;> omega, by rcases hb with rfl | rfl <;> omega⟩
theorem a_30 {Q : Int} {L : Int} {H x : Int} (hb : is_h H) {i : Int} (h0 : 0 ≤ x) (h1 : x < 4) (i0 : 0 ≤ i) (i1 : i < 24) : At H Q L (H + (27 + x)) i 18 (24 * x + i) := ⟨(lv_of (ck_30 hb h0 h1) (cx_30 hb h0 h1) (cb_30 hb h0 h1)).trans ((if_pos (by decide)).trans ((if_pos (by decide)).trans ((if_neg (by decide)).trans ((if_neg (by decide)).trans ((if_pos (by decide)).trans ((if_neg (by decide)).trans ((if_pos (by decide)).trans ((if_pos rfl).trans ((if_pos (by omega))))))))))), (lj_of (ck_30 hb h0 h1) (cx_30 hb h0 h1)).trans ((if_pos (by decide)).trans ((if_neg (by decide)).trans ((if_pos (by decide)).trans ((if_pos (by decide)).trans ((if_pos (by decide)).trans ((if_pos (by decide)).trans ((if_pos (by omega))))))))), (fp_of (ck_30 hb h0 h1) (cx_30 hb h0 h1) (cb_30 hb h0 h1)).trans ((if_pos (by decide)).trans ((if_neg (by decide)).trans ((if_pos (by decide)).trans ((if_neg (by decide)).trans ((if_pos (by decide)).trans ((if_neg (by decide)))))))), by omega, by rcases hb with rfl | rfl <;> omega, by rcases hb with rfl | rfl <;> omega⟩
theorem a_31 {Q : Int} {L : Int} {H : Int} (hb : is_h H) {i : Int} (i0 : 0 ≤ i) (i1 : i < 196) : At H Q L (H + 31) i 26 (i) := ⟨(lv_of (ck_31 hb) (cx_31 hb) (cb_31 hb)).trans ((if_pos (by decide)).trans ((if_pos (by decide)).trans ((if_neg (by decide)).trans ((if_neg (by decide)).trans ((if_pos (by decide)).trans ((if_neg (by decide)).trans ((if_neg (by decide)).trans ((if_pos rfl).trans ((if_pos (by omega))))))))))), (lj_of (ck_31 hb) (cx_31 hb)).trans ((if_pos (by decide)).trans ((if_neg (by decide)).trans ((if_pos (by decide)).trans ((if_pos (by decide)).trans ((if_pos (by decide)).trans ((if_neg (by decide)).trans ((if_pos (by omega))))))))), (fp_of (ck_31 hb) (cx_31 hb) (cb_31 hb)).trans ((if_pos (by decide)).trans ((if_neg (by decide)).trans ((if_pos (by decide)).trans ((if_neg (by decide)).trans ((if_pos (by decide)).trans ((if_neg (by decide)))))))), by omega, by rcases hb with rfl | rfl <;> omega, by rcases hb with rfl | rfl <;> omega⟩
theorem a_32 {Q : Int} {L : Int} {H : Int} (hb : is_h H) {i : Int} (i0 : 0 ≤ i) (i1 : i < 11) : At H Q L (H + 32) i 19 (i) := ⟨(lv_of (ck_32 hb) (cx_32 hb) (cb_32 hb)).trans ((if_pos (by decide)).trans ((if_pos (by decide)).trans ((if_neg (by decide)).trans ((if_neg (by decide)).trans ((if_neg (by decide)).trans ((if_pos (by decide)).trans ((if_pos rfl).trans ((if_pos (by omega)))))))))), (lj_of (ck_32 hb) (cx_32 hb)).trans ((if_pos (by decide)).trans ((if_neg (by decide)).trans ((if_pos (by decide)).trans ((if_pos (by decide)).trans ((if_neg (by decide)).trans ((if_pos (by decide)).trans ((if_pos (by omega))))))))), (fp_of (ck_32 hb) (cx_32 hb) (cb_32 hb)).trans ((if_pos (by decide)).trans ((if_neg (by decide)).trans ((if_pos (by decide)).trans ((if_neg (by decide)).trans ((if_pos (by decide)).trans ((if_neg (by decide)))))))), by omega, by rcases hb with rfl | rfl <;> omega, by rcases hb with rfl | rfl <;> omega⟩
theorem a_33 {Q : Int} {L : Int} {H : Int} (hb : is_h H) {i : Int} (i0 : 0 ≤ i) (i1 : i < 11) : At H Q L (H + 33) i 20 (i) := ⟨(lv_of (ck_33 hb) (cx_33 hb) (cb_33 hb)).trans ((if_pos (by decide)).trans ((if_pos (by decide)).trans ((if_neg (by decide)).trans ((if_neg (by decide)).trans ((if_neg (by decide)).trans ((if_neg (by decide)).trans ((if_pos (by decide)).trans ((if_pos rfl).trans ((if_pos (by omega))))))))))), (lj_of (ck_33 hb) (cx_33 hb)).trans ((if_pos (by decide)).trans ((if_neg (by decide)).trans ((if_pos (by decide)).trans ((if_pos (by decide)).trans ((if_neg (by decide)).trans ((if_neg (by decide)).trans ((if_pos (by omega))))))))), (fp_of (ck_33 hb) (cx_33 hb) (cb_33 hb)).trans ((if_pos (by decide)).trans ((if_neg (by decide)).trans ((if_pos (by decide)).trans ((if_neg (by decide)).trans ((if_pos (by decide)).trans ((if_neg (by decide)))))))), by omega, by rcases hb with rfl | rfl <;> omega, by rcases hb with rfl | rfl <;> omega⟩
theorem a_35 {Q : Int} {L : Int} {H : Int} (hb : is_h H) {i : Int} (i0 : 0 ≤ i) (i1 : i < 3) : At H Q L (H + 35) i 22 (i) := ⟨(lv_of (ck_35 hb) (cx_35 hb) (cb_35 hb)).trans ((if_pos (by decide)).trans ((if_neg (by decide)).trans ((if_pos (by decide)).trans ((if_pos (by decide)).trans ((if_pos (by decide)).trans ((if_pos (by decide)).trans ((if_pos rfl).trans ((if_pos (by omega)))))))))), (lj_of (ck_35 hb) (cx_35 hb)).trans ((if_pos (by decide)).trans ((if_neg (by decide)).trans ((if_pos (by decide)).trans ((if_neg (by decide)).trans ((if_pos (by decide)).trans ((if_neg (by decide)).trans ((if_pos (by omega))))))))), (fp_of (ck_35 hb) (cx_35 hb) (cb_35 hb)).trans ((if_pos (by decide)).trans ((if_neg (by decide)).trans ((if_pos (by decide)).trans ((if_neg (by decide)).trans ((if_neg (by decide)).trans ((if_neg (by decide)))))))), by omega, by rcases hb with rfl | rfl <;> omega, by rcases hb with rfl | rfl <;> omega⟩
theorem a_41_120 {Q : Int} {L : Int} {H x : Int} (hb : is_h H) (h0 : 0 ≤ x) (h1 : x < 10) : At H Q L (H + (41 + 2 * x)) 0 120 (x) := ⟨(lv_of (ck_41 hb h0 h1) (cx_41 hb h0 h1) (cb_41 hb h0 h1)).trans ((if_pos (by decide)).trans ((if_neg (by decide)).trans ((if_pos (by decide)).trans ((if_pos (by decide)).trans ((if_neg (by decide)).trans ((if_neg (by decide)).trans ((if_neg (by decide)).trans ((if_pos rfl).trans ((if_pos (by omega))))))))))), (lj_of (ck_41 hb h0 h1) (cx_41 hb h0 h1)).trans ((if_pos (by decide)).trans ((if_neg (by decide)).trans ((if_pos (by decide)).trans ((if_neg (by decide)).trans ((if_neg (by decide)).trans ((if_neg (by decide)).trans ((if_pos (by omega))))))))), (fp_of (ck_41 hb h0 h1) (cx_41 hb h0 h1) (cb_41 hb h0 h1)).trans ((if_pos (by decide)).trans ((if_neg (by decide)).trans ((if_neg (by decide)).trans ((if_neg (by decide)).trans ((if_pos (by decide)).trans ((if_neg (by decide)).trans ((if_neg (by omega))))))))), by omega, by rcases hb with rfl | rfl <;> omega, by rcases hb with rfl | rfl <;> omega⟩
theorem a_41_121 {Q : Int} {L : Int} {H x : Int} (hb : is_h H) (h0 : 0 ≤ x) (h1 : x < 10) : At H Q L (H + (41 + 2 * x)) 1 121 (x) := ⟨(lv_of (ck_41 hb h0 h1) (cx_41 hb h0 h1) (cb_41 hb h0 h1)).trans ((if_pos (by decide)).trans ((if_neg (by decide)).trans ((if_pos (by decide)).trans ((if_pos (by decide)).trans ((if_neg (by decide)).trans ((if_neg (by decide)).trans ((if_neg (by decide)).trans ((if_pos rfl).trans ((if_neg (by omega)).trans ((if_pos (by omega)))))))))))), (lj_of (ck_41 hb h0 h1) (cx_41 hb h0 h1)).trans ((if_pos (by decide)).trans ((if_neg (by decide)).trans ((if_pos (by decide)).trans ((if_neg (by decide)).trans ((if_neg (by decide)).trans ((if_neg (by decide)).trans ((if_neg (by omega)).trans ((if_pos (by omega)))))))))), (fp_of (ck_41 hb h0 h1) (cx_41 hb h0 h1) (cb_41 hb h0 h1)).trans ((if_pos (by decide)).trans ((if_neg (by decide)).trans ((if_neg (by decide)).trans ((if_neg (by decide)).trans ((if_pos (by decide)).trans ((if_neg (by decide)).trans ((if_neg (by omega))))))))), by omega, by rcases hb with rfl | rfl <;> omega, by rcases hb with rfl | rfl <;> omega⟩
theorem a_42_117 {Q : Int} {L : Int} {H x : Int} (hb : is_h H) (h0 : 0 ≤ x) (h1 : x < 10) : At H Q L (H + (42 + 2 * x)) 0 117 (x) := ⟨(lv_of (ck_42 hb h0 h1) (cx_42 hb h0 h1) (cb_42 hb h0 h1)).trans ((if_pos (by decide)).trans ((if_neg (by decide)).trans ((if_pos (by decide)).trans ((if_neg (by decide)).trans ((if_pos (by decide)).trans ((if_pos (by decide)).trans ((if_pos rfl).trans ((if_pos (by omega)))))))))), (lj_of (ck_42 hb h0 h1) (cx_42 hb h0 h1)).trans ((if_pos (by decide)).trans ((if_neg (by decide)).trans ((if_neg (by decide)).trans ((if_pos (by decide)).trans ((if_pos (by decide)).trans ((if_pos (by decide)).trans ((if_pos (by omega))))))))), (fp_of (ck_42 hb h0 h1) (cx_42 hb h0 h1) (cb_42 hb h0 h1)).trans ((if_pos (by decide)).trans ((if_neg (by decide)).trans ((if_neg (by decide)).trans ((if_neg (by decide)).trans ((if_neg (by decide)).trans ((if_pos (by decide)))))))), by omega, by rcases hb with rfl | rfl <;> omega, by rcases hb with rfl | rfl <;> omega⟩
theorem a_42_118 {Q : Int} {L : Int} {H x : Int} (hb : is_h H) (h0 : 0 ≤ x) (h1 : x < 10) : At H Q L (H + (42 + 2 * x)) 1 118 (x) := ⟨(lv_of (ck_42 hb h0 h1) (cx_42 hb h0 h1) (cb_42 hb h0 h1)).trans ((if_pos (by decide)).trans ((if_neg (by decide)).trans ((if_pos (by decide)).trans ((if_neg (by decide)).trans ((if_pos (by decide)).trans ((if_pos (by decide)).trans ((if_pos rfl).trans ((if_neg (by omega)).trans ((if_pos (by omega))))))))))), (lj_of (ck_42 hb h0 h1) (cx_42 hb h0 h1)).trans ((if_pos (by decide)).trans ((if_neg (by decide)).trans ((if_neg (by decide)).trans ((if_pos (by decide)).trans ((if_pos (by decide)).trans ((if_pos (by decide)).trans ((if_neg (by omega)).trans ((if_pos (by omega)))))))))), (fp_of (ck_42 hb h0 h1) (cx_42 hb h0 h1) (cb_42 hb h0 h1)).trans ((if_pos (by decide)).trans ((if_neg (by decide)).trans ((if_neg (by decide)).trans ((if_neg (by decide)).trans ((if_neg (by decide)).trans ((if_pos (by decide)))))))), by omega, by rcases hb with rfl | rfl <;> omega, by rcases hb with rfl | rfl <;> omega⟩
theorem a_42_119 {Q : Int} {L : Int} {H x : Int} (hb : is_h H) (h0 : 0 ≤ x) (h1 : x < 10) : At H Q L (H + (42 + 2 * x)) 2 119 (x) := ⟨(lv_of (ck_42 hb h0 h1) (cx_42 hb h0 h1) (cb_42 hb h0 h1)).trans ((if_pos (by decide)).trans ((if_neg (by decide)).trans ((if_pos (by decide)).trans ((if_neg (by decide)).trans ((if_pos (by decide)).trans ((if_pos (by decide)).trans ((if_pos rfl).trans ((if_neg (by omega)).trans ((if_neg (by omega)).trans ((if_pos (by omega)))))))))))), (lj_of (ck_42 hb h0 h1) (cx_42 hb h0 h1)).trans ((if_pos (by decide)).trans ((if_neg (by decide)).trans ((if_neg (by decide)).trans ((if_pos (by decide)).trans ((if_pos (by decide)).trans ((if_pos (by decide)).trans ((if_neg (by omega)).trans ((if_neg (by omega)).trans ((if_pos (by omega))))))))))), (fp_of (ck_42 hb h0 h1) (cx_42 hb h0 h1) (cb_42 hb h0 h1)).trans ((if_pos (by decide)).trans ((if_neg (by decide)).trans ((if_neg (by decide)).trans ((if_neg (by decide)).trans ((if_neg (by decide)).trans ((if_pos (by decide)))))))), by omega, by rcases hb with rfl | rfl <;> omega, by rcases hb with rfl | rfl <;> omega⟩
theorem a_43_23 {Q : Int} {L : Int} {H x : Int} (hb : is_h H) (h0 : 0 ≤ x) (h1 : x < 3) : At H Q L (H + (61 + x)) 0 23 (x) := ⟨(lv_of (ck_43 hb h0 h1) (cx_43 hb h0 h1) (cb_43 hb h0 h1)).trans ((if_pos (by decide)).trans ((if_neg (by decide)).trans ((if_pos (by decide)).trans ((if_neg (by decide)).trans ((if_pos (by decide)).trans ((if_neg (by decide)).trans ((if_pos (by decide)).trans ((if_pos rfl).trans ((if_pos (by omega))))))))))), (lj_of (ck_43 hb h0 h1) (cx_43 hb h0 h1)).trans ((if_pos (by decide)).trans ((if_neg (by decide)).trans ((if_neg (by decide)).trans ((if_pos (by decide)).trans ((if_pos (by decide)).trans ((if_neg (by decide)).trans ((if_pos (by omega))))))))), (fp_of (ck_43 hb h0 h1) (cx_43 hb h0 h1) (cb_43 hb h0 h1)).trans ((if_pos (by decide)).trans ((if_neg (by decide)).trans ((if_neg (by decide)).trans ((if_neg (by decide)).trans ((if_neg (by decide)).trans ((if_pos (by decide)))))))), by omega, by rcases hb with rfl | rfl <;> omega, by rcases hb with rfl | rfl <;> omega⟩
theorem a_43_100 {Q : Int} {L : Int} {H x : Int} (hb : is_h H) (h0 : 0 ≤ x) (h1 : x < 3) : At H Q L (H + (61 + x)) 1 100 (x) := ⟨(lv_of (ck_43 hb h0 h1) (cx_43 hb h0 h1) (cb_43 hb h0 h1)).trans ((if_pos (by decide)).trans ((if_neg (by decide)).trans ((if_pos (by decide)).trans ((if_neg (by decide)).trans ((if_pos (by decide)).trans ((if_neg (by decide)).trans ((if_pos (by decide)).trans ((if_pos rfl).trans ((if_neg (by omega)).trans ((if_pos (by omega)))))))))))), (lj_of (ck_43 hb h0 h1) (cx_43 hb h0 h1)).trans ((if_pos (by decide)).trans ((if_neg (by decide)).trans ((if_neg (by decide)).trans ((if_pos (by decide)).trans ((if_pos (by decide)).trans ((if_neg (by decide)).trans ((if_neg (by omega)).trans ((if_pos (by omega)))))))))), (fp_of (ck_43 hb h0 h1) (cx_43 hb h0 h1) (cb_43 hb h0 h1)).trans ((if_pos (by decide)).trans ((if_neg (by decide)).trans ((if_neg (by decide)).trans ((if_neg (by decide)).trans ((if_neg (by decide)).trans ((if_pos (by decide)))))))), by omega, by rcases hb with rfl | rfl <;> omega, by rcases hb with rfl | rfl <;> omega⟩
theorem a_43_101 {Q : Int} {L : Int} {H x : Int} (hb : is_h H) (h0 : 0 ≤ x) (h1 : x < 3) : At H Q L (H + (61 + x)) 2 101 (x) := ⟨(lv_of (ck_43 hb h0 h1) (cx_43 hb h0 h1) (cb_43 hb h0 h1)).trans ((if_pos (by decide)).trans ((if_neg (by decide)).trans ((if_pos (by decide)).trans ((if_neg (by decide)).trans ((if_pos (by decide)).trans ((if_neg (by decide)).trans ((if_pos (by decide)).trans ((if_pos rfl).trans ((if_neg (by omega)).trans ((if_neg (by omega)).trans ((if_pos (by omega))))))))))))), (lj_of (ck_43 hb h0 h1) (cx_43 hb h0 h1)).trans ((if_pos (by decide)).trans ((if_neg (by decide)).trans ((if_neg (by decide)).trans ((if_pos (by decide)).trans ((if_pos (by decide)).trans ((if_neg (by decide)).trans ((if_neg (by omega)).trans ((if_neg (by omega)).trans ((if_pos (by omega))))))))))), (fp_of (ck_43 hb h0 h1) (cx_43 hb h0 h1) (cb_43 hb h0 h1)).trans ((if_pos (by decide)).trans ((if_neg (by decide)).trans ((if_neg (by decide)).trans ((if_neg (by decide)).trans ((if_neg (by decide)).trans ((if_pos (by decide)))))))), by omega, by rcases hb with rfl | rfl <;> omega, by rcases hb with rfl | rfl <;> omega⟩
theorem a_43_102 {Q : Int} {L : Int} {H x : Int} (hb : is_h H) (h0 : 0 ≤ x) (h1 : x < 3) : At H Q L (H + (61 + x)) 3 102 (x) := ⟨(lv_of (ck_43 hb h0 h1) (cx_43 hb h0 h1) (cb_43 hb h0 h1)).trans ((if_pos (by decide)).trans ((if_neg (by decide)).trans ((if_pos (by decide)).trans ((if_neg (by decide)).trans ((if_pos (by decide)).trans ((if_neg (by decide)).trans ((if_pos (by decide)).trans ((if_pos rfl).trans ((if_neg (by omega)).trans ((if_neg (by omega)).trans ((if_neg (by omega)).trans ((if_pos (by omega)))))))))))))), (lj_of (ck_43 hb h0 h1) (cx_43 hb h0 h1)).trans ((if_pos (by decide)).trans ((if_neg (by decide)).trans ((if_neg (by decide)).trans ((if_pos (by decide)).trans ((if_pos (by decide)).trans ((if_neg (by decide)).trans ((if_neg (by omega)).trans ((if_neg (by omega)).trans ((if_neg (by omega)).trans ((if_pos (by omega)))))))))))), (fp_of (ck_43 hb h0 h1) (cx_43 hb h0 h1) (cb_43 hb h0 h1)).trans ((if_pos (by decide)).trans ((if_neg (by decide)).trans ((if_neg (by decide)).trans ((if_neg (by decide)).trans ((if_neg (by decide)).trans ((if_pos (by decide)))))))), by omega, by rcases hb with rfl | rfl <;> omega, by rcases hb with rfl | rfl <;> omega⟩
theorem a_44_103 {Q : Int} {L : Int} {H x : Int} (hb : is_h H) (h0 : 0 ≤ x) (h1 : x < 20) : At H Q L (H + (64 + x)) 0 103 (x) := ⟨(lv_of (ck_44 hb h0 h1) (cx_44 hb h0 h1) (cb_44 hb h0 h1)).trans ((if_pos (by decide)).trans ((if_neg (by decide)).trans ((if_pos (by decide)).trans ((if_neg (by decide)).trans ((if_pos (by decide)).trans ((if_neg (by decide)).trans ((if_neg (by decide)).trans ((if_pos rfl).trans ((if_pos (by omega))))))))))), (lj_of (ck_44 hb h0 h1) (cx_44 hb h0 h1)).trans ((if_pos (by decide)).trans ((if_neg (by decide)).trans ((if_neg (by decide)).trans ((if_pos (by decide)).trans ((if_neg (by decide)).trans ((if_pos (by decide)).trans ((if_pos (by omega))))))))), (fp_of (ck_44 hb h0 h1) (cx_44 hb h0 h1) (cb_44 hb h0 h1)).trans ((if_pos (by decide)).trans ((if_neg (by decide)).trans ((if_neg (by decide)).trans ((if_neg (by decide)).trans ((if_neg (by decide)).trans ((if_pos (by decide)))))))), by omega, by rcases hb with rfl | rfl <;> omega, by rcases hb with rfl | rfl <;> omega⟩
theorem a_44_104 {Q : Int} {L : Int} {H x : Int} (hb : is_h H) (h0 : 0 ≤ x) (h1 : x < 20) : At H Q L (H + (64 + x)) 1 104 (x) := ⟨(lv_of (ck_44 hb h0 h1) (cx_44 hb h0 h1) (cb_44 hb h0 h1)).trans ((if_pos (by decide)).trans ((if_neg (by decide)).trans ((if_pos (by decide)).trans ((if_neg (by decide)).trans ((if_pos (by decide)).trans ((if_neg (by decide)).trans ((if_neg (by decide)).trans ((if_pos rfl).trans ((if_neg (by omega)).trans ((if_pos (by omega)))))))))))), (lj_of (ck_44 hb h0 h1) (cx_44 hb h0 h1)).trans ((if_pos (by decide)).trans ((if_neg (by decide)).trans ((if_neg (by decide)).trans ((if_pos (by decide)).trans ((if_neg (by decide)).trans ((if_pos (by decide)).trans ((if_neg (by omega)).trans ((if_pos (by omega)))))))))), (fp_of (ck_44 hb h0 h1) (cx_44 hb h0 h1) (cb_44 hb h0 h1)).trans ((if_pos (by decide)).trans ((if_neg (by decide)).trans ((if_neg (by decide)).trans ((if_neg (by decide)).trans ((if_neg (by decide)).trans ((if_pos (by decide)))))))), by omega, by rcases hb with rfl | rfl <;> omega, by rcases hb with rfl | rfl <;> omega⟩
theorem a_44_105 {Q : Int} {L : Int} {H x : Int} (hb : is_h H) (h0 : 0 ≤ x) (h1 : x < 20) : At H Q L (H + (64 + x)) 2 105 (x) := ⟨(lv_of (ck_44 hb h0 h1) (cx_44 hb h0 h1) (cb_44 hb h0 h1)).trans ((if_pos (by decide)).trans ((if_neg (by decide)).trans ((if_pos (by decide)).trans ((if_neg (by decide)).trans ((if_pos (by decide)).trans ((if_neg (by decide)).trans ((if_neg (by decide)).trans ((if_pos rfl).trans ((if_neg (by omega)).trans ((if_neg (by omega)).trans ((if_pos (by omega))))))))))))), (lj_of (ck_44 hb h0 h1) (cx_44 hb h0 h1)).trans ((if_pos (by decide)).trans ((if_neg (by decide)).trans ((if_neg (by decide)).trans ((if_pos (by decide)).trans ((if_neg (by decide)).trans ((if_pos (by decide)).trans ((if_neg (by omega)).trans ((if_neg (by omega)).trans ((if_pos (by omega))))))))))), (fp_of (ck_44 hb h0 h1) (cx_44 hb h0 h1) (cb_44 hb h0 h1)).trans ((if_pos (by decide)).trans ((if_neg (by decide)).trans ((if_neg (by decide)).trans ((if_neg (by decide)).trans ((if_neg (by decide)).trans ((if_pos (by decide)))))))), by omega, by rcases hb with rfl | rfl <;> omega, by rcases hb with rfl | rfl <;> omega⟩
theorem a_45_106 {Q : Int} {L : Int} {H x : Int} (hb : is_h H) (h0 : 0 ≤ x) (h1 : x < 40) : At H Q L (H + (84 + x)) 0 106 (x) := ⟨(lv_of (ck_45 hb h0 h1) (cx_45 hb h0 h1) (cb_45 hb h0 h1)).trans ((if_pos (by decide)).trans ((if_neg (by decide)).trans ((if_pos (by decide)).trans ((if_neg (by decide)).trans ((if_neg (by decide)).trans ((if_pos (by decide)).trans ((if_pos rfl).trans ((if_pos (by omega)))))))))), (lj_of (ck_45 hb h0 h1) (cx_45 hb h0 h1)).trans ((if_pos (by decide)).trans ((if_neg (by decide)).trans ((if_neg (by decide)).trans ((if_pos (by decide)).trans ((if_neg (by decide)).trans ((if_neg (by decide)).trans ((if_pos (by omega))))))))), (fp_of (ck_45 hb h0 h1) (cx_45 hb h0 h1) (cb_45 hb h0 h1)).trans ((if_pos (by decide)).trans ((if_neg (by decide)).trans ((if_neg (by decide)).trans ((if_neg (by decide)).trans ((if_neg (by decide)).trans ((if_pos (by decide)))))))), by omega, by rcases hb with rfl | rfl <;> omega, by rcases hb with rfl | rfl <;> omega⟩
theorem a_45_107 {Q : Int} {L : Int} {H x : Int} (hb : is_h H) (h0 : 0 ≤ x) (h1 : x < 40) : At H Q L (H + (84 + x)) 1 107 (x) := ⟨(lv_of (ck_45 hb h0 h1) (cx_45 hb h0 h1) (cb_45 hb h0 h1)).trans ((if_pos (by decide)).trans ((if_neg (by decide)).trans ((if_pos (by decide)).trans ((if_neg (by decide)).trans ((if_neg (by decide)).trans ((if_pos (by decide)).trans ((if_pos rfl).trans ((if_neg (by omega)).trans ((if_pos (by omega))))))))))), (lj_of (ck_45 hb h0 h1) (cx_45 hb h0 h1)).trans ((if_pos (by decide)).trans ((if_neg (by decide)).trans ((if_neg (by decide)).trans ((if_pos (by decide)).trans ((if_neg (by decide)).trans ((if_neg (by decide)).trans ((if_neg (by omega)).trans ((if_pos (by omega)))))))))), (fp_of (ck_45 hb h0 h1) (cx_45 hb h0 h1) (cb_45 hb h0 h1)).trans ((if_pos (by decide)).trans ((if_neg (by decide)).trans ((if_neg (by decide)).trans ((if_neg (by decide)).trans ((if_neg (by decide)).trans ((if_pos (by decide)))))))), by omega, by rcases hb with rfl | rfl <;> omega, by rcases hb with rfl | rfl <;> omega⟩
theorem a_45_108 {Q : Int} {L : Int} {H x : Int} (hb : is_h H) (h0 : 0 ≤ x) (h1 : x < 40) : At H Q L (H + (84 + x)) 2 108 (x) := ⟨(lv_of (ck_45 hb h0 h1) (cx_45 hb h0 h1) (cb_45 hb h0 h1)).trans ((if_pos (by decide)).trans ((if_neg (by decide)).trans ((if_pos (by decide)).trans ((if_neg (by decide)).trans ((if_neg (by decide)).trans ((if_pos (by decide)).trans ((if_pos rfl).trans ((if_neg (by omega)).trans ((if_neg (by omega)).trans ((if_pos (by omega)))))))))))), (lj_of (ck_45 hb h0 h1) (cx_45 hb h0 h1)).trans ((if_pos (by decide)).trans ((if_neg (by decide)).trans ((if_neg (by decide)).trans ((if_pos (by decide)).trans ((if_neg (by decide)).trans ((if_neg (by decide)).trans ((if_neg (by omega)).trans ((if_neg (by omega)).trans ((if_pos (by omega))))))))))), (fp_of (ck_45 hb h0 h1) (cx_45 hb h0 h1) (cb_45 hb h0 h1)).trans ((if_pos (by decide)).trans ((if_neg (by decide)).trans ((if_neg (by decide)).trans ((if_neg (by decide)).trans ((if_neg (by decide)).trans ((if_pos (by decide)))))))), by omega, by rcases hb with rfl | rfl <;> omega, by rcases hb with rfl | rfl <;> omega⟩
theorem a_45_109 {Q : Int} {L : Int} {H x : Int} (hb : is_h H) (h0 : 0 ≤ x) (h1 : x < 40) : At H Q L (H + (84 + x)) 3 109 (x) := ⟨(lv_of (ck_45 hb h0 h1) (cx_45 hb h0 h1) (cb_45 hb h0 h1)).trans ((if_pos (by decide)).trans ((if_neg (by decide)).trans ((if_pos (by decide)).trans ((if_neg (by decide)).trans ((if_neg (by decide)).trans ((if_pos (by decide)).trans ((if_pos rfl).trans ((if_neg (by omega)).trans ((if_neg (by omega)).trans ((if_neg (by omega)).trans ((if_pos (by omega))))))))))))), (lj_of (ck_45 hb h0 h1) (cx_45 hb h0 h1)).trans ((if_pos (by decide)).trans ((if_neg (by decide)).trans ((if_neg (by decide)).trans ((if_pos (by decide)).trans ((if_neg (by decide)).trans ((if_neg (by decide)).trans ((if_neg (by omega)).trans ((if_neg (by omega)).trans ((if_neg (by omega)).trans ((if_pos (by omega)))))))))))), (fp_of (ck_45 hb h0 h1) (cx_45 hb h0 h1) (cb_45 hb h0 h1)).trans ((if_pos (by decide)).trans ((if_neg (by decide)).trans ((if_neg (by decide)).trans ((if_neg (by decide)).trans ((if_neg (by decide)).trans ((if_pos (by decide)))))))), by omega, by rcases hb with rfl | rfl <;> omega, by rcases hb with rfl | rfl <;> omega⟩
theorem a_45_110 {Q : Int} {L : Int} {H x : Int} (hb : is_h H) (h0 : 0 ≤ x) (h1 : x < 40) : At H Q L (H + (84 + x)) 4 110 (x) := ⟨(lv_of (ck_45 hb h0 h1) (cx_45 hb h0 h1) (cb_45 hb h0 h1)).trans ((if_pos (by decide)).trans ((if_neg (by decide)).trans ((if_pos (by decide)).trans ((if_neg (by decide)).trans ((if_neg (by decide)).trans ((if_pos (by decide)).trans ((if_pos rfl).trans ((if_neg (by omega)).trans ((if_neg (by omega)).trans ((if_neg (by omega)).trans ((if_neg (by omega)).trans ((if_pos (by omega)))))))))))))), (lj_of (ck_45 hb h0 h1) (cx_45 hb h0 h1)).trans ((if_pos (by decide)).trans ((if_neg (by decide)).trans ((if_neg (by decide)).trans ((if_pos (by decide)).trans ((if_neg (by decide)).trans ((if_neg (by decide)).trans ((if_neg (by omega)).trans ((if_neg (by omega)).trans ((if_neg (by omega)).trans ((if_neg (by omega)).trans ((if_pos (by omega))))))))))))), (fp_of (ck_45 hb h0 h1) (cx_45 hb h0 h1) (cb_45 hb h0 h1)).trans ((if_pos (by decide)).trans ((if_neg (by decide)).trans ((if_neg (by decide)).trans ((if_neg (by decide)).trans ((if_neg (by decide)).trans ((if_pos (by decide)))))))), by omega, by rcases hb with rfl | rfl <;> omega, by rcases hb with rfl | rfl <;> omega⟩
theorem a_45_111 {Q : Int} {L : Int} {H x : Int} (hb : is_h H) (h0 : 0 ≤ x) (h1 : x < 40) : At H Q L (H + (84 + x)) 5 111 (x) := ⟨(lv_of (ck_45 hb h0 h1) (cx_45 hb h0 h1) (cb_45 hb h0 h1)).trans ((if_pos (by decide)).trans ((if_neg (by decide)).trans ((if_pos (by decide)).trans ((if_neg (by decide)).trans ((if_neg (by decide)).trans ((if_pos (by decide)).trans ((if_pos rfl).trans ((if_neg (by omega)).trans ((if_neg (by omega)).trans ((if_neg (by omega)).trans ((if_neg (by omega)).trans ((if_neg (by omega)).trans ((if_pos (by omega))))))))))))))), (lj_of (ck_45 hb h0 h1) (cx_45 hb h0 h1)).trans ((if_pos (by decide)).trans ((if_neg (by decide)).trans ((if_neg (by decide)).trans ((if_pos (by decide)).trans ((if_neg (by decide)).trans ((if_neg (by decide)).trans ((if_neg (by omega)).trans ((if_neg (by omega)).trans ((if_neg (by omega)).trans ((if_neg (by omega)).trans ((if_neg (by omega)).trans ((if_pos (by omega)))))))))))))), (fp_of (ck_45 hb h0 h1) (cx_45 hb h0 h1) (cb_45 hb h0 h1)).trans ((if_pos (by decide)).trans ((if_neg (by decide)).trans ((if_neg (by decide)).trans ((if_neg (by decide)).trans ((if_neg (by decide)).trans ((if_pos (by decide)))))))), by omega, by rcases hb with rfl | rfl <;> omega, by rcases hb with rfl | rfl <;> omega⟩
theorem a_46_75 {Q : Int} {L : Int} {H x : Int} (hb : is_h H) (h0 : 0 ≤ x) (h1 : x < 8) : At H Q L (H + (124 + 2 * x)) 0 75 (x) := ⟨(lv_of (ck_46 hb h0 h1) (cx_46 hb h0 h1) (cb_46 hb h0 h1)).trans ((if_pos (by decide)).trans ((if_neg (by decide)).trans ((if_pos (by decide)).trans ((if_neg (by decide)).trans ((if_neg (by decide)).trans ((if_neg (by decide)).trans ((if_pos (by decide)).trans ((if_pos rfl).trans ((if_pos (by omega))))))))))), (lj_of (ck_46 hb h0 h1) (cx_46 hb h0 h1)).trans ((if_pos (by decide)).trans ((if_neg (by decide)).trans ((if_neg (by decide)).trans ((if_neg (by decide)).trans ((if_pos (by decide)).trans ((if_pos (by decide)).trans ((if_pos (by omega))))))))), (fp_of (ck_46 hb h0 h1) (cx_46 hb h0 h1) (cb_46 hb h0 h1)).trans ((if_pos (by decide)).trans ((if_neg (by decide)).trans ((if_neg (by decide)).trans ((if_neg (by decide)).trans ((if_neg (by decide)).trans ((if_neg (by decide)).trans ((if_pos (by decide)).trans ((if_neg (by omega)))))))))), by omega, by rcases hb with rfl | rfl <;> omega, by rcases hb with rfl | rfl <;> omega⟩
theorem a_46_76 {Q : Int} {L : Int} {H x : Int} (hb : is_h H) (h0 : 0 ≤ x) (h1 : x < 8) : At H Q L (H + (124 + 2 * x)) 1 76 (x) := ⟨(lv_of (ck_46 hb h0 h1) (cx_46 hb h0 h1) (cb_46 hb h0 h1)).trans ((if_pos (by decide)).trans ((if_neg (by decide)).trans ((if_pos (by decide)).trans ((if_neg (by decide)).trans ((if_neg (by decide)).trans ((if_neg (by decide)).trans ((if_pos (by decide)).trans ((if_pos rfl).trans ((if_neg (by omega)).trans ((if_pos (by omega)))))))))))), (lj_of (ck_46 hb h0 h1) (cx_46 hb h0 h1)).trans ((if_pos (by decide)).trans ((if_neg (by decide)).trans ((if_neg (by decide)).trans ((if_neg (by decide)).trans ((if_pos (by decide)).trans ((if_pos (by decide)).trans ((if_neg (by omega)).trans ((if_pos (by omega)))))))))), (fp_of (ck_46 hb h0 h1) (cx_46 hb h0 h1) (cb_46 hb h0 h1)).trans ((if_pos (by decide)).trans ((if_neg (by decide)).trans ((if_neg (by decide)).trans ((if_neg (by decide)).trans ((if_neg (by decide)).trans ((if_neg (by decide)).trans ((if_pos (by decide)).trans ((if_neg (by omega)))))))))), by omega, by rcases hb with rfl | rfl <;> omega, by rcases hb with rfl | rfl <;> omega⟩
theorem a_46_77 {Q : Int} {L : Int} {H x : Int} (hb : is_h H) (h0 : 0 ≤ x) (h1 : x < 8) : At H Q L (H + (124 + 2 * x)) 2 77 (x) := ⟨(lv_of (ck_46 hb h0 h1) (cx_46 hb h0 h1) (cb_46 hb h0 h1)).trans ((if_pos (by decide)).trans ((if_neg (by decide)).trans ((if_pos (by decide)).trans ((if_neg (by decide)).trans ((if_neg (by decide)).trans ((if_neg (by decide)).trans ((if_pos (by decide)).trans ((if_pos rfl).trans ((if_neg (by omega)).trans ((if_neg (by omega)).trans ((if_pos (by omega))))))))))))), (lj_of (ck_46 hb h0 h1) (cx_46 hb h0 h1)).trans ((if_pos (by decide)).trans ((if_neg (by decide)).trans ((if_neg (by decide)).trans ((if_neg (by decide)).trans ((if_pos (by decide)).trans ((if_pos (by decide)).trans ((if_neg (by omega)).trans ((if_neg (by omega)).trans ((if_pos (by omega))))))))))), (fp_of (ck_46 hb h0 h1) (cx_46 hb h0 h1) (cb_46 hb h0 h1)).trans ((if_pos (by decide)).trans ((if_neg (by decide)).trans ((if_neg (by decide)).trans ((if_neg (by decide)).trans ((if_neg (by decide)).trans ((if_neg (by decide)).trans ((if_pos (by decide)).trans ((if_neg (by omega)))))))))), by omega, by rcases hb with rfl | rfl <;> omega, by rcases hb with rfl | rfl <;> omega⟩
theorem a_46_78 {Q : Int} {L : Int} {H x : Int} (hb : is_h H) (h0 : 0 ≤ x) (h1 : x < 8) : At H Q L (H + (124 + 2 * x)) 4 78 (x) := ⟨(lv_of (ck_46 hb h0 h1) (cx_46 hb h0 h1) (cb_46 hb h0 h1)).trans ((if_pos (by decide)).trans ((if_neg (by decide)).trans ((if_pos (by decide)).trans ((if_neg (by decide)).trans ((if_neg (by decide)).trans ((if_neg (by decide)).trans ((if_pos (by decide)).trans ((if_pos rfl).trans ((if_neg (by omega)).trans ((if_neg (by omega)).trans ((if_neg (by omega)).trans ((if_pos (by omega)))))))))))))), (lj_of (ck_46 hb h0 h1) (cx_46 hb h0 h1)).trans ((if_pos (by decide)).trans ((if_neg (by decide)).trans ((if_neg (by decide)).trans ((if_neg (by decide)).trans ((if_pos (by decide)).trans ((if_pos (by decide)).trans ((if_neg (by omega)).trans ((if_neg (by omega)).trans ((if_neg (by omega)).trans ((if_pos (by omega)))))))))))), (fp_of (ck_46 hb h0 h1) (cx_46 hb h0 h1) (cb_46 hb h0 h1)).trans ((if_pos (by decide)).trans ((if_neg (by decide)).trans ((if_neg (by decide)).trans ((if_neg (by decide)).trans ((if_neg (by decide)).trans ((if_neg (by decide)).trans ((if_pos (by decide)).trans ((if_neg (by omega)))))))))), by omega, by rcases hb with rfl | rfl <;> omega, by rcases hb with rfl | rfl <;> omega⟩
theorem a_47 {Q : Int} {L : Int} {H x : Int} (hb : is_h H) {i : Int} (h0 : 0 ≤ x) (h1 : x < 8) (i0 : 0 ≤ i) (i1 : i < 48) : At H Q L (H + (125 + 2 * x)) i 79 (48 * x + i) := ⟨(lv_of (ck_47 hb h0 h1) (cx_47 hb h0 h1) (cb_47 hb h0 h1)).trans ((if_pos (by decide)).trans ((if_neg (by decide)).trans ((if_pos (by decide)).trans ((if_neg (by decide)).trans ((if_neg (by decide)).trans ((if_neg (by decide)).trans ((if_neg (by decide)).trans ((if_pos rfl).trans ((if_pos (by omega))))))))))), (lj_of (ck_47 hb h0 h1) (cx_47 hb h0 h1)).trans ((if_pos (by decide)).trans ((if_neg (by decide)).trans ((if_neg (by decide)).trans ((if_neg (by decide)).trans ((if_pos (by decide)).trans ((if_neg (by decide)).trans ((if_pos (by omega))))))))), (fp_of (ck_47 hb h0 h1) (cx_47 hb h0 h1) (cb_47 hb h0 h1)).trans ((if_pos (by decide)).trans ((if_neg (by decide)).trans ((if_neg (by decide)).trans ((if_neg (by decide)).trans ((if_neg (by decide)).trans ((if_neg (by decide)).trans ((if_neg (by decide))))))))), by omega, by rcases hb with rfl | rfl <;> omega, by rcases hb with rfl | rfl <;> omega⟩
theorem a_66 {H : Int} {L : Int} {Q : Int} (hb : is_k Q) {i : Int} (i0 : 0 ≤ i) (i1 : i < 135) : At H Q L (Q + 1) i 130 (i) := ⟨(lv_of (ck_66 hb) (cx_66 hb) (cb_66 hb)).trans ((if_neg (by decide)).trans ((if_pos (by decide)).trans ((if_pos (by decide)).trans ((if_pos (by decide)).trans ((if_neg (by decide)).trans ((if_neg (by decide)).trans ((if_pos (by decide)).trans ((if_pos rfl).trans ((if_pos (by omega))))))))))), (lj_of (ck_66 hb) (cx_66 hb)).trans ((if_pos (by decide)).trans ((if_neg (by decide)).trans ((if_neg (by decide)).trans ((if_neg (by decide)).trans ((if_neg (by decide)).trans ((if_neg (by decide)).trans ((if_pos (by omega))))))))), (fp_of (ck_66 hb) (cx_66 hb) (cb_66 hb)).trans ((if_neg (by decide)).trans ((if_pos (by decide)).trans ((if_pos (by decide)).trans ((if_neg (by decide)).trans ((if_neg (by decide)).trans ((if_pos (by decide)))))))), by omega, by rcases hb with rfl | rfl <;> omega, by rcases hb with rfl | rfl <;> omega⟩
theorem a_68 {H : Int} {L : Int} {Q x : Int} (hb : is_k Q) {i : Int} (h0 : 0 ≤ x) (h1 : x < 135) (i0 : 0 ≤ i) (i1 : i < 28) : At H Q L (Q + (3 + x)) i 131 (28 * x + i) := ⟨(lv_of (ck_68 hb h0 h1) (cx_68 hb h0 h1) (cb_68 hb h0 h1)).trans ((if_neg (by decide)).trans ((if_pos (by decide)).trans ((if_pos (by decide)).trans ((if_neg (by decide)).trans ((if_pos (by decide)).trans ((if_pos (by decide)).trans ((if_pos rfl).trans ((if_pos (by omega)))))))))), (lj_of (ck_68 hb h0 h1) (cx_68 hb h0 h1)).trans ((if_neg (by decide)).trans ((if_pos (by decide)).trans ((if_pos (by decide)).trans ((if_pos (by decide)).trans ((if_pos (by decide)).trans ((if_neg (by decide)).trans ((if_pos (by omega))))))))), (fp_of (ck_68 hb h0 h1) (cx_68 hb h0 h1) (cb_68 hb h0 h1)).trans ((if_neg (by decide)).trans ((if_pos (by decide)).trans ((if_neg (by decide)).trans ((if_pos (by decide)).trans ((if_pos (by decide)).trans ((if_pos (by decide)))))))), by omega, by rcases hb with rfl | rfl <;> omega, by rcases hb with rfl | rfl <;> omega⟩
theorem a_80_52 {H : Int} {Q : Int} {L : Int} : At H Q L (1314) 9 52 (0) := ⟨(lv_of (ck_80) (cx_80) (cb_80)).trans ((if_neg (by decide)).trans ((if_pos (by decide)).trans ((if_neg (by decide)).trans ((if_pos (by decide)).trans ((if_pos (by decide)).trans ((if_neg (by decide)).trans (((if_pos (by omega)))))))))), (lj_of (ck_80) (cx_80)).trans ((if_neg (by decide)).trans ((if_pos (by decide)).trans ((if_pos (by decide)).trans ((if_pos (by decide)).trans ((if_neg (by decide)).trans ((if_neg (by decide)).trans ((if_pos (by omega))))))))), (fp_of (ck_80) (cx_80) (cb_80)).trans ((if_neg (by decide)).trans ((if_pos (by decide)).trans ((if_neg (by decide)).trans ((if_neg (by decide)).trans ((if_pos (by decide)).trans ((if_neg (by decide)).trans ((if_neg (by omega)).trans ((if_neg (by omega)).trans ((if_neg (by omega)).trans ((if_neg (by omega)).trans ((if_neg (by omega)).trans ((if_neg (by omega)).trans ((if_neg (by omega)).trans ((if_neg (by omega)).trans ((if_neg (by omega)).trans ((if_neg (by omega)).trans ((if_neg (by omega)).trans ((if_neg (by omega)).trans ((if_neg (by omega)).trans ((if_neg (by omega)).trans ((if_neg (by omega)).trans ((if_neg (by omega)))))))))))))))))))))))), by omega, by omega, by omega⟩
theorem a_80_54 {H : Int} {Q : Int} {L : Int} : At H Q L (1314) 10 54 (0) := ⟨(lv_of (ck_80) (cx_80) (cb_80)).trans ((if_neg (by decide)).trans ((if_pos (by decide)).trans ((if_neg (by decide)).trans ((if_pos (by decide)).trans ((if_pos (by decide)).trans ((if_neg (by decide)).trans (((if_neg (by omega)).trans ((if_pos (by omega))))))))))), (lj_of (ck_80) (cx_80)).trans ((if_neg (by decide)).trans ((if_pos (by decide)).trans ((if_pos (by decide)).trans ((if_pos (by decide)).trans ((if_neg (by decide)).trans ((if_neg (by decide)).trans ((if_neg (by omega)).trans ((if_pos (by omega)))))))))), (fp_of (ck_80) (cx_80) (cb_80)).trans ((if_neg (by decide)).trans ((if_pos (by decide)).trans ((if_neg (by decide)).trans ((if_neg (by decide)).trans ((if_pos (by decide)).trans ((if_neg (by decide)).trans ((if_neg (by omega)).trans ((if_neg (by omega)).trans ((if_neg (by omega)).trans ((if_neg (by omega)).trans ((if_neg (by omega)).trans ((if_neg (by omega)).trans ((if_neg (by omega)).trans ((if_neg (by omega)).trans ((if_neg (by omega)).trans ((if_neg (by omega)).trans ((if_neg (by omega)).trans ((if_neg (by omega)).trans ((if_neg (by omega)).trans ((if_neg (by omega)).trans ((if_neg (by omega)).trans ((if_neg (by omega)))))))))))))))))))))))), by omega, by omega, by omega⟩
theorem a_80_53 {H : Int} {Q : Int} {L : Int} : At H Q L (1314) 11 53 (0) := ⟨(lv_of (ck_80) (cx_80) (cb_80)).trans ((if_neg (by decide)).trans ((if_pos (by decide)).trans ((if_neg (by decide)).trans ((if_pos (by decide)).trans ((if_pos (by decide)).trans ((if_neg (by decide)).trans (((if_neg (by omega)).trans ((if_neg (by omega)).trans ((if_pos (by omega)))))))))))), (lj_of (ck_80) (cx_80)).trans ((if_neg (by decide)).trans ((if_pos (by decide)).trans ((if_pos (by decide)).trans ((if_pos (by decide)).trans ((if_neg (by decide)).trans ((if_neg (by decide)).trans ((if_neg (by omega)).trans ((if_neg (by omega)).trans ((if_pos (by omega))))))))))), (fp_of (ck_80) (cx_80) (cb_80)).trans ((if_neg (by decide)).trans ((if_pos (by decide)).trans ((if_neg (by decide)).trans ((if_neg (by decide)).trans ((if_pos (by decide)).trans ((if_neg (by decide)).trans ((if_neg (by omega)).trans ((if_neg (by omega)).trans ((if_neg (by omega)).trans ((if_neg (by omega)).trans ((if_neg (by omega)).trans ((if_neg (by omega)).trans ((if_neg (by omega)).trans ((if_neg (by omega)).trans ((if_neg (by omega)).trans ((if_neg (by omega)).trans ((if_neg (by omega)).trans ((if_neg (by omega)).trans ((if_neg (by omega)).trans ((if_neg (by omega)).trans ((if_neg (by omega)).trans ((if_neg (by omega)))))))))))))))))))))))), by omega, by omega, by omega⟩
theorem a_80_55 {H : Int} {Q : Int} {L : Int} : At H Q L (1314) 12 55 (0) := ⟨(lv_of (ck_80) (cx_80) (cb_80)).trans ((if_neg (by decide)).trans ((if_pos (by decide)).trans ((if_neg (by decide)).trans ((if_pos (by decide)).trans ((if_pos (by decide)).trans ((if_neg (by decide)).trans (((if_neg (by omega)).trans ((if_neg (by omega)).trans ((if_neg (by omega)).trans ((if_pos (by omega))))))))))))), (lj_of (ck_80) (cx_80)).trans ((if_neg (by decide)).trans ((if_pos (by decide)).trans ((if_pos (by decide)).trans ((if_pos (by decide)).trans ((if_neg (by decide)).trans ((if_neg (by decide)).trans ((if_neg (by omega)).trans ((if_neg (by omega)).trans ((if_neg (by omega)).trans ((if_pos (by omega)))))))))))), (fp_of (ck_80) (cx_80) (cb_80)).trans ((if_neg (by decide)).trans ((if_pos (by decide)).trans ((if_neg (by decide)).trans ((if_neg (by decide)).trans ((if_pos (by decide)).trans ((if_neg (by decide)).trans ((if_neg (by omega)).trans ((if_neg (by omega)).trans ((if_neg (by omega)).trans ((if_neg (by omega)).trans ((if_neg (by omega)).trans ((if_neg (by omega)).trans ((if_neg (by omega)).trans ((if_neg (by omega)).trans ((if_neg (by omega)).trans ((if_neg (by omega)).trans ((if_neg (by omega)).trans ((if_neg (by omega)).trans ((if_neg (by omega)).trans ((if_neg (by omega)).trans ((if_neg (by omega)).trans ((if_neg (by omega)))))))))))))))))))))))), by omega, by omega, by omega⟩
theorem a_80_65 {H : Int} {Q : Int} {L : Int} : At H Q L (1314) 13 65 (0) := ⟨(lv_of (ck_80) (cx_80) (cb_80)).trans ((if_neg (by decide)).trans ((if_pos (by decide)).trans ((if_neg (by decide)).trans ((if_pos (by decide)).trans ((if_pos (by decide)).trans ((if_neg (by decide)).trans (((if_neg (by omega)).trans ((if_neg (by omega)).trans ((if_neg (by omega)).trans ((if_neg (by omega)).trans ((if_pos (by omega)))))))))))))), (lj_of (ck_80) (cx_80)).trans ((if_neg (by decide)).trans ((if_pos (by decide)).trans ((if_pos (by decide)).trans ((if_pos (by decide)).trans ((if_neg (by decide)).trans ((if_neg (by decide)).trans ((if_neg (by omega)).trans ((if_neg (by omega)).trans ((if_neg (by omega)).trans ((if_neg (by omega)).trans ((if_pos (by omega))))))))))))), (fp_of (ck_80) (cx_80) (cb_80)).trans ((if_neg (by decide)).trans ((if_pos (by decide)).trans ((if_neg (by decide)).trans ((if_neg (by decide)).trans ((if_pos (by decide)).trans ((if_neg (by decide)).trans ((if_neg (by omega)).trans ((if_neg (by omega)).trans ((if_neg (by omega)).trans ((if_neg (by omega)).trans ((if_neg (by omega)).trans ((if_neg (by omega)).trans ((if_neg (by omega)).trans ((if_neg (by omega)).trans ((if_neg (by omega)).trans ((if_neg (by omega)).trans ((if_neg (by omega)).trans ((if_neg (by omega)).trans ((if_neg (by omega)).trans ((if_neg (by omega)).trans ((if_neg (by omega)).trans ((if_neg (by omega)))))))))))))))))))))))), by omega, by omega, by omega⟩
theorem a_80_61 {H : Int} {Q : Int} {L : Int} : At H Q L (1314) 14 61 (0) := ⟨(lv_of (ck_80) (cx_80) (cb_80)).trans ((if_neg (by decide)).trans ((if_pos (by decide)).trans ((if_neg (by decide)).trans ((if_pos (by decide)).trans ((if_pos (by decide)).trans ((if_neg (by decide)).trans (((if_neg (by omega)).trans ((if_neg (by omega)).trans ((if_neg (by omega)).trans ((if_neg (by omega)).trans ((if_neg (by omega)).trans ((if_pos (by omega))))))))))))))), (lj_of (ck_80) (cx_80)).trans ((if_neg (by decide)).trans ((if_pos (by decide)).trans ((if_pos (by decide)).trans ((if_pos (by decide)).trans ((if_neg (by decide)).trans ((if_neg (by decide)).trans ((if_neg (by omega)).trans ((if_neg (by omega)).trans ((if_neg (by omega)).trans ((if_neg (by omega)).trans ((if_neg (by omega)).trans ((if_pos (by omega)))))))))))))), (fp_of (ck_80) (cx_80) (cb_80)).trans ((if_neg (by decide)).trans ((if_pos (by decide)).trans ((if_neg (by decide)).trans ((if_neg (by decide)).trans ((if_pos (by decide)).trans ((if_neg (by decide)).trans ((if_neg (by omega)).trans ((if_neg (by omega)).trans ((if_neg (by omega)).trans ((if_neg (by omega)).trans ((if_neg (by omega)).trans ((if_neg (by omega)).trans ((if_neg (by omega)).trans ((if_neg (by omega)).trans ((if_neg (by omega)).trans ((if_neg (by omega)).trans ((if_neg (by omega)).trans ((if_neg (by omega)).trans ((if_neg (by omega)).trans ((if_neg (by omega)).trans ((if_neg (by omega)).trans ((if_neg (by omega)))))))))))))))))))))))), by omega, by omega, by omega⟩
theorem a_80_63 {H : Int} {Q : Int} {L : Int} : At H Q L (1314) 15 63 (0) := ⟨(lv_of (ck_80) (cx_80) (cb_80)).trans ((if_neg (by decide)).trans ((if_pos (by decide)).trans ((if_neg (by decide)).trans ((if_pos (by decide)).trans ((if_pos (by decide)).trans ((if_neg (by decide)).trans (((if_neg (by omega)).trans ((if_neg (by omega)).trans ((if_neg (by omega)).trans ((if_neg (by omega)).trans ((if_neg (by omega)).trans ((if_neg (by omega)).trans ((if_pos (by omega)))))))))))))))), (lj_of (ck_80) (cx_80)).trans ((if_neg (by decide)).trans ((if_pos (by decide)).trans ((if_pos (by decide)).trans ((if_pos (by decide)).trans ((if_neg (by decide)).trans ((if_neg (by decide)).trans ((if_neg (by omega)).trans ((if_neg (by omega)).trans ((if_neg (by omega)).trans ((if_neg (by omega)).trans ((if_neg (by omega)).trans ((if_neg (by omega)).trans ((if_pos (by omega))))))))))))))), (fp_of (ck_80) (cx_80) (cb_80)).trans ((if_neg (by decide)).trans ((if_pos (by decide)).trans ((if_neg (by decide)).trans ((if_neg (by decide)).trans ((if_pos (by decide)).trans ((if_neg (by decide)).trans ((if_neg (by omega)).trans ((if_neg (by omega)).trans ((if_neg (by omega)).trans ((if_neg (by omega)).trans ((if_neg (by omega)).trans ((if_neg (by omega)).trans ((if_neg (by omega)).trans ((if_neg (by omega)).trans ((if_neg (by omega)).trans ((if_neg (by omega)).trans ((if_neg (by omega)).trans ((if_neg (by omega)).trans ((if_neg (by omega)).trans ((if_neg (by omega)).trans ((if_neg (by omega)).trans ((if_neg (by omega)))))))))))))))))))))))), by omega, by omega, by omega⟩
theorem a_80_64 {H : Int} {Q : Int} {L : Int} : At H Q L (1314) 16 64 (0) := ⟨(lv_of (ck_80) (cx_80) (cb_80)).trans ((if_neg (by decide)).trans ((if_pos (by decide)).trans ((if_neg (by decide)).trans ((if_pos (by decide)).trans ((if_pos (by decide)).trans ((if_neg (by decide)).trans (((if_neg (by omega)).trans ((if_neg (by omega)).trans ((if_neg (by omega)).trans ((if_neg (by omega)).trans ((if_neg (by omega)).trans ((if_neg (by omega)).trans ((if_neg (by omega)).trans ((if_pos (by omega))))))))))))))))), (lj_of (ck_80) (cx_80)).trans ((if_neg (by decide)).trans ((if_pos (by decide)).trans ((if_pos (by decide)).trans ((if_pos (by decide)).trans ((if_neg (by decide)).trans ((if_neg (by decide)).trans ((if_neg (by omega)).trans ((if_neg (by omega)).trans ((if_neg (by omega)).trans ((if_neg (by omega)).trans ((if_neg (by omega)).trans ((if_neg (by omega)).trans ((if_neg (by omega)).trans ((if_pos (by omega)))))))))))))))), (fp_of (ck_80) (cx_80) (cb_80)).trans ((if_neg (by decide)).trans ((if_pos (by decide)).trans ((if_neg (by decide)).trans ((if_neg (by decide)).trans ((if_pos (by decide)).trans ((if_neg (by decide)).trans ((if_neg (by omega)).trans ((if_neg (by omega)).trans ((if_neg (by omega)).trans ((if_neg (by omega)).trans ((if_neg (by omega)).trans ((if_neg (by omega)).trans ((if_neg (by omega)).trans ((if_neg (by omega)).trans ((if_neg (by omega)).trans ((if_neg (by omega)).trans ((if_neg (by omega)).trans ((if_neg (by omega)).trans ((if_neg (by omega)).trans ((if_neg (by omega)).trans ((if_neg (by omega)).trans ((if_neg (by omega)))))))))))))))))))))))), by omega, by omega, by omega⟩
theorem a_80_67 {H : Int} {Q : Int} {L : Int} : At H Q L (1314) 17 67 (0) := ⟨(lv_of (ck_80) (cx_80) (cb_80)).trans ((if_neg (by decide)).trans ((if_pos (by decide)).trans ((if_neg (by decide)).trans ((if_pos (by decide)).trans ((if_pos (by decide)).trans ((if_neg (by decide)).trans (((if_neg (by omega)).trans ((if_neg (by omega)).trans ((if_neg (by omega)).trans ((if_neg (by omega)).trans ((if_neg (by omega)).trans ((if_neg (by omega)).trans ((if_neg (by omega)).trans ((if_neg (by omega)).trans ((if_pos (by omega)))))))))))))))))), (lj_of (ck_80) (cx_80)).trans ((if_neg (by decide)).trans ((if_pos (by decide)).trans ((if_pos (by decide)).trans ((if_pos (by decide)).trans ((if_neg (by decide)).trans ((if_neg (by decide)).trans ((if_neg (by omega)).trans ((if_neg (by omega)).trans ((if_neg (by omega)).trans ((if_neg (by omega)).trans ((if_neg (by omega)).trans ((if_neg (by omega)).trans ((if_neg (by omega)).trans ((if_neg (by omega)).trans ((if_pos (by omega))))))))))))))))), (fp_of (ck_80) (cx_80) (cb_80)).trans ((if_neg (by decide)).trans ((if_pos (by decide)).trans ((if_neg (by decide)).trans ((if_neg (by decide)).trans ((if_pos (by decide)).trans ((if_neg (by decide)).trans ((if_neg (by omega)).trans ((if_neg (by omega)).trans ((if_neg (by omega)).trans ((if_neg (by omega)).trans ((if_neg (by omega)).trans ((if_neg (by omega)).trans ((if_neg (by omega)).trans ((if_neg (by omega)).trans ((if_neg (by omega)).trans ((if_neg (by omega)).trans ((if_neg (by omega)).trans ((if_neg (by omega)).trans ((if_neg (by omega)).trans ((if_neg (by omega)).trans ((if_neg (by omega)).trans ((if_neg (by omega)))))))))))))))))))))))), by omega, by omega, by omega⟩
theorem a_80_62 {H : Int} {Q : Int} {L : Int} : At H Q L (1314) 18 62 (0) := ⟨(lv_of (ck_80) (cx_80) (cb_80)).trans ((if_neg (by decide)).trans ((if_pos (by decide)).trans ((if_neg (by decide)).trans ((if_pos (by decide)).trans ((if_pos (by decide)).trans ((if_neg (by decide)).trans (((if_neg (by omega)).trans ((if_neg (by omega)).trans ((if_neg (by omega)).trans ((if_neg (by omega)).trans ((if_neg (by omega)).trans ((if_neg (by omega)).trans ((if_neg (by omega)).trans ((if_neg (by omega)).trans ((if_neg (by omega)).trans ((if_pos (by omega))))))))))))))))))), (lj_of (ck_80) (cx_80)).trans ((if_neg (by decide)).trans ((if_pos (by decide)).trans ((if_pos (by decide)).trans ((if_pos (by decide)).trans ((if_neg (by decide)).trans ((if_neg (by decide)).trans ((if_neg (by omega)).trans ((if_neg (by omega)).trans ((if_neg (by omega)).trans ((if_neg (by omega)).trans ((if_neg (by omega)).trans ((if_neg (by omega)).trans ((if_neg (by omega)).trans ((if_neg (by omega)).trans ((if_neg (by omega)).trans ((if_pos (by omega)))))))))))))))))), (fp_of (ck_80) (cx_80) (cb_80)).trans ((if_neg (by decide)).trans ((if_pos (by decide)).trans ((if_neg (by decide)).trans ((if_neg (by decide)).trans ((if_pos (by decide)).trans ((if_neg (by decide)).trans ((if_neg (by omega)).trans ((if_neg (by omega)).trans ((if_neg (by omega)).trans ((if_neg (by omega)).trans ((if_neg (by omega)).trans ((if_neg (by omega)).trans ((if_neg (by omega)).trans ((if_neg (by omega)).trans ((if_neg (by omega)).trans ((if_neg (by omega)).trans ((if_neg (by omega)).trans ((if_neg (by omega)).trans ((if_neg (by omega)).trans ((if_neg (by omega)).trans ((if_neg (by omega)).trans ((if_neg (by omega)))))))))))))))))))))))), by omega, by omega, by omega⟩
theorem a_80_68 {H : Int} {Q : Int} {L : Int} : At H Q L (1314) 19 68 (0) := ⟨(lv_of (ck_80) (cx_80) (cb_80)).trans ((if_neg (by decide)).trans ((if_pos (by decide)).trans ((if_neg (by decide)).trans ((if_pos (by decide)).trans ((if_pos (by decide)).trans ((if_neg (by decide)).trans (((if_neg (by omega)).trans ((if_neg (by omega)).trans ((if_neg (by omega)).trans ((if_neg (by omega)).trans ((if_neg (by omega)).trans ((if_neg (by omega)).trans ((if_neg (by omega)).trans ((if_neg (by omega)).trans ((if_neg (by omega)).trans ((if_neg (by omega)).trans ((if_pos (by omega)))))))))))))))))))), (lj_of (ck_80) (cx_80)).trans ((if_neg (by decide)).trans ((if_pos (by decide)).trans ((if_pos (by decide)).trans ((if_pos (by decide)).trans ((if_neg (by decide)).trans ((if_neg (by decide)).trans ((if_neg (by omega)).trans ((if_neg (by omega)).trans ((if_neg (by omega)).trans ((if_neg (by omega)).trans ((if_neg (by omega)).trans ((if_neg (by omega)).trans ((if_neg (by omega)).trans ((if_neg (by omega)).trans ((if_neg (by omega)).trans ((if_neg (by omega)).trans ((if_pos (by omega))))))))))))))))))), (fp_of (ck_80) (cx_80) (cb_80)).trans ((if_neg (by decide)).trans ((if_pos (by decide)).trans ((if_neg (by decide)).trans ((if_neg (by decide)).trans ((if_pos (by decide)).trans ((if_neg (by decide)).trans ((if_neg (by omega)).trans ((if_neg (by omega)).trans ((if_neg (by omega)).trans ((if_neg (by omega)).trans ((if_neg (by omega)).trans ((if_neg (by omega)).trans ((if_neg (by omega)).trans ((if_neg (by omega)).trans ((if_neg (by omega)).trans ((if_neg (by omega)).trans ((if_neg (by omega)).trans ((if_neg (by omega)).trans ((if_neg (by omega)).trans ((if_neg (by omega)).trans ((if_neg (by omega)).trans ((if_neg (by omega)))))))))))))))))))))))), by omega, by omega, by omega⟩
theorem a_80_66 {H : Int} {Q : Int} {L : Int} : At H Q L (1314) 21 66 (0) := ⟨(lv_of (ck_80) (cx_80) (cb_80)).trans ((if_neg (by decide)).trans ((if_pos (by decide)).trans ((if_neg (by decide)).trans ((if_pos (by decide)).trans ((if_pos (by decide)).trans ((if_neg (by decide)).trans (((if_neg (by omega)).trans ((if_neg (by omega)).trans ((if_neg (by omega)).trans ((if_neg (by omega)).trans ((if_neg (by omega)).trans ((if_neg (by omega)).trans ((if_neg (by omega)).trans ((if_neg (by omega)).trans ((if_neg (by omega)).trans ((if_neg (by omega)).trans ((if_neg (by omega)).trans ((if_pos (by omega))))))))))))))))))))), (lj_of (ck_80) (cx_80)).trans ((if_neg (by decide)).trans ((if_pos (by decide)).trans ((if_pos (by decide)).trans ((if_pos (by decide)).trans ((if_neg (by decide)).trans ((if_neg (by decide)).trans ((if_neg (by omega)).trans ((if_neg (by omega)).trans ((if_neg (by omega)).trans ((if_neg (by omega)).trans ((if_neg (by omega)).trans ((if_neg (by omega)).trans ((if_neg (by omega)).trans ((if_neg (by omega)).trans ((if_neg (by omega)).trans ((if_neg (by omega)).trans ((if_neg (by omega)).trans ((if_pos (by omega)))))))))))))))))))), (fp_of (ck_80) (cx_80) (cb_80)).trans ((if_neg (by decide)).trans ((if_pos (by decide)).trans ((if_neg (by decide)).trans ((if_neg (by decide)).trans ((if_pos (by decide)).trans ((if_neg (by decide)).trans ((if_neg (by omega)).trans ((if_neg (by omega)).trans ((if_neg (by omega)).trans ((if_neg (by omega)).trans ((if_neg (by omega)).trans ((if_neg (by omega)).trans ((if_neg (by omega)).trans ((if_neg (by omega)).trans ((if_neg (by omega)).trans ((if_neg (by omega)).trans ((if_neg (by omega)).trans ((if_neg (by omega)).trans ((if_neg (by omega)).trans ((if_neg (by omega)).trans ((if_neg (by omega)).trans ((if_neg (by omega)))))))))))))))))))))))), by omega, by omega, by omega⟩
theorem a_80_72 {H : Int} {Q : Int} {L : Int} : At H Q L (1314) 27 72 (0) := ⟨(lv_of (ck_80) (cx_80) (cb_80)).trans ((if_neg (by decide)).trans ((if_pos (by decide)).trans ((if_neg (by decide)).trans ((if_pos (by decide)).trans ((if_pos (by decide)).trans ((if_neg (by decide)).trans (((if_neg (by omega)).trans ((if_neg (by omega)).trans ((if_neg (by omega)).trans ((if_neg (by omega)).trans ((if_neg (by omega)).trans ((if_neg (by omega)).trans ((if_neg (by omega)).trans ((if_neg (by omega)).trans ((if_neg (by omega)).trans ((if_neg (by omega)).trans ((if_neg (by omega)).trans ((if_neg (by omega)).trans ((if_pos (by omega)))))))))))))))))))))), (lj_of (ck_80) (cx_80)).trans ((if_neg (by decide)).trans ((if_pos (by decide)).trans ((if_pos (by decide)).trans ((if_pos (by decide)).trans ((if_neg (by decide)).trans ((if_neg (by decide)).trans ((if_neg (by omega)).trans ((if_neg (by omega)).trans ((if_neg (by omega)).trans ((if_neg (by omega)).trans ((if_neg (by omega)).trans ((if_neg (by omega)).trans ((if_neg (by omega)).trans ((if_neg (by omega)).trans ((if_neg (by omega)).trans ((if_neg (by omega)).trans ((if_neg (by omega)).trans ((if_neg (by omega)).trans ((if_pos (by omega))))))))))))))))))))), (fp_of (ck_80) (cx_80) (cb_80)).trans ((if_neg (by decide)).trans ((if_pos (by decide)).trans ((if_neg (by decide)).trans ((if_neg (by decide)).trans ((if_pos (by decide)).trans ((if_neg (by decide)).trans ((if_neg (by omega)).trans ((if_neg (by omega)).trans ((if_neg (by omega)).trans ((if_neg (by omega)).trans ((if_neg (by omega)).trans ((if_neg (by omega)).trans ((if_neg (by omega)).trans ((if_neg (by omega)).trans ((if_neg (by omega)).trans ((if_neg (by omega)).trans ((if_neg (by omega)).trans ((if_neg (by omega)).trans ((if_neg (by omega)).trans ((if_neg (by omega)).trans ((if_neg (by omega)).trans ((if_neg (by omega)))))))))))))))))))))))), by omega, by omega, by omega⟩
theorem a_80_112 {H : Int} {Q : Int} {L : Int} : At H Q L (1314) 29 112 (0) := ⟨(lv_of (ck_80) (cx_80) (cb_80)).trans ((if_neg (by decide)).trans ((if_pos (by decide)).trans ((if_neg (by decide)).trans ((if_pos (by decide)).trans ((if_pos (by decide)).trans ((if_neg (by decide)).trans (((if_neg (by omega)).trans ((if_neg (by omega)).trans ((if_neg (by omega)).trans ((if_neg (by omega)).trans ((if_neg (by omega)).trans ((if_neg (by omega)).trans ((if_neg (by omega)).trans ((if_neg (by omega)).trans ((if_neg (by omega)).trans ((if_neg (by omega)).trans ((if_neg (by omega)).trans ((if_neg (by omega)).trans ((if_neg (by omega)).trans ((if_pos (by omega))))))))))))))))))))))), (lj_of (ck_80) (cx_80)).trans ((if_neg (by decide)).trans ((if_pos (by decide)).trans ((if_pos (by decide)).trans ((if_pos (by decide)).trans ((if_neg (by decide)).trans ((if_neg (by decide)).trans ((if_neg (by omega)).trans ((if_neg (by omega)).trans ((if_neg (by omega)).trans ((if_neg (by omega)).trans ((if_neg (by omega)).trans ((if_neg (by omega)).trans ((if_neg (by omega)).trans ((if_neg (by omega)).trans ((if_neg (by omega)).trans ((if_neg (by omega)).trans ((if_neg (by omega)).trans ((if_neg (by omega)).trans ((if_neg (by omega)).trans ((if_pos (by omega)))))))))))))))))))))), (fp_of (ck_80) (cx_80) (cb_80)).trans ((if_neg (by decide)).trans ((if_pos (by decide)).trans ((if_neg (by decide)).trans ((if_neg (by decide)).trans ((if_pos (by decide)).trans ((if_neg (by decide)).trans ((if_neg (by omega)).trans ((if_neg (by omega)).trans ((if_neg (by omega)).trans ((if_neg (by omega)).trans ((if_neg (by omega)).trans ((if_neg (by omega)).trans ((if_neg (by omega)).trans ((if_neg (by omega)).trans ((if_neg (by omega)).trans ((if_neg (by omega)).trans ((if_neg (by omega)).trans ((if_neg (by omega)).trans ((if_neg (by omega)).trans ((if_neg (by omega)).trans ((if_neg (by omega)).trans ((if_neg (by omega)))))))))))))))))))))))), by omega, by omega, by omega⟩
theorem a_80_25 {H : Int} {Q : Int} {L : Int} : At H Q L (1314) 33 25 (0) := ⟨(lv_of (ck_80) (cx_80) (cb_80)).trans ((if_neg (by decide)).trans ((if_pos (by decide)).trans ((if_neg (by decide)).trans ((if_pos (by decide)).trans ((if_pos (by decide)).trans ((if_neg (by decide)).trans (((if_neg (by omega)).trans ((if_neg (by omega)).trans ((if_neg (by omega)).trans ((if_neg (by omega)).trans ((if_neg (by omega)).trans ((if_neg (by omega)).trans ((if_neg (by omega)).trans ((if_neg (by omega)).trans ((if_neg (by omega)).trans ((if_neg (by omega)).trans ((if_neg (by omega)).trans ((if_neg (by omega)).trans ((if_neg (by omega)).trans ((if_neg (by omega)).trans ((if_pos (by omega)))))))))))))))))))))))), (lj_of (ck_80) (cx_80)).trans ((if_neg (by decide)).trans ((if_pos (by decide)).trans ((if_pos (by decide)).trans ((if_pos (by decide)).trans ((if_neg (by decide)).trans ((if_neg (by decide)).trans ((if_neg (by omega)).trans ((if_neg (by omega)).trans ((if_neg (by omega)).trans ((if_neg (by omega)).trans ((if_neg (by omega)).trans ((if_neg (by omega)).trans ((if_neg (by omega)).trans ((if_neg (by omega)).trans ((if_neg (by omega)).trans ((if_neg (by omega)).trans ((if_neg (by omega)).trans ((if_neg (by omega)).trans ((if_neg (by omega)).trans ((if_neg (by omega)).trans ((if_pos (by omega))))))))))))))))))))))), (fp_of (ck_80) (cx_80) (cb_80)).trans ((if_neg (by decide)).trans ((if_pos (by decide)).trans ((if_neg (by decide)).trans ((if_neg (by decide)).trans ((if_pos (by decide)).trans ((if_neg (by decide)).trans ((if_neg (by omega)).trans ((if_neg (by omega)).trans ((if_neg (by omega)).trans ((if_neg (by omega)).trans ((if_neg (by omega)).trans ((if_neg (by omega)).trans ((if_neg (by omega)).trans ((if_neg (by omega)).trans ((if_neg (by omega)).trans ((if_neg (by omega)).trans ((if_neg (by omega)).trans ((if_neg (by omega)).trans ((if_neg (by omega)).trans ((if_neg (by omega)).trans ((if_neg (by omega)).trans ((if_neg (by omega)))))))))))))))))))))))), by omega, by omega, by omega⟩
theorem a_80_4 {H : Int} {Q : Int} {L : Int} : At H Q L (1314) 39 4 (0) := ⟨(lv_of (ck_80) (cx_80) (cb_80)).trans ((if_neg (by decide)).trans ((if_pos (by decide)).trans ((if_neg (by decide)).trans ((if_pos (by decide)).trans ((if_pos (by decide)).trans ((if_neg (by decide)).trans (((if_neg (by omega)).trans ((if_neg (by omega)).trans ((if_neg (by omega)).trans ((if_neg (by omega)).trans ((if_neg (by omega)).trans ((if_neg (by omega)).trans ((if_neg (by omega)).trans ((if_neg (by omega)).trans ((if_neg (by omega)).trans ((if_neg (by omega)).trans ((if_neg (by omega)).trans ((if_neg (by omega)).trans ((if_neg (by omega)).trans ((if_neg (by omega)).trans ((if_neg (by omega)).trans ((if_pos (by omega))))))))))))))))))))))))), (lj_of (ck_80) (cx_80)).trans ((if_neg (by decide)).trans ((if_pos (by decide)).trans ((if_pos (by decide)).trans ((if_pos (by decide)).trans ((if_neg (by decide)).trans ((if_neg (by decide)).trans ((if_neg (by omega)).trans ((if_neg (by omega)).trans ((if_neg (by omega)).trans ((if_neg (by omega)).trans ((if_neg (by omega)).trans ((if_neg (by omega)).trans ((if_neg (by omega)).trans ((if_neg (by omega)).trans ((if_neg (by omega)).trans ((if_neg (by omega)).trans ((if_neg (by omega)).trans ((if_neg (by omega)).trans ((if_neg (by omega)).trans ((if_neg (by omega)).trans ((if_neg (by omega)).trans ((if_pos (by omega)))))))))))))))))))))))), (fp_of (ck_80) (cx_80) (cb_80)).trans ((if_neg (by decide)).trans ((if_pos (by decide)).trans ((if_neg (by decide)).trans ((if_neg (by decide)).trans ((if_pos (by decide)).trans ((if_neg (by decide)).trans ((if_neg (by omega)).trans ((if_neg (by omega)).trans ((if_neg (by omega)).trans ((if_neg (by omega)).trans ((if_neg (by omega)).trans ((if_neg (by omega)).trans ((if_neg (by omega)).trans ((if_neg (by omega)).trans ((if_neg (by omega)).trans ((if_neg (by omega)).trans ((if_neg (by omega)).trans ((if_neg (by omega)).trans ((if_neg (by omega)).trans ((if_neg (by omega)).trans ((if_neg (by omega)).trans ((if_neg (by omega)))))))))))))))))))))))), by omega, by omega, by omega⟩
theorem a_80_87 {H : Int} {Q : Int} {L : Int} : At H Q L (1314) 40 87 (0) := ⟨(lv_of (ck_80) (cx_80) (cb_80)).trans ((if_neg (by decide)).trans ((if_pos (by decide)).trans ((if_neg (by decide)).trans ((if_pos (by decide)).trans ((if_pos (by decide)).trans ((if_neg (by decide)).trans (((if_neg (by omega)).trans ((if_neg (by omega)).trans ((if_neg (by omega)).trans ((if_neg (by omega)).trans ((if_neg (by omega)).trans ((if_neg (by omega)).trans ((if_neg (by omega)).trans ((if_neg (by omega)).trans ((if_neg (by omega)).trans ((if_neg (by omega)).trans ((if_neg (by omega)).trans ((if_neg (by omega)).trans ((if_neg (by omega)).trans ((if_neg (by omega)).trans ((if_neg (by omega)).trans ((if_neg (by omega)).trans ((if_pos (by omega)))))))))))))))))))))))))), (lj_of (ck_80) (cx_80)).trans ((if_neg (by decide)).trans ((if_pos (by decide)).trans ((if_pos (by decide)).trans ((if_pos (by decide)).trans ((if_neg (by decide)).trans ((if_neg (by decide)).trans ((if_neg (by omega)).trans ((if_neg (by omega)).trans ((if_neg (by omega)).trans ((if_neg (by omega)).trans ((if_neg (by omega)).trans ((if_neg (by omega)).trans ((if_neg (by omega)).trans ((if_neg (by omega)).trans ((if_neg (by omega)).trans ((if_neg (by omega)).trans ((if_neg (by omega)).trans ((if_neg (by omega)).trans ((if_neg (by omega)).trans ((if_neg (by omega)).trans ((if_neg (by omega)).trans ((if_neg (by omega)).trans ((if_pos (by omega))))))))))))))))))))))))), (fp_of (ck_80) (cx_80) (cb_80)).trans ((if_neg (by decide)).trans ((if_pos (by decide)).trans ((if_neg (by decide)).trans ((if_neg (by decide)).trans ((if_pos (by decide)).trans ((if_neg (by decide)).trans ((if_neg (by omega)).trans ((if_neg (by omega)).trans ((if_neg (by omega)).trans ((if_neg (by omega)).trans ((if_neg (by omega)).trans ((if_neg (by omega)).trans ((if_neg (by omega)).trans ((if_neg (by omega)).trans ((if_neg (by omega)).trans ((if_neg (by omega)).trans ((if_neg (by omega)).trans ((if_neg (by omega)).trans ((if_neg (by omega)).trans ((if_neg (by omega)).trans ((if_neg (by omega)).trans ((if_neg (by omega)))))))))))))))))))))))), by omega, by omega, by omega⟩
theorem a_81 {H : Int} {Q : Int} {L : Int} {i : Int} (i0 : 0 ≤ i) (i1 : i < 240) : At H Q L (1315) i 40 (i) := ⟨(lv_of (ck_81) (cx_81) (cb_81)).trans ((if_neg (by decide)).trans ((if_pos (by decide)).trans ((if_neg (by decide)).trans ((if_pos (by decide)).trans ((if_neg (by decide)).trans ((if_pos (by decide)).trans (((if_pos (by omega)))))))))), (lj_of (ck_81) (cx_81)).trans ((if_neg (by decide)).trans ((if_pos (by decide)).trans ((if_pos (by decide)).trans ((if_neg (by decide)).trans ((if_pos (by decide)).trans ((if_pos (by decide)).trans ((if_pos (by omega))))))))), (fp_of (ck_81) (cx_81) (cb_81)).trans ((if_neg (by decide)).trans ((if_pos (by decide)).trans ((if_neg (by decide)).trans ((if_neg (by decide)).trans ((if_neg (by decide)).trans ((if_pos (by decide)))))))), by omega, by omega, by omega⟩
theorem a_82 {H : Int} {Q : Int} {L : Int} {i : Int} (i0 : 0 ≤ i) (i1 : i < 240) : At H Q L (1316) i 41 (i) := ⟨(lv_of (ck_82) (cx_82) (cb_82)).trans ((if_neg (by decide)).trans ((if_pos (by decide)).trans ((if_neg (by decide)).trans ((if_pos (by decide)).trans ((if_neg (by decide)).trans ((if_neg (by decide)).trans ((if_pos (by decide)).trans (((if_pos (by omega))))))))))), (lj_of (ck_82) (cx_82)).trans ((if_neg (by decide)).trans ((if_pos (by decide)).trans ((if_pos (by decide)).trans ((if_neg (by decide)).trans ((if_pos (by decide)).trans ((if_neg (by decide)).trans ((if_pos (by omega))))))))), (fp_of (ck_82) (cx_82) (cb_82)).trans ((if_neg (by decide)).trans ((if_pos (by decide)).trans ((if_neg (by decide)).trans ((if_neg (by decide)).trans ((if_neg (by decide)).trans ((if_pos (by decide)))))))), by omega, by omega, by omega⟩
theorem a_83 {H : Int} {Q : Int} {L : Int} {i : Int} (i0 : 0 ≤ i) (i1 : i < 240) : At H Q L (1317) i 42 (i) := ⟨(lv_of (ck_83) (cx_83) (cb_83)).trans ((if_neg (by decide)).trans ((if_pos (by decide)).trans ((if_neg (by decide)).trans ((if_pos (by decide)).trans ((if_neg (by decide)).trans ((if_neg (by decide)).trans ((if_neg (by decide)).trans (((if_pos (by omega))))))))))), (lj_of (ck_83) (cx_83)).trans ((if_neg (by decide)).trans ((if_pos (by decide)).trans ((if_pos (by decide)).trans ((if_neg (by decide)).trans ((if_neg (by decide)).trans ((if_pos (by decide)).trans ((if_pos (by omega))))))))), (fp_of (ck_83) (cx_83) (cb_83)).trans ((if_neg (by decide)).trans ((if_pos (by decide)).trans ((if_neg (by decide)).trans ((if_neg (by decide)).trans ((if_neg (by decide)).trans ((if_pos (by decide)))))))), by omega, by omega, by omega⟩
theorem a_84 {H : Int} {Q : Int} {L : Int} {i : Int} (i0 : 0 ≤ i) (i1 : i < 240) : At H Q L (1318) i 45 (i) := ⟨(lv_of (ck_84) (cx_84) (cb_84)).trans ((if_neg (by decide)).trans ((if_pos (by decide)).trans ((if_neg (by decide)).trans ((if_neg (by decide)).trans ((if_pos (by decide)).trans ((if_pos (by decide)).trans (((if_pos (by omega)))))))))), (lj_of (ck_84) (cx_84)).trans ((if_neg (by decide)).trans ((if_pos (by decide)).trans ((if_pos (by decide)).trans ((if_neg (by decide)).trans ((if_neg (by decide)).trans ((if_neg (by decide)).trans ((if_pos (by omega))))))))), (fp_of (ck_84) (cx_84) (cb_84)).trans ((if_neg (by decide)).trans ((if_pos (by decide)).trans ((if_neg (by decide)).trans ((if_neg (by decide)).trans ((if_neg (by decide)).trans ((if_pos (by decide)))))))), by omega, by omega, by omega⟩
theorem a_85 {H : Int} {Q : Int} {L : Int} {i : Int} (i0 : 0 ≤ i) (i1 : i < 240) : At H Q L (1319) i 43 (i) := ⟨(lv_of (ck_85) (cx_85) (cb_85)).trans ((if_neg (by decide)).trans ((if_pos (by decide)).trans ((if_neg (by decide)).trans ((if_neg (by decide)).trans ((if_pos (by decide)).trans ((if_neg (by decide)).trans ((if_pos (by decide)).trans (((if_pos (by omega))))))))))), (lj_of (ck_85) (cx_85)).trans ((if_neg (by decide)).trans ((if_pos (by decide)).trans ((if_neg (by decide)).trans ((if_pos (by decide)).trans ((if_pos (by decide)).trans ((if_pos (by decide)).trans ((if_pos (by omega))))))))), (fp_of (ck_85) (cx_85) (cb_85)).trans ((if_neg (by decide)).trans ((if_pos (by decide)).trans ((if_neg (by decide)).trans ((if_neg (by decide)).trans ((if_neg (by decide)).trans ((if_pos (by decide)))))))), by omega, by omega, by omega⟩
theorem a_86 {H : Int} {Q : Int} {L : Int} {i : Int} (i0 : 0 ≤ i) (i1 : i < 240) : At H Q L (1320) i 44 (i) := ⟨(lv_of (ck_86) (cx_86) (cb_86)).trans ((if_neg (by decide)).trans ((if_pos (by decide)).trans ((if_neg (by decide)).trans ((if_neg (by decide)).trans ((if_pos (by decide)).trans ((if_neg (by decide)).trans ((if_neg (by decide)).trans (((if_pos (by omega))))))))))), (lj_of (ck_86) (cx_86)).trans ((if_neg (by decide)).trans ((if_pos (by decide)).trans ((if_neg (by decide)).trans ((if_pos (by decide)).trans ((if_pos (by decide)).trans ((if_neg (by decide)).trans ((if_pos (by omega))))))))), (fp_of (ck_86) (cx_86) (cb_86)).trans ((if_neg (by decide)).trans ((if_pos (by decide)).trans ((if_neg (by decide)).trans ((if_neg (by decide)).trans ((if_neg (by decide)).trans ((if_pos (by decide)))))))), by omega, by omega, by omega⟩
theorem a_89 {H : Int} {Q : Int} {L : Int} {i : Int} (i0 : 0 ≤ i) (i1 : i < 16) : At H Q L (1323) i 37 (i) := ⟨(lv_of (ck_89) (cx_89) (cb_89)).trans ((if_neg (by decide)).trans ((if_pos (by decide)).trans ((if_neg (by decide)).trans ((if_neg (by decide)).trans ((if_neg (by decide)).trans ((if_neg (by decide)).trans ((if_pos (by decide)).trans (((if_pos (by omega))))))))))), (lj_of (ck_89) (cx_89)).trans ((if_neg (by decide)).trans ((if_pos (by decide)).trans ((if_neg (by decide)).trans ((if_pos (by decide)).trans ((if_neg (by decide)).trans ((if_neg (by decide)).trans ((if_pos (by omega))))))))), (fp_of (ck_89) (cx_89) (cb_89)).trans ((if_neg (by decide)).trans ((if_pos (by decide)).trans ((if_neg (by decide)).trans ((if_neg (by decide)).trans ((if_neg (by decide)).trans ((if_neg (by decide)).trans ((if_neg (by decide))))))))), by omega, by omega, by omega⟩
theorem a_90 {H : Int} {Q : Int} {L : Int} {i : Int} (i0 : 0 ≤ i) (i1 : i < 10) : At H Q L (1324) i 69 (i) := ⟨(lv_of (ck_90) (cx_90) (cb_90)).trans ((if_neg (by decide)).trans ((if_pos (by decide)).trans ((if_neg (by decide)).trans ((if_neg (by decide)).trans ((if_neg (by decide)).trans ((if_neg (by decide)).trans ((if_neg (by decide)).trans (((if_pos (by omega))))))))))), (lj_of (ck_90) (cx_90)).trans ((if_neg (by decide)).trans ((if_pos (by decide)).trans ((if_neg (by decide)).trans ((if_neg (by decide)).trans ((if_pos (by decide)).trans ((if_pos (by decide)).trans ((if_pos (by omega))))))))), (fp_of (ck_90) (cx_90) (cb_90)).trans ((if_neg (by decide)).trans ((if_pos (by decide)).trans ((if_neg (by decide)).trans ((if_neg (by decide)).trans ((if_neg (by decide)).trans ((if_neg (by decide)).trans ((if_neg (by decide))))))))), by omega, by omega, by omega⟩
theorem a_91 {H : Int} {Q : Int} {L : Int} {i : Int} (i0 : 0 ≤ i) (i1 : i < 10) : At H Q L (1325) i 70 (i) := ⟨(lv_of (ck_91) (cx_91) (cb_91)).trans ((if_neg (by decide)).trans ((if_neg (by decide)).trans ((if_pos (by decide)).trans ((if_pos (by decide)).trans ((if_pos (by decide)).trans ((if_pos (by decide)).trans (((if_pos (by omega)))))))))), (lj_of (ck_91) (cx_91)).trans ((if_neg (by decide)).trans ((if_pos (by decide)).trans ((if_neg (by decide)).trans ((if_neg (by decide)).trans ((if_pos (by decide)).trans ((if_neg (by decide)).trans ((if_pos (by omega))))))))), (fp_of (ck_91) (cx_91) (cb_91)).trans ((if_neg (by decide)).trans ((if_pos (by decide)).trans ((if_neg (by decide)).trans ((if_neg (by decide)).trans ((if_neg (by decide)).trans ((if_neg (by decide)).trans ((if_neg (by decide))))))))), by omega, by omega, by omega⟩
theorem a_92 {H : Int} {Q : Int} {L : Int} {i : Int} (i0 : 0 ≤ i) (i1 : i < 18) : At H Q L (1326) i 71 (i) := ⟨(lv_of (ck_92) (cx_92) (cb_92)).trans ((if_neg (by decide)).trans ((if_neg (by decide)).trans ((if_pos (by decide)).trans ((if_pos (by decide)).trans ((if_pos (by decide)).trans ((if_neg (by decide)).trans (((if_pos (by omega)))))))))), (lj_of (ck_92) (cx_92)).trans ((if_neg (by decide)).trans ((if_pos (by decide)).trans ((if_neg (by decide)).trans ((if_neg (by decide)).trans ((if_neg (by decide)).trans ((if_pos (by decide)).trans ((if_pos (by omega))))))))), (fp_of (ck_92) (cx_92) (cb_92)).trans ((if_neg (by decide)).trans ((if_pos (by decide)).trans ((if_neg (by decide)).trans ((if_neg (by decide)).trans ((if_neg (by decide)).trans ((if_neg (by decide)).trans ((if_neg (by decide))))))))), by omega, by omega, by omega⟩
theorem a_94 {H : Int} {Q : Int} {L : Int} {i : Int} (i0 : 0 ≤ i) (i1 : i < 32) : At H Q L (1328) i 73 (i) := ⟨(lv_of (ck_94) (cx_94) (cb_94)).trans ((if_neg (by decide)).trans ((if_neg (by decide)).trans ((if_pos (by decide)).trans ((if_pos (by decide)).trans ((if_neg (by decide)).trans ((if_neg (by decide)).trans ((if_pos (by decide)).trans (((if_pos (by omega))))))))))), (lj_of (ck_94) (cx_94)).trans ((if_neg (by decide)).trans ((if_neg (by decide)).trans ((if_pos (by decide)).trans ((if_pos (by decide)).trans ((if_pos (by decide)).trans ((if_pos (by decide)).trans ((if_pos (by omega))))))))), (fp_of (ck_94) (cx_94) (cb_94)).trans ((if_neg (by decide)).trans ((if_pos (by decide)).trans ((if_neg (by decide)).trans ((if_neg (by decide)).trans ((if_neg (by decide)).trans ((if_neg (by decide)).trans ((if_neg (by decide))))))))), by omega, by omega, by omega⟩
theorem a_95 {H : Int} {Q : Int} {L : Int} {i : Int} (i0 : 0 ≤ i) (i1 : i < 32) : At H Q L (1329) i 74 (i) := ⟨(lv_of (ck_95) (cx_95) (cb_95)).trans ((if_neg (by decide)).trans ((if_neg (by decide)).trans ((if_pos (by decide)).trans ((if_pos (by decide)).trans ((if_neg (by decide)).trans ((if_neg (by decide)).trans ((if_neg (by decide)).trans (((if_pos (by omega))))))))))), (lj_of (ck_95) (cx_95)).trans ((if_neg (by decide)).trans ((if_neg (by decide)).trans ((if_pos (by decide)).trans ((if_pos (by decide)).trans ((if_pos (by decide)).trans ((if_neg (by decide)).trans ((if_pos (by omega))))))))), (fp_of (ck_95) (cx_95) (cb_95)).trans ((if_neg (by decide)).trans ((if_pos (by decide)).trans ((if_neg (by decide)).trans ((if_neg (by decide)).trans ((if_neg (by decide)).trans ((if_neg (by decide)).trans ((if_neg (by decide))))))))), by omega, by omega, by omega⟩
theorem a_96_113 {H : Int} {Q : Int} {L : Int} {i : Int} (i0 : 0 ≤ i) (i1 : i < 256) (i2 : i % 4 = 0) : At H Q L (1330) i 113 (i / 4) := ⟨(lv_of (ck_96) (cx_96) (cb_96)).trans ((if_neg (by decide)).trans ((if_neg (by decide)).trans ((if_pos (by decide)).trans ((if_neg (by decide)).trans ((if_pos (by decide)).trans ((if_pos (by decide)).trans (((if_pos (by omega)))))))))), (lj_of (ck_96) (cx_96)).trans ((if_neg (by decide)).trans ((if_neg (by decide)).trans ((if_pos (by decide)).trans ((if_pos (by decide)).trans ((if_neg (by decide)).trans ((if_pos (by decide)).trans ((if_pos (by omega))))))))), (fp_of (ck_96) (cx_96) (cb_96)).trans ((if_neg (by decide)).trans ((if_pos (by decide)).trans ((if_neg (by decide)).trans ((if_neg (by decide)).trans ((if_neg (by decide)).trans ((if_neg (by decide)).trans ((if_neg (by decide))))))))), by omega, by omega, by omega⟩
theorem a_96_114 {H : Int} {Q : Int} {L : Int} {i : Int} (i0 : 0 ≤ i) (i1 : i < 256) (i2 : i % 4 = 1) : At H Q L (1330) i 114 (i / 4) := ⟨(lv_of (ck_96) (cx_96) (cb_96)).trans ((if_neg (by decide)).trans ((if_neg (by decide)).trans ((if_pos (by decide)).trans ((if_neg (by decide)).trans ((if_pos (by decide)).trans ((if_pos (by decide)).trans (((if_neg (by omega)).trans ((if_pos (by omega))))))))))), (lj_of (ck_96) (cx_96)).trans ((if_neg (by decide)).trans ((if_neg (by decide)).trans ((if_pos (by decide)).trans ((if_pos (by decide)).trans ((if_neg (by decide)).trans ((if_pos (by decide)).trans ((if_neg (by omega)).trans ((if_pos (by omega)))))))))), (fp_of (ck_96) (cx_96) (cb_96)).trans ((if_neg (by decide)).trans ((if_pos (by decide)).trans ((if_neg (by decide)).trans ((if_neg (by decide)).trans ((if_neg (by decide)).trans ((if_neg (by decide)).trans ((if_neg (by decide))))))))), by omega, by omega, by omega⟩
theorem a_96_115 {H : Int} {Q : Int} {L : Int} {i : Int} (i0 : 0 ≤ i) (i1 : i < 256) (i2 : i % 4 = 2) : At H Q L (1330) i 115 (i / 4) := ⟨(lv_of (ck_96) (cx_96) (cb_96)).trans ((if_neg (by decide)).trans ((if_neg (by decide)).trans ((if_pos (by decide)).trans ((if_neg (by decide)).trans ((if_pos (by decide)).trans ((if_pos (by decide)).trans (((if_neg (by omega)).trans ((if_neg (by omega)).trans ((if_pos (by omega)))))))))))), (lj_of (ck_96) (cx_96)).trans ((if_neg (by decide)).trans ((if_neg (by decide)).trans ((if_pos (by decide)).trans ((if_pos (by decide)).trans ((if_neg (by decide)).trans ((if_pos (by decide)).trans ((if_neg (by omega)).trans ((if_neg (by omega)).trans ((if_pos (by omega))))))))))), (fp_of (ck_96) (cx_96) (cb_96)).trans ((if_neg (by decide)).trans ((if_pos (by decide)).trans ((if_neg (by decide)).trans ((if_neg (by decide)).trans ((if_neg (by decide)).trans ((if_neg (by decide)).trans ((if_neg (by decide))))))))), by omega, by omega, by omega⟩
theorem a_96_116 {H : Int} {Q : Int} {L : Int} {i : Int} (i0 : 0 ≤ i) (i1 : i < 256) (i2 : i % 4 = 3) : At H Q L (1330) i 116 (i / 4) := ⟨(lv_of (ck_96) (cx_96) (cb_96)).trans ((if_neg (by decide)).trans ((if_neg (by decide)).trans ((if_pos (by decide)).trans ((if_neg (by decide)).trans ((if_pos (by decide)).trans ((if_pos (by decide)).trans (((if_neg (by omega)).trans ((if_neg (by omega)).trans ((if_neg (by omega)).trans ((if_pos (by omega))))))))))))), (lj_of (ck_96) (cx_96)).trans ((if_neg (by decide)).trans ((if_neg (by decide)).trans ((if_pos (by decide)).trans ((if_pos (by decide)).trans ((if_neg (by decide)).trans ((if_pos (by decide)).trans ((if_neg (by omega)).trans ((if_neg (by omega)).trans ((if_neg (by omega)).trans ((if_pos (by omega)))))))))))), (fp_of (ck_96) (cx_96) (cb_96)).trans ((if_neg (by decide)).trans ((if_pos (by decide)).trans ((if_neg (by decide)).trans ((if_neg (by decide)).trans ((if_neg (by decide)).trans ((if_neg (by decide)).trans ((if_neg (by decide))))))))), by omega, by omega, by omega⟩
theorem a_101 {H : Int} {Q : Int} {L : Int} {i : Int} (i0 : 0 ≤ i) (i1 : i < 196) : At H Q L (1337) i 24 (i) := ⟨(lv_of (ck_101) (cx_101) (cb_101)).trans ((if_neg (by decide)).trans ((if_neg (by decide)).trans ((if_pos (by decide)).trans ((if_neg (by decide)).trans ((if_neg (by decide)).trans ((if_neg (by decide)).trans ((if_neg (by decide)).trans (((if_pos (by omega))))))))))), (lj_of (ck_101) (cx_101)).trans ((if_neg (by decide)).trans ((if_neg (by decide)).trans ((if_pos (by decide)).trans ((if_neg (by decide)).trans ((if_pos (by decide)).trans ((if_pos (by decide)).trans ((if_pos (by omega))))))))), (fp_of (ck_101) (cx_101) (cb_101)).trans ((if_neg (by decide)).trans ((if_neg (by decide)).trans ((if_pos (by decide)).trans ((if_pos (by decide)).trans ((if_neg (by decide)).trans ((if_pos (by decide)))))))), by omega, by omega, by omega⟩
theorem a_102 {H : Int} {Q : Int} {L : Int} : At H Q L (1338) 1 141 (0) := ⟨(lv_of (ck_102) (cx_102) (cb_102)).trans ((if_neg (by decide)).trans ((if_neg (by decide)).trans ((if_neg (by decide)).trans ((if_pos (by decide)).trans ((if_pos (by decide)).trans ((if_pos (by decide)).trans (((if_pos (by omega)))))))))), (lj_of (ck_102) (cx_102)).trans ((if_neg (by decide)).trans ((if_neg (by decide)).trans ((if_pos (by decide)).trans ((if_neg (by decide)).trans ((if_pos (by decide)).trans ((if_neg (by decide)).trans ((if_pos (by omega))))))))), (fp_of (ck_102) (cx_102) (cb_102)).trans ((if_neg (by decide)).trans ((if_neg (by decide)).trans ((if_pos (by decide)).trans ((if_pos (by decide)).trans ((if_neg (by decide)).trans ((if_neg (by decide)).trans ((if_neg (by omega))))))))), by omega, by omega, by omega⟩
theorem a_103 {H : Int} {Q : Int} {L : Int} {i : Int} (i0 : 0 ≤ i) (i1 : i < 4100) : At H Q L (1339) i 140 (i) := ⟨(lv_of (ck_103) (cx_103) (cb_103)).trans ((if_neg (by decide)).trans ((if_neg (by decide)).trans ((if_neg (by decide)).trans ((if_pos (by decide)).trans ((if_pos (by decide)).trans ((if_neg (by decide)).trans (((if_pos (by omega)))))))))), (lj_of (ck_103) (cx_103)).trans ((if_neg (by decide)).trans ((if_neg (by decide)).trans ((if_pos (by decide)).trans ((if_neg (by decide)).trans ((if_neg (by decide)).trans ((if_pos (by decide)).trans ((if_pos (by omega))))))))), (fp_of (ck_103) (cx_103) (cb_103)).trans ((if_neg (by decide)).trans ((if_neg (by decide)).trans ((if_pos (by decide)).trans ((if_neg (by decide)).trans ((if_pos (by decide)).trans ((if_pos (by decide)))))))), by omega, by omega, by omega⟩
theorem a_104 {H : Int} {Q : Int} {L : Int} : At H Q L (1340) 1 143 (0) := ⟨(lv_of (ck_104) (cx_104) (cb_104)).trans ((if_neg (by decide)).trans ((if_neg (by decide)).trans ((if_neg (by decide)).trans ((if_pos (by decide)).trans ((if_neg (by decide)).trans ((if_pos (by decide)).trans (((if_pos (by omega)))))))))), (lj_of (ck_104) (cx_104)).trans ((if_neg (by decide)).trans ((if_neg (by decide)).trans ((if_pos (by decide)).trans ((if_neg (by decide)).trans ((if_neg (by decide)).trans ((if_neg (by decide)).trans ((if_pos (by omega))))))))), (fp_of (ck_104) (cx_104) (cb_104)).trans ((if_neg (by decide)).trans ((if_neg (by decide)).trans ((if_pos (by decide)).trans ((if_neg (by decide)).trans ((if_pos (by decide)).trans ((if_neg (by decide)).trans ((if_neg (by omega))))))))), by omega, by omega, by omega⟩
theorem a_105 {H : Int} {Q : Int} {L : Int} {i : Int} (i0 : 0 ≤ i) (i1 : i < 4100) : At H Q L (1341) i 142 (i) := ⟨(lv_of (ck_105) (cx_105) (cb_105)).trans ((if_neg (by decide)).trans ((if_neg (by decide)).trans ((if_neg (by decide)).trans ((if_pos (by decide)).trans ((if_neg (by decide)).trans ((if_neg (by decide)).trans ((if_pos (by decide)).trans (((if_pos (by omega))))))))))), (lj_of (ck_105) (cx_105)).trans ((if_neg (by decide)).trans ((if_neg (by decide)).trans ((if_neg (by decide)).trans ((if_pos (by decide)).trans ((if_pos (by decide)).trans ((if_pos (by decide)).trans ((if_pos (by omega))))))))), (fp_of (ck_105) (cx_105) (cb_105)).trans ((if_neg (by decide)).trans ((if_neg (by decide)).trans ((if_pos (by decide)).trans ((if_neg (by decide)).trans ((if_neg (by decide)).trans ((if_pos (by decide)))))))), by omega, by omega, by omega⟩
theorem a_110 {H : Int} {Q : Int} {L : Int} {x s : Int} {i : Int} (h0 : 0 ≤ x) (h1 : x < 3) (h2 : 0 ≤ s) (h3 : s < 5) (i0 : 0 ≤ i) (i1 : i < 110) : At H Q L (1346 + 15 * x + s) i 3 (550 + 110 * (5 * x + s) + i) := ⟨(lv_of (ck_110 h0 h1 h2 h3) (cx_110 h0 h1 h2 h3) (cb_110 h0 h1 h2 h3)).trans ((if_neg (by decide)).trans ((if_neg (by decide)).trans ((if_neg (by decide)).trans ((if_neg (by decide)).trans ((if_pos (by decide)).trans ((if_pos (by decide)).trans (((if_pos (by omega)))))))))), (lj_of (ck_110 h0 h1 h2 h3) (cx_110 h0 h1 h2 h3)).trans ((if_neg (by decide)).trans ((if_neg (by decide)).trans ((if_neg (by decide)).trans ((if_pos (by decide)).trans ((if_neg (by decide)).trans ((if_pos (by decide)).trans ((if_pos (by omega))))))))), (fp_of (ck_110 h0 h1 h2 h3) (cx_110 h0 h1 h2 h3) (cb_110 h0 h1 h2 h3)).trans ((if_neg (by decide)).trans ((if_neg (by decide)).trans ((if_neg (by decide)).trans ((if_pos (by decide)).trans ((if_neg (by decide)).trans ((if_neg (by decide)))))))), by omega, by omega, by omega⟩
theorem a_113 {H : Int} {Q : Int} {L : Int} {x s : Int} {i : Int} (h0 : 0 ≤ x) (h1 : x < 3) (h2 : 0 ≤ s) (h3 : s < 5) (i0 : 0 ≤ i) (i1 : i < 110) : At H Q L (1353 + 15 * x + s) i 3 (2200 + 110 * (5 * x + s) + i) := ⟨(lv_of (ck_113 h0 h1 h2 h3) (cx_113 h0 h1 h2 h3) (cb_113 h0 h1 h2 h3)).trans ((if_neg (by decide)).trans ((if_neg (by decide)).trans ((if_neg (by decide)).trans ((if_neg (by decide)).trans ((if_pos (by decide)).trans ((if_neg (by decide)).trans ((if_neg (by decide)).trans (((if_pos (by omega))))))))))), (lj_of (ck_113 h0 h1 h2 h3) (cx_113 h0 h1 h2 h3)).trans ((if_neg (by decide)).trans ((if_neg (by decide)).trans ((if_neg (by decide)).trans ((if_neg (by decide)).trans ((if_pos (by decide)).trans ((if_pos (by decide)).trans ((if_pos (by omega))))))))), (fp_of (ck_113 h0 h1 h2 h3) (cx_113 h0 h1 h2 h3) (cb_113 h0 h1 h2 h3)).trans ((if_neg (by decide)).trans ((if_neg (by decide)).trans ((if_neg (by decide)).trans ((if_neg (by decide)).trans ((if_neg (by decide)).trans ((if_pos (by decide)))))))), by omega, by omega, by omega⟩
theorem a_115_56 {H : Int} {Q : Int} {L : Int} {x : Int} (h0 : 0 ≤ x) (h1 : x < 11) : At H Q L (1389 + x) 0 56 (x) := ⟨(lv_of (ck_115 h0 h1) (cx_115 h0 h1) (cb_115 h0 h1)).trans ((if_neg (by decide)).trans ((if_neg (by decide)).trans ((if_neg (by decide)).trans ((if_neg (by decide)).trans ((if_neg (by decide)).trans ((if_neg (by decide)).trans ((if_pos (by decide)).trans (((if_pos (by omega))))))))))), (lj_of (ck_115 h0 h1) (cx_115 h0 h1)).trans ((if_neg (by decide)).trans ((if_neg (by decide)).trans ((if_neg (by decide)).trans ((if_neg (by decide)).trans ((if_neg (by decide)).trans ((if_pos (by decide)).trans ((if_pos (by omega))))))))), (fp_of (ck_115 h0 h1) (cx_115 h0 h1) (cb_115 h0 h1)).trans ((if_neg (by decide)).trans ((if_neg (by decide)).trans ((if_neg (by decide)).trans ((if_neg (by decide)).trans ((if_neg (by decide)).trans ((if_pos (by decide)))))))), by omega, by omega, by omega⟩
theorem a_115_58 {H : Int} {Q : Int} {L : Int} {x : Int} (h0 : 0 ≤ x) (h1 : x < 11) : At H Q L (1389 + x) 1 58 (x) := ⟨(lv_of (ck_115 h0 h1) (cx_115 h0 h1) (cb_115 h0 h1)).trans ((if_neg (by decide)).trans ((if_neg (by decide)).trans ((if_neg (by decide)).trans ((if_neg (by decide)).trans ((if_neg (by decide)).trans ((if_neg (by decide)).trans ((if_pos (by decide)).trans (((if_neg (by omega)).trans ((if_pos (by omega)))))))))))), (lj_of (ck_115 h0 h1) (cx_115 h0 h1)).trans ((if_neg (by decide)).trans ((if_neg (by decide)).trans ((if_neg (by decide)).trans ((if_neg (by decide)).trans ((if_neg (by decide)).trans ((if_pos (by decide)).trans ((if_neg (by omega)).trans ((if_pos (by omega)))))))))), (fp_of (ck_115 h0 h1) (cx_115 h0 h1) (cb_115 h0 h1)).trans ((if_neg (by decide)).trans ((if_neg (by decide)).trans ((if_neg (by decide)).trans ((if_neg (by decide)).trans ((if_neg (by decide)).trans ((if_pos (by decide)))))))), by omega, by omega, by omega⟩
theorem a_115_59 {H : Int} {Q : Int} {L : Int} {x : Int} (h0 : 0 ≤ x) (h1 : x < 11) : At H Q L (1389 + x) 2 59 (x) := ⟨(lv_of (ck_115 h0 h1) (cx_115 h0 h1) (cb_115 h0 h1)).trans ((if_neg (by decide)).trans ((if_neg (by decide)).trans ((if_neg (by decide)).trans ((if_neg (by decide)).trans ((if_neg (by decide)).trans ((if_neg (by decide)).trans ((if_pos (by decide)).trans (((if_neg (by omega)).trans ((if_neg (by omega)).trans ((if_pos (by omega))))))))))))), (lj_of (ck_115 h0 h1) (cx_115 h0 h1)).trans ((if_neg (by decide)).trans ((if_neg (by decide)).trans ((if_neg (by decide)).trans ((if_neg (by decide)).trans ((if_neg (by decide)).trans ((if_pos (by decide)).trans ((if_neg (by omega)).trans ((if_neg (by omega)).trans ((if_pos (by omega))))))))))), (fp_of (ck_115 h0 h1) (cx_115 h0 h1) (cb_115 h0 h1)).trans ((if_neg (by decide)).trans ((if_neg (by decide)).trans ((if_neg (by decide)).trans ((if_neg (by decide)).trans ((if_neg (by decide)).trans ((if_pos (by decide)))))))), by omega, by omega, by omega⟩
theorem a_115_57 {H : Int} {Q : Int} {L : Int} {x : Int} (h0 : 0 ≤ x) (h1 : x < 11) : At H Q L (1389 + x) 3 57 (x) := ⟨(lv_of (ck_115 h0 h1) (cx_115 h0 h1) (cb_115 h0 h1)).trans ((if_neg (by decide)).trans ((if_neg (by decide)).trans ((if_neg (by decide)).trans ((if_neg (by decide)).trans ((if_neg (by decide)).trans ((if_neg (by decide)).trans ((if_pos (by decide)).trans (((if_neg (by omega)).trans ((if_neg (by omega)).trans ((if_neg (by omega)).trans ((if_pos (by omega)))))))))))))), (lj_of (ck_115 h0 h1) (cx_115 h0 h1)).trans ((if_neg (by decide)).trans ((if_neg (by decide)).trans ((if_neg (by decide)).trans ((if_neg (by decide)).trans ((if_neg (by decide)).trans ((if_pos (by decide)).trans ((if_neg (by omega)).trans ((if_neg (by omega)).trans ((if_neg (by omega)).trans ((if_pos (by omega)))))))))))), (fp_of (ck_115 h0 h1) (cx_115 h0 h1) (cb_115 h0 h1)).trans ((if_neg (by decide)).trans ((if_neg (by decide)).trans ((if_neg (by decide)).trans ((if_neg (by decide)).trans ((if_neg (by decide)).trans ((if_pos (by decide)))))))), by omega, by omega, by omega⟩
theorem a_115_60 {H : Int} {Q : Int} {L : Int} {x : Int} (h0 : 0 ≤ x) (h1 : x < 11) : At H Q L (1389 + x) 4 60 (x) := ⟨(lv_of (ck_115 h0 h1) (cx_115 h0 h1) (cb_115 h0 h1)).trans ((if_neg (by decide)).trans ((if_neg (by decide)).trans ((if_neg (by decide)).trans ((if_neg (by decide)).trans ((if_neg (by decide)).trans ((if_neg (by decide)).trans ((if_pos (by decide)).trans (((if_neg (by omega)).trans ((if_neg (by omega)).trans ((if_neg (by omega)).trans ((if_neg (by omega)).trans ((if_pos (by omega))))))))))))))), (lj_of (ck_115 h0 h1) (cx_115 h0 h1)).trans ((if_neg (by decide)).trans ((if_neg (by decide)).trans ((if_neg (by decide)).trans ((if_neg (by decide)).trans ((if_neg (by decide)).trans ((if_pos (by decide)).trans ((if_neg (by omega)).trans ((if_neg (by omega)).trans ((if_neg (by omega)).trans ((if_neg (by omega)).trans ((if_pos (by omega))))))))))))), (fp_of (ck_115 h0 h1) (cx_115 h0 h1) (cb_115 h0 h1)).trans ((if_neg (by decide)).trans ((if_neg (by decide)).trans ((if_neg (by decide)).trans ((if_neg (by decide)).trans ((if_neg (by decide)).trans ((if_pos (by decide)))))))), by omega, by omega, by omega⟩
theorem lt_eq {a b c : Int} (h : a < b) (e : c = b) : a < c := by rw [e]; exact h
/-- how many places a variable has in the component; where they lie -/
def dm (v : Int) : Int := (if v < 74 then (if v < 43 then (if v < 21 then (if v < 6 then (if v < 3 then (if v < 1 then 0 else (if v < 2 then 1 else 1)) else (if v < 4 then 3850 else (if v < 5 then 1 else 240))) else (if v < 18 then (if v < 16 then 0 else (if v < 17 then 240 else 24)) else (if v < 19 then 96 else (if v < 20 then 11 else 11)))) else (if v < 27 then (if v < 24 then (if v < 22 then 1 else (if v < 23 then 3 else 3)) else (if v < 25 then 196 else (if v < 26 then 1 else 196))) else (if v < 38 then (if v < 28 then 1 else (if v < 37 then 0 else 16)) else (if v < 41 then (if v < 40 then 0 else 240) else (if v < 42 then 240 else 240))))) else (if v < 61 then (if v < 54 then (if v < 46 then (if v < 44 then 240 else (if v < 45 then 240 else 240)) else (if v < 52 then 0 else (if v < 53 then 1 else 1))) else (if v < 57 then (if v < 55 then 1 else (if v < 56 then 1 else 11)) else (if v < 59 then (if v < 58 then 11 else 11) else (if v < 60 then 11 else 11)))) else (if v < 67 then (if v < 64 then (if v < 62 then 1 else (if v < 63 then 1 else 1)) else (if v < 65 then 1 else (if v < 66 then 1 else 1))) else (if v < 70 then (if v < 68 then 1 else (if v < 69 then 1 else 10)) else (if v < 72 then (if v < 71 then 10 else 18) else (if v < 73 then 1 else 32)))))) else (if v < 116 then (if v < 103 then (if v < 80 then (if v < 77 then (if v < 75 then 32 else (if v < 76 then 8 else 8)) else (if v < 78 then 8 else (if v < 79 then 8 else 384))) else (if v < 100 then (if v < 87 then 0 else (if v < 88 then 1 else 0)) else (if v < 101 then 3 else (if v < 102 then 3 else 3)))) else (if v < 109 then (if v < 106 then (if v < 104 then 20 else (if v < 105 then 20 else 20)) else (if v < 107 then 40 else (if v < 108 then 40 else 40))) else (if v < 112 then (if v < 110 then 40 else (if v < 111 then 40 else 40)) else (if v < 114 then (if v < 113 then 1 else 64) else (if v < 115 then 64 else 64))))) else (if v < 131 then (if v < 122 then (if v < 119 then (if v < 117 then 64 else (if v < 118 then 10 else 11)) else (if v < 120 then 10 else (if v < 121 then 10 else 10))) else (if v < 125 then (if v < 123 then 1 else (if v < 124 then 1 else 1)) else (if v < 129 then (if v < 126 then 1 else 0) else (if v < 130 then 19200 else 135)))) else (if v < 137 then (if v < 134 then (if v < 132 then 3780 else (if v < 133 then 0 else 1)) else (if v < 135 then 1 else (if v < 136 then 1 else 1))) else (if v < 141 then (if v < 138 then 1 else (if v < 140 then 0 else 4100)) else (if v < 143 then (if v < 142 then 1 else 4100) else (if v < 144 then 1 else 0)))))))
def ca (H Q v j : Int) : Int := (if v < 74 then (if v < 43 then (if v < 21 then (if v < 6 then (if v < 3 then (if v < 1 then 0 else (if v < 2 then 64 else H)) else (if v < 4 then (if j < 550 then H + (3 + (j / 110)) else (if j < 2200 then 1346 + 15 * (((j - 550) / 110) / 5) + ((j - 550) / 110) % 5 else 1353 + 15 * (((j - 2200) / 110) / 5) + ((j - 2200) / 110) % 5)) else (if v < 5 then 1314 else H + (9 + (j / 48))))) else (if v < 18 then (if v < 16 then 0 else (if v < 17 then H + (15 + (j / 24)) else H + 25)) else (if v < 19 then H + (27 + (j / 24)) else (if v < 20 then H + 32 else H + 33)))) else (if v < 27 then (if v < 24 then (if v < 22 then H else (if v < 23 then H + 35 else H + (61 + j))) else (if v < 25 then 1337 else (if v < 26 then 1314 else H + 31))) else (if v < 38 then (if v < 28 then H else (if v < 37 then 0 else 1323)) else (if v < 41 then (if v < 40 then 0 else 1315) else (if v < 42 then 1316 else 1317))))) else (if v < 61 then (if v < 54 then (if v < 46 then (if v < 44 then 1319 else (if v < 45 then 1320 else 1318)) else (if v < 52 then 0 else (if v < 53 then 1314 else 1314))) else (if v < 57 then (if v < 55 then 1314 else (if v < 56 then 1314 else 1389 + j)) else (if v < 59 then (if v < 58 then 1389 + j else 1389 + j) else (if v < 60 then 1389 + j else 1389 + j)))) else (if v < 67 then (if v < 64 then (if v < 62 then 1314 else (if v < 63 then 1314 else 1314)) else (if v < 65 then 1314 else (if v < 66 then 1314 else 1314))) else (if v < 70 then (if v < 68 then 1314 else (if v < 69 then 1314 else 1324)) else (if v < 72 then (if v < 71 then 1325 else 1326) else (if v < 73 then 1314 else 1328)))))) else (if v < 116 then (if v < 103 then (if v < 80 then (if v < 77 then (if v < 75 then 1329 else (if v < 76 then H + (124 + 2 * j) else H + (124 + 2 * j))) else (if v < 78 then H + (124 + 2 * j) else (if v < 79 then H + (124 + 2 * j) else H + (125 + 2 * (j / 48))))) else (if v < 100 then (if v < 87 then 0 else (if v < 88 then 1314 else 0)) else (if v < 101 then H + (61 + j) else (if v < 102 then H + (61 + j) else H + (61 + j))))) else (if v < 109 then (if v < 106 then (if v < 104 then H + (64 + j) else (if v < 105 then H + (64 + j) else H + (64 + j))) else (if v < 107 then H + (84 + j) else (if v < 108 then H + (84 + j) else H + (84 + j)))) else (if v < 112 then (if v < 110 then H + (84 + j) else (if v < 111 then H + (84 + j) else H + (84 + j))) else (if v < 114 then (if v < 113 then 1314 else 1330) else (if v < 115 then 1330 else 1330))))) else (if v < 131 then (if v < 122 then (if v < 119 then (if v < 117 then 1330 else (if v < 118 then H + (42 + 2 * j) else (if j < 10 then H + (42 + 2 * j) else H))) else (if v < 120 then H + (42 + 2 * j) else (if v < 121 then H + (41 + 2 * j) else H + (41 + 2 * j)))) else (if v < 125 then (if v < 123 then H else (if v < 124 then H else H)) else (if v < 129 then (if v < 126 then H else 0) else (if v < 130 then 73 + 201 * ((j / 48) / 200) + (j / 48) % 200 else Q + 1)))) else (if v < 137 then (if v < 134 then (if v < 132 then Q + (3 + (j / 28)) else (if v < 133 then 0 else 70)) else (if v < 135 then 70 else (if v < 136 then 70 else 70))) else (if v < 141 then (if v < 138 then 70 else (if v < 140 then 0 else 1339)) else (if v < 143 then (if v < 142 then 1338 else 1341) else (if v < 144 then 1340 else 0)))))))
def ci (v j : Int) : Int := (if v < 74 then (if v < 43 then (if v < 21 then (if v < 6 then (if v < 3 then (if v < 1 then 0 else (if v < 2 then 0 else 12)) else (if v < 4 then (if j < 550 then j % 110 else (if j < 2200 then (j - 550) % 110 else (j - 2200) % 110)) else (if v < 5 then 39 else j % 48))) else (if v < 18 then (if v < 16 then 0 else (if v < 17 then j % 24 else j)) else (if v < 19 then j % 24 else (if v < 20 then j else j)))) else (if v < 27 then (if v < 24 then (if v < 22 then 17 else (if v < 23 then j else 0)) else (if v < 25 then j else (if v < 26 then 33 else j))) else (if v < 38 then (if v < 28 then 6 else (if v < 37 then 0 else j)) else (if v < 41 then (if v < 40 then 0 else j) else (if v < 42 then j else j))))) else (if v < 61 then (if v < 54 then (if v < 46 then (if v < 44 then j else (if v < 45 then j else j)) else (if v < 52 then 0 else (if v < 53 then 9 else 11))) else (if v < 57 then (if v < 55 then 10 else (if v < 56 then 12 else 0)) else (if v < 59 then (if v < 58 then 3 else 1) else (if v < 60 then 2 else 4)))) else (if v < 67 then (if v < 64 then (if v < 62 then 14 else (if v < 63 then 18 else 15)) else (if v < 65 then 16 else (if v < 66 then 13 else 21))) else (if v < 70 then (if v < 68 then 17 else (if v < 69 then 19 else j)) else (if v < 72 then (if v < 71 then j else j) else (if v < 73 then 27 else j)))))) else (if v < 116 then (if v < 103 then (if v < 80 then (if v < 77 then (if v < 75 then j else (if v < 76 then 0 else 1)) else (if v < 78 then 2 else (if v < 79 then 4 else j % 48))) else (if v < 100 then (if v < 87 then 0 else (if v < 88 then 40 else 0)) else (if v < 101 then 1 else (if v < 102 then 2 else 3)))) else (if v < 109 then (if v < 106 then (if v < 104 then 0 else (if v < 105 then 1 else 2)) else (if v < 107 then 0 else (if v < 108 then 1 else 2))) else (if v < 112 then (if v < 110 then 3 else (if v < 111 then 4 else 5)) else (if v < 114 then (if v < 113 then 29 else 4 * j + 0) else (if v < 115 then 4 * j + 1 else 4 * j + 2))))) else (if v < 131 then (if v < 122 then (if v < 119 then (if v < 117 then 4 * j + 3 else (if v < 118 then 0 else (if j < 10 then 1 else 10))) else (if v < 120 then 2 else (if v < 121 then 0 else 1))) else (if v < 125 then (if v < 123 then 13 else (if v < 124 then 14 else 15)) else (if v < 129 then (if v < 126 then 16 else 0) else (if v < 130 then j % 48 else j)))) else (if v < 137 then (if v < 134 then (if v < 132 then j % 28 else (if v < 133 then 0 else 2)) else (if v < 135 then 3 else (if v < 136 then 4 else 5))) else (if v < 141 then (if v < 138 then 6 else (if v < 140 then 0 else j)) else (if v < 143 then (if v < 142 then 1 else j) else (if v < 144 then 1 else 0)))))))
def Lc (H Q a i v j : Int) : Prop := ca H Q v j = a ∧ ci v j = i ∧ 0 ≤ j ∧ j < dm v
theorem At.cg {H Q L a a2 i i2 v j j2 : Int} (k : At H Q L a i v j) (h1 : a = a2) (h2 : i = i2) (h3 : j = j2) : At H Q L a2 i2 v j2 := by subst h1 h2 h3; exact k
theorem e_1_1 {H : Int} {Q : Int} : Lc H Q (64) 0 1 (0) := ⟨(if_pos (by decide)).trans ((if_pos (by decide)).trans ((if_pos (by decide)).trans ((if_pos (by decide)).trans ((if_pos (by decide)).trans ((if_neg (by decide)).trans ((if_pos (by decide)).trans (by omega))))))), (if_pos (by decide)).trans ((if_pos (by decide)).trans ((if_pos (by decide)).trans ((if_pos (by decide)).trans ((if_pos (by decide)).trans ((if_neg (by decide)).trans ((if_pos (by decide)).trans (by omega))))))), by omega, lt_eq (show 0 < 1 by omega) ((if_pos (by decide)).trans ((if_pos (by decide)).trans ((if_pos (by decide)).trans ((if_pos (by decide)).trans ((if_pos (by decide)).trans ((if_neg (by decide)).trans ((if_pos (by decide)))))))))⟩
theorem e_20_2 {Q : Int} {H : Int} : Lc H Q (H) 12 2 (0) := ⟨(if_pos (by decide)).trans ((if_pos (by decide)).trans ((if_pos (by decide)).trans ((if_pos (by decide)).trans ((if_pos (by decide)).trans ((if_neg (by decide)).trans ((if_neg (by decide)).trans (by omega))))))), (if_pos (by decide)).trans ((if_pos (by decide)).trans ((if_pos (by decide)).trans ((if_pos (by decide)).trans ((if_pos (by decide)).trans ((if_neg (by decide)).trans ((if_neg (by decide)).trans (by omega))))))), by omega, lt_eq (show 0 < 1 by omega) ((if_pos (by decide)).trans ((if_pos (by decide)).trans ((if_pos (by decide)).trans ((if_pos (by decide)).trans ((if_pos (by decide)).trans ((if_neg (by decide)).trans ((if_neg (by decide)))))))))⟩
theorem e_23_3 {Q : Int} {H x : Int} {i : Int} (h0 : 0 ≤ x) (h1 : x < 5) (i0 : 0 ≤ i) (i1 : i < 110) : Lc H Q (H + (3 + x)) i 3 (110 * x + i) := ⟨(if_pos (by decide)).trans ((if_pos (by decide)).trans ((if_pos (by decide)).trans ((if_pos (by decide)).trans ((if_neg (by decide)).trans ((if_pos (by decide)).trans ((if_pos (by omega)).trans (by omega))))))), (if_pos (by decide)).trans ((if_pos (by decide)).trans ((if_pos (by decide)).trans ((if_pos (by decide)).trans ((if_neg (by decide)).trans ((if_pos (by decide)).trans ((if_pos (by omega)).trans (by omega))))))), by omega, lt_eq (show 110 * x + i < 3850 by omega) ((if_pos (by decide)).trans ((if_pos (by decide)).trans ((if_pos (by decide)).trans ((if_pos (by decide)).trans ((if_neg (by decide)).trans ((if_pos (by decide))))))))⟩
theorem e_110_3 {H : Int} {Q : Int} {x s : Int} {i : Int} (h0 : 0 ≤ x) (h1 : x < 3) (h2 : 0 ≤ s) (h3 : s < 5) (i0 : 0 ≤ i) (i1 : i < 110) : Lc H Q (1346 + 15 * x + s) i 3 (550 + 110 * (5 * x + s) + i) := ⟨(if_pos (by decide)).trans ((if_pos (by decide)).trans ((if_pos (by decide)).trans ((if_pos (by decide)).trans ((if_neg (by decide)).trans ((if_pos (by decide)).trans ((if_neg (by omega)).trans ((if_pos (by omega)).trans (by omega)))))))), (if_pos (by decide)).trans ((if_pos (by decide)).trans ((if_pos (by decide)).trans ((if_pos (by decide)).trans ((if_neg (by decide)).trans ((if_pos (by decide)).trans ((if_neg (by omega)).trans ((if_pos (by omega)).trans (by omega)))))))), by omega, lt_eq (show 550 + 110 * (5 * x + s) + i < 3850 by omega) ((if_pos (by decide)).trans ((if_pos (by decide)).trans ((if_pos (by decide)).trans ((if_pos (by decide)).trans ((if_neg (by decide)).trans ((if_pos (by decide))))))))⟩
theorem e_113_3 {H : Int} {Q : Int} {x s : Int} {i : Int} (h0 : 0 ≤ x) (h1 : x < 3) (h2 : 0 ≤ s) (h3 : s < 5) (i0 : 0 ≤ i) (i1 : i < 110) : Lc H Q (1353 + 15 * x + s) i 3 (2200 + 110 * (5 * x + s) + i) := ⟨(if_pos (by decide)).trans ((if_pos (by decide)).trans ((if_pos (by decide)).trans ((if_pos (by decide)).trans ((if_neg (by decide)).trans ((if_pos (by decide)).trans ((if_neg (by omega)).trans ((if_neg (by omega)).trans (by omega)))))))), (if_pos (by decide)).trans ((if_pos (by decide)).trans ((if_pos (by decide)).trans ((if_pos (by decide)).trans ((if_neg (by decide)).trans ((if_pos (by decide)).trans ((if_neg (by omega)).trans ((if_neg (by omega)).trans (by omega)))))))), by omega, lt_eq (show 2200 + 110 * (5 * x + s) + i < 3850 by omega) ((if_pos (by decide)).trans ((if_pos (by decide)).trans ((if_pos (by decide)).trans ((if_pos (by decide)).trans ((if_neg (by decide)).trans ((if_pos (by decide))))))))⟩
theorem e_80_4 {H : Int} {Q : Int} : Lc H Q (1314) 39 4 (0) := ⟨(if_pos (by decide)).trans ((if_pos (by decide)).trans ((if_pos (by decide)).trans ((if_pos (by decide)).trans ((if_neg (by decide)).trans ((if_neg (by decide)).trans ((if_pos (by decide)).trans (by omega))))))), (if_pos (by decide)).trans ((if_pos (by decide)).trans ((if_pos (by decide)).trans ((if_pos (by decide)).trans ((if_neg (by decide)).trans ((if_neg (by decide)).trans ((if_pos (by decide)).trans (by omega))))))), by omega, lt_eq (show 0 < 1 by omega) ((if_pos (by decide)).trans ((if_pos (by decide)).trans ((if_pos (by decide)).trans ((if_pos (by decide)).trans ((if_neg (by decide)).trans ((if_neg (by decide)).trans ((if_pos (by decide)))))))))⟩
theorem e_25_5 {Q : Int} {H x : Int} {i : Int} (h0 : 0 ≤ x) (h1 : x < 5) (i0 : 0 ≤ i) (i1 : i < 48) : Lc H Q (H + (9 + x)) i 5 (48 * x + i) := ⟨(if_pos (by decide)).trans ((if_pos (by decide)).trans ((if_pos (by decide)).trans ((if_pos (by decide)).trans ((if_neg (by decide)).trans ((if_neg (by decide)).trans ((if_neg (by decide)).trans (by omega))))))), (if_pos (by decide)).trans ((if_pos (by decide)).trans ((if_pos (by decide)).trans ((if_pos (by decide)).trans ((if_neg (by decide)).trans ((if_neg (by decide)).trans ((if_neg (by decide)).trans (by omega))))))), by omega, lt_eq (show 48 * x + i < 240 by omega) ((if_pos (by decide)).trans ((if_pos (by decide)).trans ((if_pos (by decide)).trans ((if_pos (by decide)).trans ((if_neg (by decide)).trans ((if_neg (by decide)).trans ((if_neg (by decide)))))))))⟩
theorem e_27_16 {Q : Int} {H x : Int} {i : Int} (h0 : 0 ≤ x) (h1 : x < 10) (i0 : 0 ≤ i) (i1 : i < 24) : Lc H Q (H + (15 + x)) i 16 (24 * x + i) := ⟨(if_pos (by decide)).trans ((if_pos (by decide)).trans ((if_pos (by decide)).trans ((if_neg (by decide)).trans ((if_pos (by decide)).trans ((if_neg (by decide)).trans ((if_pos (by decide)).trans (by omega))))))), (if_pos (by decide)).trans ((if_pos (by decide)).trans ((if_pos (by decide)).trans ((if_neg (by decide)).trans ((if_pos (by decide)).trans ((if_neg (by decide)).trans ((if_pos (by decide)).trans (by omega))))))), by omega, lt_eq (show 24 * x + i < 240 by omega) ((if_pos (by decide)).trans ((if_pos (by decide)).trans ((if_pos (by decide)).trans ((if_neg (by decide)).trans ((if_pos (by decide)).trans ((if_neg (by decide)).trans ((if_pos (by decide)))))))))⟩
theorem e_28_17 {Q : Int} {H : Int} {i : Int} (i0 : 0 ≤ i) (i1 : i < 24) : Lc H Q (H + 25) i 17 (i) := ⟨(if_pos (by decide)).trans ((if_pos (by decide)).trans ((if_pos (by decide)).trans ((if_neg (by decide)).trans ((if_pos (by decide)).trans ((if_neg (by decide)).trans ((if_neg (by decide)).trans (by omega))))))), (if_pos (by decide)).trans ((if_pos (by decide)).trans ((if_pos (by decide)).trans ((if_neg (by decide)).trans ((if_pos (by decide)).trans ((if_neg (by decide)).trans ((if_neg (by decide)).trans (by omega))))))), by omega, lt_eq (show i < 24 by omega) ((if_pos (by decide)).trans ((if_pos (by decide)).trans ((if_pos (by decide)).trans ((if_neg (by decide)).trans ((if_pos (by decide)).trans ((if_neg (by decide)).trans ((if_neg (by decide)))))))))⟩
theorem e_30_18 {Q : Int} {H x : Int} {i : Int} (h0 : 0 ≤ x) (h1 : x < 4) (i0 : 0 ≤ i) (i1 : i < 24) : Lc H Q (H + (27 + x)) i 18 (24 * x + i) := ⟨(if_pos (by decide)).trans ((if_pos (by decide)).trans ((if_pos (by decide)).trans ((if_neg (by decide)).trans ((if_neg (by decide)).trans ((if_pos (by decide)).trans (by omega)))))), (if_pos (by decide)).trans ((if_pos (by decide)).trans ((if_pos (by decide)).trans ((if_neg (by decide)).trans ((if_neg (by decide)).trans ((if_pos (by decide)).trans (by omega)))))), by omega, lt_eq (show 24 * x + i < 96 by omega) ((if_pos (by decide)).trans ((if_pos (by decide)).trans ((if_pos (by decide)).trans ((if_neg (by decide)).trans ((if_neg (by decide)).trans ((if_pos (by decide))))))))⟩
theorem e_32_19 {Q : Int} {H : Int} {i : Int} (i0 : 0 ≤ i) (i1 : i < 11) : Lc H Q (H + 32) i 19 (i) := ⟨(if_pos (by decide)).trans ((if_pos (by decide)).trans ((if_pos (by decide)).trans ((if_neg (by decide)).trans ((if_neg (by decide)).trans ((if_neg (by decide)).trans ((if_pos (by decide)).trans (by omega))))))), (if_pos (by decide)).trans ((if_pos (by decide)).trans ((if_pos (by decide)).trans ((if_neg (by decide)).trans ((if_neg (by decide)).trans ((if_neg (by decide)).trans ((if_pos (by decide)).trans (by omega))))))), by omega, lt_eq (show i < 11 by omega) ((if_pos (by decide)).trans ((if_pos (by decide)).trans ((if_pos (by decide)).trans ((if_neg (by decide)).trans ((if_neg (by decide)).trans ((if_neg (by decide)).trans ((if_pos (by decide)))))))))⟩
theorem e_33_20 {Q : Int} {H : Int} {i : Int} (i0 : 0 ≤ i) (i1 : i < 11) : Lc H Q (H + 33) i 20 (i) := ⟨(if_pos (by decide)).trans ((if_pos (by decide)).trans ((if_pos (by decide)).trans ((if_neg (by decide)).trans ((if_neg (by decide)).trans ((if_neg (by decide)).trans ((if_neg (by decide)).trans (by omega))))))), (if_pos (by decide)).trans ((if_pos (by decide)).trans ((if_pos (by decide)).trans ((if_neg (by decide)).trans ((if_neg (by decide)).trans ((if_neg (by decide)).trans ((if_neg (by decide)).trans (by omega))))))), by omega, lt_eq (show i < 11 by omega) ((if_pos (by decide)).trans ((if_pos (by decide)).trans ((if_pos (by decide)).trans ((if_neg (by decide)).trans ((if_neg (by decide)).trans ((if_neg (by decide)).trans ((if_neg (by decide)))))))))⟩
theorem e_20_21 {Q : Int} {H : Int} : Lc H Q (H) 17 21 (0) := ⟨(if_pos (by decide)).trans ((if_pos (by decide)).trans ((if_neg (by decide)).trans ((if_pos (by decide)).trans ((if_pos (by decide)).trans ((if_pos (by decide)).trans (by omega)))))), (if_pos (by decide)).trans ((if_pos (by decide)).trans ((if_neg (by decide)).trans ((if_pos (by decide)).trans ((if_pos (by decide)).trans ((if_pos (by decide)).trans (by omega)))))), by omega, lt_eq (show 0 < 1 by omega) ((if_pos (by decide)).trans ((if_pos (by decide)).trans ((if_neg (by decide)).trans ((if_pos (by decide)).trans ((if_pos (by decide)).trans ((if_pos (by decide))))))))⟩
theorem e_35_22 {Q : Int} {H : Int} {i : Int} (i0 : 0 ≤ i) (i1 : i < 3) : Lc H Q (H + 35) i 22 (i) := ⟨(if_pos (by decide)).trans ((if_pos (by decide)).trans ((if_neg (by decide)).trans ((if_pos (by decide)).trans ((if_pos (by decide)).trans ((if_neg (by decide)).trans ((if_pos (by decide)).trans (by omega))))))), (if_pos (by decide)).trans ((if_pos (by decide)).trans ((if_neg (by decide)).trans ((if_pos (by decide)).trans ((if_pos (by decide)).trans ((if_neg (by decide)).trans ((if_pos (by decide)).trans (by omega))))))), by omega, lt_eq (show i < 3 by omega) ((if_pos (by decide)).trans ((if_pos (by decide)).trans ((if_neg (by decide)).trans ((if_pos (by decide)).trans ((if_pos (by decide)).trans ((if_neg (by decide)).trans ((if_pos (by decide)))))))))⟩
theorem e_43_23 {Q : Int} {H x : Int} (h0 : 0 ≤ x) (h1 : x < 3) : Lc H Q (H + (61 + x)) 0 23 (x) := ⟨(if_pos (by decide)).trans ((if_pos (by decide)).trans ((if_neg (by decide)).trans ((if_pos (by decide)).trans ((if_pos (by decide)).trans ((if_neg (by decide)).trans ((if_neg (by decide)).trans (by omega))))))), (if_pos (by decide)).trans ((if_pos (by decide)).trans ((if_neg (by decide)).trans ((if_pos (by decide)).trans ((if_pos (by decide)).trans ((if_neg (by decide)).trans ((if_neg (by decide)).trans (by omega))))))), by omega, lt_eq (show x < 3 by omega) ((if_pos (by decide)).trans ((if_pos (by decide)).trans ((if_neg (by decide)).trans ((if_pos (by decide)).trans ((if_pos (by decide)).trans ((if_neg (by decide)).trans ((if_neg (by decide)))))))))⟩
theorem e_101_24 {H : Int} {Q : Int} {i : Int} (i0 : 0 ≤ i) (i1 : i < 196) : Lc H Q (1337) i 24 (i) := ⟨(if_pos (by decide)).trans ((if_pos (by decide)).trans ((if_neg (by decide)).trans ((if_pos (by decide)).trans ((if_neg (by decide)).trans ((if_pos (by decide)).trans (by omega)))))), (if_pos (by decide)).trans ((if_pos (by decide)).trans ((if_neg (by decide)).trans ((if_pos (by decide)).trans ((if_neg (by decide)).trans ((if_pos (by decide)).trans (by omega)))))), by omega, lt_eq (show i < 196 by omega) ((if_pos (by decide)).trans ((if_pos (by decide)).trans ((if_neg (by decide)).trans ((if_pos (by decide)).trans ((if_neg (by decide)).trans ((if_pos (by decide))))))))⟩
theorem e_80_25 {H : Int} {Q : Int} : Lc H Q (1314) 33 25 (0) := ⟨(if_pos (by decide)).trans ((if_pos (by decide)).trans ((if_neg (by decide)).trans ((if_pos (by decide)).trans ((if_neg (by decide)).trans ((if_neg (by decide)).trans ((if_pos (by decide)).trans (by omega))))))), (if_pos (by decide)).trans ((if_pos (by decide)).trans ((if_neg (by decide)).trans ((if_pos (by decide)).trans ((if_neg (by decide)).trans ((if_neg (by decide)).trans ((if_pos (by decide)).trans (by omega))))))), by omega, lt_eq (show 0 < 1 by omega) ((if_pos (by decide)).trans ((if_pos (by decide)).trans ((if_neg (by decide)).trans ((if_pos (by decide)).trans ((if_neg (by decide)).trans ((if_neg (by decide)).trans ((if_pos (by decide)))))))))⟩
theorem e_31_26 {Q : Int} {H : Int} {i : Int} (i0 : 0 ≤ i) (i1 : i < 196) : Lc H Q (H + 31) i 26 (i) := ⟨(if_pos (by decide)).trans ((if_pos (by decide)).trans ((if_neg (by decide)).trans ((if_pos (by decide)).trans ((if_neg (by decide)).trans ((if_neg (by decide)).trans ((if_neg (by decide)).trans (by omega))))))), (if_pos (by decide)).trans ((if_pos (by decide)).trans ((if_neg (by decide)).trans ((if_pos (by decide)).trans ((if_neg (by decide)).trans ((if_neg (by decide)).trans ((if_neg (by decide)).trans (by omega))))))), by omega, lt_eq (show i < 196 by omega) ((if_pos (by decide)).trans ((if_pos (by decide)).trans ((if_neg (by decide)).trans ((if_pos (by decide)).trans ((if_neg (by decide)).trans ((if_neg (by decide)).trans ((if_neg (by decide)))))))))⟩
theorem e_20_27 {Q : Int} {H : Int} : Lc H Q (H) 6 27 (0) := ⟨(if_pos (by decide)).trans ((if_pos (by decide)).trans ((if_neg (by decide)).trans ((if_neg (by decide)).trans ((if_pos (by decide)).trans ((if_pos (by decide)).trans (by omega)))))), (if_pos (by decide)).trans ((if_pos (by decide)).trans ((if_neg (by decide)).trans ((if_neg (by decide)).trans ((if_pos (by decide)).trans ((if_pos (by decide)).trans (by omega)))))), by omega, lt_eq (show 0 < 1 by omega) ((if_pos (by decide)).trans ((if_pos (by decide)).trans ((if_neg (by decide)).trans ((if_neg (by decide)).trans ((if_pos (by decide)).trans ((if_pos (by decide))))))))⟩
theorem e_89_37 {H : Int} {Q : Int} {i : Int} (i0 : 0 ≤ i) (i1 : i < 16) : Lc H Q (1323) i 37 (i) := ⟨(if_pos (by decide)).trans ((if_pos (by decide)).trans ((if_neg (by decide)).trans ((if_neg (by decide)).trans ((if_pos (by decide)).trans ((if_neg (by decide)).trans ((if_neg (by decide)).trans (by omega))))))), (if_pos (by decide)).trans ((if_pos (by decide)).trans ((if_neg (by decide)).trans ((if_neg (by decide)).trans ((if_pos (by decide)).trans ((if_neg (by decide)).trans ((if_neg (by decide)).trans (by omega))))))), by omega, lt_eq (show i < 16 by omega) ((if_pos (by decide)).trans ((if_pos (by decide)).trans ((if_neg (by decide)).trans ((if_neg (by decide)).trans ((if_pos (by decide)).trans ((if_neg (by decide)).trans ((if_neg (by decide)))))))))⟩
theorem e_81_40 {H : Int} {Q : Int} {i : Int} (i0 : 0 ≤ i) (i1 : i < 240) : Lc H Q (1315) i 40 (i) := ⟨(if_pos (by decide)).trans ((if_pos (by decide)).trans ((if_neg (by decide)).trans ((if_neg (by decide)).trans ((if_neg (by decide)).trans ((if_pos (by decide)).trans ((if_neg (by decide)).trans (by omega))))))), (if_pos (by decide)).trans ((if_pos (by decide)).trans ((if_neg (by decide)).trans ((if_neg (by decide)).trans ((if_neg (by decide)).trans ((if_pos (by decide)).trans ((if_neg (by decide)).trans (by omega))))))), by omega, lt_eq (show i < 240 by omega) ((if_pos (by decide)).trans ((if_pos (by decide)).trans ((if_neg (by decide)).trans ((if_neg (by decide)).trans ((if_neg (by decide)).trans ((if_pos (by decide)).trans ((if_neg (by decide)))))))))⟩
theorem e_82_41 {H : Int} {Q : Int} {i : Int} (i0 : 0 ≤ i) (i1 : i < 240) : Lc H Q (1316) i 41 (i) := ⟨(if_pos (by decide)).trans ((if_pos (by decide)).trans ((if_neg (by decide)).trans ((if_neg (by decide)).trans ((if_neg (by decide)).trans ((if_neg (by decide)).trans ((if_pos (by decide)).trans (by omega))))))), (if_pos (by decide)).trans ((if_pos (by decide)).trans ((if_neg (by decide)).trans ((if_neg (by decide)).trans ((if_neg (by decide)).trans ((if_neg (by decide)).trans ((if_pos (by decide)).trans (by omega))))))), by omega, lt_eq (show i < 240 by omega) ((if_pos (by decide)).trans ((if_pos (by decide)).trans ((if_neg (by decide)).trans ((if_neg (by decide)).trans ((if_neg (by decide)).trans ((if_neg (by decide)).trans ((if_pos (by decide)))))))))⟩
theorem e_83_42 {H : Int} {Q : Int} {i : Int} (i0 : 0 ≤ i) (i1 : i < 240) : Lc H Q (1317) i 42 (i) := ⟨(if_pos (by decide)).trans ((if_pos (by decide)).trans ((if_neg (by decide)).trans ((if_neg (by decide)).trans ((if_neg (by decide)).trans ((if_neg (by decide)).trans ((if_neg (by decide)).trans (by omega))))))), (if_pos (by decide)).trans ((if_pos (by decide)).trans ((if_neg (by decide)).trans ((if_neg (by decide)).trans ((if_neg (by decide)).trans ((if_neg (by decide)).trans ((if_neg (by decide)).trans (by omega))))))), by omega, lt_eq (show i < 240 by omega) ((if_pos (by decide)).trans ((if_pos (by decide)).trans ((if_neg (by decide)).trans ((if_neg (by decide)).trans ((if_neg (by decide)).trans ((if_neg (by decide)).trans ((if_neg (by decide)))))))))⟩
theorem e_85_43 {H : Int} {Q : Int} {i : Int} (i0 : 0 ≤ i) (i1 : i < 240) : Lc H Q (1319) i 43 (i) := ⟨(if_pos (by decide)).trans ((if_neg (by decide)).trans ((if_pos (by decide)).trans ((if_pos (by decide)).trans ((if_pos (by decide)).trans ((if_pos (by decide)).trans (by omega)))))), (if_pos (by decide)).trans ((if_neg (by decide)).trans ((if_pos (by decide)).trans ((if_pos (by decide)).trans ((if_pos (by decide)).trans ((if_pos (by decide)).trans (by omega)))))), by omega, lt_eq (show i < 240 by omega) ((if_pos (by decide)).trans ((if_neg (by decide)).trans ((if_pos (by decide)).trans ((if_pos (by decide)).trans ((if_pos (by decide)).trans ((if_pos (by decide))))))))⟩
theorem e_86_44 {H : Int} {Q : Int} {i : Int} (i0 : 0 ≤ i) (i1 : i < 240) : Lc H Q (1320) i 44 (i) := ⟨(if_pos (by decide)).trans ((if_neg (by decide)).trans ((if_pos (by decide)).trans ((if_pos (by decide)).trans ((if_pos (by decide)).trans ((if_neg (by decide)).trans ((if_pos (by decide)).trans (by omega))))))), (if_pos (by decide)).trans ((if_neg (by decide)).trans ((if_pos (by decide)).trans ((if_pos (by decide)).trans ((if_pos (by decide)).trans ((if_neg (by decide)).trans ((if_pos (by decide)).trans (by omega))))))), by omega, lt_eq (show i < 240 by omega) ((if_pos (by decide)).trans ((if_neg (by decide)).trans ((if_pos (by decide)).trans ((if_pos (by decide)).trans ((if_pos (by decide)).trans ((if_neg (by decide)).trans ((if_pos (by decide)))))))))⟩
theorem e_84_45 {H : Int} {Q : Int} {i : Int} (i0 : 0 ≤ i) (i1 : i < 240) : Lc H Q (1318) i 45 (i) := ⟨(if_pos (by decide)).trans ((if_neg (by decide)).trans ((if_pos (by decide)).trans ((if_pos (by decide)).trans ((if_pos (by decide)).trans ((if_neg (by decide)).trans ((if_neg (by decide)).trans (by omega))))))), (if_pos (by decide)).trans ((if_neg (by decide)).trans ((if_pos (by decide)).trans ((if_pos (by decide)).trans ((if_pos (by decide)).trans ((if_neg (by decide)).trans ((if_neg (by decide)).trans (by omega))))))), by omega, lt_eq (show i < 240 by omega) ((if_pos (by decide)).trans ((if_neg (by decide)).trans ((if_pos (by decide)).trans ((if_pos (by decide)).trans ((if_pos (by decide)).trans ((if_neg (by decide)).trans ((if_neg (by decide)))))))))⟩
theorem e_80_52 {H : Int} {Q : Int} : Lc H Q (1314) 9 52 (0) := ⟨(if_pos (by decide)).trans ((if_neg (by decide)).trans ((if_pos (by decide)).trans ((if_pos (by decide)).trans ((if_neg (by decide)).trans ((if_neg (by decide)).trans ((if_pos (by decide)).trans (by omega))))))), (if_pos (by decide)).trans ((if_neg (by decide)).trans ((if_pos (by decide)).trans ((if_pos (by decide)).trans ((if_neg (by decide)).trans ((if_neg (by decide)).trans ((if_pos (by decide)).trans (by omega))))))), by omega, lt_eq (show 0 < 1 by omega) ((if_pos (by decide)).trans ((if_neg (by decide)).trans ((if_pos (by decide)).trans ((if_pos (by decide)).trans ((if_neg (by decide)).trans ((if_neg (by decide)).trans ((if_pos (by decide)))))))))⟩
theorem e_80_53 {H : Int} {Q : Int} : Lc H Q (1314) 11 53 (0) := ⟨(if_pos (by decide)).trans ((if_neg (by decide)).trans ((if_pos (by decide)).trans ((if_pos (by decide)).trans ((if_neg (by decide)).trans ((if_neg (by decide)).trans ((if_neg (by decide)).trans (by omega))))))), (if_pos (by decide)).trans ((if_neg (by decide)).trans ((if_pos (by decide)).trans ((if_pos (by decide)).trans ((if_neg (by decide)).trans ((if_neg (by decide)).trans ((if_neg (by decide)).trans (by omega))))))), by omega, lt_eq (show 0 < 1 by omega) ((if_pos (by decide)).trans ((if_neg (by decide)).trans ((if_pos (by decide)).trans ((if_pos (by decide)).trans ((if_neg (by decide)).trans ((if_neg (by decide)).trans ((if_neg (by decide)))))))))⟩
theorem e_80_54 {H : Int} {Q : Int} : Lc H Q (1314) 10 54 (0) := ⟨(if_pos (by decide)).trans ((if_neg (by decide)).trans ((if_pos (by decide)).trans ((if_neg (by decide)).trans ((if_pos (by decide)).trans ((if_pos (by decide)).trans (by omega)))))), (if_pos (by decide)).trans ((if_neg (by decide)).trans ((if_pos (by decide)).trans ((if_neg (by decide)).trans ((if_pos (by decide)).trans ((if_pos (by decide)).trans (by omega)))))), by omega, lt_eq (show 0 < 1 by omega) ((if_pos (by decide)).trans ((if_neg (by decide)).trans ((if_pos (by decide)).trans ((if_neg (by decide)).trans ((if_pos (by decide)).trans ((if_pos (by decide))))))))⟩
theorem e_80_55 {H : Int} {Q : Int} : Lc H Q (1314) 12 55 (0) := ⟨(if_pos (by decide)).trans ((if_neg (by decide)).trans ((if_pos (by decide)).trans ((if_neg (by decide)).trans ((if_pos (by decide)).trans ((if_neg (by decide)).trans ((if_pos (by decide)).trans (by omega))))))), (if_pos (by decide)).trans ((if_neg (by decide)).trans ((if_pos (by decide)).trans ((if_neg (by decide)).trans ((if_pos (by decide)).trans ((if_neg (by decide)).trans ((if_pos (by decide)).trans (by omega))))))), by omega, lt_eq (show 0 < 1 by omega) ((if_pos (by decide)).trans ((if_neg (by decide)).trans ((if_pos (by decide)).trans ((if_neg (by decide)).trans ((if_pos (by decide)).trans ((if_neg (by decide)).trans ((if_pos (by decide)))))))))⟩
theorem e_115_56 {H : Int} {Q : Int} {x : Int} (h0 : 0 ≤ x) (h1 : x < 11) : Lc H Q (1389 + x) 0 56 (x) := ⟨(if_pos (by decide)).trans ((if_neg (by decide)).trans ((if_pos (by decide)).trans ((if_neg (by decide)).trans ((if_pos (by decide)).trans ((if_neg (by decide)).trans ((if_neg (by decide)).trans (by omega))))))), (if_pos (by decide)).trans ((if_neg (by decide)).trans ((if_pos (by decide)).trans ((if_neg (by decide)).trans ((if_pos (by decide)).trans ((if_neg (by decide)).trans ((if_neg (by decide)).trans (by omega))))))), by omega, lt_eq (show x < 11 by omega) ((if_pos (by decide)).trans ((if_neg (by decide)).trans ((if_pos (by decide)).trans ((if_neg (by decide)).trans ((if_pos (by decide)).trans ((if_neg (by decide)).trans ((if_neg (by decide)))))))))⟩
theorem e_115_57 {H : Int} {Q : Int} {x : Int} (h0 : 0 ≤ x) (h1 : x < 11) : Lc H Q (1389 + x) 3 57 (x) := ⟨(if_pos (by decide)).trans ((if_neg (by decide)).trans ((if_pos (by decide)).trans ((if_neg (by decide)).trans ((if_neg (by decide)).trans ((if_pos (by decide)).trans ((if_pos (by decide)).trans (by omega))))))), (if_pos (by decide)).trans ((if_neg (by decide)).trans ((if_pos (by decide)).trans ((if_neg (by decide)).trans ((if_neg (by decide)).trans ((if_pos (by decide)).trans ((if_pos (by decide)).trans (by omega))))))), by omega, lt_eq (show x < 11 by omega) ((if_pos (by decide)).trans ((if_neg (by decide)).trans ((if_pos (by decide)).trans ((if_neg (by decide)).trans ((if_neg (by decide)).trans ((if_pos (by decide)).trans ((if_pos (by decide)))))))))⟩
theorem e_115_58 {H : Int} {Q : Int} {x : Int} (h0 : 0 ≤ x) (h1 : x < 11) : Lc H Q (1389 + x) 1 58 (x) := ⟨(if_pos (by decide)).trans ((if_neg (by decide)).trans ((if_pos (by decide)).trans ((if_neg (by decide)).trans ((if_neg (by decide)).trans ((if_pos (by decide)).trans ((if_neg (by decide)).trans (by omega))))))), (if_pos (by decide)).trans ((if_neg (by decide)).trans ((if_pos (by decide)).trans ((if_neg (by decide)).trans ((if_neg (by decide)).trans ((if_pos (by decide)).trans ((if_neg (by decide)).trans (by omega))))))), by omega, lt_eq (show x < 11 by omega) ((if_pos (by decide)).trans ((if_neg (by decide)).trans ((if_pos (by decide)).trans ((if_neg (by decide)).trans ((if_neg (by decide)).trans ((if_pos (by decide)).trans ((if_neg (by decide)))))))))⟩
theorem e_115_59 {H : Int} {Q : Int} {x : Int} (h0 : 0 ≤ x) (h1 : x < 11) : Lc H Q (1389 + x) 2 59 (x) := ⟨(if_pos (by decide)).trans ((if_neg (by decide)).trans ((if_pos (by decide)).trans ((if_neg (by decide)).trans ((if_neg (by decide)).trans ((if_neg (by decide)).trans ((if_pos (by decide)).trans (by omega))))))), (if_pos (by decide)).trans ((if_neg (by decide)).trans ((if_pos (by decide)).trans ((if_neg (by decide)).trans ((if_neg (by decide)).trans ((if_neg (by decide)).trans ((if_pos (by decide)).trans (by omega))))))), by omega, lt_eq (show x < 11 by omega) ((if_pos (by decide)).trans ((if_neg (by decide)).trans ((if_pos (by decide)).trans ((if_neg (by decide)).trans ((if_neg (by decide)).trans ((if_neg (by decide)).trans ((if_pos (by decide)))))))))⟩
theorem e_115_60 {H : Int} {Q : Int} {x : Int} (h0 : 0 ≤ x) (h1 : x < 11) : Lc H Q (1389 + x) 4 60 (x) := ⟨(if_pos (by decide)).trans ((if_neg (by decide)).trans ((if_pos (by decide)).trans ((if_neg (by decide)).trans ((if_neg (by decide)).trans ((if_neg (by decide)).trans ((if_neg (by decide)).trans (by omega))))))), (if_pos (by decide)).trans ((if_neg (by decide)).trans ((if_pos (by decide)).trans ((if_neg (by decide)).trans ((if_neg (by decide)).trans ((if_neg (by decide)).trans ((if_neg (by decide)).trans (by omega))))))), by omega, lt_eq (show x < 11 by omega) ((if_pos (by decide)).trans ((if_neg (by decide)).trans ((if_pos (by decide)).trans ((if_neg (by decide)).trans ((if_neg (by decide)).trans ((if_neg (by decide)).trans ((if_neg (by decide)))))))))⟩
theorem e_80_61 {H : Int} {Q : Int} : Lc H Q (1314) 14 61 (0) := ⟨(if_pos (by decide)).trans ((if_neg (by decide)).trans ((if_neg (by decide)).trans ((if_pos (by decide)).trans ((if_pos (by decide)).trans ((if_pos (by decide)).trans (by omega)))))), (if_pos (by decide)).trans ((if_neg (by decide)).trans ((if_neg (by decide)).trans ((if_pos (by decide)).trans ((if_pos (by decide)).trans ((if_pos (by decide)).trans (by omega)))))), by omega, lt_eq (show 0 < 1 by omega) ((if_pos (by decide)).trans ((if_neg (by decide)).trans ((if_neg (by decide)).trans ((if_pos (by decide)).trans ((if_pos (by decide)).trans ((if_pos (by decide))))))))⟩
theorem e_80_62 {H : Int} {Q : Int} : Lc H Q (1314) 18 62 (0) := ⟨(if_pos (by decide)).trans ((if_neg (by decide)).trans ((if_neg (by decide)).trans ((if_pos (by decide)).trans ((if_pos (by decide)).trans ((if_neg (by decide)).trans ((if_pos (by decide)).trans (by omega))))))), (if_pos (by decide)).trans ((if_neg (by decide)).trans ((if_neg (by decide)).trans ((if_pos (by decide)).trans ((if_pos (by decide)).trans ((if_neg (by decide)).trans ((if_pos (by decide)).trans (by omega))))))), by omega, lt_eq (show 0 < 1 by omega) ((if_pos (by decide)).trans ((if_neg (by decide)).trans ((if_neg (by decide)).trans ((if_pos (by decide)).trans ((if_pos (by decide)).trans ((if_neg (by decide)).trans ((if_pos (by decide)))))))))⟩
theorem e_80_63 {H : Int} {Q : Int} : Lc H Q (1314) 15 63 (0) := ⟨(if_pos (by decide)).trans ((if_neg (by decide)).trans ((if_neg (by decide)).trans ((if_pos (by decide)).trans ((if_pos (by decide)).trans ((if_neg (by decide)).trans ((if_neg (by decide)).trans (by omega))))))), (if_pos (by decide)).trans ((if_neg (by decide)).trans ((if_neg (by decide)).trans ((if_pos (by decide)).trans ((if_pos (by decide)).trans ((if_neg (by decide)).trans ((if_neg (by decide)).trans (by omega))))))), by omega, lt_eq (show 0 < 1 by omega) ((if_pos (by decide)).trans ((if_neg (by decide)).trans ((if_neg (by decide)).trans ((if_pos (by decide)).trans ((if_pos (by decide)).trans ((if_neg (by decide)).trans ((if_neg (by decide)))))))))⟩
theorem e_80_64 {H : Int} {Q : Int} : Lc H Q (1314) 16 64 (0) := ⟨(if_pos (by decide)).trans ((if_neg (by decide)).trans ((if_neg (by decide)).trans ((if_pos (by decide)).trans ((if_neg (by decide)).trans ((if_pos (by decide)).trans (by omega)))))), (if_pos (by decide)).trans ((if_neg (by decide)).trans ((if_neg (by decide)).trans ((if_pos (by decide)).trans ((if_neg (by decide)).trans ((if_pos (by decide)).trans (by omega)))))), by omega, lt_eq (show 0 < 1 by omega) ((if_pos (by decide)).trans ((if_neg (by decide)).trans ((if_neg (by decide)).trans ((if_pos (by decide)).trans ((if_neg (by decide)).trans ((if_pos (by decide))))))))⟩
theorem e_80_65 {H : Int} {Q : Int} : Lc H Q (1314) 13 65 (0) := ⟨(if_pos (by decide)).trans ((if_neg (by decide)).trans ((if_neg (by decide)).trans ((if_pos (by decide)).trans ((if_neg (by decide)).trans ((if_neg (by decide)).trans ((if_pos (by decide)).trans (by omega))))))), (if_pos (by decide)).trans ((if_neg (by decide)).trans ((if_neg (by decide)).trans ((if_pos (by decide)).trans ((if_neg (by decide)).trans ((if_neg (by decide)).trans ((if_pos (by decide)).trans (by omega))))))), by omega, lt_eq (show 0 < 1 by omega) ((if_pos (by decide)).trans ((if_neg (by decide)).trans ((if_neg (by decide)).trans ((if_pos (by decide)).trans ((if_neg (by decide)).trans ((if_neg (by decide)).trans ((if_pos (by decide)))))))))⟩
theorem e_80_66 {H : Int} {Q : Int} : Lc H Q (1314) 21 66 (0) := ⟨(if_pos (by decide)).trans ((if_neg (by decide)).trans ((if_neg (by decide)).trans ((if_pos (by decide)).trans ((if_neg (by decide)).trans ((if_neg (by decide)).trans ((if_neg (by decide)).trans (by omega))))))), (if_pos (by decide)).trans ((if_neg (by decide)).trans ((if_neg (by decide)).trans ((if_pos (by decide)).trans ((if_neg (by decide)).trans ((if_neg (by decide)).trans ((if_neg (by decide)).trans (by omega))))))), by omega, lt_eq (show 0 < 1 by omega) ((if_pos (by decide)).trans ((if_neg (by decide)).trans ((if_neg (by decide)).trans ((if_pos (by decide)).trans ((if_neg (by decide)).trans ((if_neg (by decide)).trans ((if_neg (by decide)))))))))⟩
theorem e_80_67 {H : Int} {Q : Int} : Lc H Q (1314) 17 67 (0) := ⟨(if_pos (by decide)).trans ((if_neg (by decide)).trans ((if_neg (by decide)).trans ((if_neg (by decide)).trans ((if_pos (by decide)).trans ((if_pos (by decide)).trans (by omega)))))), (if_pos (by decide)).trans ((if_neg (by decide)).trans ((if_neg (by decide)).trans ((if_neg (by decide)).trans ((if_pos (by decide)).trans ((if_pos (by decide)).trans (by omega)))))), by omega, lt_eq (show 0 < 1 by omega) ((if_pos (by decide)).trans ((if_neg (by decide)).trans ((if_neg (by decide)).trans ((if_neg (by decide)).trans ((if_pos (by decide)).trans ((if_pos (by decide))))))))⟩
theorem e_80_68 {H : Int} {Q : Int} : Lc H Q (1314) 19 68 (0) := ⟨(if_pos (by decide)).trans ((if_neg (by decide)).trans ((if_neg (by decide)).trans ((if_neg (by decide)).trans ((if_pos (by decide)).trans ((if_neg (by decide)).trans ((if_pos (by decide)).trans (by omega))))))), (if_pos (by decide)).trans ((if_neg (by decide)).trans ((if_neg (by decide)).trans ((if_neg (by decide)).trans ((if_pos (by decide)).trans ((if_neg (by decide)).trans ((if_pos (by decide)).trans (by omega))))))), by omega, lt_eq (show 0 < 1 by omega) ((if_pos (by decide)).trans ((if_neg (by decide)).trans ((if_neg (by decide)).trans ((if_neg (by decide)).trans ((if_pos (by decide)).trans ((if_neg (by decide)).trans ((if_pos (by decide)))))))))⟩
theorem e_90_69 {H : Int} {Q : Int} {i : Int} (i0 : 0 ≤ i) (i1 : i < 10) : Lc H Q (1324) i 69 (i) := ⟨(if_pos (by decide)).trans ((if_neg (by decide)).trans ((if_neg (by decide)).trans ((if_neg (by decide)).trans ((if_pos (by decide)).trans ((if_neg (by decide)).trans ((if_neg (by decide)).trans (by omega))))))), (if_pos (by decide)).trans ((if_neg (by decide)).trans ((if_neg (by decide)).trans ((if_neg (by decide)).trans ((if_pos (by decide)).trans ((if_neg (by decide)).trans ((if_neg (by decide)).trans (by omega))))))), by omega, lt_eq (show i < 10 by omega) ((if_pos (by decide)).trans ((if_neg (by decide)).trans ((if_neg (by decide)).trans ((if_neg (by decide)).trans ((if_pos (by decide)).trans ((if_neg (by decide)).trans ((if_neg (by decide)))))))))⟩
theorem e_91_70 {H : Int} {Q : Int} {i : Int} (i0 : 0 ≤ i) (i1 : i < 10) : Lc H Q (1325) i 70 (i) := ⟨(if_pos (by decide)).trans ((if_neg (by decide)).trans ((if_neg (by decide)).trans ((if_neg (by decide)).trans ((if_neg (by decide)).trans ((if_pos (by decide)).trans ((if_pos (by decide)).trans (by omega))))))), (if_pos (by decide)).trans ((if_neg (by decide)).trans ((if_neg (by decide)).trans ((if_neg (by decide)).trans ((if_neg (by decide)).trans ((if_pos (by decide)).trans ((if_pos (by decide)).trans (by omega))))))), by omega, lt_eq (show i < 10 by omega) ((if_pos (by decide)).trans ((if_neg (by decide)).trans ((if_neg (by decide)).trans ((if_neg (by decide)).trans ((if_neg (by decide)).trans ((if_pos (by decide)).trans ((if_pos (by decide)))))))))⟩
theorem e_92_71 {H : Int} {Q : Int} {i : Int} (i0 : 0 ≤ i) (i1 : i < 18) : Lc H Q (1326) i 71 (i) := ⟨(if_pos (by decide)).trans ((if_neg (by decide)).trans ((if_neg (by decide)).trans ((if_neg (by decide)).trans ((if_neg (by decide)).trans ((if_pos (by decide)).trans ((if_neg (by decide)).trans (by omega))))))), (if_pos (by decide)).trans ((if_neg (by decide)).trans ((if_neg (by decide)).trans ((if_neg (by decide)).trans ((if_neg (by decide)).trans ((if_pos (by decide)).trans ((if_neg (by decide)).trans (by omega))))))), by omega, lt_eq (show i < 18 by omega) ((if_pos (by decide)).trans ((if_neg (by decide)).trans ((if_neg (by decide)).trans ((if_neg (by decide)).trans ((if_neg (by decide)).trans ((if_pos (by decide)).trans ((if_neg (by decide)))))))))⟩
theorem e_80_72 {H : Int} {Q : Int} : Lc H Q (1314) 27 72 (0) := ⟨(if_pos (by decide)).trans ((if_neg (by decide)).trans ((if_neg (by decide)).trans ((if_neg (by decide)).trans ((if_neg (by decide)).trans ((if_neg (by decide)).trans ((if_pos (by decide)).trans (by omega))))))), (if_pos (by decide)).trans ((if_neg (by decide)).trans ((if_neg (by decide)).trans ((if_neg (by decide)).trans ((if_neg (by decide)).trans ((if_neg (by decide)).trans ((if_pos (by decide)).trans (by omega))))))), by omega, lt_eq (show 0 < 1 by omega) ((if_pos (by decide)).trans ((if_neg (by decide)).trans ((if_neg (by decide)).trans ((if_neg (by decide)).trans ((if_neg (by decide)).trans ((if_neg (by decide)).trans ((if_pos (by decide)))))))))⟩
theorem e_94_73 {H : Int} {Q : Int} {i : Int} (i0 : 0 ≤ i) (i1 : i < 32) : Lc H Q (1328) i 73 (i) := ⟨(if_pos (by decide)).trans ((if_neg (by decide)).trans ((if_neg (by decide)).trans ((if_neg (by decide)).trans ((if_neg (by decide)).trans ((if_neg (by decide)).trans ((if_neg (by decide)).trans (by omega))))))), (if_pos (by decide)).trans ((if_neg (by decide)).trans ((if_neg (by decide)).trans ((if_neg (by decide)).trans ((if_neg (by decide)).trans ((if_neg (by decide)).trans ((if_neg (by decide)).trans (by omega))))))), by omega, lt_eq (show i < 32 by omega) ((if_pos (by decide)).trans ((if_neg (by decide)).trans ((if_neg (by decide)).trans ((if_neg (by decide)).trans ((if_neg (by decide)).trans ((if_neg (by decide)).trans ((if_neg (by decide)))))))))⟩
theorem e_95_74 {H : Int} {Q : Int} {i : Int} (i0 : 0 ≤ i) (i1 : i < 32) : Lc H Q (1329) i 74 (i) := ⟨(if_neg (by decide)).trans ((if_pos (by decide)).trans ((if_pos (by decide)).trans ((if_pos (by decide)).trans ((if_pos (by decide)).trans ((if_pos (by decide)).trans (by omega)))))), (if_neg (by decide)).trans ((if_pos (by decide)).trans ((if_pos (by decide)).trans ((if_pos (by decide)).trans ((if_pos (by decide)).trans ((if_pos (by decide)).trans (by omega)))))), by omega, lt_eq (show i < 32 by omega) ((if_neg (by decide)).trans ((if_pos (by decide)).trans ((if_pos (by decide)).trans ((if_pos (by decide)).trans ((if_pos (by decide)).trans ((if_pos (by decide))))))))⟩
theorem e_46_75 {Q : Int} {H x : Int} (h0 : 0 ≤ x) (h1 : x < 8) : Lc H Q (H + (124 + 2 * x)) 0 75 (x) := ⟨(if_neg (by decide)).trans ((if_pos (by decide)).trans ((if_pos (by decide)).trans ((if_pos (by decide)).trans ((if_pos (by decide)).trans ((if_neg (by decide)).trans ((if_pos (by decide)).trans (by omega))))))), (if_neg (by decide)).trans ((if_pos (by decide)).trans ((if_pos (by decide)).trans ((if_pos (by decide)).trans ((if_pos (by decide)).trans ((if_neg (by decide)).trans ((if_pos (by decide)).trans (by omega))))))), by omega, lt_eq (show x < 8 by omega) ((if_neg (by decide)).trans ((if_pos (by decide)).trans ((if_pos (by decide)).trans ((if_pos (by decide)).trans ((if_pos (by decide)).trans ((if_neg (by decide)).trans ((if_pos (by decide)))))))))⟩
theorem e_46_76 {Q : Int} {H x : Int} (h0 : 0 ≤ x) (h1 : x < 8) : Lc H Q (H + (124 + 2 * x)) 1 76 (x) := ⟨(if_neg (by decide)).trans ((if_pos (by decide)).trans ((if_pos (by decide)).trans ((if_pos (by decide)).trans ((if_pos (by decide)).trans ((if_neg (by decide)).trans ((if_neg (by decide)).trans (by omega))))))), (if_neg (by decide)).trans ((if_pos (by decide)).trans ((if_pos (by decide)).trans ((if_pos (by decide)).trans ((if_pos (by decide)).trans ((if_neg (by decide)).trans ((if_neg (by decide)).trans (by omega))))))), by omega, lt_eq (show x < 8 by omega) ((if_neg (by decide)).trans ((if_pos (by decide)).trans ((if_pos (by decide)).trans ((if_pos (by decide)).trans ((if_pos (by decide)).trans ((if_neg (by decide)).trans ((if_neg (by decide)))))))))⟩
theorem e_46_77 {Q : Int} {H x : Int} (h0 : 0 ≤ x) (h1 : x < 8) : Lc H Q (H + (124 + 2 * x)) 2 77 (x) := ⟨(if_neg (by decide)).trans ((if_pos (by decide)).trans ((if_pos (by decide)).trans ((if_pos (by decide)).trans ((if_neg (by decide)).trans ((if_pos (by decide)).trans (by omega)))))), (if_neg (by decide)).trans ((if_pos (by decide)).trans ((if_pos (by decide)).trans ((if_pos (by decide)).trans ((if_neg (by decide)).trans ((if_pos (by decide)).trans (by omega)))))), by omega, lt_eq (show x < 8 by omega) ((if_neg (by decide)).trans ((if_pos (by decide)).trans ((if_pos (by decide)).trans ((if_pos (by decide)).trans ((if_neg (by decide)).trans ((if_pos (by decide))))))))⟩
theorem e_46_78 {Q : Int} {H x : Int} (h0 : 0 ≤ x) (h1 : x < 8) : Lc H Q (H + (124 + 2 * x)) 4 78 (x) := ⟨(if_neg (by decide)).trans ((if_pos (by decide)).trans ((if_pos (by decide)).trans ((if_pos (by decide)).trans ((if_neg (by decide)).trans ((if_neg (by decide)).trans ((if_pos (by decide)).trans (by omega))))))), (if_neg (by decide)).trans ((if_pos (by decide)).trans ((if_pos (by decide)).trans ((if_pos (by decide)).trans ((if_neg (by decide)).trans ((if_neg (by decide)).trans ((if_pos (by decide)).trans (by omega))))))), by omega, lt_eq (show x < 8 by omega) ((if_neg (by decide)).trans ((if_pos (by decide)).trans ((if_pos (by decide)).trans ((if_pos (by decide)).trans ((if_neg (by decide)).trans ((if_neg (by decide)).trans ((if_pos (by decide)))))))))⟩
theorem e_47_79 {Q : Int} {H x : Int} {i : Int} (h0 : 0 ≤ x) (h1 : x < 8) (i0 : 0 ≤ i) (i1 : i < 48) : Lc H Q (H + (125 + 2 * x)) i 79 (48 * x + i) := ⟨(if_neg (by decide)).trans ((if_pos (by decide)).trans ((if_pos (by decide)).trans ((if_pos (by decide)).trans ((if_neg (by decide)).trans ((if_neg (by decide)).trans ((if_neg (by decide)).trans (by omega))))))), (if_neg (by decide)).trans ((if_pos (by decide)).trans ((if_pos (by decide)).trans ((if_pos (by decide)).trans ((if_neg (by decide)).trans ((if_neg (by decide)).trans ((if_neg (by decide)).trans (by omega))))))), by omega, lt_eq (show 48 * x + i < 384 by omega) ((if_neg (by decide)).trans ((if_pos (by decide)).trans ((if_pos (by decide)).trans ((if_pos (by decide)).trans ((if_neg (by decide)).trans ((if_neg (by decide)).trans ((if_neg (by decide)))))))))⟩
theorem e_80_87 {H : Int} {Q : Int} : Lc H Q (1314) 40 87 (0) := ⟨(if_neg (by decide)).trans ((if_pos (by decide)).trans ((if_pos (by decide)).trans ((if_neg (by decide)).trans ((if_pos (by decide)).trans ((if_neg (by decide)).trans ((if_pos (by decide)).trans (by omega))))))), (if_neg (by decide)).trans ((if_pos (by decide)).trans ((if_pos (by decide)).trans ((if_neg (by decide)).trans ((if_pos (by decide)).trans ((if_neg (by decide)).trans ((if_pos (by decide)).trans (by omega))))))), by omega, lt_eq (show 0 < 1 by omega) ((if_neg (by decide)).trans ((if_pos (by decide)).trans ((if_pos (by decide)).trans ((if_neg (by decide)).trans ((if_pos (by decide)).trans ((if_neg (by decide)).trans ((if_pos (by decide)))))))))⟩
theorem e_43_100 {Q : Int} {H x : Int} (h0 : 0 ≤ x) (h1 : x < 3) : Lc H Q (H + (61 + x)) 1 100 (x) := ⟨(if_neg (by decide)).trans ((if_pos (by decide)).trans ((if_pos (by decide)).trans ((if_neg (by decide)).trans ((if_neg (by decide)).trans ((if_pos (by decide)).trans (by omega)))))), (if_neg (by decide)).trans ((if_pos (by decide)).trans ((if_pos (by decide)).trans ((if_neg (by decide)).trans ((if_neg (by decide)).trans ((if_pos (by decide)).trans (by omega)))))), by omega, lt_eq (show x < 3 by omega) ((if_neg (by decide)).trans ((if_pos (by decide)).trans ((if_pos (by decide)).trans ((if_neg (by decide)).trans ((if_neg (by decide)).trans ((if_pos (by decide))))))))⟩
theorem e_43_101 {Q : Int} {H x : Int} (h0 : 0 ≤ x) (h1 : x < 3) : Lc H Q (H + (61 + x)) 2 101 (x) := ⟨(if_neg (by decide)).trans ((if_pos (by decide)).trans ((if_pos (by decide)).trans ((if_neg (by decide)).trans ((if_neg (by decide)).trans ((if_neg (by decide)).trans ((if_pos (by decide)).trans (by omega))))))), (if_neg (by decide)).trans ((if_pos (by decide)).trans ((if_pos (by decide)).trans ((if_neg (by decide)).trans ((if_neg (by decide)).trans ((if_neg (by decide)).trans ((if_pos (by decide)).trans (by omega))))))), by omega, lt_eq (show x < 3 by omega) ((if_neg (by decide)).trans ((if_pos (by decide)).trans ((if_pos (by decide)).trans ((if_neg (by decide)).trans ((if_neg (by decide)).trans ((if_neg (by decide)).trans ((if_pos (by decide)))))))))⟩
theorem e_43_102 {Q : Int} {H x : Int} (h0 : 0 ≤ x) (h1 : x < 3) : Lc H Q (H + (61 + x)) 3 102 (x) := ⟨(if_neg (by decide)).trans ((if_pos (by decide)).trans ((if_pos (by decide)).trans ((if_neg (by decide)).trans ((if_neg (by decide)).trans ((if_neg (by decide)).trans ((if_neg (by decide)).trans (by omega))))))), (if_neg (by decide)).trans ((if_pos (by decide)).trans ((if_pos (by decide)).trans ((if_neg (by decide)).trans ((if_neg (by decide)).trans ((if_neg (by decide)).trans ((if_neg (by decide)).trans (by omega))))))), by omega, lt_eq (show x < 3 by omega) ((if_neg (by decide)).trans ((if_pos (by decide)).trans ((if_pos (by decide)).trans ((if_neg (by decide)).trans ((if_neg (by decide)).trans ((if_neg (by decide)).trans ((if_neg (by decide)))))))))⟩
theorem e_44_103 {Q : Int} {H x : Int} (h0 : 0 ≤ x) (h1 : x < 20) : Lc H Q (H + (64 + x)) 0 103 (x) := ⟨(if_neg (by decide)).trans ((if_pos (by decide)).trans ((if_neg (by decide)).trans ((if_pos (by decide)).trans ((if_pos (by decide)).trans ((if_pos (by decide)).trans (by omega)))))), (if_neg (by decide)).trans ((if_pos (by decide)).trans ((if_neg (by decide)).trans ((if_pos (by decide)).trans ((if_pos (by decide)).trans ((if_pos (by decide)).trans (by omega)))))), by omega, lt_eq (show x < 20 by omega) ((if_neg (by decide)).trans ((if_pos (by decide)).trans ((if_neg (by decide)).trans ((if_pos (by decide)).trans ((if_pos (by decide)).trans ((if_pos (by decide))))))))⟩
theorem e_44_104 {Q : Int} {H x : Int} (h0 : 0 ≤ x) (h1 : x < 20) : Lc H Q (H + (64 + x)) 1 104 (x) := ⟨(if_neg (by decide)).trans ((if_pos (by decide)).trans ((if_neg (by decide)).trans ((if_pos (by decide)).trans ((if_pos (by decide)).trans ((if_neg (by decide)).trans ((if_pos (by decide)).trans (by omega))))))), (if_neg (by decide)).trans ((if_pos (by decide)).trans ((if_neg (by decide)).trans ((if_pos (by decide)).trans ((if_pos (by decide)).trans ((if_neg (by decide)).trans ((if_pos (by decide)).trans (by omega))))))), by omega, lt_eq (show x < 20 by omega) ((if_neg (by decide)).trans ((if_pos (by decide)).trans ((if_neg (by decide)).trans ((if_pos (by decide)).trans ((if_pos (by decide)).trans ((if_neg (by decide)).trans ((if_pos (by decide)))))))))⟩
theorem e_44_105 {Q : Int} {H x : Int} (h0 : 0 ≤ x) (h1 : x < 20) : Lc H Q (H + (64 + x)) 2 105 (x) := ⟨(if_neg (by decide)).trans ((if_pos (by decide)).trans ((if_neg (by decide)).trans ((if_pos (by decide)).trans ((if_pos (by decide)).trans ((if_neg (by decide)).trans ((if_neg (by decide)).trans (by omega))))))), (if_neg (by decide)).trans ((if_pos (by decide)).trans ((if_neg (by decide)).trans ((if_pos (by decide)).trans ((if_pos (by decide)).trans ((if_neg (by decide)).trans ((if_neg (by decide)).trans (by omega))))))), by omega, lt_eq (show x < 20 by omega) ((if_neg (by decide)).trans ((if_pos (by decide)).trans ((if_neg (by decide)).trans ((if_pos (by decide)).trans ((if_pos (by decide)).trans ((if_neg (by decide)).trans ((if_neg (by decide)))))))))⟩
theorem e_45_106 {Q : Int} {H x : Int} (h0 : 0 ≤ x) (h1 : x < 40) : Lc H Q (H + (84 + x)) 0 106 (x) := ⟨(if_neg (by decide)).trans ((if_pos (by decide)).trans ((if_neg (by decide)).trans ((if_pos (by decide)).trans ((if_neg (by decide)).trans ((if_pos (by decide)).trans (by omega)))))), (if_neg (by decide)).trans ((if_pos (by decide)).trans ((if_neg (by decide)).trans ((if_pos (by decide)).trans ((if_neg (by decide)).trans ((if_pos (by decide)).trans (by omega)))))), by omega, lt_eq (show x < 40 by omega) ((if_neg (by decide)).trans ((if_pos (by decide)).trans ((if_neg (by decide)).trans ((if_pos (by decide)).trans ((if_neg (by decide)).trans ((if_pos (by decide))))))))⟩
theorem e_45_107 {Q : Int} {H x : Int} (h0 : 0 ≤ x) (h1 : x < 40) : Lc H Q (H + (84 + x)) 1 107 (x) := ⟨(if_neg (by decide)).trans ((if_pos (by decide)).trans ((if_neg (by decide)).trans ((if_pos (by decide)).trans ((if_neg (by decide)).trans ((if_neg (by decide)).trans ((if_pos (by decide)).trans (by omega))))))), (if_neg (by decide)).trans ((if_pos (by decide)).trans ((if_neg (by decide)).trans ((if_pos (by decide)).trans ((if_neg (by decide)).trans ((if_neg (by decide)).trans ((if_pos (by decide)).trans (by omega))))))), by omega, lt_eq (show x < 40 by omega) ((if_neg (by decide)).trans ((if_pos (by decide)).trans ((if_neg (by decide)).trans ((if_pos (by decide)).trans ((if_neg (by decide)).trans ((if_neg (by decide)).trans ((if_pos (by decide)))))))))⟩
theorem e_45_108 {Q : Int} {H x : Int} (h0 : 0 ≤ x) (h1 : x < 40) : Lc H Q (H + (84 + x)) 2 108 (x) := ⟨(if_neg (by decide)).trans ((if_pos (by decide)).trans ((if_neg (by decide)).trans ((if_pos (by decide)).trans ((if_neg (by decide)).trans ((if_neg (by decide)).trans ((if_neg (by decide)).trans (by omega))))))), (if_neg (by decide)).trans ((if_pos (by decide)).trans ((if_neg (by decide)).trans ((if_pos (by decide)).trans ((if_neg (by decide)).trans ((if_neg (by decide)).trans ((if_neg (by decide)).trans (by omega))))))), by omega, lt_eq (show x < 40 by omega) ((if_neg (by decide)).trans ((if_pos (by decide)).trans ((if_neg (by decide)).trans ((if_pos (by decide)).trans ((if_neg (by decide)).trans ((if_neg (by decide)).trans ((if_neg (by decide)))))))))⟩
theorem e_45_109 {Q : Int} {H x : Int} (h0 : 0 ≤ x) (h1 : x < 40) : Lc H Q (H + (84 + x)) 3 109 (x) := ⟨(if_neg (by decide)).trans ((if_pos (by decide)).trans ((if_neg (by decide)).trans ((if_neg (by decide)).trans ((if_pos (by decide)).trans ((if_pos (by decide)).trans (by omega)))))), (if_neg (by decide)).trans ((if_pos (by decide)).trans ((if_neg (by decide)).trans ((if_neg (by decide)).trans ((if_pos (by decide)).trans ((if_pos (by decide)).trans (by omega)))))), by omega, lt_eq (show x < 40 by omega) ((if_neg (by decide)).trans ((if_pos (by decide)).trans ((if_neg (by decide)).trans ((if_neg (by decide)).trans ((if_pos (by decide)).trans ((if_pos (by decide))))))))⟩
theorem e_45_110 {Q : Int} {H x : Int} (h0 : 0 ≤ x) (h1 : x < 40) : Lc H Q (H + (84 + x)) 4 110 (x) := ⟨(if_neg (by decide)).trans ((if_pos (by decide)).trans ((if_neg (by decide)).trans ((if_neg (by decide)).trans ((if_pos (by decide)).trans ((if_neg (by decide)).trans ((if_pos (by decide)).trans (by omega))))))), (if_neg (by decide)).trans ((if_pos (by decide)).trans ((if_neg (by decide)).trans ((if_neg (by decide)).trans ((if_pos (by decide)).trans ((if_neg (by decide)).trans ((if_pos (by decide)).trans (by omega))))))), by omega, lt_eq (show x < 40 by omega) ((if_neg (by decide)).trans ((if_pos (by decide)).trans ((if_neg (by decide)).trans ((if_neg (by decide)).trans ((if_pos (by decide)).trans ((if_neg (by decide)).trans ((if_pos (by decide)))))))))⟩
theorem e_45_111 {Q : Int} {H x : Int} (h0 : 0 ≤ x) (h1 : x < 40) : Lc H Q (H + (84 + x)) 5 111 (x) := ⟨(if_neg (by decide)).trans ((if_pos (by decide)).trans ((if_neg (by decide)).trans ((if_neg (by decide)).trans ((if_pos (by decide)).trans ((if_neg (by decide)).trans ((if_neg (by decide)).trans (by omega))))))), (if_neg (by decide)).trans ((if_pos (by decide)).trans ((if_neg (by decide)).trans ((if_neg (by decide)).trans ((if_pos (by decide)).trans ((if_neg (by decide)).trans ((if_neg (by decide)).trans (by omega))))))), by omega, lt_eq (show x < 40 by omega) ((if_neg (by decide)).trans ((if_pos (by decide)).trans ((if_neg (by decide)).trans ((if_neg (by decide)).trans ((if_pos (by decide)).trans ((if_neg (by decide)).trans ((if_neg (by decide)))))))))⟩
theorem e_80_112 {H : Int} {Q : Int} : Lc H Q (1314) 29 112 (0) := ⟨(if_neg (by decide)).trans ((if_pos (by decide)).trans ((if_neg (by decide)).trans ((if_neg (by decide)).trans ((if_neg (by decide)).trans ((if_pos (by decide)).trans ((if_pos (by decide)).trans (by omega))))))), (if_neg (by decide)).trans ((if_pos (by decide)).trans ((if_neg (by decide)).trans ((if_neg (by decide)).trans ((if_neg (by decide)).trans ((if_pos (by decide)).trans ((if_pos (by decide)).trans (by omega))))))), by omega, lt_eq (show 0 < 1 by omega) ((if_neg (by decide)).trans ((if_pos (by decide)).trans ((if_neg (by decide)).trans ((if_neg (by decide)).trans ((if_neg (by decide)).trans ((if_pos (by decide)).trans ((if_pos (by decide)))))))))⟩
theorem e_96_113 {H : Int} {Q : Int} {i : Int} (i0 : 0 ≤ i) (i1 : i < 256) (i2 : i % 4 = 0) : Lc H Q (1330) i 113 (i / 4) := ⟨(if_neg (by decide)).trans ((if_pos (by decide)).trans ((if_neg (by decide)).trans ((if_neg (by decide)).trans ((if_neg (by decide)).trans ((if_pos (by decide)).trans ((if_neg (by decide)).trans (by omega))))))), (if_neg (by decide)).trans ((if_pos (by decide)).trans ((if_neg (by decide)).trans ((if_neg (by decide)).trans ((if_neg (by decide)).trans ((if_pos (by decide)).trans ((if_neg (by decide)).trans (by omega))))))), by omega, lt_eq (show i / 4 < 64 by omega) ((if_neg (by decide)).trans ((if_pos (by decide)).trans ((if_neg (by decide)).trans ((if_neg (by decide)).trans ((if_neg (by decide)).trans ((if_pos (by decide)).trans ((if_neg (by decide)))))))))⟩
theorem e_96_114 {H : Int} {Q : Int} {i : Int} (i0 : 0 ≤ i) (i1 : i < 256) (i2 : i % 4 = 1) : Lc H Q (1330) i 114 (i / 4) := ⟨(if_neg (by decide)).trans ((if_pos (by decide)).trans ((if_neg (by decide)).trans ((if_neg (by decide)).trans ((if_neg (by decide)).trans ((if_neg (by decide)).trans ((if_pos (by decide)).trans (by omega))))))), (if_neg (by decide)).trans ((if_pos (by decide)).trans ((if_neg (by decide)).trans ((if_neg (by decide)).trans ((if_neg (by decide)).trans ((if_neg (by decide)).trans ((if_pos (by decide)).trans (by omega))))))), by omega, lt_eq (show i / 4 < 64 by omega) ((if_neg (by decide)).trans ((if_pos (by decide)).trans ((if_neg (by decide)).trans ((if_neg (by decide)).trans ((if_neg (by decide)).trans ((if_neg (by decide)).trans ((if_pos (by decide)))))))))⟩
theorem e_96_115 {H : Int} {Q : Int} {i : Int} (i0 : 0 ≤ i) (i1 : i < 256) (i2 : i % 4 = 2) : Lc H Q (1330) i 115 (i / 4) := ⟨(if_neg (by decide)).trans ((if_pos (by decide)).trans ((if_neg (by decide)).trans ((if_neg (by decide)).trans ((if_neg (by decide)).trans ((if_neg (by decide)).trans ((if_neg (by decide)).trans (by omega))))))), (if_neg (by decide)).trans ((if_pos (by decide)).trans ((if_neg (by decide)).trans ((if_neg (by decide)).trans ((if_neg (by decide)).trans ((if_neg (by decide)).trans ((if_neg (by decide)).trans (by omega))))))), by omega, lt_eq (show i / 4 < 64 by omega) ((if_neg (by decide)).trans ((if_pos (by decide)).trans ((if_neg (by decide)).trans ((if_neg (by decide)).trans ((if_neg (by decide)).trans ((if_neg (by decide)).trans ((if_neg (by decide)))))))))⟩
theorem e_96_116 {H : Int} {Q : Int} {i : Int} (i0 : 0 ≤ i) (i1 : i < 256) (i2 : i % 4 = 3) : Lc H Q (1330) i 116 (i / 4) := ⟨(if_neg (by decide)).trans ((if_neg (by decide)).trans ((if_pos (by decide)).trans ((if_pos (by decide)).trans ((if_pos (by decide)).trans ((if_pos (by decide)).trans (by omega)))))), (if_neg (by decide)).trans ((if_neg (by decide)).trans ((if_pos (by decide)).trans ((if_pos (by decide)).trans ((if_pos (by decide)).trans ((if_pos (by decide)).trans (by omega)))))), by omega, lt_eq (show i / 4 < 64 by omega) ((if_neg (by decide)).trans ((if_neg (by decide)).trans ((if_pos (by decide)).trans ((if_pos (by decide)).trans ((if_pos (by decide)).trans ((if_pos (by decide))))))))⟩
theorem e_42_117 {Q : Int} {H x : Int} (h0 : 0 ≤ x) (h1 : x < 10) : Lc H Q (H + (42 + 2 * x)) 0 117 (x) := ⟨(if_neg (by decide)).trans ((if_neg (by decide)).trans ((if_pos (by decide)).trans ((if_pos (by decide)).trans ((if_pos (by decide)).trans ((if_neg (by decide)).trans ((if_pos (by decide)).trans (by omega))))))), (if_neg (by decide)).trans ((if_neg (by decide)).trans ((if_pos (by decide)).trans ((if_pos (by decide)).trans ((if_pos (by decide)).trans ((if_neg (by decide)).trans ((if_pos (by decide)).trans (by omega))))))), by omega, lt_eq (show x < 10 by omega) ((if_neg (by decide)).trans ((if_neg (by decide)).trans ((if_pos (by decide)).trans ((if_pos (by decide)).trans ((if_pos (by decide)).trans ((if_neg (by decide)).trans ((if_pos (by decide)))))))))⟩
theorem e_42_118 {Q : Int} {H x : Int} (h0 : 0 ≤ x) (h1 : x < 10) : Lc H Q (H + (42 + 2 * x)) 1 118 (x) := ⟨(if_neg (by decide)).trans ((if_neg (by decide)).trans ((if_pos (by decide)).trans ((if_pos (by decide)).trans ((if_pos (by decide)).trans ((if_neg (by decide)).trans ((if_neg (by decide)).trans ((if_pos (by omega)).trans (by omega)))))))), (if_neg (by decide)).trans ((if_neg (by decide)).trans ((if_pos (by decide)).trans ((if_pos (by decide)).trans ((if_pos (by decide)).trans ((if_neg (by decide)).trans ((if_neg (by decide)).trans ((if_pos (by omega)).trans (by omega)))))))), by omega, lt_eq (show x < 11 by omega) ((if_neg (by decide)).trans ((if_neg (by decide)).trans ((if_pos (by decide)).trans ((if_pos (by decide)).trans ((if_pos (by decide)).trans ((if_neg (by decide)).trans ((if_neg (by decide)))))))))⟩
theorem e_20_118 {Q : Int} {H : Int} : Lc H Q (H) 10 118 (10) := ⟨(if_neg (by decide)).trans ((if_neg (by decide)).trans ((if_pos (by decide)).trans ((if_pos (by decide)).trans ((if_pos (by decide)).trans ((if_neg (by decide)).trans ((if_neg (by decide)).trans ((if_neg (by omega)).trans (by omega)))))))), (if_neg (by decide)).trans ((if_neg (by decide)).trans ((if_pos (by decide)).trans ((if_pos (by decide)).trans ((if_pos (by decide)).trans ((if_neg (by decide)).trans ((if_neg (by decide)).trans ((if_neg (by omega)).trans (by omega)))))))), by omega, lt_eq (show 10 < 11 by omega) ((if_neg (by decide)).trans ((if_neg (by decide)).trans ((if_pos (by decide)).trans ((if_pos (by decide)).trans ((if_pos (by decide)).trans ((if_neg (by decide)).trans ((if_neg (by decide)))))))))⟩
theorem e_42_119 {Q : Int} {H x : Int} (h0 : 0 ≤ x) (h1 : x < 10) : Lc H Q (H + (42 + 2 * x)) 2 119 (x) := ⟨(if_neg (by decide)).trans ((if_neg (by decide)).trans ((if_pos (by decide)).trans ((if_pos (by decide)).trans ((if_neg (by decide)).trans ((if_pos (by decide)).trans (by omega)))))), (if_neg (by decide)).trans ((if_neg (by decide)).trans ((if_pos (by decide)).trans ((if_pos (by decide)).trans ((if_neg (by decide)).trans ((if_pos (by decide)).trans (by omega)))))), by omega, lt_eq (show x < 10 by omega) ((if_neg (by decide)).trans ((if_neg (by decide)).trans ((if_pos (by decide)).trans ((if_pos (by decide)).trans ((if_neg (by decide)).trans ((if_pos (by decide))))))))⟩
theorem e_41_120 {Q : Int} {H x : Int} (h0 : 0 ≤ x) (h1 : x < 10) : Lc H Q (H + (41 + 2 * x)) 0 120 (x) := ⟨(if_neg (by decide)).trans ((if_neg (by decide)).trans ((if_pos (by decide)).trans ((if_pos (by decide)).trans ((if_neg (by decide)).trans ((if_neg (by decide)).trans ((if_pos (by decide)).trans (by omega))))))), (if_neg (by decide)).trans ((if_neg (by decide)).trans ((if_pos (by decide)).trans ((if_pos (by decide)).trans ((if_neg (by decide)).trans ((if_neg (by decide)).trans ((if_pos (by decide)).trans (by omega))))))), by omega, lt_eq (show x < 10 by omega) ((if_neg (by decide)).trans ((if_neg (by decide)).trans ((if_pos (by decide)).trans ((if_pos (by decide)).trans ((if_neg (by decide)).trans ((if_neg (by decide)).trans ((if_pos (by decide)))))))))⟩
theorem e_41_121 {Q : Int} {H x : Int} (h0 : 0 ≤ x) (h1 : x < 10) : Lc H Q (H + (41 + 2 * x)) 1 121 (x) := ⟨(if_neg (by decide)).trans ((if_neg (by decide)).trans ((if_pos (by decide)).trans ((if_pos (by decide)).trans ((if_neg (by decide)).trans ((if_neg (by decide)).trans ((if_neg (by decide)).trans (by omega))))))), (if_neg (by decide)).trans ((if_neg (by decide)).trans ((if_pos (by decide)).trans ((if_pos (by decide)).trans ((if_neg (by decide)).trans ((if_neg (by decide)).trans ((if_neg (by decide)).trans (by omega))))))), by omega, lt_eq (show x < 10 by omega) ((if_neg (by decide)).trans ((if_neg (by decide)).trans ((if_pos (by decide)).trans ((if_pos (by decide)).trans ((if_neg (by decide)).trans ((if_neg (by decide)).trans ((if_neg (by decide)))))))))⟩
theorem e_20_122 {Q : Int} {H : Int} : Lc H Q (H) 13 122 (0) := ⟨(if_neg (by decide)).trans ((if_neg (by decide)).trans ((if_pos (by decide)).trans ((if_neg (by decide)).trans ((if_pos (by decide)).trans ((if_pos (by decide)).trans (by omega)))))), (if_neg (by decide)).trans ((if_neg (by decide)).trans ((if_pos (by decide)).trans ((if_neg (by decide)).trans ((if_pos (by decide)).trans ((if_pos (by decide)).trans (by omega)))))), by omega, lt_eq (show 0 < 1 by omega) ((if_neg (by decide)).trans ((if_neg (by decide)).trans ((if_pos (by decide)).trans ((if_neg (by decide)).trans ((if_pos (by decide)).trans ((if_pos (by decide))))))))⟩
theorem e_20_123 {Q : Int} {H : Int} : Lc H Q (H) 14 123 (0) := ⟨(if_neg (by decide)).trans ((if_neg (by decide)).trans ((if_pos (by decide)).trans ((if_neg (by decide)).trans ((if_pos (by decide)).trans ((if_neg (by decide)).trans ((if_pos (by decide)).trans (by omega))))))), (if_neg (by decide)).trans ((if_neg (by decide)).trans ((if_pos (by decide)).trans ((if_neg (by decide)).trans ((if_pos (by decide)).trans ((if_neg (by decide)).trans ((if_pos (by decide)).trans (by omega))))))), by omega, lt_eq (show 0 < 1 by omega) ((if_neg (by decide)).trans ((if_neg (by decide)).trans ((if_pos (by decide)).trans ((if_neg (by decide)).trans ((if_pos (by decide)).trans ((if_neg (by decide)).trans ((if_pos (by decide)))))))))⟩
theorem e_20_124 {Q : Int} {H : Int} : Lc H Q (H) 15 124 (0) := ⟨(if_neg (by decide)).trans ((if_neg (by decide)).trans ((if_pos (by decide)).trans ((if_neg (by decide)).trans ((if_pos (by decide)).trans ((if_neg (by decide)).trans ((if_neg (by decide)).trans (by omega))))))), (if_neg (by decide)).trans ((if_neg (by decide)).trans ((if_pos (by decide)).trans ((if_neg (by decide)).trans ((if_pos (by decide)).trans ((if_neg (by decide)).trans ((if_neg (by decide)).trans (by omega))))))), by omega, lt_eq (show 0 < 1 by omega) ((if_neg (by decide)).trans ((if_neg (by decide)).trans ((if_pos (by decide)).trans ((if_neg (by decide)).trans ((if_pos (by decide)).trans ((if_neg (by decide)).trans ((if_neg (by decide)))))))))⟩
theorem e_20_125 {Q : Int} {H : Int} : Lc H Q (H) 16 125 (0) := ⟨(if_neg (by decide)).trans ((if_neg (by decide)).trans ((if_pos (by decide)).trans ((if_neg (by decide)).trans ((if_neg (by decide)).trans ((if_pos (by decide)).trans ((if_pos (by decide)).trans (by omega))))))), (if_neg (by decide)).trans ((if_neg (by decide)).trans ((if_pos (by decide)).trans ((if_neg (by decide)).trans ((if_neg (by decide)).trans ((if_pos (by decide)).trans ((if_pos (by decide)).trans (by omega))))))), by omega, lt_eq (show 0 < 1 by omega) ((if_neg (by decide)).trans ((if_neg (by decide)).trans ((if_pos (by decide)).trans ((if_neg (by decide)).trans ((if_neg (by decide)).trans ((if_pos (by decide)).trans ((if_pos (by decide)))))))))⟩
theorem e_10_129 {H : Int} {Q : Int} {x r : Int} {i : Int} (h0 : 0 ≤ x) (h1 : x < 2) (h2 : 0 ≤ r) (h3 : r < 200) (i0 : 0 ≤ i) (i1 : i < 48) : Lc H Q (73 + 201 * x + r) i 129 (48 * (200 * x + r) + i) := ⟨(if_neg (by decide)).trans ((if_neg (by decide)).trans ((if_pos (by decide)).trans ((if_neg (by decide)).trans ((if_neg (by decide)).trans ((if_neg (by decide)).trans ((if_pos (by decide)).trans (by omega))))))), (if_neg (by decide)).trans ((if_neg (by decide)).trans ((if_pos (by decide)).trans ((if_neg (by decide)).trans ((if_neg (by decide)).trans ((if_neg (by decide)).trans ((if_pos (by decide)).trans (by omega))))))), by omega, lt_eq (show 48 * (200 * x + r) + i < 19200 by omega) ((if_neg (by decide)).trans ((if_neg (by decide)).trans ((if_pos (by decide)).trans ((if_neg (by decide)).trans ((if_neg (by decide)).trans ((if_neg (by decide)).trans ((if_pos (by decide)))))))))⟩
theorem e_66_130 {H : Int} {Q : Int} {i : Int} (i0 : 0 ≤ i) (i1 : i < 135) : Lc H Q (Q + 1) i 130 (i) := ⟨(if_neg (by decide)).trans ((if_neg (by decide)).trans ((if_pos (by decide)).trans ((if_neg (by decide)).trans ((if_neg (by decide)).trans ((if_neg (by decide)).trans ((if_neg (by decide)).trans (by omega))))))), (if_neg (by decide)).trans ((if_neg (by decide)).trans ((if_pos (by decide)).trans ((if_neg (by decide)).trans ((if_neg (by decide)).trans ((if_neg (by decide)).trans ((if_neg (by decide)).trans (by omega))))))), by omega, lt_eq (show i < 135 by omega) ((if_neg (by decide)).trans ((if_neg (by decide)).trans ((if_pos (by decide)).trans ((if_neg (by decide)).trans ((if_neg (by decide)).trans ((if_neg (by decide)).trans ((if_neg (by decide)))))))))⟩
theorem e_68_131 {H : Int} {Q x : Int} {i : Int} (h0 : 0 ≤ x) (h1 : x < 135) (i0 : 0 ≤ i) (i1 : i < 28) : Lc H Q (Q + (3 + x)) i 131 (28 * x + i) := ⟨(if_neg (by decide)).trans ((if_neg (by decide)).trans ((if_neg (by decide)).trans ((if_pos (by decide)).trans ((if_pos (by decide)).trans ((if_pos (by decide)).trans (by omega)))))), (if_neg (by decide)).trans ((if_neg (by decide)).trans ((if_neg (by decide)).trans ((if_pos (by decide)).trans ((if_pos (by decide)).trans ((if_pos (by decide)).trans (by omega)))))), by omega, lt_eq (show 28 * x + i < 3780 by omega) ((if_neg (by decide)).trans ((if_neg (by decide)).trans ((if_neg (by decide)).trans ((if_pos (by decide)).trans ((if_pos (by decide)).trans ((if_pos (by decide))))))))⟩
theorem e_7_133 {H : Int} {Q : Int} : Lc H Q (70) 2 133 (0) := ⟨(if_neg (by decide)).trans ((if_neg (by decide)).trans ((if_neg (by decide)).trans ((if_pos (by decide)).trans ((if_pos (by decide)).trans ((if_neg (by decide)).trans ((if_neg (by decide)).trans (by omega))))))), (if_neg (by decide)).trans ((if_neg (by decide)).trans ((if_neg (by decide)).trans ((if_pos (by decide)).trans ((if_pos (by decide)).trans ((if_neg (by decide)).trans ((if_neg (by decide)).trans (by omega))))))), by omega, lt_eq (show 0 < 1 by omega) ((if_neg (by decide)).trans ((if_neg (by decide)).trans ((if_neg (by decide)).trans ((if_pos (by decide)).trans ((if_pos (by decide)).trans ((if_neg (by decide)).trans ((if_neg (by decide)))))))))⟩
theorem e_7_134 {H : Int} {Q : Int} : Lc H Q (70) 3 134 (0) := ⟨(if_neg (by decide)).trans ((if_neg (by decide)).trans ((if_neg (by decide)).trans ((if_pos (by decide)).trans ((if_neg (by decide)).trans ((if_pos (by decide)).trans (by omega)))))), (if_neg (by decide)).trans ((if_neg (by decide)).trans ((if_neg (by decide)).trans ((if_pos (by decide)).trans ((if_neg (by decide)).trans ((if_pos (by decide)).trans (by omega)))))), by omega, lt_eq (show 0 < 1 by omega) ((if_neg (by decide)).trans ((if_neg (by decide)).trans ((if_neg (by decide)).trans ((if_pos (by decide)).trans ((if_neg (by decide)).trans ((if_pos (by decide))))))))⟩
theorem e_7_135 {H : Int} {Q : Int} : Lc H Q (70) 4 135 (0) := ⟨(if_neg (by decide)).trans ((if_neg (by decide)).trans ((if_neg (by decide)).trans ((if_pos (by decide)).trans ((if_neg (by decide)).trans ((if_neg (by decide)).trans ((if_pos (by decide)).trans (by omega))))))), (if_neg (by decide)).trans ((if_neg (by decide)).trans ((if_neg (by decide)).trans ((if_pos (by decide)).trans ((if_neg (by decide)).trans ((if_neg (by decide)).trans ((if_pos (by decide)).trans (by omega))))))), by omega, lt_eq (show 0 < 1 by omega) ((if_neg (by decide)).trans ((if_neg (by decide)).trans ((if_neg (by decide)).trans ((if_pos (by decide)).trans ((if_neg (by decide)).trans ((if_neg (by decide)).trans ((if_pos (by decide)))))))))⟩
theorem e_7_136 {H : Int} {Q : Int} : Lc H Q (70) 5 136 (0) := ⟨(if_neg (by decide)).trans ((if_neg (by decide)).trans ((if_neg (by decide)).trans ((if_pos (by decide)).trans ((if_neg (by decide)).trans ((if_neg (by decide)).trans ((if_neg (by decide)).trans (by omega))))))), (if_neg (by decide)).trans ((if_neg (by decide)).trans ((if_neg (by decide)).trans ((if_pos (by decide)).trans ((if_neg (by decide)).trans ((if_neg (by decide)).trans ((if_neg (by decide)).trans (by omega))))))), by omega, lt_eq (show 0 < 1 by omega) ((if_neg (by decide)).trans ((if_neg (by decide)).trans ((if_neg (by decide)).trans ((if_pos (by decide)).trans ((if_neg (by decide)).trans ((if_neg (by decide)).trans ((if_neg (by decide)))))))))⟩
theorem e_7_137 {H : Int} {Q : Int} : Lc H Q (70) 6 137 (0) := ⟨(if_neg (by decide)).trans ((if_neg (by decide)).trans ((if_neg (by decide)).trans ((if_neg (by decide)).trans ((if_pos (by decide)).trans ((if_pos (by decide)).trans (by omega)))))), (if_neg (by decide)).trans ((if_neg (by decide)).trans ((if_neg (by decide)).trans ((if_neg (by decide)).trans ((if_pos (by decide)).trans ((if_pos (by decide)).trans (by omega)))))), by omega, lt_eq (show 0 < 1 by omega) ((if_neg (by decide)).trans ((if_neg (by decide)).trans ((if_neg (by decide)).trans ((if_neg (by decide)).trans ((if_pos (by decide)).trans ((if_pos (by decide))))))))⟩
theorem e_103_140 {H : Int} {Q : Int} {i : Int} (i0 : 0 ≤ i) (i1 : i < 4100) : Lc H Q (1339) i 140 (i) := ⟨(if_neg (by decide)).trans ((if_neg (by decide)).trans ((if_neg (by decide)).trans ((if_neg (by decide)).trans ((if_pos (by decide)).trans ((if_neg (by decide)).trans ((if_neg (by decide)).trans (by omega))))))), (if_neg (by decide)).trans ((if_neg (by decide)).trans ((if_neg (by decide)).trans ((if_neg (by decide)).trans ((if_pos (by decide)).trans ((if_neg (by decide)).trans ((if_neg (by decide)).trans (by omega))))))), by omega, lt_eq (show i < 4100 by omega) ((if_neg (by decide)).trans ((if_neg (by decide)).trans ((if_neg (by decide)).trans ((if_neg (by decide)).trans ((if_pos (by decide)).trans ((if_neg (by decide)).trans ((if_neg (by decide)))))))))⟩
theorem e_102_141 {H : Int} {Q : Int} : Lc H Q (1338) 1 141 (0) := ⟨(if_neg (by decide)).trans ((if_neg (by decide)).trans ((if_neg (by decide)).trans ((if_neg (by decide)).trans ((if_neg (by decide)).trans ((if_pos (by decide)).trans ((if_pos (by decide)).trans (by omega))))))), (if_neg (by decide)).trans ((if_neg (by decide)).trans ((if_neg (by decide)).trans ((if_neg (by decide)).trans ((if_neg (by decide)).trans ((if_pos (by decide)).trans ((if_pos (by decide)).trans (by omega))))))), by omega, lt_eq (show 0 < 1 by omega) ((if_neg (by decide)).trans ((if_neg (by decide)).trans ((if_neg (by decide)).trans ((if_neg (by decide)).trans ((if_neg (by decide)).trans ((if_pos (by decide)).trans ((if_pos (by decide)))))))))⟩
theorem e_105_142 {H : Int} {Q : Int} {i : Int} (i0 : 0 ≤ i) (i1 : i < 4100) : Lc H Q (1341) i 142 (i) := ⟨(if_neg (by decide)).trans ((if_neg (by decide)).trans ((if_neg (by decide)).trans ((if_neg (by decide)).trans ((if_neg (by decide)).trans ((if_pos (by decide)).trans ((if_neg (by decide)).trans (by omega))))))), (if_neg (by decide)).trans ((if_neg (by decide)).trans ((if_neg (by decide)).trans ((if_neg (by decide)).trans ((if_neg (by decide)).trans ((if_pos (by decide)).trans ((if_neg (by decide)).trans (by omega))))))), by omega, lt_eq (show i < 4100 by omega) ((if_neg (by decide)).trans ((if_neg (by decide)).trans ((if_neg (by decide)).trans ((if_neg (by decide)).trans ((if_neg (by decide)).trans ((if_pos (by decide)).trans ((if_neg (by decide)))))))))⟩
theorem e_104_143 {H : Int} {Q : Int} : Lc H Q (1340) 1 143 (0) := ⟨(if_neg (by decide)).trans ((if_neg (by decide)).trans ((if_neg (by decide)).trans ((if_neg (by decide)).trans ((if_neg (by decide)).trans ((if_neg (by decide)).trans ((if_pos (by decide)).trans (by omega))))))), (if_neg (by decide)).trans ((if_neg (by decide)).trans ((if_neg (by decide)).trans ((if_neg (by decide)).trans ((if_neg (by decide)).trans ((if_neg (by decide)).trans ((if_pos (by decide)).trans (by omega))))))), by omega, lt_eq (show 0 < 1 by omega) ((if_neg (by decide)).trans ((if_neg (by decide)).trans ((if_neg (by decide)).trans ((if_neg (by decide)).trans ((if_neg (by decide)).trans ((if_neg (by decide)).trans ((if_pos (by decide)))))))))⟩
theorem dm_nn {v j : Int} (h0 : 0 ≤ j) (h1 : j < dm v) : 0 ≤ v := by
  rcases Int.lt_or_le v 0 with c | c
  · have e : dm v = 0 := (if_pos (by omega)).trans ((if_pos (by omega)).trans ((if_pos (by omega)).trans ((if_pos (by omega)).trans ((if_pos (by omega)).trans ((if_pos (by omega)))))))
    omega
  · exact c
theorem at_of {H Q L v j : Int} (hh : is_h H) (hq : is_k Q) (h0 : 0 ≤ j) (h1 : j < dm v) : At H Q L (ca H Q v j) (ci v j) v j := by
  unfold dm at h1
  rcases Int.lt_or_le v 74 with c | c
  · rw [if_pos c] at h1
    rcases Int.lt_or_le v 43 with c | c
    · rw [if_pos c] at h1
      rcases Int.lt_or_le v 21 with c | c
      · rw [if_pos c] at h1
        rcases Int.lt_or_le v 6 with c | c
        · rw [if_pos c] at h1
          rcases Int.lt_or_le v 3 with c | c
          · rw [if_pos c] at h1
            rcases Int.lt_or_le v 1 with c | c
            · rw [if_pos c] at h1
              omega
            · rw [if_neg (by omega)] at h1
              rcases Int.lt_or_le v 2 with c | c
              · rw [if_pos c] at h1
                obtain rfl : v = 1 := by omega
                have e := e_1_1 (H := H) (Q := Q)
                obtain rfl : j = 0 := by omega
                exact (a_1 (H := H) (Q := Q) (L := L)).cg e.1.symm e.2.1.symm (by omega)
              · rw [if_neg (by omega)] at h1
                obtain rfl : v = 2 := by omega
                have e := e_20_2 (H := H) (Q := Q)
                obtain rfl : j = 0 := by omega
                exact (a_20_2 (H := H) (Q := Q) (L := L) hh).cg e.1.symm e.2.1.symm (by omega)
          · rw [if_neg (by omega)] at h1
            rcases Int.lt_or_le v 4 with c | c
            · rw [if_pos c] at h1
              obtain rfl : v = 3 := by omega
              by_cases c0 : j < 550
              · have e := e_23_3 (H := H) (Q := Q) (x := j / 110) (i := j % 110) (by omega) (by omega) (by omega) (by omega)
                rw [show (110 * (j / 110) + j % 110 : Int) = j by omega] at e
                exact (a_23 (H := H) (Q := Q) (L := L) (x := j / 110) (i := j % 110) hh (by omega) (by omega) (by omega) (by omega)).cg e.1.symm e.2.1.symm (by omega)
              · by_cases c1 : j < 2200
                · have e := e_110_3 (H := H) (Q := Q) (x := ((j - 550) / 110) / 5) (s := ((j - 550) / 110) % 5) (i := (j - 550) % 110) (by omega) (by omega) (by omega) (by omega) (by omega) (by omega)
                  rw [show (550 + 110 * (5 * (((j - 550) / 110) / 5) + ((j - 550) / 110) % 5) + (j - 550) % 110 : Int) = j by omega] at e
                  exact (a_110 (H := H) (Q := Q) (L := L) (x := ((j - 550) / 110) / 5) (s := ((j - 550) / 110) % 5) (i := (j - 550) % 110) (by omega) (by omega) (by omega) (by omega) (by omega) (by omega)).cg e.1.symm e.2.1.symm (by omega)
                · have e := e_113_3 (H := H) (Q := Q) (x := ((j - 2200) / 110) / 5) (s := ((j - 2200) / 110) % 5) (i := (j - 2200) % 110) (by omega) (by omega) (by omega) (by omega) (by omega) (by omega)
                  rw [show (2200 + 110 * (5 * (((j - 2200) / 110) / 5) + ((j - 2200) / 110) % 5) + (j - 2200) % 110 : Int) = j by omega] at e
                  exact (a_113 (H := H) (Q := Q) (L := L) (x := ((j - 2200) / 110) / 5) (s := ((j - 2200) / 110) % 5) (i := (j - 2200) % 110) (by omega) (by omega) (by omega) (by omega) (by omega) (by omega)).cg e.1.symm e.2.1.symm (by omega)
            · rw [if_neg (by omega)] at h1
              rcases Int.lt_or_le v 5 with c | c
              · rw [if_pos c] at h1
                obtain rfl : v = 4 := by omega
                have e := e_80_4 (H := H) (Q := Q)
                obtain rfl : j = 0 := by omega
                exact (a_80_4 (H := H) (Q := Q) (L := L)).cg e.1.symm e.2.1.symm (by omega)
              · rw [if_neg (by omega)] at h1
                obtain rfl : v = 5 := by omega
                have e := e_25_5 (H := H) (Q := Q) (x := j / 48) (i := j % 48) (by omega) (by omega) (by omega) (by omega)
                rw [show (48 * (j / 48) + j % 48 : Int) = j by omega] at e
                exact (a_25 (H := H) (Q := Q) (L := L) (x := j / 48) (i := j % 48) hh (by omega) (by omega) (by omega) (by omega)).cg e.1.symm e.2.1.symm (by omega)
        · rw [if_neg (by omega)] at h1
          rcases Int.lt_or_le v 18 with c | c
          · rw [if_pos c] at h1
            rcases Int.lt_or_le v 16 with c | c
            · rw [if_pos c] at h1
              omega
            · rw [if_neg (by omega)] at h1
              rcases Int.lt_or_le v 17 with c | c
              · rw [if_pos c] at h1
                obtain rfl : v = 16 := by omega
                have e := e_27_16 (H := H) (Q := Q) (x := j / 24) (i := j % 24) (by omega) (by omega) (by omega) (by omega)
                rw [show (24 * (j / 24) + j % 24 : Int) = j by omega] at e
                exact (a_27 (H := H) (Q := Q) (L := L) (x := j / 24) (i := j % 24) hh (by omega) (by omega) (by omega) (by omega)).cg e.1.symm e.2.1.symm (by omega)
              · rw [if_neg (by omega)] at h1
                obtain rfl : v = 17 := by omega
                have e := e_28_17 (H := H) (Q := Q) (i := j) (by omega) (by omega)
                exact (a_28 (H := H) (Q := Q) (L := L) (i := j) hh (by omega) (by omega)).cg e.1.symm e.2.1.symm (by omega)
          · rw [if_neg (by omega)] at h1
            rcases Int.lt_or_le v 19 with c | c
            · rw [if_pos c] at h1
              obtain rfl : v = 18 := by omega
              have e := e_30_18 (H := H) (Q := Q) (x := j / 24) (i := j % 24) (by omega) (by omega) (by omega) (by omega)
              rw [show (24 * (j / 24) + j % 24 : Int) = j by omega] at e
              exact (a_30 (H := H) (Q := Q) (L := L) (x := j / 24) (i := j % 24) hh (by omega) (by omega) (by omega) (by omega)).cg e.1.symm e.2.1.symm (by omega)
            · rw [if_neg (by omega)] at h1
              rcases Int.lt_or_le v 20 with c | c
              · rw [if_pos c] at h1
                obtain rfl : v = 19 := by omega
                have e := e_32_19 (H := H) (Q := Q) (i := j) (by omega) (by omega)
                exact (a_32 (H := H) (Q := Q) (L := L) (i := j) hh (by omega) (by omega)).cg e.1.symm e.2.1.symm (by omega)
              · rw [if_neg (by omega)] at h1
                obtain rfl : v = 20 := by omega
                have e := e_33_20 (H := H) (Q := Q) (i := j) (by omega) (by omega)
                exact (a_33 (H := H) (Q := Q) (L := L) (i := j) hh (by omega) (by omega)).cg e.1.symm e.2.1.symm (by omega)
      · rw [if_neg (by omega)] at h1
        rcases Int.lt_or_le v 27 with c | c
        · rw [if_pos c] at h1
          rcases Int.lt_or_le v 24 with c | c
          · rw [if_pos c] at h1
            rcases Int.lt_or_le v 22 with c | c
            · rw [if_pos c] at h1
              obtain rfl : v = 21 := by omega
              have e := e_20_21 (H := H) (Q := Q)
              obtain rfl : j = 0 := by omega
              exact (a_20_21 (H := H) (Q := Q) (L := L) hh).cg e.1.symm e.2.1.symm (by omega)
            · rw [if_neg (by omega)] at h1
              rcases Int.lt_or_le v 23 with c | c
              · rw [if_pos c] at h1
                obtain rfl : v = 22 := by omega
                have e := e_35_22 (H := H) (Q := Q) (i := j) (by omega) (by omega)
                exact (a_35 (H := H) (Q := Q) (L := L) (i := j) hh (by omega) (by omega)).cg e.1.symm e.2.1.symm (by omega)
              · rw [if_neg (by omega)] at h1
                obtain rfl : v = 23 := by omega
                have e := e_43_23 (H := H) (Q := Q) (x := j) (by omega) (by omega)
                exact (a_43_23 (H := H) (Q := Q) (L := L) (x := j) hh (by omega) (by omega)).cg e.1.symm e.2.1.symm (by omega)
          · rw [if_neg (by omega)] at h1
            rcases Int.lt_or_le v 25 with c | c
            · rw [if_pos c] at h1
              obtain rfl : v = 24 := by omega
              have e := e_101_24 (H := H) (Q := Q) (i := j) (by omega) (by omega)
              exact (a_101 (H := H) (Q := Q) (L := L) (i := j) (by omega) (by omega)).cg e.1.symm e.2.1.symm (by omega)
            · rw [if_neg (by omega)] at h1
              rcases Int.lt_or_le v 26 with c | c
              · rw [if_pos c] at h1
                obtain rfl : v = 25 := by omega
                have e := e_80_25 (H := H) (Q := Q)
                obtain rfl : j = 0 := by omega
                exact (a_80_25 (H := H) (Q := Q) (L := L)).cg e.1.symm e.2.1.symm (by omega)
              · rw [if_neg (by omega)] at h1
                obtain rfl : v = 26 := by omega
                have e := e_31_26 (H := H) (Q := Q) (i := j) (by omega) (by omega)
                exact (a_31 (H := H) (Q := Q) (L := L) (i := j) hh (by omega) (by omega)).cg e.1.symm e.2.1.symm (by omega)
        · rw [if_neg (by omega)] at h1
          rcases Int.lt_or_le v 38 with c | c
          · rw [if_pos c] at h1
            rcases Int.lt_or_le v 28 with c | c
            · rw [if_pos c] at h1
              obtain rfl : v = 27 := by omega
              have e := e_20_27 (H := H) (Q := Q)
              obtain rfl : j = 0 := by omega
              exact (a_20_27 (H := H) (Q := Q) (L := L) hh).cg e.1.symm e.2.1.symm (by omega)
            · rw [if_neg (by omega)] at h1
              rcases Int.lt_or_le v 37 with c | c
              · rw [if_pos c] at h1
                omega
              · rw [if_neg (by omega)] at h1
                obtain rfl : v = 37 := by omega
                have e := e_89_37 (H := H) (Q := Q) (i := j) (by omega) (by omega)
                exact (a_89 (H := H) (Q := Q) (L := L) (i := j) (by omega) (by omega)).cg e.1.symm e.2.1.symm (by omega)
          · rw [if_neg (by omega)] at h1
            rcases Int.lt_or_le v 41 with c | c
            · rw [if_pos c] at h1
              rcases Int.lt_or_le v 40 with c | c
              · rw [if_pos c] at h1
                omega
              · rw [if_neg (by omega)] at h1
                obtain rfl : v = 40 := by omega
                have e := e_81_40 (H := H) (Q := Q) (i := j) (by omega) (by omega)
                exact (a_81 (H := H) (Q := Q) (L := L) (i := j) (by omega) (by omega)).cg e.1.symm e.2.1.symm (by omega)
            · rw [if_neg (by omega)] at h1
              rcases Int.lt_or_le v 42 with c | c
              · rw [if_pos c] at h1
                obtain rfl : v = 41 := by omega
                have e := e_82_41 (H := H) (Q := Q) (i := j) (by omega) (by omega)
                exact (a_82 (H := H) (Q := Q) (L := L) (i := j) (by omega) (by omega)).cg e.1.symm e.2.1.symm (by omega)
              · rw [if_neg (by omega)] at h1
                obtain rfl : v = 42 := by omega
                have e := e_83_42 (H := H) (Q := Q) (i := j) (by omega) (by omega)
                exact (a_83 (H := H) (Q := Q) (L := L) (i := j) (by omega) (by omega)).cg e.1.symm e.2.1.symm (by omega)
    · rw [if_neg (by omega)] at h1
      rcases Int.lt_or_le v 61 with c | c
      · rw [if_pos c] at h1
        rcases Int.lt_or_le v 54 with c | c
        · rw [if_pos c] at h1
          rcases Int.lt_or_le v 46 with c | c
          · rw [if_pos c] at h1
            rcases Int.lt_or_le v 44 with c | c
            · rw [if_pos c] at h1
              obtain rfl : v = 43 := by omega
              have e := e_85_43 (H := H) (Q := Q) (i := j) (by omega) (by omega)
              exact (a_85 (H := H) (Q := Q) (L := L) (i := j) (by omega) (by omega)).cg e.1.symm e.2.1.symm (by omega)
            · rw [if_neg (by omega)] at h1
              rcases Int.lt_or_le v 45 with c | c
              · rw [if_pos c] at h1
                obtain rfl : v = 44 := by omega
                have e := e_86_44 (H := H) (Q := Q) (i := j) (by omega) (by omega)
                exact (a_86 (H := H) (Q := Q) (L := L) (i := j) (by omega) (by omega)).cg e.1.symm e.2.1.symm (by omega)
              · rw [if_neg (by omega)] at h1
                obtain rfl : v = 45 := by omega
                have e := e_84_45 (H := H) (Q := Q) (i := j) (by omega) (by omega)
                exact (a_84 (H := H) (Q := Q) (L := L) (i := j) (by omega) (by omega)).cg e.1.symm e.2.1.symm (by omega)
          · rw [if_neg (by omega)] at h1
            rcases Int.lt_or_le v 52 with c | c
            · rw [if_pos c] at h1
              omega
            · rw [if_neg (by omega)] at h1
              rcases Int.lt_or_le v 53 with c | c
              · rw [if_pos c] at h1
                obtain rfl : v = 52 := by omega
                have e := e_80_52 (H := H) (Q := Q)
                obtain rfl : j = 0 := by omega
                exact (a_80_52 (H := H) (Q := Q) (L := L)).cg e.1.symm e.2.1.symm (by omega)
              · rw [if_neg (by omega)] at h1
                obtain rfl : v = 53 := by omega
                have e := e_80_53 (H := H) (Q := Q)
                obtain rfl : j = 0 := by omega
                exact (a_80_53 (H := H) (Q := Q) (L := L)).cg e.1.symm e.2.1.symm (by omega)
        · rw [if_neg (by omega)] at h1
          rcases Int.lt_or_le v 57 with c | c
          · rw [if_pos c] at h1
            rcases Int.lt_or_le v 55 with c | c
            · rw [if_pos c] at h1
              obtain rfl : v = 54 := by omega
              have e := e_80_54 (H := H) (Q := Q)
              obtain rfl : j = 0 := by omega
              exact (a_80_54 (H := H) (Q := Q) (L := L)).cg e.1.symm e.2.1.symm (by omega)
            · rw [if_neg (by omega)] at h1
              rcases Int.lt_or_le v 56 with c | c
              · rw [if_pos c] at h1
                obtain rfl : v = 55 := by omega
                have e := e_80_55 (H := H) (Q := Q)
                obtain rfl : j = 0 := by omega
                exact (a_80_55 (H := H) (Q := Q) (L := L)).cg e.1.symm e.2.1.symm (by omega)
              · rw [if_neg (by omega)] at h1
                obtain rfl : v = 56 := by omega
                have e := e_115_56 (H := H) (Q := Q) (x := j) (by omega) (by omega)
                exact (a_115_56 (H := H) (Q := Q) (L := L) (x := j) (by omega) (by omega)).cg e.1.symm e.2.1.symm (by omega)
          · rw [if_neg (by omega)] at h1
            rcases Int.lt_or_le v 59 with c | c
            · rw [if_pos c] at h1
              rcases Int.lt_or_le v 58 with c | c
              · rw [if_pos c] at h1
                obtain rfl : v = 57 := by omega
                have e := e_115_57 (H := H) (Q := Q) (x := j) (by omega) (by omega)
                exact (a_115_57 (H := H) (Q := Q) (L := L) (x := j) (by omega) (by omega)).cg e.1.symm e.2.1.symm (by omega)
              · rw [if_neg (by omega)] at h1
                obtain rfl : v = 58 := by omega
                have e := e_115_58 (H := H) (Q := Q) (x := j) (by omega) (by omega)
                exact (a_115_58 (H := H) (Q := Q) (L := L) (x := j) (by omega) (by omega)).cg e.1.symm e.2.1.symm (by omega)
            · rw [if_neg (by omega)] at h1
              rcases Int.lt_or_le v 60 with c | c
              · rw [if_pos c] at h1
                obtain rfl : v = 59 := by omega
                have e := e_115_59 (H := H) (Q := Q) (x := j) (by omega) (by omega)
                exact (a_115_59 (H := H) (Q := Q) (L := L) (x := j) (by omega) (by omega)).cg e.1.symm e.2.1.symm (by omega)
              · rw [if_neg (by omega)] at h1
                obtain rfl : v = 60 := by omega
                have e := e_115_60 (H := H) (Q := Q) (x := j) (by omega) (by omega)
                exact (a_115_60 (H := H) (Q := Q) (L := L) (x := j) (by omega) (by omega)).cg e.1.symm e.2.1.symm (by omega)
      · rw [if_neg (by omega)] at h1
        rcases Int.lt_or_le v 67 with c | c
        · rw [if_pos c] at h1
          rcases Int.lt_or_le v 64 with c | c
          · rw [if_pos c] at h1
            rcases Int.lt_or_le v 62 with c | c
            · rw [if_pos c] at h1
              obtain rfl : v = 61 := by omega
              have e := e_80_61 (H := H) (Q := Q)
              obtain rfl : j = 0 := by omega
              exact (a_80_61 (H := H) (Q := Q) (L := L)).cg e.1.symm e.2.1.symm (by omega)
            · rw [if_neg (by omega)] at h1
              rcases Int.lt_or_le v 63 with c | c
              · rw [if_pos c] at h1
                obtain rfl : v = 62 := by omega
                have e := e_80_62 (H := H) (Q := Q)
                obtain rfl : j = 0 := by omega
                exact (a_80_62 (H := H) (Q := Q) (L := L)).cg e.1.symm e.2.1.symm (by omega)
              · rw [if_neg (by omega)] at h1
                obtain rfl : v = 63 := by omega
                have e := e_80_63 (H := H) (Q := Q)
                obtain rfl : j = 0 := by omega
                exact (a_80_63 (H := H) (Q := Q) (L := L)).cg e.1.symm e.2.1.symm (by omega)
          · rw [if_neg (by omega)] at h1
            rcases Int.lt_or_le v 65 with c | c
            · rw [if_pos c] at h1
              obtain rfl : v = 64 := by omega
              have e := e_80_64 (H := H) (Q := Q)
              obtain rfl : j = 0 := by omega
              exact (a_80_64 (H := H) (Q := Q) (L := L)).cg e.1.symm e.2.1.symm (by omega)
            · rw [if_neg (by omega)] at h1
              rcases Int.lt_or_le v 66 with c | c
              · rw [if_pos c] at h1
                obtain rfl : v = 65 := by omega
                have e := e_80_65 (H := H) (Q := Q)
                obtain rfl : j = 0 := by omega
                exact (a_80_65 (H := H) (Q := Q) (L := L)).cg e.1.symm e.2.1.symm (by omega)
              · rw [if_neg (by omega)] at h1
                obtain rfl : v = 66 := by omega
                have e := e_80_66 (H := H) (Q := Q)
                obtain rfl : j = 0 := by omega
                exact (a_80_66 (H := H) (Q := Q) (L := L)).cg e.1.symm e.2.1.symm (by omega)
        · rw [if_neg (by omega)] at h1
          rcases Int.lt_or_le v 70 with c | c
          · rw [if_pos c] at h1
            rcases Int.lt_or_le v 68 with c | c
            · rw [if_pos c] at h1
              obtain rfl : v = 67 := by omega
              have e := e_80_67 (H := H) (Q := Q)
              obtain rfl : j = 0 := by omega
              exact (a_80_67 (H := H) (Q := Q) (L := L)).cg e.1.symm e.2.1.symm (by omega)
            · rw [if_neg (by omega)] at h1
              rcases Int.lt_or_le v 69 with c | c
              · rw [if_pos c] at h1
                obtain rfl : v = 68 := by omega
                have e := e_80_68 (H := H) (Q := Q)
                obtain rfl : j = 0 := by omega
                exact (a_80_68 (H := H) (Q := Q) (L := L)).cg e.1.symm e.2.1.symm (by omega)
              · rw [if_neg (by omega)] at h1
                obtain rfl : v = 69 := by omega
                have e := e_90_69 (H := H) (Q := Q) (i := j) (by omega) (by omega)
                exact (a_90 (H := H) (Q := Q) (L := L) (i := j) (by omega) (by omega)).cg e.1.symm e.2.1.symm (by omega)
          · rw [if_neg (by omega)] at h1
            rcases Int.lt_or_le v 72 with c | c
            · rw [if_pos c] at h1
              rcases Int.lt_or_le v 71 with c | c
              · rw [if_pos c] at h1
                obtain rfl : v = 70 := by omega
                have e := e_91_70 (H := H) (Q := Q) (i := j) (by omega) (by omega)
                exact (a_91 (H := H) (Q := Q) (L := L) (i := j) (by omega) (by omega)).cg e.1.symm e.2.1.symm (by omega)
              · rw [if_neg (by omega)] at h1
                obtain rfl : v = 71 := by omega
                have e := e_92_71 (H := H) (Q := Q) (i := j) (by omega) (by omega)
                exact (a_92 (H := H) (Q := Q) (L := L) (i := j) (by omega) (by omega)).cg e.1.symm e.2.1.symm (by omega)
            · rw [if_neg (by omega)] at h1
              rcases Int.lt_or_le v 73 with c | c
              · rw [if_pos c] at h1
                obtain rfl : v = 72 := by omega
                have e := e_80_72 (H := H) (Q := Q)
                obtain rfl : j = 0 := by omega
                exact (a_80_72 (H := H) (Q := Q) (L := L)).cg e.1.symm e.2.1.symm (by omega)
              · rw [if_neg (by omega)] at h1
                obtain rfl : v = 73 := by omega
                have e := e_94_73 (H := H) (Q := Q) (i := j) (by omega) (by omega)
                exact (a_94 (H := H) (Q := Q) (L := L) (i := j) (by omega) (by omega)).cg e.1.symm e.2.1.symm (by omega)
  · rw [if_neg (by omega)] at h1
    rcases Int.lt_or_le v 116 with c | c
    · rw [if_pos c] at h1
      rcases Int.lt_or_le v 103 with c | c
      · rw [if_pos c] at h1
        rcases Int.lt_or_le v 80 with c | c
        · rw [if_pos c] at h1
          rcases Int.lt_or_le v 77 with c | c
          · rw [if_pos c] at h1
            rcases Int.lt_or_le v 75 with c | c
            · rw [if_pos c] at h1
              obtain rfl : v = 74 := by omega
              have e := e_95_74 (H := H) (Q := Q) (i := j) (by omega) (by omega)
              exact (a_95 (H := H) (Q := Q) (L := L) (i := j) (by omega) (by omega)).cg e.1.symm e.2.1.symm (by omega)
            · rw [if_neg (by omega)] at h1
              rcases Int.lt_or_le v 76 with c | c
              · rw [if_pos c] at h1
                obtain rfl : v = 75 := by omega
                have e := e_46_75 (H := H) (Q := Q) (x := j) (by omega) (by omega)
                exact (a_46_75 (H := H) (Q := Q) (L := L) (x := j) hh (by omega) (by omega)).cg e.1.symm e.2.1.symm (by omega)
              · rw [if_neg (by omega)] at h1
                obtain rfl : v = 76 := by omega
                have e := e_46_76 (H := H) (Q := Q) (x := j) (by omega) (by omega)
                exact (a_46_76 (H := H) (Q := Q) (L := L) (x := j) hh (by omega) (by omega)).cg e.1.symm e.2.1.symm (by omega)
          · rw [if_neg (by omega)] at h1
            rcases Int.lt_or_le v 78 with c | c
            · rw [if_pos c] at h1
              obtain rfl : v = 77 := by omega
              have e := e_46_77 (H := H) (Q := Q) (x := j) (by omega) (by omega)
              exact (a_46_77 (H := H) (Q := Q) (L := L) (x := j) hh (by omega) (by omega)).cg e.1.symm e.2.1.symm (by omega)
            · rw [if_neg (by omega)] at h1
              rcases Int.lt_or_le v 79 with c | c
              · rw [if_pos c] at h1
                obtain rfl : v = 78 := by omega
                have e := e_46_78 (H := H) (Q := Q) (x := j) (by omega) (by omega)
                exact (a_46_78 (H := H) (Q := Q) (L := L) (x := j) hh (by omega) (by omega)).cg e.1.symm e.2.1.symm (by omega)
              · rw [if_neg (by omega)] at h1
                obtain rfl : v = 79 := by omega
                have e := e_47_79 (H := H) (Q := Q) (x := j / 48) (i := j % 48) (by omega) (by omega) (by omega) (by omega)
                rw [show (48 * (j / 48) + j % 48 : Int) = j by omega] at e
                exact (a_47 (H := H) (Q := Q) (L := L) (x := j / 48) (i := j % 48) hh (by omega) (by omega) (by omega) (by omega)).cg e.1.symm e.2.1.symm (by omega)
        · rw [if_neg (by omega)] at h1
          rcases Int.lt_or_le v 100 with c | c
          · rw [if_pos c] at h1
            rcases Int.lt_or_le v 87 with c | c
            · rw [if_pos c] at h1
              omega
            · rw [if_neg (by omega)] at h1
              rcases Int.lt_or_le v 88 with c | c
              · rw [if_pos c] at h1
                obtain rfl : v = 87 := by omega
                have e := e_80_87 (H := H) (Q := Q)
                obtain rfl : j = 0 := by omega
                exact (a_80_87 (H := H) (Q := Q) (L := L)).cg e.1.symm e.2.1.symm (by omega)
              · rw [if_neg (by omega)] at h1
                omega
          · rw [if_neg (by omega)] at h1
            rcases Int.lt_or_le v 101 with c | c
            · rw [if_pos c] at h1
              obtain rfl : v = 100 := by omega
              have e := e_43_100 (H := H) (Q := Q) (x := j) (by omega) (by omega)
              exact (a_43_100 (H := H) (Q := Q) (L := L) (x := j) hh (by omega) (by omega)).cg e.1.symm e.2.1.symm (by omega)
            · rw [if_neg (by omega)] at h1
              rcases Int.lt_or_le v 102 with c | c
              · rw [if_pos c] at h1
                obtain rfl : v = 101 := by omega
                have e := e_43_101 (H := H) (Q := Q) (x := j) (by omega) (by omega)
                exact (a_43_101 (H := H) (Q := Q) (L := L) (x := j) hh (by omega) (by omega)).cg e.1.symm e.2.1.symm (by omega)
              · rw [if_neg (by omega)] at h1
                obtain rfl : v = 102 := by omega
                have e := e_43_102 (H := H) (Q := Q) (x := j) (by omega) (by omega)
                exact (a_43_102 (H := H) (Q := Q) (L := L) (x := j) hh (by omega) (by omega)).cg e.1.symm e.2.1.symm (by omega)
      · rw [if_neg (by omega)] at h1
        rcases Int.lt_or_le v 109 with c | c
        · rw [if_pos c] at h1
          rcases Int.lt_or_le v 106 with c | c
          · rw [if_pos c] at h1
            rcases Int.lt_or_le v 104 with c | c
            · rw [if_pos c] at h1
              obtain rfl : v = 103 := by omega
              have e := e_44_103 (H := H) (Q := Q) (x := j) (by omega) (by omega)
              exact (a_44_103 (H := H) (Q := Q) (L := L) (x := j) hh (by omega) (by omega)).cg e.1.symm e.2.1.symm (by omega)
            · rw [if_neg (by omega)] at h1
              rcases Int.lt_or_le v 105 with c | c
              · rw [if_pos c] at h1
                obtain rfl : v = 104 := by omega
                have e := e_44_104 (H := H) (Q := Q) (x := j) (by omega) (by omega)
                exact (a_44_104 (H := H) (Q := Q) (L := L) (x := j) hh (by omega) (by omega)).cg e.1.symm e.2.1.symm (by omega)
              · rw [if_neg (by omega)] at h1
                obtain rfl : v = 105 := by omega
                have e := e_44_105 (H := H) (Q := Q) (x := j) (by omega) (by omega)
                exact (a_44_105 (H := H) (Q := Q) (L := L) (x := j) hh (by omega) (by omega)).cg e.1.symm e.2.1.symm (by omega)
          · rw [if_neg (by omega)] at h1
            rcases Int.lt_or_le v 107 with c | c
            · rw [if_pos c] at h1
              obtain rfl : v = 106 := by omega
              have e := e_45_106 (H := H) (Q := Q) (x := j) (by omega) (by omega)
              exact (a_45_106 (H := H) (Q := Q) (L := L) (x := j) hh (by omega) (by omega)).cg e.1.symm e.2.1.symm (by omega)
            · rw [if_neg (by omega)] at h1
              rcases Int.lt_or_le v 108 with c | c
              · rw [if_pos c] at h1
                obtain rfl : v = 107 := by omega
                have e := e_45_107 (H := H) (Q := Q) (x := j) (by omega) (by omega)
                exact (a_45_107 (H := H) (Q := Q) (L := L) (x := j) hh (by omega) (by omega)).cg e.1.symm e.2.1.symm (by omega)
              · rw [if_neg (by omega)] at h1
                obtain rfl : v = 108 := by omega
                have e := e_45_108 (H := H) (Q := Q) (x := j) (by omega) (by omega)
                exact (a_45_108 (H := H) (Q := Q) (L := L) (x := j) hh (by omega) (by omega)).cg e.1.symm e.2.1.symm (by omega)
        · rw [if_neg (by omega)] at h1
          rcases Int.lt_or_le v 112 with c | c
          · rw [if_pos c] at h1
            rcases Int.lt_or_le v 110 with c | c
            · rw [if_pos c] at h1
              obtain rfl : v = 109 := by omega
              have e := e_45_109 (H := H) (Q := Q) (x := j) (by omega) (by omega)
              exact (a_45_109 (H := H) (Q := Q) (L := L) (x := j) hh (by omega) (by omega)).cg e.1.symm e.2.1.symm (by omega)
            · rw [if_neg (by omega)] at h1
              rcases Int.lt_or_le v 111 with c | c
              · rw [if_pos c] at h1
                obtain rfl : v = 110 := by omega
                have e := e_45_110 (H := H) (Q := Q) (x := j) (by omega) (by omega)
                exact (a_45_110 (H := H) (Q := Q) (L := L) (x := j) hh (by omega) (by omega)).cg e.1.symm e.2.1.symm (by omega)
              · rw [if_neg (by omega)] at h1
                obtain rfl : v = 111 := by omega
                have e := e_45_111 (H := H) (Q := Q) (x := j) (by omega) (by omega)
                exact (a_45_111 (H := H) (Q := Q) (L := L) (x := j) hh (by omega) (by omega)).cg e.1.symm e.2.1.symm (by omega)
          · rw [if_neg (by omega)] at h1
            rcases Int.lt_or_le v 114 with c | c
            · rw [if_pos c] at h1
              rcases Int.lt_or_le v 113 with c | c
              · rw [if_pos c] at h1
                obtain rfl : v = 112 := by omega
                have e := e_80_112 (H := H) (Q := Q)
                obtain rfl : j = 0 := by omega
                exact (a_80_112 (H := H) (Q := Q) (L := L)).cg e.1.symm e.2.1.symm (by omega)
              · rw [if_neg (by omega)] at h1
                obtain rfl : v = 113 := by omega
                have e := e_96_113 (H := H) (Q := Q) (i := 4 * j + 0) (by omega) (by omega) (by omega)
                rw [show ((4 * j + 0) / 4 : Int) = j by omega] at e
                exact (a_96_113 (H := H) (Q := Q) (L := L) (i := 4 * j + 0) (by omega) (by omega) (by omega)).cg e.1.symm e.2.1.symm (by omega)
            · rw [if_neg (by omega)] at h1
              rcases Int.lt_or_le v 115 with c | c
              · rw [if_pos c] at h1
                obtain rfl : v = 114 := by omega
                have e := e_96_114 (H := H) (Q := Q) (i := 4 * j + 1) (by omega) (by omega) (by omega)
                rw [show ((4 * j + 1) / 4 : Int) = j by omega] at e
                exact (a_96_114 (H := H) (Q := Q) (L := L) (i := 4 * j + 1) (by omega) (by omega) (by omega)).cg e.1.symm e.2.1.symm (by omega)
              · rw [if_neg (by omega)] at h1
                obtain rfl : v = 115 := by omega
                have e := e_96_115 (H := H) (Q := Q) (i := 4 * j + 2) (by omega) (by omega) (by omega)
                rw [show ((4 * j + 2) / 4 : Int) = j by omega] at e
                exact (a_96_115 (H := H) (Q := Q) (L := L) (i := 4 * j + 2) (by omega) (by omega) (by omega)).cg e.1.symm e.2.1.symm (by omega)
    · rw [if_neg (by omega)] at h1
      rcases Int.lt_or_le v 131 with c | c
      · rw [if_pos c] at h1
        rcases Int.lt_or_le v 122 with c | c
        · rw [if_pos c] at h1
          rcases Int.lt_or_le v 119 with c | c
          · rw [if_pos c] at h1
            rcases Int.lt_or_le v 117 with c | c
            · rw [if_pos c] at h1
              obtain rfl : v = 116 := by omega
              have e := e_96_116 (H := H) (Q := Q) (i := 4 * j + 3) (by omega) (by omega) (by omega)
              rw [show ((4 * j + 3) / 4 : Int) = j by omega] at e
              exact (a_96_116 (H := H) (Q := Q) (L := L) (i := 4 * j + 3) (by omega) (by omega) (by omega)).cg e.1.symm e.2.1.symm (by omega)
            · rw [if_neg (by omega)] at h1
              rcases Int.lt_or_le v 118 with c | c
              · rw [if_pos c] at h1
                obtain rfl : v = 117 := by omega
                have e := e_42_117 (H := H) (Q := Q) (x := j) (by omega) (by omega)
                exact (a_42_117 (H := H) (Q := Q) (L := L) (x := j) hh (by omega) (by omega)).cg e.1.symm e.2.1.symm (by omega)
              · rw [if_neg (by omega)] at h1
                obtain rfl : v = 118 := by omega
                by_cases c0 : j < 10
                · have e := e_42_118 (H := H) (Q := Q) (x := j) (by omega) (by omega)
                  exact (a_42_118 (H := H) (Q := Q) (L := L) (x := j) hh (by omega) (by omega)).cg e.1.symm e.2.1.symm (by omega)
                · have e := e_20_118 (H := H) (Q := Q)
                  obtain rfl : j = 10 := by omega
                  exact (a_20_118 (H := H) (Q := Q) (L := L) hh).cg e.1.symm e.2.1.symm (by omega)
          · rw [if_neg (by omega)] at h1
            rcases Int.lt_or_le v 120 with c | c
            · rw [if_pos c] at h1
              obtain rfl : v = 119 := by omega
              have e := e_42_119 (H := H) (Q := Q) (x := j) (by omega) (by omega)
              exact (a_42_119 (H := H) (Q := Q) (L := L) (x := j) hh (by omega) (by omega)).cg e.1.symm e.2.1.symm (by omega)
            · rw [if_neg (by omega)] at h1
              rcases Int.lt_or_le v 121 with c | c
              · rw [if_pos c] at h1
                obtain rfl : v = 120 := by omega
                have e := e_41_120 (H := H) (Q := Q) (x := j) (by omega) (by omega)
                exact (a_41_120 (H := H) (Q := Q) (L := L) (x := j) hh (by omega) (by omega)).cg e.1.symm e.2.1.symm (by omega)
              · rw [if_neg (by omega)] at h1
                obtain rfl : v = 121 := by omega
                have e := e_41_121 (H := H) (Q := Q) (x := j) (by omega) (by omega)
                exact (a_41_121 (H := H) (Q := Q) (L := L) (x := j) hh (by omega) (by omega)).cg e.1.symm e.2.1.symm (by omega)
        · rw [if_neg (by omega)] at h1
          rcases Int.lt_or_le v 125 with c | c
          · rw [if_pos c] at h1
            rcases Int.lt_or_le v 123 with c | c
            · rw [if_pos c] at h1
              obtain rfl : v = 122 := by omega
              have e := e_20_122 (H := H) (Q := Q)
              obtain rfl : j = 0 := by omega
              exact (a_20_122 (H := H) (Q := Q) (L := L) hh).cg e.1.symm e.2.1.symm (by omega)
            · rw [if_neg (by omega)] at h1
              rcases Int.lt_or_le v 124 with c | c
              · rw [if_pos c] at h1
                obtain rfl : v = 123 := by omega
                have e := e_20_123 (H := H) (Q := Q)
                obtain rfl : j = 0 := by omega
                exact (a_20_123 (H := H) (Q := Q) (L := L) hh).cg e.1.symm e.2.1.symm (by omega)
              · rw [if_neg (by omega)] at h1
                obtain rfl : v = 124 := by omega
                have e := e_20_124 (H := H) (Q := Q)
                obtain rfl : j = 0 := by omega
                exact (a_20_124 (H := H) (Q := Q) (L := L) hh).cg e.1.symm e.2.1.symm (by omega)
          · rw [if_neg (by omega)] at h1
            rcases Int.lt_or_le v 129 with c | c
            · rw [if_pos c] at h1
              rcases Int.lt_or_le v 126 with c | c
              · rw [if_pos c] at h1
                obtain rfl : v = 125 := by omega
                have e := e_20_125 (H := H) (Q := Q)
                obtain rfl : j = 0 := by omega
                exact (a_20_125 (H := H) (Q := Q) (L := L) hh).cg e.1.symm e.2.1.symm (by omega)
              · rw [if_neg (by omega)] at h1
                omega
            · rw [if_neg (by omega)] at h1
              rcases Int.lt_or_le v 130 with c | c
              · rw [if_pos c] at h1
                obtain rfl : v = 129 := by omega
                have e := e_10_129 (H := H) (Q := Q) (x := (j / 48) / 200) (r := (j / 48) % 200) (i := j % 48) (by omega) (by omega) (by omega) (by omega) (by omega) (by omega)
                rw [show (48 * (200 * ((j / 48) / 200) + (j / 48) % 200) + j % 48 : Int) = j by omega] at e
                exact (a_10 (H := H) (Q := Q) (L := L) (x := (j / 48) / 200) (r := (j / 48) % 200) (i := j % 48) (by omega) (by omega) (by omega) (by omega) (by omega) (by omega)).cg e.1.symm e.2.1.symm (by omega)
              · rw [if_neg (by omega)] at h1
                obtain rfl : v = 130 := by omega
                have e := e_66_130 (H := H) (Q := Q) (i := j) (by omega) (by omega)
                exact (a_66 (H := H) (Q := Q) (L := L) (i := j) hq (by omega) (by omega)).cg e.1.symm e.2.1.symm (by omega)
      · rw [if_neg (by omega)] at h1
        rcases Int.lt_or_le v 137 with c | c
        · rw [if_pos c] at h1
          rcases Int.lt_or_le v 134 with c | c
          · rw [if_pos c] at h1
            rcases Int.lt_or_le v 132 with c | c
            · rw [if_pos c] at h1
              obtain rfl : v = 131 := by omega
              have e := e_68_131 (H := H) (Q := Q) (x := j / 28) (i := j % 28) (by omega) (by omega) (by omega) (by omega)
              rw [show (28 * (j / 28) + j % 28 : Int) = j by omega] at e
              exact (a_68 (H := H) (Q := Q) (L := L) (x := j / 28) (i := j % 28) hq (by omega) (by omega) (by omega) (by omega)).cg e.1.symm e.2.1.symm (by omega)
            · rw [if_neg (by omega)] at h1
              rcases Int.lt_or_le v 133 with c | c
              · rw [if_pos c] at h1
                omega
              · rw [if_neg (by omega)] at h1
                obtain rfl : v = 133 := by omega
                have e := e_7_133 (H := H) (Q := Q)
                obtain rfl : j = 0 := by omega
                exact (a_7_133 (H := H) (Q := Q) (L := L)).cg e.1.symm e.2.1.symm (by omega)
          · rw [if_neg (by omega)] at h1
            rcases Int.lt_or_le v 135 with c | c
            · rw [if_pos c] at h1
              obtain rfl : v = 134 := by omega
              have e := e_7_134 (H := H) (Q := Q)
              obtain rfl : j = 0 := by omega
              exact (a_7_134 (H := H) (Q := Q) (L := L)).cg e.1.symm e.2.1.symm (by omega)
            · rw [if_neg (by omega)] at h1
              rcases Int.lt_or_le v 136 with c | c
              · rw [if_pos c] at h1
                obtain rfl : v = 135 := by omega
                have e := e_7_135 (H := H) (Q := Q)
                obtain rfl : j = 0 := by omega
                exact (a_7_135 (H := H) (Q := Q) (L := L)).cg e.1.symm e.2.1.symm (by omega)
              · rw [if_neg (by omega)] at h1
                obtain rfl : v = 136 := by omega
                have e := e_7_136 (H := H) (Q := Q)
                obtain rfl : j = 0 := by omega
                exact (a_7_136 (H := H) (Q := Q) (L := L)).cg e.1.symm e.2.1.symm (by omega)
        · rw [if_neg (by omega)] at h1
          rcases Int.lt_or_le v 141 with c | c
          · rw [if_pos c] at h1
            rcases Int.lt_or_le v 138 with c | c
            · rw [if_pos c] at h1
              obtain rfl : v = 137 := by omega
              have e := e_7_137 (H := H) (Q := Q)
              obtain rfl : j = 0 := by omega
              exact (a_7_137 (H := H) (Q := Q) (L := L)).cg e.1.symm e.2.1.symm (by omega)
            · rw [if_neg (by omega)] at h1
              rcases Int.lt_or_le v 140 with c | c
              · rw [if_pos c] at h1
                omega
              · rw [if_neg (by omega)] at h1
                obtain rfl : v = 140 := by omega
                have e := e_103_140 (H := H) (Q := Q) (i := j) (by omega) (by omega)
                exact (a_103 (H := H) (Q := Q) (L := L) (i := j) (by omega) (by omega)).cg e.1.symm e.2.1.symm (by omega)
          · rw [if_neg (by omega)] at h1
            rcases Int.lt_or_le v 143 with c | c
            · rw [if_pos c] at h1
              rcases Int.lt_or_le v 142 with c | c
              · rw [if_pos c] at h1
                obtain rfl : v = 141 := by omega
                have e := e_102_141 (H := H) (Q := Q)
                obtain rfl : j = 0 := by omega
                exact (a_102 (H := H) (Q := Q) (L := L)).cg e.1.symm e.2.1.symm (by omega)
              · rw [if_neg (by omega)] at h1
                obtain rfl : v = 142 := by omega
                have e := e_105_142 (H := H) (Q := Q) (i := j) (by omega) (by omega)
                exact (a_105 (H := H) (Q := Q) (L := L) (i := j) (by omega) (by omega)).cg e.1.symm e.2.1.symm (by omega)
            · rw [if_neg (by omega)] at h1
              rcases Int.lt_or_le v 144 with c | c
              · rw [if_pos c] at h1
                obtain rfl : v = 143 := by omega
                have e := e_104_143 (H := H) (Q := Q)
                obtain rfl : j = 0 := by omega
                exact (a_104 (H := H) (Q := Q) (L := L)).cg e.1.symm e.2.1.symm (by omega)
              · rw [if_neg (by omega)] at h1
                omega
theorem sp_1 {H : Int} {Q : Int} {L : Int} {i : Int} (i0 : 7 ≤ i ∧ i < 12) : lv H Q L (64) i = -2 := (lv_of (ck_1) (cx_1) (cb_1)).trans ((if_pos (by decide)).trans ((if_pos (by decide)).trans ((if_pos (by decide)).trans ((if_pos (by decide)).trans ((if_pos (by decide)).trans ((if_neg (by decide)).trans (((if_neg (by omega)).trans ((if_pos i0))))))))))
theorem sp_7 {H : Int} {Q : Int} {L : Int} {i : Int} (i0 : i = 1) : lv H Q L (70) i = -2 := (lv_of (ck_7) (cx_7) (cb_7)).trans ((if_pos (by decide)).trans ((if_pos (by decide)).trans ((if_pos (by decide)).trans ((if_pos (by decide)).trans ((if_neg (by decide)).trans ((if_neg (by decide)).trans ((if_pos (by decide)).trans (((if_neg (by omega)).trans ((if_neg (by omega)).trans ((if_neg (by omega)).trans ((if_neg (by omega)).trans ((if_neg (by omega)).trans ((if_pos i0)))))))))))))))
theorem sp_20 {Q : Int} {L : Int} {H : Int} (hb : is_h H) {i : Int} (i0 : i = 11) : lv H Q L (H) i = -2 := (lv_of (ck_20 hb) (cx_20 hb) (cb_20 hb)).trans ((if_pos (by decide)).trans ((if_pos (by decide)).trans ((if_pos (by decide)).trans ((if_neg (by decide)).trans ((if_neg (by decide)).trans ((if_pos (by decide)).trans ((if_pos rfl).trans ((if_neg (by omega)).trans ((if_neg (by omega)).trans ((if_neg (by omega)).trans ((if_neg (by omega)).trans ((if_neg (by omega)).trans ((if_neg (by omega)).trans ((if_neg (by omega)).trans ((if_neg (by omega)).trans ((if_pos i0)))))))))))))))))
theorem sp_37 {Q : Int} {L : Int} {H : Int} (hb : is_h H) {i : Int} : lv H Q L (H + 37) i = -2 := (lv_of (ck_37 hb) (cx_37 hb) (cb_37 hb)).trans ((if_pos (by decide)).trans ((if_neg (by decide)).trans ((if_pos (by decide)).trans ((if_pos (by decide)).trans ((if_neg (by decide)).trans ((if_pos (by decide)).trans ((if_pos rfl).trans ((if_pos trivial)))))))))
theorem sp_50 {H : Int} {Q : Int} {L : Int} (hb : is_l L) {i : Int} : lv H Q L (L) i = -2 := (lv_of (ck_50 hb) (cx_50 hb) (cb_50 hb)).trans ((if_pos (by decide)).trans ((if_neg (by decide)).trans ((if_neg (by decide)).trans ((if_pos (by decide)).trans ((if_pos (by decide)).trans ((if_neg (by decide)).trans ((if_pos rfl).trans ((if_pos trivial)))))))))
theorem sp_51 {H : Int} {Q : Int} {L : Int} (hb : is_l L) {i : Int} : lv H Q L (L + 1) i = -2 := (lv_of (ck_51 hb) (cx_51 hb) (cb_51 hb)).trans ((if_pos (by decide)).trans ((if_neg (by decide)).trans ((if_neg (by decide)).trans ((if_pos (by decide)).trans ((if_neg (by decide)).trans ((if_pos (by decide)).trans ((if_pos rfl).trans ((if_pos trivial)))))))))
theorem sp_52 {H : Int} {Q : Int} {L : Int} (hb : is_l L) {i : Int} : lv H Q L (L + 2) i = -2 := (lv_of (ck_52 hb) (cx_52 hb) (cb_52 hb)).trans ((if_pos (by decide)).trans ((if_neg (by decide)).trans ((if_neg (by decide)).trans ((if_pos (by decide)).trans ((if_neg (by decide)).trans ((if_neg (by decide)).trans ((if_pos (by decide)).trans ((if_pos rfl).trans ((if_pos trivial))))))))))
theorem sp_53 {H : Int} {Q : Int} {L : Int} (hb : is_l L) {i : Int} : lv H Q L (L + 3) i = -2 := (lv_of (ck_53 hb) (cx_53 hb) (cb_53 hb)).trans ((if_pos (by decide)).trans ((if_neg (by decide)).trans ((if_neg (by decide)).trans ((if_pos (by decide)).trans ((if_neg (by decide)).trans ((if_neg (by decide)).trans ((if_neg (by decide)).trans ((if_pos rfl).trans ((if_pos trivial))))))))))
theorem sp_54 {H : Int} {Q : Int} {L : Int} (hb : is_l L) {i : Int} : lv H Q L (L + 4) i = -2 := (lv_of (ck_54 hb) (cx_54 hb) (cb_54 hb)).trans ((if_pos (by decide)).trans ((if_neg (by decide)).trans ((if_neg (by decide)).trans ((if_neg (by decide)).trans ((if_pos (by decide)).trans ((if_pos (by decide)).trans ((if_pos rfl).trans ((if_pos trivial)))))))))
theorem sp_55 {H : Int} {Q : Int} {L : Int} (hb : is_l L) {i : Int} : lv H Q L (L + 5) i = -2 := (lv_of (ck_55 hb) (cx_55 hb) (cb_55 hb)).trans ((if_pos (by decide)).trans ((if_neg (by decide)).trans ((if_neg (by decide)).trans ((if_neg (by decide)).trans ((if_pos (by decide)).trans ((if_neg (by decide)).trans ((if_pos (by decide)).trans ((if_pos rfl).trans ((if_pos trivial))))))))))
theorem sp_56 {H : Int} {Q : Int} {L : Int} (hb : is_l L) {i : Int} : lv H Q L (L + 6) i = -2 := (lv_of (ck_56 hb) (cx_56 hb) (cb_56 hb)).trans ((if_pos (by decide)).trans ((if_neg (by decide)).trans ((if_neg (by decide)).trans ((if_neg (by decide)).trans ((if_pos (by decide)).trans ((if_neg (by decide)).trans ((if_neg (by decide)).trans ((if_pos rfl).trans ((if_pos trivial))))))))))
theorem sp_57 {H : Int} {Q : Int} {L : Int} (hb : is_l L) {i : Int} : lv H Q L (L + 7) i = -2 := (lv_of (ck_57 hb) (cx_57 hb) (cb_57 hb)).trans ((if_pos (by decide)).trans ((if_neg (by decide)).trans ((if_neg (by decide)).trans ((if_neg (by decide)).trans ((if_neg (by decide)).trans ((if_pos (by decide)).trans ((if_pos rfl).trans ((if_pos trivial)))))))))
theorem sp_60 {H : Int} {Q : Int} {L x : Int} (hb : is_l L) {i : Int} (h0 : 0 ≤ x) (h1 : x < 40) (i0 : i < 7) : lv H Q L (L + (10 + 3 * x)) i = -2 := (lv_of (ck_60 hb h0 h1) (cx_60 hb h0 h1) (cb_60 hb h0 h1)).trans ((if_pos (by decide)).trans ((if_neg (by decide)).trans ((if_neg (by decide)).trans ((if_neg (by decide)).trans ((if_neg (by decide)).trans ((if_neg (by decide)).trans ((if_neg (by decide)).trans ((if_pos rfl).trans ((if_pos i0))))))))))
theorem sp_61 {H : Int} {Q : Int} {L x : Int} (hb : is_l L) {i : Int} (h0 : 0 ≤ x) (h1 : x < 40) : lv H Q L (L + (11 + 3 * x)) i = -2 := (lv_of (ck_61 hb h0 h1) (cx_61 hb h0 h1) (cb_61 hb h0 h1)).trans ((if_neg (by decide)).trans ((if_pos (by decide)).trans ((if_pos (by decide)).trans ((if_pos (by decide)).trans ((if_pos (by decide)).trans ((if_pos (by decide)).trans ((if_pos rfl).trans ((if_pos trivial)))))))))
theorem sp_62 {H : Int} {Q : Int} {L x : Int} (hb : is_l L) {i : Int} (h0 : 0 ≤ x) (h1 : x < 40) : lv H Q L (L + (12 + 3 * x)) i = -2 := (lv_of (ck_62 hb h0 h1) (cx_62 hb h0 h1) (cb_62 hb h0 h1)).trans ((if_neg (by decide)).trans ((if_pos (by decide)).trans ((if_pos (by decide)).trans ((if_pos (by decide)).trans ((if_pos (by decide)).trans ((if_neg (by decide)).trans ((if_pos rfl).trans ((if_pos trivial)))))))))
theorem sp_70 {H : Int} {Q : Int} {L : Int} {i : Int} : lv H Q L (622) i = -2 := (lv_of (by decide +kernel : ck 622 = 70) (by decide +kernel : cx 622 = 0) (by decide +kernel : cb 622 = 622)).trans ((if_neg (by decide)).trans ((if_pos (by decide)).trans ((if_pos (by decide)).trans ((if_neg (by decide)).trans ((if_pos (by decide)).trans ((if_neg (by decide)).trans ((if_neg (by decide)).trans ((if_pos rfl).trans ((if_pos trivial))))))))))
theorem sp_71 {H : Int} {Q : Int} {L : Int} {i : Int} : lv H Q L (623) i = -2 := (lv_of (by decide +kernel : ck 623 = 71) (by decide +kernel : cx 623 = 0) (by decide +kernel : cb 623 = 622)).trans ((if_neg (by decide)).trans ((if_pos (by decide)).trans ((if_pos (by decide)).trans ((if_neg (by decide)).trans ((if_neg (by decide)).trans ((if_pos (by decide)).trans ((if_pos rfl).trans ((if_pos trivial)))))))))
theorem sp_72 {H : Int} {Q : Int} {L : Int} {i : Int} : lv H Q L (624) i = -2 := (lv_of (by decide +kernel : ck 624 = 72) (by decide +kernel : cx 624 = 0) (by decide +kernel : cb 624 = 622)).trans ((if_neg (by decide)).trans ((if_pos (by decide)).trans ((if_pos (by decide)).trans ((if_neg (by decide)).trans ((if_neg (by decide)).trans ((if_neg (by decide)).trans ((if_pos (by decide)).trans ((if_pos rfl).trans ((if_pos trivial))))))))))
theorem sp_73 {H : Int} {Q : Int} {L : Int} {i : Int} : lv H Q L (625) i = -2 := (lv_of (by decide +kernel : ck 625 = 73) (by decide +kernel : cx 625 = 0) (by decide +kernel : cb 625 = 622)).trans ((if_neg (by decide)).trans ((if_pos (by decide)).trans ((if_pos (by decide)).trans ((if_neg (by decide)).trans ((if_neg (by decide)).trans ((if_neg (by decide)).trans ((if_neg (by decide)).trans ((if_pos rfl).trans ((if_pos trivial))))))))))
theorem sp_80 {H : Int} {Q : Int} {L : Int} {i : Int} (i0 : i = 34 ∨ i = 35) : lv H Q L (1314) i = -2 := (lv_of (ck_80) (cx_80) (cb_80)).trans ((if_neg (by decide)).trans ((if_pos (by decide)).trans ((if_neg (by decide)).trans ((if_pos (by decide)).trans ((if_pos (by decide)).trans ((if_neg (by decide)).trans (((if_neg (by omega)).trans ((if_neg (by omega)).trans ((if_neg (by omega)).trans ((if_neg (by omega)).trans ((if_neg (by omega)).trans ((if_neg (by omega)).trans ((if_neg (by omega)).trans ((if_neg (by omega)).trans ((if_neg (by omega)).trans ((if_neg (by omega)).trans ((if_neg (by omega)).trans ((if_neg (by omega)).trans ((if_neg (by omega)).trans ((if_neg (by omega)).trans ((if_neg (by omega)).trans ((if_neg (by omega)).trans ((if_neg (by omega)).trans ((if_pos i0))))))))))))))))))))))))))
theorem sp_98 {H : Int} {Q : Int} {L : Int} {x : Int} {i : Int} (h0 : 0 ≤ x) (h1 : x < 2) (i0 : 2 ≤ i) : lv H Q L (1332 + 2 * x) i = -2 := (lv_of (ck_98 h0 h1) (cx_98 h0 h1) (cb_98 h0 h1)).trans ((if_neg (by decide)).trans ((if_neg (by decide)).trans ((if_pos (by decide)).trans ((if_neg (by decide)).trans ((if_pos (by decide)).trans ((if_neg (by decide)).trans ((if_neg (by decide)).trans (((if_pos i0))))))))))
theorem sp_99 {H : Int} {Q : Int} {L : Int} {x : Int} {i : Int} (h0 : 0 ≤ x) (h1 : x < 2) : lv H Q L (1333 + 2 * x) i = -2 := (lv_of (ck_99 h0 h1) (cx_99 h0 h1) (cb_99 h0 h1)).trans ((if_neg (by decide)).trans ((if_neg (by decide)).trans ((if_pos (by decide)).trans ((if_neg (by decide)).trans ((if_neg (by decide)).trans ((if_pos (by decide)).trans (((if_pos trivial)))))))))
theorem sp_100 {H : Int} {Q : Int} {L : Int} {i : Int} : lv H Q L (1336) i = -2 := (lv_of (ck_100) (cx_100) (cb_100)).trans ((if_neg (by decide)).trans ((if_neg (by decide)).trans ((if_pos (by decide)).trans ((if_neg (by decide)).trans ((if_neg (by decide)).trans ((if_neg (by decide)).trans ((if_pos (by decide)).trans (((if_pos trivial))))))))))
def ta (v : Int) : Int := (if v < 80 then (if v < 37 then (if v < 18 then (if v < 10 then (if v < 6 then (if v < 4 then (if v < 3 then 1400 else 1401) else (if v < 5 then 1400 else 1402)) else (if v < 8 then (if v < 7 then 1403 else 1400) else (if v < 9 then 1404 else 1405))) else (if v < 14 then (if v < 12 then (if v < 11 then 1406 else 1407) else (if v < 13 then 1408 else 1409)) else (if v < 16 then (if v < 15 then 1410 else 1411) else (if v < 17 then 1412 else 1413)))) else (if v < 26 then (if v < 22 then (if v < 20 then (if v < 19 then 1414 else 1415) else (if v < 21 then 1416 else 1400)) else (if v < 24 then (if v < 23 then 1417 else 1418) else (if v < 25 then 1419 else 1400))) else (if v < 31 then (if v < 29 then (if v < 27 then 1420 else 1400) else (if v < 30 then 1421 else 1422)) else (if v < 33 then (if v < 32 then 1400 else 1423) else (if v < 34 then 1424 else 1400))))) else (if v < 56 then (if v < 45 then (if v < 41 then (if v < 39 then (if v < 38 then 1425 else 1426) else (if v < 40 then 1427 else 1428)) else (if v < 43 then (if v < 42 then 1429 else 1430) else (if v < 44 then 1431 else 1432))) else (if v < 49 then (if v < 47 then (if v < 46 then 1433 else 1434) else (if v < 48 then 1435 else 1436)) else (if v < 51 then (if v < 50 then 1437 else 1438) else (if v < 52 then 1439 else 1400)))) else (if v < 71 then (if v < 60 then (if v < 58 then (if v < 57 then 1440 else 1441) else (if v < 59 then 1442 else 1443)) else (if v < 69 then (if v < 61 then 1444 else 1400) else (if v < 70 then 1445 else 1446))) else (if v < 75 then (if v < 73 then (if v < 72 then 1447 else 1400) else (if v < 74 then 1448 else 1449)) else (if v < 77 then (if v < 76 then 1450 else 1451) else (if v < 78 then 1452 else (if v < 79 then 1453 else 1454))))))) else (if v < 112 then (if v < 96 then (if v < 88 then (if v < 84 then (if v < 82 then (if v < 81 then 1455 else 1456) else (if v < 83 then 1457 else 1458)) else (if v < 86 then (if v < 85 then 1459 else 1460) else (if v < 87 then 1461 else 1400))) else (if v < 92 then (if v < 90 then (if v < 89 then 1462 else 1463) else (if v < 91 then 1464 else 1465)) else (if v < 94 then (if v < 93 then 1466 else 1467) else (if v < 95 then 1468 else 1469)))) else (if v < 104 then (if v < 100 then (if v < 98 then (if v < 97 then 1400 else 1470) else (if v < 99 then 1471 else 1472)) else (if v < 102 then (if v < 101 then 1473 else 1474) else (if v < 103 then 1475 else 1476))) else (if v < 108 then (if v < 106 then (if v < 105 then 1477 else 1478) else (if v < 107 then 1479 else 1480)) else (if v < 110 then (if v < 109 then 1481 else 1482) else (if v < 111 then 1483 else 1484))))) else (if v < 131 then (if v < 120 then (if v < 116 then (if v < 114 then (if v < 113 then 1400 else 1485) else (if v < 115 then 1486 else 1487)) else (if v < 118 then (if v < 117 then 1488 else 1489) else (if v < 119 then 1490 else 1491))) else (if v < 127 then (if v < 122 then (if v < 121 then 1492 else 1493) else (if v < 126 then 1400 else 1494)) else (if v < 129 then (if v < 128 then 1495 else 1496) else (if v < 130 then 1497 else 1498)))) else (if v < 143 then (if v < 139 then (if v < 133 then (if v < 132 then 1499 else 1500) else (if v < 138 then 1400 else 1501)) else (if v < 141 then (if v < 140 then 1400 else 1502) else (if v < 142 then 1400 else 1503))) else (if v < 147 then (if v < 145 then (if v < 144 then 1400 else 1504) else (if v < 146 then 1505 else 1506)) else (if v < 156 then (if v < 155 then 1400 else 1507) else (if v < 158 then 1400 else (if v < 159 then 1508 else 1400))))))))
def td (v : Int) : Int := (if v < 80 then (if v < 40 then (if v < 20 then (if v < 10 then (if v < 5 then (if v < 2 then (if v < 1 then 1 else 1) else (if v < 3 then 1 else (if v < 4 then 4400 else 1))) else (if v < 7 then (if v < 6 then 240 else 240) else (if v < 8 then 1 else (if v < 9 then 240 else 240)))) else (if v < 15 then (if v < 12 then (if v < 11 then 240 else 6400) else (if v < 13 then 240 else (if v < 14 then 240 else 10))) else (if v < 17 then (if v < 16 then 10 else 240) else (if v < 18 then 24 else (if v < 19 then 96 else 11))))) else (if v < 30 then (if v < 25 then (if v < 22 then (if v < 21 then 11 else 1) else (if v < 23 then 3 else (if v < 24 then 3 else 196))) else (if v < 27 then (if v < 26 then 1 else 196) else (if v < 28 then 1 else (if v < 29 then 1 else 400)))) else (if v < 35 then (if v < 32 then (if v < 31 then 400 else 1) else (if v < 33 then 13 else (if v < 34 then 13 else 1))) else (if v < 37 then (if v < 36 then 1 else 1) else (if v < 38 then 16 else (if v < 39 then 64 else 200)))))) else (if v < 60 then (if v < 50 then (if v < 45 then (if v < 42 then (if v < 41 then 240 else 240) else (if v < 43 then 240 else (if v < 44 then 240 else 240))) else (if v < 47 then (if v < 46 then 240 else 240) else (if v < 48 then 240 else (if v < 49 then 40 else 40)))) else (if v < 55 then (if v < 52 then (if v < 51 then 41 else 41) else (if v < 53 then 1 else (if v < 54 then 1 else 1))) else (if v < 57 then (if v < 56 then 1 else 11) else (if v < 58 then 11 else (if v < 59 then 11 else 11))))) else (if v < 70 then (if v < 65 then (if v < 62 then (if v < 61 then 11 else 1) else (if v < 63 then 1 else (if v < 64 then 1 else 1))) else (if v < 67 then (if v < 66 then 1 else 1) else (if v < 68 then 1 else (if v < 69 then 1 else 10)))) else (if v < 75 then (if v < 72 then (if v < 71 then 10 else 18) else (if v < 73 then 1 else (if v < 74 then 32 else 32))) else (if v < 77 then (if v < 76 then 8 else 8) else (if v < 78 then 8 else (if v < 79 then 8 else 384))))))) else (if v < 120 then (if v < 100 then (if v < 90 then (if v < 85 then (if v < 82 then (if v < 81 then 16 else 16) else (if v < 83 then 16 else (if v < 84 then 16 else 16))) else (if v < 87 then (if v < 86 then 16 else 16) else (if v < 88 then 1 else (if v < 89 then 12 else 12)))) else (if v < 95 then (if v < 92 then (if v < 91 then 2 else 2) else (if v < 93 then 2 else (if v < 94 then 6 else 6))) else (if v < 97 then (if v < 96 then 6 else 1) else (if v < 98 then 8 else (if v < 99 then 8 else 8))))) else (if v < 110 then (if v < 105 then (if v < 102 then (if v < 101 then 3 else 3) else (if v < 103 then 3 else (if v < 104 then 20 else 20))) else (if v < 107 then (if v < 106 then 20 else 40) else (if v < 108 then 40 else (if v < 109 then 40 else 40)))) else (if v < 115 then (if v < 112 then (if v < 111 then 40 else 40) else (if v < 113 then 1 else (if v < 114 then 64 else 64))) else (if v < 117 then (if v < 116 then 64 else 64) else (if v < 118 then 11 else (if v < 119 then 11 else 11)))))) else (if v < 140 then (if v < 130 then (if v < 125 then (if v < 122 then (if v < 121 then 10 else 10) else (if v < 123 then 1 else (if v < 124 then 1 else 1))) else (if v < 127 then (if v < 126 then 1 else 41) else (if v < 128 then 41 else (if v < 129 then 41 else 19200)))) else (if v < 135 then (if v < 132 then (if v < 131 then 135 else 3780) else (if v < 133 then 28 else (if v < 134 then 1 else 1))) else (if v < 137 then (if v < 136 then 1 else 1) else (if v < 138 then 1 else (if v < 139 then 160 else 1))))) else (if v < 150 then (if v < 145 then (if v < 142 then (if v < 141 then 4100 else 1) else (if v < 143 then 4100 else (if v < 144 then 1 else 135))) else (if v < 147 then (if v < 146 then 3780 else 196) else (if v < 148 then 1 else (if v < 149 then 1 else 1)))) else (if v < 155 then (if v < 152 then (if v < 151 then 1 else 1) else (if v < 153 then 1 else (if v < 154 then 1 else 1))) else (if v < 157 then (if v < 156 then 400 else 1) else (if v < 158 then 1 else (if v < 159 then 48 else 0))))))))
def ti (v j : Int) : Int := if ta v = 1400 then v else j
def Lt (a i v j : Int) : Prop := ta v = a ∧ ti v j = i ∧ 0 ≤ j ∧ j < td v ∧ fp a i = -7 ∧ 0 ≤ i
theorem t_0 : Lt 1400 0 0 0 := ⟨by decide +kernel, if_pos (by decide +kernel), by omega, by decide +kernel, by decide +kernel, by omega⟩
theorem t_1 : Lt 1400 1 1 0 := ⟨by decide +kernel, if_pos (by decide +kernel), by omega, by decide +kernel, by decide +kernel, by omega⟩
theorem t_2 : Lt 1400 2 2 0 := ⟨by decide +kernel, if_pos (by decide +kernel), by omega, by decide +kernel, by decide +kernel, by omega⟩
theorem t_3 {i : Int} (i0 : 0 ≤ i) (i1 : i < 4400) : Lt 1401 i 3 i := ⟨by decide +kernel, if_neg (by decide +kernel), i0, lt_eq i1 (show td 3 = 4400 by decide +kernel), (fp_of (show ck 1401 = 121 by decide +kernel) rfl rfl).trans ((if_neg (by decide)).trans ((if_neg (by decide)).trans ((if_neg (by decide)).trans ((if_neg (by decide)).trans ((if_neg (by decide)).trans ((if_neg (by decide)).trans ((if_neg (by decide))))))))), i0⟩
theorem t_4 : Lt 1400 4 4 0 := ⟨by decide +kernel, if_pos (by decide +kernel), by omega, by decide +kernel, by decide +kernel, by omega⟩
theorem t_5 {i : Int} (i0 : 0 ≤ i) (i1 : i < 240) : Lt 1402 i 5 i := ⟨by decide +kernel, if_neg (by decide +kernel), i0, lt_eq i1 (show td 5 = 240 by decide +kernel), (fp_of (show ck 1402 = 121 by decide +kernel) rfl rfl).trans ((if_neg (by decide)).trans ((if_neg (by decide)).trans ((if_neg (by decide)).trans ((if_neg (by decide)).trans ((if_neg (by decide)).trans ((if_neg (by decide)).trans ((if_neg (by decide))))))))), i0⟩
theorem t_6 {i : Int} (i0 : 0 ≤ i) (i1 : i < 240) : Lt 1403 i 6 i := ⟨by decide +kernel, if_neg (by decide +kernel), i0, lt_eq i1 (show td 6 = 240 by decide +kernel), (fp_of (show ck 1403 = 121 by decide +kernel) rfl rfl).trans ((if_neg (by decide)).trans ((if_neg (by decide)).trans ((if_neg (by decide)).trans ((if_neg (by decide)).trans ((if_neg (by decide)).trans ((if_neg (by decide)).trans ((if_neg (by decide))))))))), i0⟩
theorem t_7 : Lt 1400 7 7 0 := ⟨by decide +kernel, if_pos (by decide +kernel), by omega, by decide +kernel, by decide +kernel, by omega⟩
theorem t_8 {i : Int} (i0 : 0 ≤ i) (i1 : i < 240) : Lt 1404 i 8 i := ⟨by decide +kernel, if_neg (by decide +kernel), i0, lt_eq i1 (show td 8 = 240 by decide +kernel), (fp_of (show ck 1404 = 121 by decide +kernel) rfl rfl).trans ((if_neg (by decide)).trans ((if_neg (by decide)).trans ((if_neg (by decide)).trans ((if_neg (by decide)).trans ((if_neg (by decide)).trans ((if_neg (by decide)).trans ((if_neg (by decide))))))))), i0⟩
theorem t_9 {i : Int} (i0 : 0 ≤ i) (i1 : i < 240) : Lt 1405 i 9 i := ⟨by decide +kernel, if_neg (by decide +kernel), i0, lt_eq i1 (show td 9 = 240 by decide +kernel), (fp_of (show ck 1405 = 121 by decide +kernel) rfl rfl).trans ((if_neg (by decide)).trans ((if_neg (by decide)).trans ((if_neg (by decide)).trans ((if_neg (by decide)).trans ((if_neg (by decide)).trans ((if_neg (by decide)).trans ((if_neg (by decide))))))))), i0⟩
theorem t_10 {i : Int} (i0 : 0 ≤ i) (i1 : i < 240) : Lt 1406 i 10 i := ⟨by decide +kernel, if_neg (by decide +kernel), i0, lt_eq i1 (show td 10 = 240 by decide +kernel), (fp_of (show ck 1406 = 121 by decide +kernel) rfl rfl).trans ((if_neg (by decide)).trans ((if_neg (by decide)).trans ((if_neg (by decide)).trans ((if_neg (by decide)).trans ((if_neg (by decide)).trans ((if_neg (by decide)).trans ((if_neg (by decide))))))))), i0⟩
theorem t_11 {i : Int} (i0 : 0 ≤ i) (i1 : i < 6400) : Lt 1407 i 11 i := ⟨by decide +kernel, if_neg (by decide +kernel), i0, lt_eq i1 (show td 11 = 6400 by decide +kernel), (fp_of (show ck 1407 = 121 by decide +kernel) rfl rfl).trans ((if_neg (by decide)).trans ((if_neg (by decide)).trans ((if_neg (by decide)).trans ((if_neg (by decide)).trans ((if_neg (by decide)).trans ((if_neg (by decide)).trans ((if_neg (by decide))))))))), i0⟩
theorem t_12 {i : Int} (i0 : 0 ≤ i) (i1 : i < 240) : Lt 1408 i 12 i := ⟨by decide +kernel, if_neg (by decide +kernel), i0, lt_eq i1 (show td 12 = 240 by decide +kernel), (fp_of (show ck 1408 = 121 by decide +kernel) rfl rfl).trans ((if_neg (by decide)).trans ((if_neg (by decide)).trans ((if_neg (by decide)).trans ((if_neg (by decide)).trans ((if_neg (by decide)).trans ((if_neg (by decide)).trans ((if_neg (by decide))))))))), i0⟩
theorem t_13 {i : Int} (i0 : 0 ≤ i) (i1 : i < 240) : Lt 1409 i 13 i := ⟨by decide +kernel, if_neg (by decide +kernel), i0, lt_eq i1 (show td 13 = 240 by decide +kernel), (fp_of (show ck 1409 = 121 by decide +kernel) rfl rfl).trans ((if_neg (by decide)).trans ((if_neg (by decide)).trans ((if_neg (by decide)).trans ((if_neg (by decide)).trans ((if_neg (by decide)).trans ((if_neg (by decide)).trans ((if_neg (by decide))))))))), i0⟩
theorem t_14 {i : Int} (i0 : 0 ≤ i) (i1 : i < 10) : Lt 1410 i 14 i := ⟨by decide +kernel, if_neg (by decide +kernel), i0, lt_eq i1 (show td 14 = 10 by decide +kernel), (fp_of (show ck 1410 = 121 by decide +kernel) rfl rfl).trans ((if_neg (by decide)).trans ((if_neg (by decide)).trans ((if_neg (by decide)).trans ((if_neg (by decide)).trans ((if_neg (by decide)).trans ((if_neg (by decide)).trans ((if_neg (by decide))))))))), i0⟩
theorem t_15 {i : Int} (i0 : 0 ≤ i) (i1 : i < 10) : Lt 1411 i 15 i := ⟨by decide +kernel, if_neg (by decide +kernel), i0, lt_eq i1 (show td 15 = 10 by decide +kernel), (fp_of (show ck 1411 = 121 by decide +kernel) rfl rfl).trans ((if_neg (by decide)).trans ((if_neg (by decide)).trans ((if_neg (by decide)).trans ((if_neg (by decide)).trans ((if_neg (by decide)).trans ((if_neg (by decide)).trans ((if_neg (by decide))))))))), i0⟩
theorem t_16 {i : Int} (i0 : 0 ≤ i) (i1 : i < 240) : Lt 1412 i 16 i := ⟨by decide +kernel, if_neg (by decide +kernel), i0, lt_eq i1 (show td 16 = 240 by decide +kernel), (fp_of (show ck 1412 = 121 by decide +kernel) rfl rfl).trans ((if_neg (by decide)).trans ((if_neg (by decide)).trans ((if_neg (by decide)).trans ((if_neg (by decide)).trans ((if_neg (by decide)).trans ((if_neg (by decide)).trans ((if_neg (by decide))))))))), i0⟩
theorem t_17 {i : Int} (i0 : 0 ≤ i) (i1 : i < 24) : Lt 1413 i 17 i := ⟨by decide +kernel, if_neg (by decide +kernel), i0, lt_eq i1 (show td 17 = 24 by decide +kernel), (fp_of (show ck 1413 = 121 by decide +kernel) rfl rfl).trans ((if_neg (by decide)).trans ((if_neg (by decide)).trans ((if_neg (by decide)).trans ((if_neg (by decide)).trans ((if_neg (by decide)).trans ((if_neg (by decide)).trans ((if_neg (by decide))))))))), i0⟩
theorem t_18 {i : Int} (i0 : 0 ≤ i) (i1 : i < 96) : Lt 1414 i 18 i := ⟨by decide +kernel, if_neg (by decide +kernel), i0, lt_eq i1 (show td 18 = 96 by decide +kernel), (fp_of (show ck 1414 = 121 by decide +kernel) rfl rfl).trans ((if_neg (by decide)).trans ((if_neg (by decide)).trans ((if_neg (by decide)).trans ((if_neg (by decide)).trans ((if_neg (by decide)).trans ((if_neg (by decide)).trans ((if_neg (by decide))))))))), i0⟩
theorem t_19 {i : Int} (i0 : 0 ≤ i) (i1 : i < 11) : Lt 1415 i 19 i := ⟨by decide +kernel, if_neg (by decide +kernel), i0, lt_eq i1 (show td 19 = 11 by decide +kernel), (fp_of (show ck 1415 = 121 by decide +kernel) rfl rfl).trans ((if_neg (by decide)).trans ((if_neg (by decide)).trans ((if_neg (by decide)).trans ((if_neg (by decide)).trans ((if_neg (by decide)).trans ((if_neg (by decide)).trans ((if_neg (by decide))))))))), i0⟩
theorem t_20 {i : Int} (i0 : 0 ≤ i) (i1 : i < 11) : Lt 1416 i 20 i := ⟨by decide +kernel, if_neg (by decide +kernel), i0, lt_eq i1 (show td 20 = 11 by decide +kernel), (fp_of (show ck 1416 = 121 by decide +kernel) rfl rfl).trans ((if_neg (by decide)).trans ((if_neg (by decide)).trans ((if_neg (by decide)).trans ((if_neg (by decide)).trans ((if_neg (by decide)).trans ((if_neg (by decide)).trans ((if_neg (by decide))))))))), i0⟩
theorem t_21 : Lt 1400 21 21 0 := ⟨by decide +kernel, if_pos (by decide +kernel), by omega, by decide +kernel, by decide +kernel, by omega⟩
theorem t_22 {i : Int} (i0 : 0 ≤ i) (i1 : i < 3) : Lt 1417 i 22 i := ⟨by decide +kernel, if_neg (by decide +kernel), i0, lt_eq i1 (show td 22 = 3 by decide +kernel), (fp_of (show ck 1417 = 121 by decide +kernel) rfl rfl).trans ((if_neg (by decide)).trans ((if_neg (by decide)).trans ((if_neg (by decide)).trans ((if_neg (by decide)).trans ((if_neg (by decide)).trans ((if_neg (by decide)).trans ((if_neg (by decide))))))))), i0⟩
theorem t_23 {i : Int} (i0 : 0 ≤ i) (i1 : i < 3) : Lt 1418 i 23 i := ⟨by decide +kernel, if_neg (by decide +kernel), i0, lt_eq i1 (show td 23 = 3 by decide +kernel), (fp_of (show ck 1418 = 121 by decide +kernel) rfl rfl).trans ((if_neg (by decide)).trans ((if_neg (by decide)).trans ((if_neg (by decide)).trans ((if_neg (by decide)).trans ((if_neg (by decide)).trans ((if_neg (by decide)).trans ((if_neg (by decide))))))))), i0⟩
theorem t_24 {i : Int} (i0 : 0 ≤ i) (i1 : i < 196) : Lt 1419 i 24 i := ⟨by decide +kernel, if_neg (by decide +kernel), i0, lt_eq i1 (show td 24 = 196 by decide +kernel), (fp_of (show ck 1419 = 121 by decide +kernel) rfl rfl).trans ((if_neg (by decide)).trans ((if_neg (by decide)).trans ((if_neg (by decide)).trans ((if_neg (by decide)).trans ((if_neg (by decide)).trans ((if_neg (by decide)).trans ((if_neg (by decide))))))))), i0⟩
theorem t_25 : Lt 1400 25 25 0 := ⟨by decide +kernel, if_pos (by decide +kernel), by omega, by decide +kernel, by decide +kernel, by omega⟩
theorem t_26 {i : Int} (i0 : 0 ≤ i) (i1 : i < 196) : Lt 1420 i 26 i := ⟨by decide +kernel, if_neg (by decide +kernel), i0, lt_eq i1 (show td 26 = 196 by decide +kernel), (fp_of (show ck 1420 = 121 by decide +kernel) rfl rfl).trans ((if_neg (by decide)).trans ((if_neg (by decide)).trans ((if_neg (by decide)).trans ((if_neg (by decide)).trans ((if_neg (by decide)).trans ((if_neg (by decide)).trans ((if_neg (by decide))))))))), i0⟩
theorem t_27 : Lt 1400 27 27 0 := ⟨by decide +kernel, if_pos (by decide +kernel), by omega, by decide +kernel, by decide +kernel, by omega⟩
theorem t_28 : Lt 1400 28 28 0 := ⟨by decide +kernel, if_pos (by decide +kernel), by omega, by decide +kernel, by decide +kernel, by omega⟩
theorem t_29 {i : Int} (i0 : 0 ≤ i) (i1 : i < 400) : Lt 1421 i 29 i := ⟨by decide +kernel, if_neg (by decide +kernel), i0, lt_eq i1 (show td 29 = 400 by decide +kernel), (fp_of (show ck 1421 = 121 by decide +kernel) rfl rfl).trans ((if_neg (by decide)).trans ((if_neg (by decide)).trans ((if_neg (by decide)).trans ((if_neg (by decide)).trans ((if_neg (by decide)).trans ((if_neg (by decide)).trans ((if_neg (by decide))))))))), i0⟩
theorem t_30 {i : Int} (i0 : 0 ≤ i) (i1 : i < 400) : Lt 1422 i 30 i := ⟨by decide +kernel, if_neg (by decide +kernel), i0, lt_eq i1 (show td 30 = 400 by decide +kernel), (fp_of (show ck 1422 = 121 by decide +kernel) rfl rfl).trans ((if_neg (by decide)).trans ((if_neg (by decide)).trans ((if_neg (by decide)).trans ((if_neg (by decide)).trans ((if_neg (by decide)).trans ((if_neg (by decide)).trans ((if_neg (by decide))))))))), i0⟩
theorem t_31 : Lt 1400 31 31 0 := ⟨by decide +kernel, if_pos (by decide +kernel), by omega, by decide +kernel, by decide +kernel, by omega⟩
theorem t_32 {i : Int} (i0 : 0 ≤ i) (i1 : i < 13) : Lt 1423 i 32 i := ⟨by decide +kernel, if_neg (by decide +kernel), i0, lt_eq i1 (show td 32 = 13 by decide +kernel), (fp_of (show ck 1423 = 121 by decide +kernel) rfl rfl).trans ((if_neg (by decide)).trans ((if_neg (by decide)).trans ((if_neg (by decide)).trans ((if_neg (by decide)).trans ((if_neg (by decide)).trans ((if_neg (by decide)).trans ((if_neg (by decide))))))))), i0⟩
theorem t_33 {i : Int} (i0 : 0 ≤ i) (i1 : i < 13) : Lt 1424 i 33 i := ⟨by decide +kernel, if_neg (by decide +kernel), i0, lt_eq i1 (show td 33 = 13 by decide +kernel), (fp_of (show ck 1424 = 121 by decide +kernel) rfl rfl).trans ((if_neg (by decide)).trans ((if_neg (by decide)).trans ((if_neg (by decide)).trans ((if_neg (by decide)).trans ((if_neg (by decide)).trans ((if_neg (by decide)).trans ((if_neg (by decide))))))))), i0⟩
theorem t_34 : Lt 1400 34 34 0 := ⟨by decide +kernel, if_pos (by decide +kernel), by omega, by decide +kernel, by decide +kernel, by omega⟩
theorem t_35 : Lt 1400 35 35 0 := ⟨by decide +kernel, if_pos (by decide +kernel), by omega, by decide +kernel, by decide +kernel, by omega⟩
theorem t_36 : Lt 1400 36 36 0 := ⟨by decide +kernel, if_pos (by decide +kernel), by omega, by decide +kernel, by decide +kernel, by omega⟩
theorem t_37 {i : Int} (i0 : 0 ≤ i) (i1 : i < 16) : Lt 1425 i 37 i := ⟨by decide +kernel, if_neg (by decide +kernel), i0, lt_eq i1 (show td 37 = 16 by decide +kernel), (fp_of (show ck 1425 = 121 by decide +kernel) rfl rfl).trans ((if_neg (by decide)).trans ((if_neg (by decide)).trans ((if_neg (by decide)).trans ((if_neg (by decide)).trans ((if_neg (by decide)).trans ((if_neg (by decide)).trans ((if_neg (by decide))))))))), i0⟩
theorem t_38 {i : Int} (i0 : 0 ≤ i) (i1 : i < 64) : Lt 1426 i 38 i := ⟨by decide +kernel, if_neg (by decide +kernel), i0, lt_eq i1 (show td 38 = 64 by decide +kernel), (fp_of (show ck 1426 = 121 by decide +kernel) rfl rfl).trans ((if_neg (by decide)).trans ((if_neg (by decide)).trans ((if_neg (by decide)).trans ((if_neg (by decide)).trans ((if_neg (by decide)).trans ((if_neg (by decide)).trans ((if_neg (by decide))))))))), i0⟩
theorem t_39 {i : Int} (i0 : 0 ≤ i) (i1 : i < 200) : Lt 1427 i 39 i := ⟨by decide +kernel, if_neg (by decide +kernel), i0, lt_eq i1 (show td 39 = 200 by decide +kernel), (fp_of (show ck 1427 = 121 by decide +kernel) rfl rfl).trans ((if_neg (by decide)).trans ((if_neg (by decide)).trans ((if_neg (by decide)).trans ((if_neg (by decide)).trans ((if_neg (by decide)).trans ((if_neg (by decide)).trans ((if_neg (by decide))))))))), i0⟩
theorem t_40 {i : Int} (i0 : 0 ≤ i) (i1 : i < 240) : Lt 1428 i 40 i := ⟨by decide +kernel, if_neg (by decide +kernel), i0, lt_eq i1 (show td 40 = 240 by decide +kernel), (fp_of (show ck 1428 = 121 by decide +kernel) rfl rfl).trans ((if_neg (by decide)).trans ((if_neg (by decide)).trans ((if_neg (by decide)).trans ((if_neg (by decide)).trans ((if_neg (by decide)).trans ((if_neg (by decide)).trans ((if_neg (by decide))))))))), i0⟩
theorem t_41 {i : Int} (i0 : 0 ≤ i) (i1 : i < 240) : Lt 1429 i 41 i := ⟨by decide +kernel, if_neg (by decide +kernel), i0, lt_eq i1 (show td 41 = 240 by decide +kernel), (fp_of (show ck 1429 = 121 by decide +kernel) rfl rfl).trans ((if_neg (by decide)).trans ((if_neg (by decide)).trans ((if_neg (by decide)).trans ((if_neg (by decide)).trans ((if_neg (by decide)).trans ((if_neg (by decide)).trans ((if_neg (by decide))))))))), i0⟩
theorem t_42 {i : Int} (i0 : 0 ≤ i) (i1 : i < 240) : Lt 1430 i 42 i := ⟨by decide +kernel, if_neg (by decide +kernel), i0, lt_eq i1 (show td 42 = 240 by decide +kernel), (fp_of (show ck 1430 = 121 by decide +kernel) rfl rfl).trans ((if_neg (by decide)).trans ((if_neg (by decide)).trans ((if_neg (by decide)).trans ((if_neg (by decide)).trans ((if_neg (by decide)).trans ((if_neg (by decide)).trans ((if_neg (by decide))))))))), i0⟩
theorem t_43 {i : Int} (i0 : 0 ≤ i) (i1 : i < 240) : Lt 1431 i 43 i := ⟨by decide +kernel, if_neg (by decide +kernel), i0, lt_eq i1 (show td 43 = 240 by decide +kernel), (fp_of (show ck 1431 = 121 by decide +kernel) rfl rfl).trans ((if_neg (by decide)).trans ((if_neg (by decide)).trans ((if_neg (by decide)).trans ((if_neg (by decide)).trans ((if_neg (by decide)).trans ((if_neg (by decide)).trans ((if_neg (by decide))))))))), i0⟩
theorem t_44 {i : Int} (i0 : 0 ≤ i) (i1 : i < 240) : Lt 1432 i 44 i := ⟨by decide +kernel, if_neg (by decide +kernel), i0, lt_eq i1 (show td 44 = 240 by decide +kernel), (fp_of (show ck 1432 = 121 by decide +kernel) rfl rfl).trans ((if_neg (by decide)).trans ((if_neg (by decide)).trans ((if_neg (by decide)).trans ((if_neg (by decide)).trans ((if_neg (by decide)).trans ((if_neg (by decide)).trans ((if_neg (by decide))))))))), i0⟩
theorem t_45 {i : Int} (i0 : 0 ≤ i) (i1 : i < 240) : Lt 1433 i 45 i := ⟨by decide +kernel, if_neg (by decide +kernel), i0, lt_eq i1 (show td 45 = 240 by decide +kernel), (fp_of (show ck 1433 = 121 by decide +kernel) rfl rfl).trans ((if_neg (by decide)).trans ((if_neg (by decide)).trans ((if_neg (by decide)).trans ((if_neg (by decide)).trans ((if_neg (by decide)).trans ((if_neg (by decide)).trans ((if_neg (by decide))))))))), i0⟩
theorem t_46 {i : Int} (i0 : 0 ≤ i) (i1 : i < 240) : Lt 1434 i 46 i := ⟨by decide +kernel, if_neg (by decide +kernel), i0, lt_eq i1 (show td 46 = 240 by decide +kernel), (fp_of (show ck 1434 = 121 by decide +kernel) rfl rfl).trans ((if_neg (by decide)).trans ((if_neg (by decide)).trans ((if_neg (by decide)).trans ((if_neg (by decide)).trans ((if_neg (by decide)).trans ((if_neg (by decide)).trans ((if_neg (by decide))))))))), i0⟩
theorem t_47 {i : Int} (i0 : 0 ≤ i) (i1 : i < 240) : Lt 1435 i 47 i := ⟨by decide +kernel, if_neg (by decide +kernel), i0, lt_eq i1 (show td 47 = 240 by decide +kernel), (fp_of (show ck 1435 = 121 by decide +kernel) rfl rfl).trans ((if_neg (by decide)).trans ((if_neg (by decide)).trans ((if_neg (by decide)).trans ((if_neg (by decide)).trans ((if_neg (by decide)).trans ((if_neg (by decide)).trans ((if_neg (by decide))))))))), i0⟩
theorem t_48 {i : Int} (i0 : 0 ≤ i) (i1 : i < 40) : Lt 1436 i 48 i := ⟨by decide +kernel, if_neg (by decide +kernel), i0, lt_eq i1 (show td 48 = 40 by decide +kernel), (fp_of (show ck 1436 = 121 by decide +kernel) rfl rfl).trans ((if_neg (by decide)).trans ((if_neg (by decide)).trans ((if_neg (by decide)).trans ((if_neg (by decide)).trans ((if_neg (by decide)).trans ((if_neg (by decide)).trans ((if_neg (by decide))))))))), i0⟩
theorem t_49 {i : Int} (i0 : 0 ≤ i) (i1 : i < 40) : Lt 1437 i 49 i := ⟨by decide +kernel, if_neg (by decide +kernel), i0, lt_eq i1 (show td 49 = 40 by decide +kernel), (fp_of (show ck 1437 = 121 by decide +kernel) rfl rfl).trans ((if_neg (by decide)).trans ((if_neg (by decide)).trans ((if_neg (by decide)).trans ((if_neg (by decide)).trans ((if_neg (by decide)).trans ((if_neg (by decide)).trans ((if_neg (by decide))))))))), i0⟩
theorem t_50 {i : Int} (i0 : 0 ≤ i) (i1 : i < 41) : Lt 1438 i 50 i := ⟨by decide +kernel, if_neg (by decide +kernel), i0, lt_eq i1 (show td 50 = 41 by decide +kernel), (fp_of (show ck 1438 = 121 by decide +kernel) rfl rfl).trans ((if_neg (by decide)).trans ((if_neg (by decide)).trans ((if_neg (by decide)).trans ((if_neg (by decide)).trans ((if_neg (by decide)).trans ((if_neg (by decide)).trans ((if_neg (by decide))))))))), i0⟩
theorem t_51 {i : Int} (i0 : 0 ≤ i) (i1 : i < 41) : Lt 1439 i 51 i := ⟨by decide +kernel, if_neg (by decide +kernel), i0, lt_eq i1 (show td 51 = 41 by decide +kernel), (fp_of (show ck 1439 = 121 by decide +kernel) rfl rfl).trans ((if_neg (by decide)).trans ((if_neg (by decide)).trans ((if_neg (by decide)).trans ((if_neg (by decide)).trans ((if_neg (by decide)).trans ((if_neg (by decide)).trans ((if_neg (by decide))))))))), i0⟩
theorem t_52 : Lt 1400 52 52 0 := ⟨by decide +kernel, if_pos (by decide +kernel), by omega, by decide +kernel, by decide +kernel, by omega⟩
theorem t_53 : Lt 1400 53 53 0 := ⟨by decide +kernel, if_pos (by decide +kernel), by omega, by decide +kernel, by decide +kernel, by omega⟩
theorem t_54 : Lt 1400 54 54 0 := ⟨by decide +kernel, if_pos (by decide +kernel), by omega, by decide +kernel, by decide +kernel, by omega⟩
theorem t_55 : Lt 1400 55 55 0 := ⟨by decide +kernel, if_pos (by decide +kernel), by omega, by decide +kernel, by decide +kernel, by omega⟩
theorem t_56 {i : Int} (i0 : 0 ≤ i) (i1 : i < 11) : Lt 1440 i 56 i := ⟨by decide +kernel, if_neg (by decide +kernel), i0, lt_eq i1 (show td 56 = 11 by decide +kernel), (fp_of (show ck 1440 = 121 by decide +kernel) rfl rfl).trans ((if_neg (by decide)).trans ((if_neg (by decide)).trans ((if_neg (by decide)).trans ((if_neg (by decide)).trans ((if_neg (by decide)).trans ((if_neg (by decide)).trans ((if_neg (by decide))))))))), i0⟩
theorem t_57 {i : Int} (i0 : 0 ≤ i) (i1 : i < 11) : Lt 1441 i 57 i := ⟨by decide +kernel, if_neg (by decide +kernel), i0, lt_eq i1 (show td 57 = 11 by decide +kernel), (fp_of (show ck 1441 = 121 by decide +kernel) rfl rfl).trans ((if_neg (by decide)).trans ((if_neg (by decide)).trans ((if_neg (by decide)).trans ((if_neg (by decide)).trans ((if_neg (by decide)).trans ((if_neg (by decide)).trans ((if_neg (by decide))))))))), i0⟩
theorem t_58 {i : Int} (i0 : 0 ≤ i) (i1 : i < 11) : Lt 1442 i 58 i := ⟨by decide +kernel, if_neg (by decide +kernel), i0, lt_eq i1 (show td 58 = 11 by decide +kernel), (fp_of (show ck 1442 = 121 by decide +kernel) rfl rfl).trans ((if_neg (by decide)).trans ((if_neg (by decide)).trans ((if_neg (by decide)).trans ((if_neg (by decide)).trans ((if_neg (by decide)).trans ((if_neg (by decide)).trans ((if_neg (by decide))))))))), i0⟩
theorem t_59 {i : Int} (i0 : 0 ≤ i) (i1 : i < 11) : Lt 1443 i 59 i := ⟨by decide +kernel, if_neg (by decide +kernel), i0, lt_eq i1 (show td 59 = 11 by decide +kernel), (fp_of (show ck 1443 = 121 by decide +kernel) rfl rfl).trans ((if_neg (by decide)).trans ((if_neg (by decide)).trans ((if_neg (by decide)).trans ((if_neg (by decide)).trans ((if_neg (by decide)).trans ((if_neg (by decide)).trans ((if_neg (by decide))))))))), i0⟩
theorem t_60 {i : Int} (i0 : 0 ≤ i) (i1 : i < 11) : Lt 1444 i 60 i := ⟨by decide +kernel, if_neg (by decide +kernel), i0, lt_eq i1 (show td 60 = 11 by decide +kernel), (fp_of (show ck 1444 = 121 by decide +kernel) rfl rfl).trans ((if_neg (by decide)).trans ((if_neg (by decide)).trans ((if_neg (by decide)).trans ((if_neg (by decide)).trans ((if_neg (by decide)).trans ((if_neg (by decide)).trans ((if_neg (by decide))))))))), i0⟩
theorem t_61 : Lt 1400 61 61 0 := ⟨by decide +kernel, if_pos (by decide +kernel), by omega, by decide +kernel, by decide +kernel, by omega⟩
theorem t_62 : Lt 1400 62 62 0 := ⟨by decide +kernel, if_pos (by decide +kernel), by omega, by decide +kernel, by decide +kernel, by omega⟩
theorem t_63 : Lt 1400 63 63 0 := ⟨by decide +kernel, if_pos (by decide +kernel), by omega, by decide +kernel, by decide +kernel, by omega⟩
theorem t_64 : Lt 1400 64 64 0 := ⟨by decide +kernel, if_pos (by decide +kernel), by omega, by decide +kernel, by decide +kernel, by omega⟩
theorem t_65 : Lt 1400 65 65 0 := ⟨by decide +kernel, if_pos (by decide +kernel), by omega, by decide +kernel, by decide +kernel, by omega⟩
theorem t_66 : Lt 1400 66 66 0 := ⟨by decide +kernel, if_pos (by decide +kernel), by omega, by decide +kernel, by decide +kernel, by omega⟩
theorem t_67 : Lt 1400 67 67 0 := ⟨by decide +kernel, if_pos (by decide +kernel), by omega, by decide +kernel, by decide +kernel, by omega⟩
theorem t_68 : Lt 1400 68 68 0 := ⟨by decide +kernel, if_pos (by decide +kernel), by omega, by decide +kernel, by decide +kernel, by omega⟩
theorem t_69 {i : Int} (i0 : 0 ≤ i) (i1 : i < 10) : Lt 1445 i 69 i := ⟨by decide +kernel, if_neg (by decide +kernel), i0, lt_eq i1 (show td 69 = 10 by decide +kernel), (fp_of (show ck 1445 = 121 by decide +kernel) rfl rfl).trans ((if_neg (by decide)).trans ((if_neg (by decide)).trans ((if_neg (by decide)).trans ((if_neg (by decide)).trans ((if_neg (by decide)).trans ((if_neg (by decide)).trans ((if_neg (by decide))))))))), i0⟩
theorem t_70 {i : Int} (i0 : 0 ≤ i) (i1 : i < 10) : Lt 1446 i 70 i := ⟨by decide +kernel, if_neg (by decide +kernel), i0, lt_eq i1 (show td 70 = 10 by decide +kernel), (fp_of (show ck 1446 = 121 by decide +kernel) rfl rfl).trans ((if_neg (by decide)).trans ((if_neg (by decide)).trans ((if_neg (by decide)).trans ((if_neg (by decide)).trans ((if_neg (by decide)).trans ((if_neg (by decide)).trans ((if_neg (by decide))))))))), i0⟩
theorem t_71 {i : Int} (i0 : 0 ≤ i) (i1 : i < 18) : Lt 1447 i 71 i := ⟨by decide +kernel, if_neg (by decide +kernel), i0, lt_eq i1 (show td 71 = 18 by decide +kernel), (fp_of (show ck 1447 = 121 by decide +kernel) rfl rfl).trans ((if_neg (by decide)).trans ((if_neg (by decide)).trans ((if_neg (by decide)).trans ((if_neg (by decide)).trans ((if_neg (by decide)).trans ((if_neg (by decide)).trans ((if_neg (by decide))))))))), i0⟩
theorem t_72 : Lt 1400 72 72 0 := ⟨by decide +kernel, if_pos (by decide +kernel), by omega, by decide +kernel, by decide +kernel, by omega⟩
theorem t_73 {i : Int} (i0 : 0 ≤ i) (i1 : i < 32) : Lt 1448 i 73 i := ⟨by decide +kernel, if_neg (by decide +kernel), i0, lt_eq i1 (show td 73 = 32 by decide +kernel), (fp_of (show ck 1448 = 121 by decide +kernel) rfl rfl).trans ((if_neg (by decide)).trans ((if_neg (by decide)).trans ((if_neg (by decide)).trans ((if_neg (by decide)).trans ((if_neg (by decide)).trans ((if_neg (by decide)).trans ((if_neg (by decide))))))))), i0⟩
theorem t_74 {i : Int} (i0 : 0 ≤ i) (i1 : i < 32) : Lt 1449 i 74 i := ⟨by decide +kernel, if_neg (by decide +kernel), i0, lt_eq i1 (show td 74 = 32 by decide +kernel), (fp_of (show ck 1449 = 121 by decide +kernel) rfl rfl).trans ((if_neg (by decide)).trans ((if_neg (by decide)).trans ((if_neg (by decide)).trans ((if_neg (by decide)).trans ((if_neg (by decide)).trans ((if_neg (by decide)).trans ((if_neg (by decide))))))))), i0⟩
theorem t_75 {i : Int} (i0 : 0 ≤ i) (i1 : i < 8) : Lt 1450 i 75 i := ⟨by decide +kernel, if_neg (by decide +kernel), i0, lt_eq i1 (show td 75 = 8 by decide +kernel), (fp_of (show ck 1450 = 121 by decide +kernel) rfl rfl).trans ((if_neg (by decide)).trans ((if_neg (by decide)).trans ((if_neg (by decide)).trans ((if_neg (by decide)).trans ((if_neg (by decide)).trans ((if_neg (by decide)).trans ((if_neg (by decide))))))))), i0⟩
theorem t_76 {i : Int} (i0 : 0 ≤ i) (i1 : i < 8) : Lt 1451 i 76 i := ⟨by decide +kernel, if_neg (by decide +kernel), i0, lt_eq i1 (show td 76 = 8 by decide +kernel), (fp_of (show ck 1451 = 121 by decide +kernel) rfl rfl).trans ((if_neg (by decide)).trans ((if_neg (by decide)).trans ((if_neg (by decide)).trans ((if_neg (by decide)).trans ((if_neg (by decide)).trans ((if_neg (by decide)).trans ((if_neg (by decide))))))))), i0⟩
theorem t_77 {i : Int} (i0 : 0 ≤ i) (i1 : i < 8) : Lt 1452 i 77 i := ⟨by decide +kernel, if_neg (by decide +kernel), i0, lt_eq i1 (show td 77 = 8 by decide +kernel), (fp_of (show ck 1452 = 121 by decide +kernel) rfl rfl).trans ((if_neg (by decide)).trans ((if_neg (by decide)).trans ((if_neg (by decide)).trans ((if_neg (by decide)).trans ((if_neg (by decide)).trans ((if_neg (by decide)).trans ((if_neg (by decide))))))))), i0⟩
theorem t_78 {i : Int} (i0 : 0 ≤ i) (i1 : i < 8) : Lt 1453 i 78 i := ⟨by decide +kernel, if_neg (by decide +kernel), i0, lt_eq i1 (show td 78 = 8 by decide +kernel), (fp_of (show ck 1453 = 121 by decide +kernel) rfl rfl).trans ((if_neg (by decide)).trans ((if_neg (by decide)).trans ((if_neg (by decide)).trans ((if_neg (by decide)).trans ((if_neg (by decide)).trans ((if_neg (by decide)).trans ((if_neg (by decide))))))))), i0⟩
theorem t_79 {i : Int} (i0 : 0 ≤ i) (i1 : i < 384) : Lt 1454 i 79 i := ⟨by decide +kernel, if_neg (by decide +kernel), i0, lt_eq i1 (show td 79 = 384 by decide +kernel), (fp_of (show ck 1454 = 121 by decide +kernel) rfl rfl).trans ((if_neg (by decide)).trans ((if_neg (by decide)).trans ((if_neg (by decide)).trans ((if_neg (by decide)).trans ((if_neg (by decide)).trans ((if_neg (by decide)).trans ((if_neg (by decide))))))))), i0⟩
theorem t_80 {i : Int} (i0 : 0 ≤ i) (i1 : i < 16) : Lt 1455 i 80 i := ⟨by decide +kernel, if_neg (by decide +kernel), i0, lt_eq i1 (show td 80 = 16 by decide +kernel), (fp_of (show ck 1455 = 121 by decide +kernel) rfl rfl).trans ((if_neg (by decide)).trans ((if_neg (by decide)).trans ((if_neg (by decide)).trans ((if_neg (by decide)).trans ((if_neg (by decide)).trans ((if_neg (by decide)).trans ((if_neg (by decide))))))))), i0⟩
theorem t_81 {i : Int} (i0 : 0 ≤ i) (i1 : i < 16) : Lt 1456 i 81 i := ⟨by decide +kernel, if_neg (by decide +kernel), i0, lt_eq i1 (show td 81 = 16 by decide +kernel), (fp_of (show ck 1456 = 121 by decide +kernel) rfl rfl).trans ((if_neg (by decide)).trans ((if_neg (by decide)).trans ((if_neg (by decide)).trans ((if_neg (by decide)).trans ((if_neg (by decide)).trans ((if_neg (by decide)).trans ((if_neg (by decide))))))))), i0⟩
theorem t_82 {i : Int} (i0 : 0 ≤ i) (i1 : i < 16) : Lt 1457 i 82 i := ⟨by decide +kernel, if_neg (by decide +kernel), i0, lt_eq i1 (show td 82 = 16 by decide +kernel), (fp_of (show ck 1457 = 121 by decide +kernel) rfl rfl).trans ((if_neg (by decide)).trans ((if_neg (by decide)).trans ((if_neg (by decide)).trans ((if_neg (by decide)).trans ((if_neg (by decide)).trans ((if_neg (by decide)).trans ((if_neg (by decide))))))))), i0⟩
theorem t_83 {i : Int} (i0 : 0 ≤ i) (i1 : i < 16) : Lt 1458 i 83 i := ⟨by decide +kernel, if_neg (by decide +kernel), i0, lt_eq i1 (show td 83 = 16 by decide +kernel), (fp_of (show ck 1458 = 121 by decide +kernel) rfl rfl).trans ((if_neg (by decide)).trans ((if_neg (by decide)).trans ((if_neg (by decide)).trans ((if_neg (by decide)).trans ((if_neg (by decide)).trans ((if_neg (by decide)).trans ((if_neg (by decide))))))))), i0⟩
theorem t_84 {i : Int} (i0 : 0 ≤ i) (i1 : i < 16) : Lt 1459 i 84 i := ⟨by decide +kernel, if_neg (by decide +kernel), i0, lt_eq i1 (show td 84 = 16 by decide +kernel), (fp_of (show ck 1459 = 121 by decide +kernel) rfl rfl).trans ((if_neg (by decide)).trans ((if_neg (by decide)).trans ((if_neg (by decide)).trans ((if_neg (by decide)).trans ((if_neg (by decide)).trans ((if_neg (by decide)).trans ((if_neg (by decide))))))))), i0⟩
theorem t_85 {i : Int} (i0 : 0 ≤ i) (i1 : i < 16) : Lt 1460 i 85 i := ⟨by decide +kernel, if_neg (by decide +kernel), i0, lt_eq i1 (show td 85 = 16 by decide +kernel), (fp_of (show ck 1460 = 121 by decide +kernel) rfl rfl).trans ((if_neg (by decide)).trans ((if_neg (by decide)).trans ((if_neg (by decide)).trans ((if_neg (by decide)).trans ((if_neg (by decide)).trans ((if_neg (by decide)).trans ((if_neg (by decide))))))))), i0⟩
theorem t_86 {i : Int} (i0 : 0 ≤ i) (i1 : i < 16) : Lt 1461 i 86 i := ⟨by decide +kernel, if_neg (by decide +kernel), i0, lt_eq i1 (show td 86 = 16 by decide +kernel), (fp_of (show ck 1461 = 121 by decide +kernel) rfl rfl).trans ((if_neg (by decide)).trans ((if_neg (by decide)).trans ((if_neg (by decide)).trans ((if_neg (by decide)).trans ((if_neg (by decide)).trans ((if_neg (by decide)).trans ((if_neg (by decide))))))))), i0⟩
theorem t_87 : Lt 1400 87 87 0 := ⟨by decide +kernel, if_pos (by decide +kernel), by omega, by decide +kernel, by decide +kernel, by omega⟩
theorem t_88 {i : Int} (i0 : 0 ≤ i) (i1 : i < 12) : Lt 1462 i 88 i := ⟨by decide +kernel, if_neg (by decide +kernel), i0, lt_eq i1 (show td 88 = 12 by decide +kernel), (fp_of (show ck 1462 = 121 by decide +kernel) rfl rfl).trans ((if_neg (by decide)).trans ((if_neg (by decide)).trans ((if_neg (by decide)).trans ((if_neg (by decide)).trans ((if_neg (by decide)).trans ((if_neg (by decide)).trans ((if_neg (by decide))))))))), i0⟩
theorem t_89 {i : Int} (i0 : 0 ≤ i) (i1 : i < 12) : Lt 1463 i 89 i := ⟨by decide +kernel, if_neg (by decide +kernel), i0, lt_eq i1 (show td 89 = 12 by decide +kernel), (fp_of (show ck 1463 = 121 by decide +kernel) rfl rfl).trans ((if_neg (by decide)).trans ((if_neg (by decide)).trans ((if_neg (by decide)).trans ((if_neg (by decide)).trans ((if_neg (by decide)).trans ((if_neg (by decide)).trans ((if_neg (by decide))))))))), i0⟩
theorem t_90 {i : Int} (i0 : 0 ≤ i) (i1 : i < 2) : Lt 1464 i 90 i := ⟨by decide +kernel, if_neg (by decide +kernel), i0, lt_eq i1 (show td 90 = 2 by decide +kernel), (fp_of (show ck 1464 = 121 by decide +kernel) rfl rfl).trans ((if_neg (by decide)).trans ((if_neg (by decide)).trans ((if_neg (by decide)).trans ((if_neg (by decide)).trans ((if_neg (by decide)).trans ((if_neg (by decide)).trans ((if_neg (by decide))))))))), i0⟩
theorem t_91 {i : Int} (i0 : 0 ≤ i) (i1 : i < 2) : Lt 1465 i 91 i := ⟨by decide +kernel, if_neg (by decide +kernel), i0, lt_eq i1 (show td 91 = 2 by decide +kernel), (fp_of (show ck 1465 = 121 by decide +kernel) rfl rfl).trans ((if_neg (by decide)).trans ((if_neg (by decide)).trans ((if_neg (by decide)).trans ((if_neg (by decide)).trans ((if_neg (by decide)).trans ((if_neg (by decide)).trans ((if_neg (by decide))))))))), i0⟩
theorem t_92 {i : Int} (i0 : 0 ≤ i) (i1 : i < 2) : Lt 1466 i 92 i := ⟨by decide +kernel, if_neg (by decide +kernel), i0, lt_eq i1 (show td 92 = 2 by decide +kernel), (fp_of (show ck 1466 = 121 by decide +kernel) rfl rfl).trans ((if_neg (by decide)).trans ((if_neg (by decide)).trans ((if_neg (by decide)).trans ((if_neg (by decide)).trans ((if_neg (by decide)).trans ((if_neg (by decide)).trans ((if_neg (by decide))))))))), i0⟩
theorem t_93 {i : Int} (i0 : 0 ≤ i) (i1 : i < 6) : Lt 1467 i 93 i := ⟨by decide +kernel, if_neg (by decide +kernel), i0, lt_eq i1 (show td 93 = 6 by decide +kernel), (fp_of (show ck 1467 = 121 by decide +kernel) rfl rfl).trans ((if_neg (by decide)).trans ((if_neg (by decide)).trans ((if_neg (by decide)).trans ((if_neg (by decide)).trans ((if_neg (by decide)).trans ((if_neg (by decide)).trans ((if_neg (by decide))))))))), i0⟩
theorem t_94 {i : Int} (i0 : 0 ≤ i) (i1 : i < 6) : Lt 1468 i 94 i := ⟨by decide +kernel, if_neg (by decide +kernel), i0, lt_eq i1 (show td 94 = 6 by decide +kernel), (fp_of (show ck 1468 = 121 by decide +kernel) rfl rfl).trans ((if_neg (by decide)).trans ((if_neg (by decide)).trans ((if_neg (by decide)).trans ((if_neg (by decide)).trans ((if_neg (by decide)).trans ((if_neg (by decide)).trans ((if_neg (by decide))))))))), i0⟩
theorem t_95 {i : Int} (i0 : 0 ≤ i) (i1 : i < 6) : Lt 1469 i 95 i := ⟨by decide +kernel, if_neg (by decide +kernel), i0, lt_eq i1 (show td 95 = 6 by decide +kernel), (fp_of (show ck 1469 = 121 by decide +kernel) rfl rfl).trans ((if_neg (by decide)).trans ((if_neg (by decide)).trans ((if_neg (by decide)).trans ((if_neg (by decide)).trans ((if_neg (by decide)).trans ((if_neg (by decide)).trans ((if_neg (by decide))))))))), i0⟩
theorem t_96 : Lt 1400 96 96 0 := ⟨by decide +kernel, if_pos (by decide +kernel), by omega, by decide +kernel, by decide +kernel, by omega⟩
theorem t_97 {i : Int} (i0 : 0 ≤ i) (i1 : i < 8) : Lt 1470 i 97 i := ⟨by decide +kernel, if_neg (by decide +kernel), i0, lt_eq i1 (show td 97 = 8 by decide +kernel), (fp_of (show ck 1470 = 121 by decide +kernel) rfl rfl).trans ((if_neg (by decide)).trans ((if_neg (by decide)).trans ((if_neg (by decide)).trans ((if_neg (by decide)).trans ((if_neg (by decide)).trans ((if_neg (by decide)).trans ((if_neg (by decide))))))))), i0⟩
theorem t_98 {i : Int} (i0 : 0 ≤ i) (i1 : i < 8) : Lt 1471 i 98 i := ⟨by decide +kernel, if_neg (by decide +kernel), i0, lt_eq i1 (show td 98 = 8 by decide +kernel), (fp_of (show ck 1471 = 121 by decide +kernel) rfl rfl).trans ((if_neg (by decide)).trans ((if_neg (by decide)).trans ((if_neg (by decide)).trans ((if_neg (by decide)).trans ((if_neg (by decide)).trans ((if_neg (by decide)).trans ((if_neg (by decide))))))))), i0⟩
theorem t_99 {i : Int} (i0 : 0 ≤ i) (i1 : i < 8) : Lt 1472 i 99 i := ⟨by decide +kernel, if_neg (by decide +kernel), i0, lt_eq i1 (show td 99 = 8 by decide +kernel), (fp_of (show ck 1472 = 121 by decide +kernel) rfl rfl).trans ((if_neg (by decide)).trans ((if_neg (by decide)).trans ((if_neg (by decide)).trans ((if_neg (by decide)).trans ((if_neg (by decide)).trans ((if_neg (by decide)).trans ((if_neg (by decide))))))))), i0⟩
theorem t_100 {i : Int} (i0 : 0 ≤ i) (i1 : i < 3) : Lt 1473 i 100 i := ⟨by decide +kernel, if_neg (by decide +kernel), i0, lt_eq i1 (show td 100 = 3 by decide +kernel), (fp_of (show ck 1473 = 121 by decide +kernel) rfl rfl).trans ((if_neg (by decide)).trans ((if_neg (by decide)).trans ((if_neg (by decide)).trans ((if_neg (by decide)).trans ((if_neg (by decide)).trans ((if_neg (by decide)).trans ((if_neg (by decide))))))))), i0⟩
theorem t_101 {i : Int} (i0 : 0 ≤ i) (i1 : i < 3) : Lt 1474 i 101 i := ⟨by decide +kernel, if_neg (by decide +kernel), i0, lt_eq i1 (show td 101 = 3 by decide +kernel), (fp_of (show ck 1474 = 121 by decide +kernel) rfl rfl).trans ((if_neg (by decide)).trans ((if_neg (by decide)).trans ((if_neg (by decide)).trans ((if_neg (by decide)).trans ((if_neg (by decide)).trans ((if_neg (by decide)).trans ((if_neg (by decide))))))))), i0⟩
theorem t_102 {i : Int} (i0 : 0 ≤ i) (i1 : i < 3) : Lt 1475 i 102 i := ⟨by decide +kernel, if_neg (by decide +kernel), i0, lt_eq i1 (show td 102 = 3 by decide +kernel), (fp_of (show ck 1475 = 121 by decide +kernel) rfl rfl).trans ((if_neg (by decide)).trans ((if_neg (by decide)).trans ((if_neg (by decide)).trans ((if_neg (by decide)).trans ((if_neg (by decide)).trans ((if_neg (by decide)).trans ((if_neg (by decide))))))))), i0⟩
theorem t_103 {i : Int} (i0 : 0 ≤ i) (i1 : i < 20) : Lt 1476 i 103 i := ⟨by decide +kernel, if_neg (by decide +kernel), i0, lt_eq i1 (show td 103 = 20 by decide +kernel), (fp_of (show ck 1476 = 121 by decide +kernel) rfl rfl).trans ((if_neg (by decide)).trans ((if_neg (by decide)).trans ((if_neg (by decide)).trans ((if_neg (by decide)).trans ((if_neg (by decide)).trans ((if_neg (by decide)).trans ((if_neg (by decide))))))))), i0⟩
theorem t_104 {i : Int} (i0 : 0 ≤ i) (i1 : i < 20) : Lt 1477 i 104 i := ⟨by decide +kernel, if_neg (by decide +kernel), i0, lt_eq i1 (show td 104 = 20 by decide +kernel), (fp_of (show ck 1477 = 121 by decide +kernel) rfl rfl).trans ((if_neg (by decide)).trans ((if_neg (by decide)).trans ((if_neg (by decide)).trans ((if_neg (by decide)).trans ((if_neg (by decide)).trans ((if_neg (by decide)).trans ((if_neg (by decide))))))))), i0⟩
theorem t_105 {i : Int} (i0 : 0 ≤ i) (i1 : i < 20) : Lt 1478 i 105 i := ⟨by decide +kernel, if_neg (by decide +kernel), i0, lt_eq i1 (show td 105 = 20 by decide +kernel), (fp_of (show ck 1478 = 121 by decide +kernel) rfl rfl).trans ((if_neg (by decide)).trans ((if_neg (by decide)).trans ((if_neg (by decide)).trans ((if_neg (by decide)).trans ((if_neg (by decide)).trans ((if_neg (by decide)).trans ((if_neg (by decide))))))))), i0⟩
theorem t_106 {i : Int} (i0 : 0 ≤ i) (i1 : i < 40) : Lt 1479 i 106 i := ⟨by decide +kernel, if_neg (by decide +kernel), i0, lt_eq i1 (show td 106 = 40 by decide +kernel), (fp_of (show ck 1479 = 121 by decide +kernel) rfl rfl).trans ((if_neg (by decide)).trans ((if_neg (by decide)).trans ((if_neg (by decide)).trans ((if_neg (by decide)).trans ((if_neg (by decide)).trans ((if_neg (by decide)).trans ((if_neg (by decide))))))))), i0⟩
theorem t_107 {i : Int} (i0 : 0 ≤ i) (i1 : i < 40) : Lt 1480 i 107 i := ⟨by decide +kernel, if_neg (by decide +kernel), i0, lt_eq i1 (show td 107 = 40 by decide +kernel), (fp_of (show ck 1480 = 121 by decide +kernel) rfl rfl).trans ((if_neg (by decide)).trans ((if_neg (by decide)).trans ((if_neg (by decide)).trans ((if_neg (by decide)).trans ((if_neg (by decide)).trans ((if_neg (by decide)).trans ((if_neg (by decide))))))))), i0⟩
theorem t_108 {i : Int} (i0 : 0 ≤ i) (i1 : i < 40) : Lt 1481 i 108 i := ⟨by decide +kernel, if_neg (by decide +kernel), i0, lt_eq i1 (show td 108 = 40 by decide +kernel), (fp_of (show ck 1481 = 121 by decide +kernel) rfl rfl).trans ((if_neg (by decide)).trans ((if_neg (by decide)).trans ((if_neg (by decide)).trans ((if_neg (by decide)).trans ((if_neg (by decide)).trans ((if_neg (by decide)).trans ((if_neg (by decide))))))))), i0⟩
theorem t_109 {i : Int} (i0 : 0 ≤ i) (i1 : i < 40) : Lt 1482 i 109 i := ⟨by decide +kernel, if_neg (by decide +kernel), i0, lt_eq i1 (show td 109 = 40 by decide +kernel), (fp_of (show ck 1482 = 121 by decide +kernel) rfl rfl).trans ((if_neg (by decide)).trans ((if_neg (by decide)).trans ((if_neg (by decide)).trans ((if_neg (by decide)).trans ((if_neg (by decide)).trans ((if_neg (by decide)).trans ((if_neg (by decide))))))))), i0⟩
theorem t_110 {i : Int} (i0 : 0 ≤ i) (i1 : i < 40) : Lt 1483 i 110 i := ⟨by decide +kernel, if_neg (by decide +kernel), i0, lt_eq i1 (show td 110 = 40 by decide +kernel), (fp_of (show ck 1483 = 121 by decide +kernel) rfl rfl).trans ((if_neg (by decide)).trans ((if_neg (by decide)).trans ((if_neg (by decide)).trans ((if_neg (by decide)).trans ((if_neg (by decide)).trans ((if_neg (by decide)).trans ((if_neg (by decide))))))))), i0⟩
theorem t_111 {i : Int} (i0 : 0 ≤ i) (i1 : i < 40) : Lt 1484 i 111 i := ⟨by decide +kernel, if_neg (by decide +kernel), i0, lt_eq i1 (show td 111 = 40 by decide +kernel), (fp_of (show ck 1484 = 121 by decide +kernel) rfl rfl).trans ((if_neg (by decide)).trans ((if_neg (by decide)).trans ((if_neg (by decide)).trans ((if_neg (by decide)).trans ((if_neg (by decide)).trans ((if_neg (by decide)).trans ((if_neg (by decide))))))))), i0⟩
theorem t_112 : Lt 1400 112 112 0 := ⟨by decide +kernel, if_pos (by decide +kernel), by omega, by decide +kernel, by decide +kernel, by omega⟩
theorem t_113 {i : Int} (i0 : 0 ≤ i) (i1 : i < 64) : Lt 1485 i 113 i := ⟨by decide +kernel, if_neg (by decide +kernel), i0, lt_eq i1 (show td 113 = 64 by decide +kernel), (fp_of (show ck 1485 = 121 by decide +kernel) rfl rfl).trans ((if_neg (by decide)).trans ((if_neg (by decide)).trans ((if_neg (by decide)).trans ((if_neg (by decide)).trans ((if_neg (by decide)).trans ((if_neg (by decide)).trans ((if_neg (by decide))))))))), i0⟩
theorem t_114 {i : Int} (i0 : 0 ≤ i) (i1 : i < 64) : Lt 1486 i 114 i := ⟨by decide +kernel, if_neg (by decide +kernel), i0, lt_eq i1 (show td 114 = 64 by decide +kernel), (fp_of (show ck 1486 = 121 by decide +kernel) rfl rfl).trans ((if_neg (by decide)).trans ((if_neg (by decide)).trans ((if_neg (by decide)).trans ((if_neg (by decide)).trans ((if_neg (by decide)).trans ((if_neg (by decide)).trans ((if_neg (by decide))))))))), i0⟩
theorem t_115 {i : Int} (i0 : 0 ≤ i) (i1 : i < 64) : Lt 1487 i 115 i := ⟨by decide +kernel, if_neg (by decide +kernel), i0, lt_eq i1 (show td 115 = 64 by decide +kernel), (fp_of (show ck 1487 = 121 by decide +kernel) rfl rfl).trans ((if_neg (by decide)).trans ((if_neg (by decide)).trans ((if_neg (by decide)).trans ((if_neg (by decide)).trans ((if_neg (by decide)).trans ((if_neg (by decide)).trans ((if_neg (by decide))))))))), i0⟩
theorem t_116 {i : Int} (i0 : 0 ≤ i) (i1 : i < 64) : Lt 1488 i 116 i := ⟨by decide +kernel, if_neg (by decide +kernel), i0, lt_eq i1 (show td 116 = 64 by decide +kernel), (fp_of (show ck 1488 = 121 by decide +kernel) rfl rfl).trans ((if_neg (by decide)).trans ((if_neg (by decide)).trans ((if_neg (by decide)).trans ((if_neg (by decide)).trans ((if_neg (by decide)).trans ((if_neg (by decide)).trans ((if_neg (by decide))))))))), i0⟩
theorem t_117 {i : Int} (i0 : 0 ≤ i) (i1 : i < 11) : Lt 1489 i 117 i := ⟨by decide +kernel, if_neg (by decide +kernel), i0, lt_eq i1 (show td 117 = 11 by decide +kernel), (fp_of (show ck 1489 = 121 by decide +kernel) rfl rfl).trans ((if_neg (by decide)).trans ((if_neg (by decide)).trans ((if_neg (by decide)).trans ((if_neg (by decide)).trans ((if_neg (by decide)).trans ((if_neg (by decide)).trans ((if_neg (by decide))))))))), i0⟩
theorem t_118 {i : Int} (i0 : 0 ≤ i) (i1 : i < 11) : Lt 1490 i 118 i := ⟨by decide +kernel, if_neg (by decide +kernel), i0, lt_eq i1 (show td 118 = 11 by decide +kernel), (fp_of (show ck 1490 = 121 by decide +kernel) rfl rfl).trans ((if_neg (by decide)).trans ((if_neg (by decide)).trans ((if_neg (by decide)).trans ((if_neg (by decide)).trans ((if_neg (by decide)).trans ((if_neg (by decide)).trans ((if_neg (by decide))))))))), i0⟩
theorem t_119 {i : Int} (i0 : 0 ≤ i) (i1 : i < 11) : Lt 1491 i 119 i := ⟨by decide +kernel, if_neg (by decide +kernel), i0, lt_eq i1 (show td 119 = 11 by decide +kernel), (fp_of (show ck 1491 = 121 by decide +kernel) rfl rfl).trans ((if_neg (by decide)).trans ((if_neg (by decide)).trans ((if_neg (by decide)).trans ((if_neg (by decide)).trans ((if_neg (by decide)).trans ((if_neg (by decide)).trans ((if_neg (by decide))))))))), i0⟩
theorem t_120 {i : Int} (i0 : 0 ≤ i) (i1 : i < 10) : Lt 1492 i 120 i := ⟨by decide +kernel, if_neg (by decide +kernel), i0, lt_eq i1 (show td 120 = 10 by decide +kernel), (fp_of (show ck 1492 = 121 by decide +kernel) rfl rfl).trans ((if_neg (by decide)).trans ((if_neg (by decide)).trans ((if_neg (by decide)).trans ((if_neg (by decide)).trans ((if_neg (by decide)).trans ((if_neg (by decide)).trans ((if_neg (by decide))))))))), i0⟩
theorem t_121 {i : Int} (i0 : 0 ≤ i) (i1 : i < 10) : Lt 1493 i 121 i := ⟨by decide +kernel, if_neg (by decide +kernel), i0, lt_eq i1 (show td 121 = 10 by decide +kernel), (fp_of (show ck 1493 = 121 by decide +kernel) rfl rfl).trans ((if_neg (by decide)).trans ((if_neg (by decide)).trans ((if_neg (by decide)).trans ((if_neg (by decide)).trans ((if_neg (by decide)).trans ((if_neg (by decide)).trans ((if_neg (by decide))))))))), i0⟩
theorem t_122 : Lt 1400 122 122 0 := ⟨by decide +kernel, if_pos (by decide +kernel), by omega, by decide +kernel, by decide +kernel, by omega⟩
theorem t_123 : Lt 1400 123 123 0 := ⟨by decide +kernel, if_pos (by decide +kernel), by omega, by decide +kernel, by decide +kernel, by omega⟩
theorem t_124 : Lt 1400 124 124 0 := ⟨by decide +kernel, if_pos (by decide +kernel), by omega, by decide +kernel, by decide +kernel, by omega⟩
theorem t_125 : Lt 1400 125 125 0 := ⟨by decide +kernel, if_pos (by decide +kernel), by omega, by decide +kernel, by decide +kernel, by omega⟩
theorem t_126 {i : Int} (i0 : 0 ≤ i) (i1 : i < 41) : Lt 1494 i 126 i := ⟨by decide +kernel, if_neg (by decide +kernel), i0, lt_eq i1 (show td 126 = 41 by decide +kernel), (fp_of (show ck 1494 = 121 by decide +kernel) rfl rfl).trans ((if_neg (by decide)).trans ((if_neg (by decide)).trans ((if_neg (by decide)).trans ((if_neg (by decide)).trans ((if_neg (by decide)).trans ((if_neg (by decide)).trans ((if_neg (by decide))))))))), i0⟩
theorem t_127 {i : Int} (i0 : 0 ≤ i) (i1 : i < 41) : Lt 1495 i 127 i := ⟨by decide +kernel, if_neg (by decide +kernel), i0, lt_eq i1 (show td 127 = 41 by decide +kernel), (fp_of (show ck 1495 = 121 by decide +kernel) rfl rfl).trans ((if_neg (by decide)).trans ((if_neg (by decide)).trans ((if_neg (by decide)).trans ((if_neg (by decide)).trans ((if_neg (by decide)).trans ((if_neg (by decide)).trans ((if_neg (by decide))))))))), i0⟩
theorem t_128 {i : Int} (i0 : 0 ≤ i) (i1 : i < 41) : Lt 1496 i 128 i := ⟨by decide +kernel, if_neg (by decide +kernel), i0, lt_eq i1 (show td 128 = 41 by decide +kernel), (fp_of (show ck 1496 = 121 by decide +kernel) rfl rfl).trans ((if_neg (by decide)).trans ((if_neg (by decide)).trans ((if_neg (by decide)).trans ((if_neg (by decide)).trans ((if_neg (by decide)).trans ((if_neg (by decide)).trans ((if_neg (by decide))))))))), i0⟩
theorem t_129 {i : Int} (i0 : 0 ≤ i) (i1 : i < 19200) : Lt 1497 i 129 i := ⟨by decide +kernel, if_neg (by decide +kernel), i0, lt_eq i1 (show td 129 = 19200 by decide +kernel), (fp_of (show ck 1497 = 121 by decide +kernel) rfl rfl).trans ((if_neg (by decide)).trans ((if_neg (by decide)).trans ((if_neg (by decide)).trans ((if_neg (by decide)).trans ((if_neg (by decide)).trans ((if_neg (by decide)).trans ((if_neg (by decide))))))))), i0⟩
theorem t_130 {i : Int} (i0 : 0 ≤ i) (i1 : i < 135) : Lt 1498 i 130 i := ⟨by decide +kernel, if_neg (by decide +kernel), i0, lt_eq i1 (show td 130 = 135 by decide +kernel), (fp_of (show ck 1498 = 121 by decide +kernel) rfl rfl).trans ((if_neg (by decide)).trans ((if_neg (by decide)).trans ((if_neg (by decide)).trans ((if_neg (by decide)).trans ((if_neg (by decide)).trans ((if_neg (by decide)).trans ((if_neg (by decide))))))))), i0⟩
theorem t_131 {i : Int} (i0 : 0 ≤ i) (i1 : i < 3780) : Lt 1499 i 131 i := ⟨by decide +kernel, if_neg (by decide +kernel), i0, lt_eq i1 (show td 131 = 3780 by decide +kernel), (fp_of (show ck 1499 = 121 by decide +kernel) rfl rfl).trans ((if_neg (by decide)).trans ((if_neg (by decide)).trans ((if_neg (by decide)).trans ((if_neg (by decide)).trans ((if_neg (by decide)).trans ((if_neg (by decide)).trans ((if_neg (by decide))))))))), i0⟩
theorem t_132 {i : Int} (i0 : 0 ≤ i) (i1 : i < 28) : Lt 1500 i 132 i := ⟨by decide +kernel, if_neg (by decide +kernel), i0, lt_eq i1 (show td 132 = 28 by decide +kernel), (fp_of (show ck 1500 = 121 by decide +kernel) rfl rfl).trans ((if_neg (by decide)).trans ((if_neg (by decide)).trans ((if_neg (by decide)).trans ((if_neg (by decide)).trans ((if_neg (by decide)).trans ((if_neg (by decide)).trans ((if_neg (by decide))))))))), i0⟩
theorem t_133 : Lt 1400 133 133 0 := ⟨by decide +kernel, if_pos (by decide +kernel), by omega, by decide +kernel, by decide +kernel, by omega⟩
theorem t_134 : Lt 1400 134 134 0 := ⟨by decide +kernel, if_pos (by decide +kernel), by omega, by decide +kernel, by decide +kernel, by omega⟩
theorem t_135 : Lt 1400 135 135 0 := ⟨by decide +kernel, if_pos (by decide +kernel), by omega, by decide +kernel, by decide +kernel, by omega⟩
theorem t_136 : Lt 1400 136 136 0 := ⟨by decide +kernel, if_pos (by decide +kernel), by omega, by decide +kernel, by decide +kernel, by omega⟩
theorem t_137 : Lt 1400 137 137 0 := ⟨by decide +kernel, if_pos (by decide +kernel), by omega, by decide +kernel, by decide +kernel, by omega⟩
theorem t_138 {i : Int} (i0 : 0 ≤ i) (i1 : i < 160) : Lt 1501 i 138 i := ⟨by decide +kernel, if_neg (by decide +kernel), i0, lt_eq i1 (show td 138 = 160 by decide +kernel), (fp_of (show ck 1501 = 121 by decide +kernel) rfl rfl).trans ((if_neg (by decide)).trans ((if_neg (by decide)).trans ((if_neg (by decide)).trans ((if_neg (by decide)).trans ((if_neg (by decide)).trans ((if_neg (by decide)).trans ((if_neg (by decide))))))))), i0⟩
theorem t_139 : Lt 1400 139 139 0 := ⟨by decide +kernel, if_pos (by decide +kernel), by omega, by decide +kernel, by decide +kernel, by omega⟩
theorem t_140 {i : Int} (i0 : 0 ≤ i) (i1 : i < 4100) : Lt 1502 i 140 i := ⟨by decide +kernel, if_neg (by decide +kernel), i0, lt_eq i1 (show td 140 = 4100 by decide +kernel), (fp_of (show ck 1502 = 121 by decide +kernel) rfl rfl).trans ((if_neg (by decide)).trans ((if_neg (by decide)).trans ((if_neg (by decide)).trans ((if_neg (by decide)).trans ((if_neg (by decide)).trans ((if_neg (by decide)).trans ((if_neg (by decide))))))))), i0⟩
theorem t_141 : Lt 1400 141 141 0 := ⟨by decide +kernel, if_pos (by decide +kernel), by omega, by decide +kernel, by decide +kernel, by omega⟩
theorem t_142 {i : Int} (i0 : 0 ≤ i) (i1 : i < 4100) : Lt 1503 i 142 i := ⟨by decide +kernel, if_neg (by decide +kernel), i0, lt_eq i1 (show td 142 = 4100 by decide +kernel), (fp_of (show ck 1503 = 121 by decide +kernel) rfl rfl).trans ((if_neg (by decide)).trans ((if_neg (by decide)).trans ((if_neg (by decide)).trans ((if_neg (by decide)).trans ((if_neg (by decide)).trans ((if_neg (by decide)).trans ((if_neg (by decide))))))))), i0⟩
theorem t_143 : Lt 1400 143 143 0 := ⟨by decide +kernel, if_pos (by decide +kernel), by omega, by decide +kernel, by decide +kernel, by omega⟩
theorem t_144 {i : Int} (i0 : 0 ≤ i) (i1 : i < 135) : Lt 1504 i 144 i := ⟨by decide +kernel, if_neg (by decide +kernel), i0, lt_eq i1 (show td 144 = 135 by decide +kernel), (fp_of (show ck 1504 = 121 by decide +kernel) rfl rfl).trans ((if_neg (by decide)).trans ((if_neg (by decide)).trans ((if_neg (by decide)).trans ((if_neg (by decide)).trans ((if_neg (by decide)).trans ((if_neg (by decide)).trans ((if_neg (by decide))))))))), i0⟩
theorem t_145 {i : Int} (i0 : 0 ≤ i) (i1 : i < 3780) : Lt 1505 i 145 i := ⟨by decide +kernel, if_neg (by decide +kernel), i0, lt_eq i1 (show td 145 = 3780 by decide +kernel), (fp_of (show ck 1505 = 121 by decide +kernel) rfl rfl).trans ((if_neg (by decide)).trans ((if_neg (by decide)).trans ((if_neg (by decide)).trans ((if_neg (by decide)).trans ((if_neg (by decide)).trans ((if_neg (by decide)).trans ((if_neg (by decide))))))))), i0⟩
theorem t_146 {i : Int} (i0 : 0 ≤ i) (i1 : i < 196) : Lt 1506 i 146 i := ⟨by decide +kernel, if_neg (by decide +kernel), i0, lt_eq i1 (show td 146 = 196 by decide +kernel), (fp_of (show ck 1506 = 121 by decide +kernel) rfl rfl).trans ((if_neg (by decide)).trans ((if_neg (by decide)).trans ((if_neg (by decide)).trans ((if_neg (by decide)).trans ((if_neg (by decide)).trans ((if_neg (by decide)).trans ((if_neg (by decide))))))))), i0⟩
theorem t_147 : Lt 1400 147 147 0 := ⟨by decide +kernel, if_pos (by decide +kernel), by omega, by decide +kernel, by decide +kernel, by omega⟩
theorem t_148 : Lt 1400 148 148 0 := ⟨by decide +kernel, if_pos (by decide +kernel), by omega, by decide +kernel, by decide +kernel, by omega⟩
theorem t_149 : Lt 1400 149 149 0 := ⟨by decide +kernel, if_pos (by decide +kernel), by omega, by decide +kernel, by decide +kernel, by omega⟩
theorem t_150 : Lt 1400 150 150 0 := ⟨by decide +kernel, if_pos (by decide +kernel), by omega, by decide +kernel, by decide +kernel, by omega⟩
theorem t_151 : Lt 1400 151 151 0 := ⟨by decide +kernel, if_pos (by decide +kernel), by omega, by decide +kernel, by decide +kernel, by omega⟩
theorem t_152 : Lt 1400 152 152 0 := ⟨by decide +kernel, if_pos (by decide +kernel), by omega, by decide +kernel, by decide +kernel, by omega⟩
theorem t_153 : Lt 1400 153 153 0 := ⟨by decide +kernel, if_pos (by decide +kernel), by omega, by decide +kernel, by decide +kernel, by omega⟩
theorem t_154 : Lt 1400 154 154 0 := ⟨by decide +kernel, if_pos (by decide +kernel), by omega, by decide +kernel, by decide +kernel, by omega⟩
theorem t_155 {i : Int} (i0 : 0 ≤ i) (i1 : i < 400) : Lt 1507 i 155 i := ⟨by decide +kernel, if_neg (by decide +kernel), i0, lt_eq i1 (show td 155 = 400 by decide +kernel), (fp_of (show ck 1507 = 121 by decide +kernel) rfl rfl).trans ((if_neg (by decide)).trans ((if_neg (by decide)).trans ((if_neg (by decide)).trans ((if_neg (by decide)).trans ((if_neg (by decide)).trans ((if_neg (by decide)).trans ((if_neg (by decide))))))))), i0⟩
theorem t_156 : Lt 1400 156 156 0 := ⟨by decide +kernel, if_pos (by decide +kernel), by omega, by decide +kernel, by decide +kernel, by omega⟩
theorem t_157 : Lt 1400 157 157 0 := ⟨by decide +kernel, if_pos (by decide +kernel), by omega, by decide +kernel, by decide +kernel, by omega⟩
theorem t_158 {i : Int} (i0 : 0 ≤ i) (i1 : i < 48) : Lt 1508 i 158 i := ⟨by decide +kernel, if_neg (by decide +kernel), i0, lt_eq i1 (show td 158 = 48 by decide +kernel), (fp_of (show ck 1508 = 121 by decide +kernel) rfl rfl).trans ((if_neg (by decide)).trans ((if_neg (by decide)).trans ((if_neg (by decide)).trans ((if_neg (by decide)).trans ((if_neg (by decide)).trans ((if_neg (by decide)).trans ((if_neg (by decide))))))))), i0⟩
def tvi (a : Int) : Int := (if a < 1455 then (if a < 1427 then (if a < 1413 then (if a < 1406 then (if a < 1403 then (if a < 1401 then 0 else (if a < 1402 then 3 else 5)) else (if a < 1404 then 6 else (if a < 1405 then 8 else 9))) else (if a < 1409 then (if a < 1407 then 10 else (if a < 1408 then 11 else 12)) else (if a < 1411 then (if a < 1410 then 13 else 14) else (if a < 1412 then 15 else 16)))) else (if a < 1420 then (if a < 1416 then (if a < 1414 then 17 else (if a < 1415 then 18 else 19)) else (if a < 1418 then (if a < 1417 then 20 else 22) else (if a < 1419 then 23 else 24))) else (if a < 1423 then (if a < 1421 then 26 else (if a < 1422 then 29 else 30)) else (if a < 1425 then (if a < 1424 then 32 else 33) else (if a < 1426 then 37 else 38))))) else (if a < 1441 then (if a < 1434 then (if a < 1430 then (if a < 1428 then 39 else (if a < 1429 then 40 else 41)) else (if a < 1432 then (if a < 1431 then 42 else 43) else (if a < 1433 then 44 else 45))) else (if a < 1437 then (if a < 1435 then 46 else (if a < 1436 then 47 else 48)) else (if a < 1439 then (if a < 1438 then 49 else 50) else (if a < 1440 then 51 else 56)))) else (if a < 1448 then (if a < 1444 then (if a < 1442 then 57 else (if a < 1443 then 58 else 59)) else (if a < 1446 then (if a < 1445 then 60 else 69) else (if a < 1447 then 70 else 71))) else (if a < 1451 then (if a < 1449 then 73 else (if a < 1450 then 74 else 75)) else (if a < 1453 then (if a < 1452 then 76 else 77) else (if a < 1454 then 78 else 79)))))) else (if a < 1482 then (if a < 1468 then (if a < 1461 then (if a < 1458 then (if a < 1456 then 80 else (if a < 1457 then 81 else 82)) else (if a < 1459 then 83 else (if a < 1460 then 84 else 85))) else (if a < 1464 then (if a < 1462 then 86 else (if a < 1463 then 88 else 89)) else (if a < 1466 then (if a < 1465 then 90 else 91) else (if a < 1467 then 92 else 93)))) else (if a < 1475 then (if a < 1471 then (if a < 1469 then 94 else (if a < 1470 then 95 else 97)) else (if a < 1473 then (if a < 1472 then 98 else 99) else (if a < 1474 then 100 else 101))) else (if a < 1478 then (if a < 1476 then 102 else (if a < 1477 then 103 else 104)) else (if a < 1480 then (if a < 1479 then 105 else 106) else (if a < 1481 then 107 else 108))))) else (if a < 1496 then (if a < 1489 then (if a < 1485 then (if a < 1483 then 109 else (if a < 1484 then 110 else 111)) else (if a < 1487 then (if a < 1486 then 113 else 114) else (if a < 1488 then 115 else 116))) else (if a < 1492 then (if a < 1490 then 117 else (if a < 1491 then 118 else 119)) else (if a < 1494 then (if a < 1493 then 120 else 121) else (if a < 1495 then 126 else 127)))) else (if a < 1503 then (if a < 1499 then (if a < 1497 then 128 else (if a < 1498 then 129 else 130)) else (if a < 1501 then (if a < 1500 then 131 else 132) else (if a < 1502 then 138 else 140))) else (if a < 1506 then (if a < 1504 then 142 else (if a < 1505 then 144 else 145)) else (if a < 1508 then (if a < 1507 then 146 else 155) else (if a < 1509 then 158 else 0)))))))
theorem ta_inv (v : Int) : ta v = 1400 ∨ tvi (ta v) = v := by
  rcases Int.lt_or_le v 80 with c | c
  · skip
    rcases Int.lt_or_le v 37 with c | c
    · skip
      rcases Int.lt_or_le v 18 with c | c
      · skip
        rcases Int.lt_or_le v 10 with c | c
        · skip
          rcases Int.lt_or_le v 6 with c | c
          · skip
            rcases Int.lt_or_le v 4 with c | c
            · skip
              rcases Int.lt_or_le v 3 with c | c
              · skip
                exact Or.inl ((if_pos (by omega)).trans ((if_pos (by omega)).trans ((if_pos (by omega)).trans ((if_pos (by omega)).trans ((if_pos (by omega)).trans ((if_pos (by omega)).trans ((if_pos (by omega)))))))))
              · skip
                obtain rfl : v = 3 := by omega
                exact Or.inr (by decide +kernel)
            · skip
              rcases Int.lt_or_le v 5 with c | c
              · skip
                exact Or.inl ((if_pos (by omega)).trans ((if_pos (by omega)).trans ((if_pos (by omega)).trans ((if_pos (by omega)).trans ((if_pos (by omega)).trans ((if_neg (by omega)).trans ((if_pos (by omega)))))))))
              · skip
                obtain rfl : v = 5 := by omega
                exact Or.inr (by decide +kernel)
          · skip
            rcases Int.lt_or_le v 8 with c | c
            · skip
              rcases Int.lt_or_le v 7 with c | c
              · skip
                obtain rfl : v = 6 := by omega
                exact Or.inr (by decide +kernel)
              · skip
                exact Or.inl ((if_pos (by omega)).trans ((if_pos (by omega)).trans ((if_pos (by omega)).trans ((if_pos (by omega)).trans ((if_neg (by omega)).trans ((if_pos (by omega)).trans ((if_neg (by omega)))))))))
            · skip
              rcases Int.lt_or_le v 9 with c | c
              · skip
                obtain rfl : v = 8 := by omega
                exact Or.inr (by decide +kernel)
              · skip
                obtain rfl : v = 9 := by omega
                exact Or.inr (by decide +kernel)
        · skip
          rcases Int.lt_or_le v 14 with c | c
          · skip
            rcases Int.lt_or_le v 12 with c | c
            · skip
              rcases Int.lt_or_le v 11 with c | c
              · skip
                obtain rfl : v = 10 := by omega
                exact Or.inr (by decide +kernel)
              · skip
                obtain rfl : v = 11 := by omega
                exact Or.inr (by decide +kernel)
            · skip
              rcases Int.lt_or_le v 13 with c | c
              · skip
                obtain rfl : v = 12 := by omega
                exact Or.inr (by decide +kernel)
              · skip
                obtain rfl : v = 13 := by omega
                exact Or.inr (by decide +kernel)
          · skip
            rcases Int.lt_or_le v 16 with c | c
            · skip
              rcases Int.lt_or_le v 15 with c | c
              · skip
                obtain rfl : v = 14 := by omega
                exact Or.inr (by decide +kernel)
              · skip
                obtain rfl : v = 15 := by omega
                exact Or.inr (by decide +kernel)
            · skip
              rcases Int.lt_or_le v 17 with c | c
              · skip
                obtain rfl : v = 16 := by omega
                exact Or.inr (by decide +kernel)
              · skip
                obtain rfl : v = 17 := by omega
                exact Or.inr (by decide +kernel)
      · skip
        rcases Int.lt_or_le v 26 with c | c
        · skip
          rcases Int.lt_or_le v 22 with c | c
          · skip
            rcases Int.lt_or_le v 20 with c | c
            · skip
              rcases Int.lt_or_le v 19 with c | c
              · skip
                obtain rfl : v = 18 := by omega
                exact Or.inr (by decide +kernel)
              · skip
                obtain rfl : v = 19 := by omega
                exact Or.inr (by decide +kernel)
            · skip
              rcases Int.lt_or_le v 21 with c | c
              · skip
                obtain rfl : v = 20 := by omega
                exact Or.inr (by decide +kernel)
              · skip
                exact Or.inl ((if_pos (by omega)).trans ((if_pos (by omega)).trans ((if_neg (by omega)).trans ((if_pos (by omega)).trans ((if_pos (by omega)).trans ((if_neg (by omega)).trans ((if_neg (by omega)))))))))
          · skip
            rcases Int.lt_or_le v 24 with c | c
            · skip
              rcases Int.lt_or_le v 23 with c | c
              · skip
                obtain rfl : v = 22 := by omega
                exact Or.inr (by decide +kernel)
              · skip
                obtain rfl : v = 23 := by omega
                exact Or.inr (by decide +kernel)
            · skip
              rcases Int.lt_or_le v 25 with c | c
              · skip
                obtain rfl : v = 24 := by omega
                exact Or.inr (by decide +kernel)
              · skip
                exact Or.inl ((if_pos (by omega)).trans ((if_pos (by omega)).trans ((if_neg (by omega)).trans ((if_pos (by omega)).trans ((if_neg (by omega)).trans ((if_neg (by omega)).trans ((if_neg (by omega)))))))))
        · skip
          rcases Int.lt_or_le v 31 with c | c
          · skip
            rcases Int.lt_or_le v 29 with c | c
            · skip
              rcases Int.lt_or_le v 27 with c | c
              · skip
                obtain rfl : v = 26 := by omega
                exact Or.inr (by decide +kernel)
              · skip
                exact Or.inl ((if_pos (by omega)).trans ((if_pos (by omega)).trans ((if_neg (by omega)).trans ((if_neg (by omega)).trans ((if_pos (by omega)).trans ((if_pos (by omega)).trans ((if_neg (by omega)))))))))
            · skip
              rcases Int.lt_or_le v 30 with c | c
              · skip
                obtain rfl : v = 29 := by omega
                exact Or.inr (by decide +kernel)
              · skip
                obtain rfl : v = 30 := by omega
                exact Or.inr (by decide +kernel)
          · skip
            rcases Int.lt_or_le v 33 with c | c
            · skip
              rcases Int.lt_or_le v 32 with c | c
              · skip
                exact Or.inl ((if_pos (by omega)).trans ((if_pos (by omega)).trans ((if_neg (by omega)).trans ((if_neg (by omega)).trans ((if_neg (by omega)).trans ((if_pos (by omega)).trans ((if_pos (by omega)))))))))
              · skip
                obtain rfl : v = 32 := by omega
                exact Or.inr (by decide +kernel)
            · skip
              rcases Int.lt_or_le v 34 with c | c
              · skip
                obtain rfl : v = 33 := by omega
                exact Or.inr (by decide +kernel)
              · skip
                exact Or.inl ((if_pos (by omega)).trans ((if_pos (by omega)).trans ((if_neg (by omega)).trans ((if_neg (by omega)).trans ((if_neg (by omega)).trans ((if_neg (by omega)).trans ((if_neg (by omega)))))))))
    · skip
      rcases Int.lt_or_le v 56 with c | c
      · skip
        rcases Int.lt_or_le v 45 with c | c
        · skip
          rcases Int.lt_or_le v 41 with c | c
          · skip
            rcases Int.lt_or_le v 39 with c | c
            · skip
              rcases Int.lt_or_le v 38 with c | c
              · skip
                obtain rfl : v = 37 := by omega
                exact Or.inr (by decide +kernel)
              · skip
                obtain rfl : v = 38 := by omega
                exact Or.inr (by decide +kernel)
            · skip
              rcases Int.lt_or_le v 40 with c | c
              · skip
                obtain rfl : v = 39 := by omega
                exact Or.inr (by decide +kernel)
              · skip
                obtain rfl : v = 40 := by omega
                exact Or.inr (by decide +kernel)
          · skip
            rcases Int.lt_or_le v 43 with c | c
            · skip
              rcases Int.lt_or_le v 42 with c | c
              · skip
                obtain rfl : v = 41 := by omega
                exact Or.inr (by decide +kernel)
              · skip
                obtain rfl : v = 42 := by omega
                exact Or.inr (by decide +kernel)
            · skip
              rcases Int.lt_or_le v 44 with c | c
              · skip
                obtain rfl : v = 43 := by omega
                exact Or.inr (by decide +kernel)
              · skip
                obtain rfl : v = 44 := by omega
                exact Or.inr (by decide +kernel)
        · skip
          rcases Int.lt_or_le v 49 with c | c
          · skip
            rcases Int.lt_or_le v 47 with c | c
            · skip
              rcases Int.lt_or_le v 46 with c | c
              · skip
                obtain rfl : v = 45 := by omega
                exact Or.inr (by decide +kernel)
              · skip
                obtain rfl : v = 46 := by omega
                exact Or.inr (by decide +kernel)
            · skip
              rcases Int.lt_or_le v 48 with c | c
              · skip
                obtain rfl : v = 47 := by omega
                exact Or.inr (by decide +kernel)
              · skip
                obtain rfl : v = 48 := by omega
                exact Or.inr (by decide +kernel)
          · skip
            rcases Int.lt_or_le v 51 with c | c
            · skip
              rcases Int.lt_or_le v 50 with c | c
              · skip
                obtain rfl : v = 49 := by omega
                exact Or.inr (by decide +kernel)
              · skip
                obtain rfl : v = 50 := by omega
                exact Or.inr (by decide +kernel)
            · skip
              rcases Int.lt_or_le v 52 with c | c
              · skip
                obtain rfl : v = 51 := by omega
                exact Or.inr (by decide +kernel)
              · skip
                exact Or.inl ((if_pos (by omega)).trans ((if_neg (by omega)).trans ((if_pos (by omega)).trans ((if_neg (by omega)).trans ((if_neg (by omega)).trans ((if_neg (by omega)).trans ((if_neg (by omega)))))))))
      · skip
        rcases Int.lt_or_le v 71 with c | c
        · skip
          rcases Int.lt_or_le v 60 with c | c
          · skip
            rcases Int.lt_or_le v 58 with c | c
            · skip
              rcases Int.lt_or_le v 57 with c | c
              · skip
                obtain rfl : v = 56 := by omega
                exact Or.inr (by decide +kernel)
              · skip
                obtain rfl : v = 57 := by omega
                exact Or.inr (by decide +kernel)
            · skip
              rcases Int.lt_or_le v 59 with c | c
              · skip
                obtain rfl : v = 58 := by omega
                exact Or.inr (by decide +kernel)
              · skip
                obtain rfl : v = 59 := by omega
                exact Or.inr (by decide +kernel)
          · skip
            rcases Int.lt_or_le v 69 with c | c
            · skip
              rcases Int.lt_or_le v 61 with c | c
              · skip
                obtain rfl : v = 60 := by omega
                exact Or.inr (by decide +kernel)
              · skip
                exact Or.inl ((if_pos (by omega)).trans ((if_neg (by omega)).trans ((if_neg (by omega)).trans ((if_pos (by omega)).trans ((if_neg (by omega)).trans ((if_pos (by omega)).trans ((if_neg (by omega)))))))))
            · skip
              rcases Int.lt_or_le v 70 with c | c
              · skip
                obtain rfl : v = 69 := by omega
                exact Or.inr (by decide +kernel)
              · skip
                obtain rfl : v = 70 := by omega
                exact Or.inr (by decide +kernel)
        · skip
          rcases Int.lt_or_le v 75 with c | c
          · skip
            rcases Int.lt_or_le v 73 with c | c
            · skip
              rcases Int.lt_or_le v 72 with c | c
              · skip
                obtain rfl : v = 71 := by omega
                exact Or.inr (by decide +kernel)
              · skip
                exact Or.inl ((if_pos (by omega)).trans ((if_neg (by omega)).trans ((if_neg (by omega)).trans ((if_neg (by omega)).trans ((if_pos (by omega)).trans ((if_pos (by omega)).trans ((if_neg (by omega)))))))))
            · skip
              rcases Int.lt_or_le v 74 with c | c
              · skip
                obtain rfl : v = 73 := by omega
                exact Or.inr (by decide +kernel)
              · skip
                obtain rfl : v = 74 := by omega
                exact Or.inr (by decide +kernel)
          · skip
            rcases Int.lt_or_le v 77 with c | c
            · skip
              rcases Int.lt_or_le v 76 with c | c
              · skip
                obtain rfl : v = 75 := by omega
                exact Or.inr (by decide +kernel)
              · skip
                obtain rfl : v = 76 := by omega
                exact Or.inr (by decide +kernel)
            · skip
              rcases Int.lt_or_le v 78 with c | c
              · skip
                obtain rfl : v = 77 := by omega
                exact Or.inr (by decide +kernel)
              · skip
                rcases Int.lt_or_le v 79 with c | c
                · skip
                  obtain rfl : v = 78 := by omega
                  exact Or.inr (by decide +kernel)
                · skip
                  obtain rfl : v = 79 := by omega
                  exact Or.inr (by decide +kernel)
  · skip
    rcases Int.lt_or_le v 112 with c | c
    · skip
      rcases Int.lt_or_le v 96 with c | c
      · skip
        rcases Int.lt_or_le v 88 with c | c
        · skip
          rcases Int.lt_or_le v 84 with c | c
          · skip
            rcases Int.lt_or_le v 82 with c | c
            · skip
              rcases Int.lt_or_le v 81 with c | c
              · skip
                obtain rfl : v = 80 := by omega
                exact Or.inr (by decide +kernel)
              · skip
                obtain rfl : v = 81 := by omega
                exact Or.inr (by decide +kernel)
            · skip
              rcases Int.lt_or_le v 83 with c | c
              · skip
                obtain rfl : v = 82 := by omega
                exact Or.inr (by decide +kernel)
              · skip
                obtain rfl : v = 83 := by omega
                exact Or.inr (by decide +kernel)
          · skip
            rcases Int.lt_or_le v 86 with c | c
            · skip
              rcases Int.lt_or_le v 85 with c | c
              · skip
                obtain rfl : v = 84 := by omega
                exact Or.inr (by decide +kernel)
              · skip
                obtain rfl : v = 85 := by omega
                exact Or.inr (by decide +kernel)
            · skip
              rcases Int.lt_or_le v 87 with c | c
              · skip
                obtain rfl : v = 86 := by omega
                exact Or.inr (by decide +kernel)
              · skip
                exact Or.inl ((if_neg (by omega)).trans ((if_pos (by omega)).trans ((if_pos (by omega)).trans ((if_pos (by omega)).trans ((if_neg (by omega)).trans ((if_neg (by omega)).trans ((if_neg (by omega)))))))))
        · skip
          rcases Int.lt_or_le v 92 with c | c
          · skip
            rcases Int.lt_or_le v 90 with c | c
            · skip
              rcases Int.lt_or_le v 89 with c | c
              · skip
                obtain rfl : v = 88 := by omega
                exact Or.inr (by decide +kernel)
              · skip
                obtain rfl : v = 89 := by omega
                exact Or.inr (by decide +kernel)
            · skip
              rcases Int.lt_or_le v 91 with c | c
              · skip
                obtain rfl : v = 90 := by omega
                exact Or.inr (by decide +kernel)
              · skip
                obtain rfl : v = 91 := by omega
                exact Or.inr (by decide +kernel)
          · skip
            rcases Int.lt_or_le v 94 with c | c
            · skip
              rcases Int.lt_or_le v 93 with c | c
              · skip
                obtain rfl : v = 92 := by omega
                exact Or.inr (by decide +kernel)
              · skip
                obtain rfl : v = 93 := by omega
                exact Or.inr (by decide +kernel)
            · skip
              rcases Int.lt_or_le v 95 with c | c
              · skip
                obtain rfl : v = 94 := by omega
                exact Or.inr (by decide +kernel)
              · skip
                obtain rfl : v = 95 := by omega
                exact Or.inr (by decide +kernel)
      · skip
        rcases Int.lt_or_le v 104 with c | c
        · skip
          rcases Int.lt_or_le v 100 with c | c
          · skip
            rcases Int.lt_or_le v 98 with c | c
            · skip
              rcases Int.lt_or_le v 97 with c | c
              · skip
                exact Or.inl ((if_neg (by omega)).trans ((if_pos (by omega)).trans ((if_neg (by omega)).trans ((if_pos (by omega)).trans ((if_pos (by omega)).trans ((if_pos (by omega)).trans ((if_pos (by omega)))))))))
              · skip
                obtain rfl : v = 97 := by omega
                exact Or.inr (by decide +kernel)
            · skip
              rcases Int.lt_or_le v 99 with c | c
              · skip
                obtain rfl : v = 98 := by omega
                exact Or.inr (by decide +kernel)
              · skip
                obtain rfl : v = 99 := by omega
                exact Or.inr (by decide +kernel)
          · skip
            rcases Int.lt_or_le v 102 with c | c
            · skip
              rcases Int.lt_or_le v 101 with c | c
              · skip
                obtain rfl : v = 100 := by omega
                exact Or.inr (by decide +kernel)
              · skip
                obtain rfl : v = 101 := by omega
                exact Or.inr (by decide +kernel)
            · skip
              rcases Int.lt_or_le v 103 with c | c
              · skip
                obtain rfl : v = 102 := by omega
                exact Or.inr (by decide +kernel)
              · skip
                obtain rfl : v = 103 := by omega
                exact Or.inr (by decide +kernel)
        · skip
          rcases Int.lt_or_le v 108 with c | c
          · skip
            rcases Int.lt_or_le v 106 with c | c
            · skip
              rcases Int.lt_or_le v 105 with c | c
              · skip
                obtain rfl : v = 104 := by omega
                exact Or.inr (by decide +kernel)
              · skip
                obtain rfl : v = 105 := by omega
                exact Or.inr (by decide +kernel)
            · skip
              rcases Int.lt_or_le v 107 with c | c
              · skip
                obtain rfl : v = 106 := by omega
                exact Or.inr (by decide +kernel)
              · skip
                obtain rfl : v = 107 := by omega
                exact Or.inr (by decide +kernel)
          · skip
            rcases Int.lt_or_le v 110 with c | c
            · skip
              rcases Int.lt_or_le v 109 with c | c
              · skip
                obtain rfl : v = 108 := by omega
                exact Or.inr (by decide +kernel)
              · skip
                obtain rfl : v = 109 := by omega
                exact Or.inr (by decide +kernel)
            · skip
              rcases Int.lt_or_le v 111 with c | c
              · skip
                obtain rfl : v = 110 := by omega
                exact Or.inr (by decide +kernel)
              · skip
                obtain rfl : v = 111 := by omega
                exact Or.inr (by decide +kernel)
    · skip
      rcases Int.lt_or_le v 131 with c | c
      · skip
        rcases Int.lt_or_le v 120 with c | c
        · skip
          rcases Int.lt_or_le v 116 with c | c
          · skip
            rcases Int.lt_or_le v 114 with c | c
            · skip
              rcases Int.lt_or_le v 113 with c | c
              · skip
                exact Or.inl ((if_neg (by omega)).trans ((if_neg (by omega)).trans ((if_pos (by omega)).trans ((if_pos (by omega)).trans ((if_pos (by omega)).trans ((if_pos (by omega)).trans ((if_pos (by omega)))))))))
              · skip
                obtain rfl : v = 113 := by omega
                exact Or.inr (by decide +kernel)
            · skip
              rcases Int.lt_or_le v 115 with c | c
              · skip
                obtain rfl : v = 114 := by omega
                exact Or.inr (by decide +kernel)
              · skip
                obtain rfl : v = 115 := by omega
                exact Or.inr (by decide +kernel)
          · skip
            rcases Int.lt_or_le v 118 with c | c
            · skip
              rcases Int.lt_or_le v 117 with c | c
              · skip
                obtain rfl : v = 116 := by omega
                exact Or.inr (by decide +kernel)
              · skip
                obtain rfl : v = 117 := by omega
                exact Or.inr (by decide +kernel)
            · skip
              rcases Int.lt_or_le v 119 with c | c
              · skip
                obtain rfl : v = 118 := by omega
                exact Or.inr (by decide +kernel)
              · skip
                obtain rfl : v = 119 := by omega
                exact Or.inr (by decide +kernel)
        · skip
          rcases Int.lt_or_le v 127 with c | c
          · skip
            rcases Int.lt_or_le v 122 with c | c
            · skip
              rcases Int.lt_or_le v 121 with c | c
              · skip
                obtain rfl : v = 120 := by omega
                exact Or.inr (by decide +kernel)
              · skip
                obtain rfl : v = 121 := by omega
                exact Or.inr (by decide +kernel)
            · skip
              rcases Int.lt_or_le v 126 with c | c
              · skip
                exact Or.inl ((if_neg (by omega)).trans ((if_neg (by omega)).trans ((if_pos (by omega)).trans ((if_neg (by omega)).trans ((if_pos (by omega)).trans ((if_neg (by omega)).trans ((if_pos (by omega)))))))))
              · skip
                obtain rfl : v = 126 := by omega
                exact Or.inr (by decide +kernel)
          · skip
            rcases Int.lt_or_le v 129 with c | c
            · skip
              rcases Int.lt_or_le v 128 with c | c
              · skip
                obtain rfl : v = 127 := by omega
                exact Or.inr (by decide +kernel)
              · skip
                obtain rfl : v = 128 := by omega
                exact Or.inr (by decide +kernel)
            · skip
              rcases Int.lt_or_le v 130 with c | c
              · skip
                obtain rfl : v = 129 := by omega
                exact Or.inr (by decide +kernel)
              · skip
                obtain rfl : v = 130 := by omega
                exact Or.inr (by decide +kernel)
      · skip
        rcases Int.lt_or_le v 143 with c | c
        · skip
          rcases Int.lt_or_le v 139 with c | c
          · skip
            rcases Int.lt_or_le v 133 with c | c
            · skip
              rcases Int.lt_or_le v 132 with c | c
              · skip
                obtain rfl : v = 131 := by omega
                exact Or.inr (by decide +kernel)
              · skip
                obtain rfl : v = 132 := by omega
                exact Or.inr (by decide +kernel)
            · skip
              rcases Int.lt_or_le v 138 with c | c
              · skip
                exact Or.inl ((if_neg (by omega)).trans ((if_neg (by omega)).trans ((if_neg (by omega)).trans ((if_pos (by omega)).trans ((if_pos (by omega)).trans ((if_neg (by omega)).trans ((if_pos (by omega)))))))))
              · skip
                obtain rfl : v = 138 := by omega
                exact Or.inr (by decide +kernel)
          · skip
            rcases Int.lt_or_le v 141 with c | c
            · skip
              rcases Int.lt_or_le v 140 with c | c
              · skip
                exact Or.inl ((if_neg (by omega)).trans ((if_neg (by omega)).trans ((if_neg (by omega)).trans ((if_pos (by omega)).trans ((if_neg (by omega)).trans ((if_pos (by omega)).trans ((if_pos (by omega)))))))))
              · skip
                obtain rfl : v = 140 := by omega
                exact Or.inr (by decide +kernel)
            · skip
              rcases Int.lt_or_le v 142 with c | c
              · skip
                exact Or.inl ((if_neg (by omega)).trans ((if_neg (by omega)).trans ((if_neg (by omega)).trans ((if_pos (by omega)).trans ((if_neg (by omega)).trans ((if_neg (by omega)).trans ((if_pos (by omega)))))))))
              · skip
                obtain rfl : v = 142 := by omega
                exact Or.inr (by decide +kernel)
        · skip
          rcases Int.lt_or_le v 147 with c | c
          · skip
            rcases Int.lt_or_le v 145 with c | c
            · skip
              rcases Int.lt_or_le v 144 with c | c
              · skip
                exact Or.inl ((if_neg (by omega)).trans ((if_neg (by omega)).trans ((if_neg (by omega)).trans ((if_neg (by omega)).trans ((if_pos (by omega)).trans ((if_pos (by omega)).trans ((if_pos (by omega)))))))))
              · skip
                obtain rfl : v = 144 := by omega
                exact Or.inr (by decide +kernel)
            · skip
              rcases Int.lt_or_le v 146 with c | c
              · skip
                obtain rfl : v = 145 := by omega
                exact Or.inr (by decide +kernel)
              · skip
                obtain rfl : v = 146 := by omega
                exact Or.inr (by decide +kernel)
          · skip
            rcases Int.lt_or_le v 156 with c | c
            · skip
              rcases Int.lt_or_le v 155 with c | c
              · skip
                exact Or.inl ((if_neg (by omega)).trans ((if_neg (by omega)).trans ((if_neg (by omega)).trans ((if_neg (by omega)).trans ((if_neg (by omega)).trans ((if_pos (by omega)).trans ((if_pos (by omega)))))))))
              · skip
                obtain rfl : v = 155 := by omega
                exact Or.inr (by decide +kernel)
            · skip
              rcases Int.lt_or_le v 158 with c | c
              · skip
                exact Or.inl ((if_neg (by omega)).trans ((if_neg (by omega)).trans ((if_neg (by omega)).trans ((if_neg (by omega)).trans ((if_neg (by omega)).trans ((if_neg (by omega)).trans ((if_pos (by omega)))))))))
              · skip
                rcases Int.lt_or_le v 159 with c | c
                · skip
                  obtain rfl : v = 158 := by omega
                  exact Or.inr (by decide +kernel)
                · skip
                  exact Or.inl ((if_neg (by omega)).trans ((if_neg (by omega)).trans ((if_neg (by omega)).trans ((if_neg (by omega)).trans ((if_neg (by omega)).trans ((if_neg (by omega)).trans ((if_neg (by omega)).trans ((if_neg (by omega))))))))))
theorem td_one {v j : Int} (k : ta v = 1400) (h0 : 0 ≤ j) (h1 : j < td v) : j = 0 := by
  rcases Int.lt_or_le v 80 with c | c
  · skip
    rcases Int.lt_or_le v 40 with c | c
    · skip
      rcases Int.lt_or_le v 20 with c | c
      · skip
        rcases Int.lt_or_le v 10 with c | c
        · skip
          rcases Int.lt_or_le v 5 with c | c
          · skip
            rcases Int.lt_or_le v 2 with c | c
            · skip
              rcases Int.lt_or_le v 1 with c | c
              · skip
                have e : td v = 1 := (if_pos (by omega)).trans ((if_pos (by omega)).trans ((if_pos (by omega)).trans ((if_pos (by omega)).trans ((if_pos (by omega)).trans ((if_pos (by omega)).trans ((if_pos (by omega))))))))
                omega
              · skip
                have e : td v = 1 := (if_pos (by omega)).trans ((if_pos (by omega)).trans ((if_pos (by omega)).trans ((if_pos (by omega)).trans ((if_pos (by omega)).trans ((if_pos (by omega)).trans ((if_neg (by omega))))))))
                omega
            · skip
              rcases Int.lt_or_le v 3 with c | c
              · skip
                have e : td v = 1 := (if_pos (by omega)).trans ((if_pos (by omega)).trans ((if_pos (by omega)).trans ((if_pos (by omega)).trans ((if_pos (by omega)).trans ((if_neg (by omega)).trans ((if_pos (by omega))))))))
                omega
              · skip
                rcases Int.lt_or_le v 4 with c | c
                · skip
                  obtain rfl : v = 3 := by omega
                  exact absurd k (by decide +kernel)
                · skip
                  have e : td v = 1 := (if_pos (by omega)).trans ((if_pos (by omega)).trans ((if_pos (by omega)).trans ((if_pos (by omega)).trans ((if_pos (by omega)).trans ((if_neg (by omega)).trans ((if_neg (by omega)).trans ((if_neg (by omega)))))))))
                  omega
          · skip
            rcases Int.lt_or_le v 7 with c | c
            · skip
              rcases Int.lt_or_le v 6 with c | c
              · skip
                obtain rfl : v = 5 := by omega
                exact absurd k (by decide +kernel)
              · skip
                obtain rfl : v = 6 := by omega
                exact absurd k (by decide +kernel)
            · skip
              rcases Int.lt_or_le v 8 with c | c
              · skip
                have e : td v = 1 := (if_pos (by omega)).trans ((if_pos (by omega)).trans ((if_pos (by omega)).trans ((if_pos (by omega)).trans ((if_neg (by omega)).trans ((if_neg (by omega)).trans ((if_pos (by omega))))))))
                omega
              · skip
                rcases Int.lt_or_le v 9 with c | c
                · skip
                  obtain rfl : v = 8 := by omega
                  exact absurd k (by decide +kernel)
                · skip
                  obtain rfl : v = 9 := by omega
                  exact absurd k (by decide +kernel)
        · skip
          rcases Int.lt_or_le v 15 with c | c
          · skip
            rcases Int.lt_or_le v 12 with c | c
            · skip
              rcases Int.lt_or_le v 11 with c | c
              · skip
                obtain rfl : v = 10 := by omega
                exact absurd k (by decide +kernel)
              · skip
                obtain rfl : v = 11 := by omega
                exact absurd k (by decide +kernel)
            · skip
              rcases Int.lt_or_le v 13 with c | c
              · skip
                obtain rfl : v = 12 := by omega
                exact absurd k (by decide +kernel)
              · skip
                rcases Int.lt_or_le v 14 with c | c
                · skip
                  obtain rfl : v = 13 := by omega
                  exact absurd k (by decide +kernel)
                · skip
                  obtain rfl : v = 14 := by omega
                  exact absurd k (by decide +kernel)
          · skip
            rcases Int.lt_or_le v 17 with c | c
            · skip
              rcases Int.lt_or_le v 16 with c | c
              · skip
                obtain rfl : v = 15 := by omega
                exact absurd k (by decide +kernel)
              · skip
                obtain rfl : v = 16 := by omega
                exact absurd k (by decide +kernel)
            · skip
              rcases Int.lt_or_le v 18 with c | c
              · skip
                obtain rfl : v = 17 := by omega
                exact absurd k (by decide +kernel)
              · skip
                rcases Int.lt_or_le v 19 with c | c
                · skip
                  obtain rfl : v = 18 := by omega
                  exact absurd k (by decide +kernel)
                · skip
                  obtain rfl : v = 19 := by omega
                  exact absurd k (by decide +kernel)
      · skip
        rcases Int.lt_or_le v 30 with c | c
        · skip
          rcases Int.lt_or_le v 25 with c | c
          · skip
            rcases Int.lt_or_le v 22 with c | c
            · skip
              rcases Int.lt_or_le v 21 with c | c
              · skip
                obtain rfl : v = 20 := by omega
                exact absurd k (by decide +kernel)
              · skip
                have e : td v = 1 := (if_pos (by omega)).trans ((if_pos (by omega)).trans ((if_neg (by omega)).trans ((if_pos (by omega)).trans ((if_pos (by omega)).trans ((if_pos (by omega)).trans ((if_neg (by omega))))))))
                omega
            · skip
              rcases Int.lt_or_le v 23 with c | c
              · skip
                obtain rfl : v = 22 := by omega
                exact absurd k (by decide +kernel)
              · skip
                rcases Int.lt_or_le v 24 with c | c
                · skip
                  obtain rfl : v = 23 := by omega
                  exact absurd k (by decide +kernel)
                · skip
                  obtain rfl : v = 24 := by omega
                  exact absurd k (by decide +kernel)
          · skip
            rcases Int.lt_or_le v 27 with c | c
            · skip
              rcases Int.lt_or_le v 26 with c | c
              · skip
                have e : td v = 1 := (if_pos (by omega)).trans ((if_pos (by omega)).trans ((if_neg (by omega)).trans ((if_pos (by omega)).trans ((if_neg (by omega)).trans ((if_pos (by omega)).trans ((if_pos (by omega))))))))
                omega
              · skip
                obtain rfl : v = 26 := by omega
                exact absurd k (by decide +kernel)
            · skip
              rcases Int.lt_or_le v 28 with c | c
              · skip
                have e : td v = 1 := (if_pos (by omega)).trans ((if_pos (by omega)).trans ((if_neg (by omega)).trans ((if_pos (by omega)).trans ((if_neg (by omega)).trans ((if_neg (by omega)).trans ((if_pos (by omega))))))))
                omega
              · skip
                rcases Int.lt_or_le v 29 with c | c
                · skip
                  have e : td v = 1 := (if_pos (by omega)).trans ((if_pos (by omega)).trans ((if_neg (by omega)).trans ((if_pos (by omega)).trans ((if_neg (by omega)).trans ((if_neg (by omega)).trans ((if_neg (by omega)).trans ((if_pos (by omega)))))))))
                  omega
                · skip
                  obtain rfl : v = 29 := by omega
                  exact absurd k (by decide +kernel)
        · skip
          rcases Int.lt_or_le v 35 with c | c
          · skip
            rcases Int.lt_or_le v 32 with c | c
            · skip
              rcases Int.lt_or_le v 31 with c | c
              · skip
                obtain rfl : v = 30 := by omega
                exact absurd k (by decide +kernel)
              · skip
                have e : td v = 1 := (if_pos (by omega)).trans ((if_pos (by omega)).trans ((if_neg (by omega)).trans ((if_neg (by omega)).trans ((if_pos (by omega)).trans ((if_pos (by omega)).trans ((if_neg (by omega))))))))
                omega
            · skip
              rcases Int.lt_or_le v 33 with c | c
              · skip
                obtain rfl : v = 32 := by omega
                exact absurd k (by decide +kernel)
              · skip
                rcases Int.lt_or_le v 34 with c | c
                · skip
                  obtain rfl : v = 33 := by omega
                  exact absurd k (by decide +kernel)
                · skip
                  have e : td v = 1 := (if_pos (by omega)).trans ((if_pos (by omega)).trans ((if_neg (by omega)).trans ((if_neg (by omega)).trans ((if_pos (by omega)).trans ((if_neg (by omega)).trans ((if_neg (by omega)).trans ((if_neg (by omega)))))))))
                  omega
          · skip
            rcases Int.lt_or_le v 37 with c | c
            · skip
              rcases Int.lt_or_le v 36 with c | c
              · skip
                have e : td v = 1 := (if_pos (by omega)).trans ((if_pos (by omega)).trans ((if_neg (by omega)).trans ((if_neg (by omega)).trans ((if_neg (by omega)).trans ((if_pos (by omega)).trans ((if_pos (by omega))))))))
                omega
              · skip
                have e : td v = 1 := (if_pos (by omega)).trans ((if_pos (by omega)).trans ((if_neg (by omega)).trans ((if_neg (by omega)).trans ((if_neg (by omega)).trans ((if_pos (by omega)).trans ((if_neg (by omega))))))))
                omega
            · skip
              rcases Int.lt_or_le v 38 with c | c
              · skip
                obtain rfl : v = 37 := by omega
                exact absurd k (by decide +kernel)
              · skip
                rcases Int.lt_or_le v 39 with c | c
                · skip
                  obtain rfl : v = 38 := by omega
                  exact absurd k (by decide +kernel)
                · skip
                  obtain rfl : v = 39 := by omega
                  exact absurd k (by decide +kernel)
    · skip
      rcases Int.lt_or_le v 60 with c | c
      · skip
        rcases Int.lt_or_le v 50 with c | c
        · skip
          rcases Int.lt_or_le v 45 with c | c
          · skip
            rcases Int.lt_or_le v 42 with c | c
            · skip
              rcases Int.lt_or_le v 41 with c | c
              · skip
                obtain rfl : v = 40 := by omega
                exact absurd k (by decide +kernel)
              · skip
                obtain rfl : v = 41 := by omega
                exact absurd k (by decide +kernel)
            · skip
              rcases Int.lt_or_le v 43 with c | c
              · skip
                obtain rfl : v = 42 := by omega
                exact absurd k (by decide +kernel)
              · skip
                rcases Int.lt_or_le v 44 with c | c
                · skip
                  obtain rfl : v = 43 := by omega
                  exact absurd k (by decide +kernel)
                · skip
                  obtain rfl : v = 44 := by omega
                  exact absurd k (by decide +kernel)
          · skip
            rcases Int.lt_or_le v 47 with c | c
            · skip
              rcases Int.lt_or_le v 46 with c | c
              · skip
                obtain rfl : v = 45 := by omega
                exact absurd k (by decide +kernel)
              · skip
                obtain rfl : v = 46 := by omega
                exact absurd k (by decide +kernel)
            · skip
              rcases Int.lt_or_le v 48 with c | c
              · skip
                obtain rfl : v = 47 := by omega
                exact absurd k (by decide +kernel)
              · skip
                rcases Int.lt_or_le v 49 with c | c
                · skip
                  obtain rfl : v = 48 := by omega
                  exact absurd k (by decide +kernel)
                · skip
                  obtain rfl : v = 49 := by omega
                  exact absurd k (by decide +kernel)
        · skip
          rcases Int.lt_or_le v 55 with c | c
          · skip
            rcases Int.lt_or_le v 52 with c | c
            · skip
              rcases Int.lt_or_le v 51 with c | c
              · skip
                obtain rfl : v = 50 := by omega
                exact absurd k (by decide +kernel)
              · skip
                obtain rfl : v = 51 := by omega
                exact absurd k (by decide +kernel)
            · skip
              rcases Int.lt_or_le v 53 with c | c
              · skip
                have e : td v = 1 := (if_pos (by omega)).trans ((if_neg (by omega)).trans ((if_pos (by omega)).trans ((if_neg (by omega)).trans ((if_pos (by omega)).trans ((if_neg (by omega)).trans ((if_pos (by omega))))))))
                omega
              · skip
                rcases Int.lt_or_le v 54 with c | c
                · skip
                  have e : td v = 1 := (if_pos (by omega)).trans ((if_neg (by omega)).trans ((if_pos (by omega)).trans ((if_neg (by omega)).trans ((if_pos (by omega)).trans ((if_neg (by omega)).trans ((if_neg (by omega)).trans ((if_pos (by omega)))))))))
                  omega
                · skip
                  have e : td v = 1 := (if_pos (by omega)).trans ((if_neg (by omega)).trans ((if_pos (by omega)).trans ((if_neg (by omega)).trans ((if_pos (by omega)).trans ((if_neg (by omega)).trans ((if_neg (by omega)).trans ((if_neg (by omega)))))))))
                  omega
          · skip
            rcases Int.lt_or_le v 57 with c | c
            · skip
              rcases Int.lt_or_le v 56 with c | c
              · skip
                have e : td v = 1 := (if_pos (by omega)).trans ((if_neg (by omega)).trans ((if_pos (by omega)).trans ((if_neg (by omega)).trans ((if_neg (by omega)).trans ((if_pos (by omega)).trans ((if_pos (by omega))))))))
                omega
              · skip
                obtain rfl : v = 56 := by omega
                exact absurd k (by decide +kernel)
            · skip
              rcases Int.lt_or_le v 58 with c | c
              · skip
                obtain rfl : v = 57 := by omega
                exact absurd k (by decide +kernel)
              · skip
                rcases Int.lt_or_le v 59 with c | c
                · skip
                  obtain rfl : v = 58 := by omega
                  exact absurd k (by decide +kernel)
                · skip
                  obtain rfl : v = 59 := by omega
                  exact absurd k (by decide +kernel)
      · skip
        rcases Int.lt_or_le v 70 with c | c
        · skip
          rcases Int.lt_or_le v 65 with c | c
          · skip
            rcases Int.lt_or_le v 62 with c | c
            · skip
              rcases Int.lt_or_le v 61 with c | c
              · skip
                obtain rfl : v = 60 := by omega
                exact absurd k (by decide +kernel)
              · skip
                have e : td v = 1 := (if_pos (by omega)).trans ((if_neg (by omega)).trans ((if_neg (by omega)).trans ((if_pos (by omega)).trans ((if_pos (by omega)).trans ((if_pos (by omega)).trans ((if_neg (by omega))))))))
                omega
            · skip
              rcases Int.lt_or_le v 63 with c | c
              · skip
                have e : td v = 1 := (if_pos (by omega)).trans ((if_neg (by omega)).trans ((if_neg (by omega)).trans ((if_pos (by omega)).trans ((if_pos (by omega)).trans ((if_neg (by omega)).trans ((if_pos (by omega))))))))
                omega
              · skip
                rcases Int.lt_or_le v 64 with c | c
                · skip
                  have e : td v = 1 := (if_pos (by omega)).trans ((if_neg (by omega)).trans ((if_neg (by omega)).trans ((if_pos (by omega)).trans ((if_pos (by omega)).trans ((if_neg (by omega)).trans ((if_neg (by omega)).trans ((if_pos (by omega)))))))))
                  omega
                · skip
                  have e : td v = 1 := (if_pos (by omega)).trans ((if_neg (by omega)).trans ((if_neg (by omega)).trans ((if_pos (by omega)).trans ((if_pos (by omega)).trans ((if_neg (by omega)).trans ((if_neg (by omega)).trans ((if_neg (by omega)))))))))
                  omega
          · skip
            rcases Int.lt_or_le v 67 with c | c
            · skip
              rcases Int.lt_or_le v 66 with c | c
              · skip
                have e : td v = 1 := (if_pos (by omega)).trans ((if_neg (by omega)).trans ((if_neg (by omega)).trans ((if_pos (by omega)).trans ((if_neg (by omega)).trans ((if_pos (by omega)).trans ((if_pos (by omega))))))))
                omega
              · skip
                have e : td v = 1 := (if_pos (by omega)).trans ((if_neg (by omega)).trans ((if_neg (by omega)).trans ((if_pos (by omega)).trans ((if_neg (by omega)).trans ((if_pos (by omega)).trans ((if_neg (by omega))))))))
                omega
            · skip
              rcases Int.lt_or_le v 68 with c | c
              · skip
                have e : td v = 1 := (if_pos (by omega)).trans ((if_neg (by omega)).trans ((if_neg (by omega)).trans ((if_pos (by omega)).trans ((if_neg (by omega)).trans ((if_neg (by omega)).trans ((if_pos (by omega))))))))
                omega
              · skip
                rcases Int.lt_or_le v 69 with c | c
                · skip
                  have e : td v = 1 := (if_pos (by omega)).trans ((if_neg (by omega)).trans ((if_neg (by omega)).trans ((if_pos (by omega)).trans ((if_neg (by omega)).trans ((if_neg (by omega)).trans ((if_neg (by omega)).trans ((if_pos (by omega)))))))))
                  omega
                · skip
                  obtain rfl : v = 69 := by omega
                  exact absurd k (by decide +kernel)
        · skip
          rcases Int.lt_or_le v 75 with c | c
          · skip
            rcases Int.lt_or_le v 72 with c | c
            · skip
              rcases Int.lt_or_le v 71 with c | c
              · skip
                obtain rfl : v = 70 := by omega
                exact absurd k (by decide +kernel)
              · skip
                obtain rfl : v = 71 := by omega
                exact absurd k (by decide +kernel)
            · skip
              rcases Int.lt_or_le v 73 with c | c
              · skip
                have e : td v = 1 := (if_pos (by omega)).trans ((if_neg (by omega)).trans ((if_neg (by omega)).trans ((if_neg (by omega)).trans ((if_pos (by omega)).trans ((if_neg (by omega)).trans ((if_pos (by omega))))))))
                omega
              · skip
                rcases Int.lt_or_le v 74 with c | c
                · skip
                  obtain rfl : v = 73 := by omega
                  exact absurd k (by decide +kernel)
                · skip
                  obtain rfl : v = 74 := by omega
                  exact absurd k (by decide +kernel)
          · skip
            rcases Int.lt_or_le v 77 with c | c
            · skip
              rcases Int.lt_or_le v 76 with c | c
              · skip
                obtain rfl : v = 75 := by omega
                exact absurd k (by decide +kernel)
              · skip
                obtain rfl : v = 76 := by omega
                exact absurd k (by decide +kernel)
            · skip
              rcases Int.lt_or_le v 78 with c | c
              · skip
                obtain rfl : v = 77 := by omega
                exact absurd k (by decide +kernel)
              · skip
                rcases Int.lt_or_le v 79 with c | c
                · skip
                  obtain rfl : v = 78 := by omega
                  exact absurd k (by decide +kernel)
                · skip
                  obtain rfl : v = 79 := by omega
                  exact absurd k (by decide +kernel)
  · skip
    rcases Int.lt_or_le v 120 with c | c
    · skip
      rcases Int.lt_or_le v 100 with c | c
      · skip
        rcases Int.lt_or_le v 90 with c | c
        · skip
          rcases Int.lt_or_le v 85 with c | c
          · skip
            rcases Int.lt_or_le v 82 with c | c
            · skip
              rcases Int.lt_or_le v 81 with c | c
              · skip
                obtain rfl : v = 80 := by omega
                exact absurd k (by decide +kernel)
              · skip
                obtain rfl : v = 81 := by omega
                exact absurd k (by decide +kernel)
            · skip
              rcases Int.lt_or_le v 83 with c | c
              · skip
                obtain rfl : v = 82 := by omega
                exact absurd k (by decide +kernel)
              · skip
                rcases Int.lt_or_le v 84 with c | c
                · skip
                  obtain rfl : v = 83 := by omega
                  exact absurd k (by decide +kernel)
                · skip
                  obtain rfl : v = 84 := by omega
                  exact absurd k (by decide +kernel)
          · skip
            rcases Int.lt_or_le v 87 with c | c
            · skip
              rcases Int.lt_or_le v 86 with c | c
              · skip
                obtain rfl : v = 85 := by omega
                exact absurd k (by decide +kernel)
              · skip
                obtain rfl : v = 86 := by omega
                exact absurd k (by decide +kernel)
            · skip
              rcases Int.lt_or_le v 88 with c | c
              · skip
                have e : td v = 1 := (if_neg (by omega)).trans ((if_pos (by omega)).trans ((if_pos (by omega)).trans ((if_pos (by omega)).trans ((if_neg (by omega)).trans ((if_neg (by omega)).trans ((if_pos (by omega))))))))
                omega
              · skip
                rcases Int.lt_or_le v 89 with c | c
                · skip
                  obtain rfl : v = 88 := by omega
                  exact absurd k (by decide +kernel)
                · skip
                  obtain rfl : v = 89 := by omega
                  exact absurd k (by decide +kernel)
        · skip
          rcases Int.lt_or_le v 95 with c | c
          · skip
            rcases Int.lt_or_le v 92 with c | c
            · skip
              rcases Int.lt_or_le v 91 with c | c
              · skip
                obtain rfl : v = 90 := by omega
                exact absurd k (by decide +kernel)
              · skip
                obtain rfl : v = 91 := by omega
                exact absurd k (by decide +kernel)
            · skip
              rcases Int.lt_or_le v 93 with c | c
              · skip
                obtain rfl : v = 92 := by omega
                exact absurd k (by decide +kernel)
              · skip
                rcases Int.lt_or_le v 94 with c | c
                · skip
                  obtain rfl : v = 93 := by omega
                  exact absurd k (by decide +kernel)
                · skip
                  obtain rfl : v = 94 := by omega
                  exact absurd k (by decide +kernel)
          · skip
            rcases Int.lt_or_le v 97 with c | c
            · skip
              rcases Int.lt_or_le v 96 with c | c
              · skip
                obtain rfl : v = 95 := by omega
                exact absurd k (by decide +kernel)
              · skip
                have e : td v = 1 := (if_neg (by omega)).trans ((if_pos (by omega)).trans ((if_pos (by omega)).trans ((if_neg (by omega)).trans ((if_neg (by omega)).trans ((if_pos (by omega)).trans ((if_neg (by omega))))))))
                omega
            · skip
              rcases Int.lt_or_le v 98 with c | c
              · skip
                obtain rfl : v = 97 := by omega
                exact absurd k (by decide +kernel)
              · skip
                rcases Int.lt_or_le v 99 with c | c
                · skip
                  obtain rfl : v = 98 := by omega
                  exact absurd k (by decide +kernel)
                · skip
                  obtain rfl : v = 99 := by omega
                  exact absurd k (by decide +kernel)
      · skip
        rcases Int.lt_or_le v 110 with c | c
        · skip
          rcases Int.lt_or_le v 105 with c | c
          · skip
            rcases Int.lt_or_le v 102 with c | c
            · skip
              rcases Int.lt_or_le v 101 with c | c
              · skip
                obtain rfl : v = 100 := by omega
                exact absurd k (by decide +kernel)
              · skip
                obtain rfl : v = 101 := by omega
                exact absurd k (by decide +kernel)
            · skip
              rcases Int.lt_or_le v 103 with c | c
              · skip
                obtain rfl : v = 102 := by omega
                exact absurd k (by decide +kernel)
              · skip
                rcases Int.lt_or_le v 104 with c | c
                · skip
                  obtain rfl : v = 103 := by omega
                  exact absurd k (by decide +kernel)
                · skip
                  obtain rfl : v = 104 := by omega
                  exact absurd k (by decide +kernel)
          · skip
            rcases Int.lt_or_le v 107 with c | c
            · skip
              rcases Int.lt_or_le v 106 with c | c
              · skip
                obtain rfl : v = 105 := by omega
                exact absurd k (by decide +kernel)
              · skip
                obtain rfl : v = 106 := by omega
                exact absurd k (by decide +kernel)
            · skip
              rcases Int.lt_or_le v 108 with c | c
              · skip
                obtain rfl : v = 107 := by omega
                exact absurd k (by decide +kernel)
              · skip
                rcases Int.lt_or_le v 109 with c | c
                · skip
                  obtain rfl : v = 108 := by omega
                  exact absurd k (by decide +kernel)
                · skip
                  obtain rfl : v = 109 := by omega
                  exact absurd k (by decide +kernel)
        · skip
          rcases Int.lt_or_le v 115 with c | c
          · skip
            rcases Int.lt_or_le v 112 with c | c
            · skip
              rcases Int.lt_or_le v 111 with c | c
              · skip
                obtain rfl : v = 110 := by omega
                exact absurd k (by decide +kernel)
              · skip
                obtain rfl : v = 111 := by omega
                exact absurd k (by decide +kernel)
            · skip
              rcases Int.lt_or_le v 113 with c | c
              · skip
                have e : td v = 1 := (if_neg (by omega)).trans ((if_pos (by omega)).trans ((if_neg (by omega)).trans ((if_neg (by omega)).trans ((if_pos (by omega)).trans ((if_neg (by omega)).trans ((if_pos (by omega))))))))
                omega
              · skip
                rcases Int.lt_or_le v 114 with c | c
                · skip
                  obtain rfl : v = 113 := by omega
                  exact absurd k (by decide +kernel)
                · skip
                  obtain rfl : v = 114 := by omega
                  exact absurd k (by decide +kernel)
          · skip
            rcases Int.lt_or_le v 117 with c | c
            · skip
              rcases Int.lt_or_le v 116 with c | c
              · skip
                obtain rfl : v = 115 := by omega
                exact absurd k (by decide +kernel)
              · skip
                obtain rfl : v = 116 := by omega
                exact absurd k (by decide +kernel)
            · skip
              rcases Int.lt_or_le v 118 with c | c
              · skip
                obtain rfl : v = 117 := by omega
                exact absurd k (by decide +kernel)
              · skip
                rcases Int.lt_or_le v 119 with c | c
                · skip
                  obtain rfl : v = 118 := by omega
                  exact absurd k (by decide +kernel)
                · skip
                  obtain rfl : v = 119 := by omega
                  exact absurd k (by decide +kernel)
    · skip
      rcases Int.lt_or_le v 140 with c | c
      · skip
        rcases Int.lt_or_le v 130 with c | c
        · skip
          rcases Int.lt_or_le v 125 with c | c
          · skip
            rcases Int.lt_or_le v 122 with c | c
            · skip
              rcases Int.lt_or_le v 121 with c | c
              · skip
                obtain rfl : v = 120 := by omega
                exact absurd k (by decide +kernel)
              · skip
                obtain rfl : v = 121 := by omega
                exact absurd k (by decide +kernel)
            · skip
              rcases Int.lt_or_le v 123 with c | c
              · skip
                have e : td v = 1 := (if_neg (by omega)).trans ((if_neg (by omega)).trans ((if_pos (by omega)).trans ((if_pos (by omega)).trans ((if_pos (by omega)).trans ((if_neg (by omega)).trans ((if_pos (by omega))))))))
                omega
              · skip
                rcases Int.lt_or_le v 124 with c | c
                · skip
                  have e : td v = 1 := (if_neg (by omega)).trans ((if_neg (by omega)).trans ((if_pos (by omega)).trans ((if_pos (by omega)).trans ((if_pos (by omega)).trans ((if_neg (by omega)).trans ((if_neg (by omega)).trans ((if_pos (by omega)))))))))
                  omega
                · skip
                  have e : td v = 1 := (if_neg (by omega)).trans ((if_neg (by omega)).trans ((if_pos (by omega)).trans ((if_pos (by omega)).trans ((if_pos (by omega)).trans ((if_neg (by omega)).trans ((if_neg (by omega)).trans ((if_neg (by omega)))))))))
                  omega
          · skip
            rcases Int.lt_or_le v 127 with c | c
            · skip
              rcases Int.lt_or_le v 126 with c | c
              · skip
                have e : td v = 1 := (if_neg (by omega)).trans ((if_neg (by omega)).trans ((if_pos (by omega)).trans ((if_pos (by omega)).trans ((if_neg (by omega)).trans ((if_pos (by omega)).trans ((if_pos (by omega))))))))
                omega
              · skip
                obtain rfl : v = 126 := by omega
                exact absurd k (by decide +kernel)
            · skip
              rcases Int.lt_or_le v 128 with c | c
              · skip
                obtain rfl : v = 127 := by omega
                exact absurd k (by decide +kernel)
              · skip
                rcases Int.lt_or_le v 129 with c | c
                · skip
                  obtain rfl : v = 128 := by omega
                  exact absurd k (by decide +kernel)
                · skip
                  obtain rfl : v = 129 := by omega
                  exact absurd k (by decide +kernel)
        · skip
          rcases Int.lt_or_le v 135 with c | c
          · skip
            rcases Int.lt_or_le v 132 with c | c
            · skip
              rcases Int.lt_or_le v 131 with c | c
              · skip
                obtain rfl : v = 130 := by omega
                exact absurd k (by decide +kernel)
              · skip
                obtain rfl : v = 131 := by omega
                exact absurd k (by decide +kernel)
            · skip
              rcases Int.lt_or_le v 133 with c | c
              · skip
                obtain rfl : v = 132 := by omega
                exact absurd k (by decide +kernel)
              · skip
                rcases Int.lt_or_le v 134 with c | c
                · skip
                  have e : td v = 1 := (if_neg (by omega)).trans ((if_neg (by omega)).trans ((if_pos (by omega)).trans ((if_neg (by omega)).trans ((if_pos (by omega)).trans ((if_neg (by omega)).trans ((if_neg (by omega)).trans ((if_pos (by omega)))))))))
                  omega
                · skip
                  have e : td v = 1 := (if_neg (by omega)).trans ((if_neg (by omega)).trans ((if_pos (by omega)).trans ((if_neg (by omega)).trans ((if_pos (by omega)).trans ((if_neg (by omega)).trans ((if_neg (by omega)).trans ((if_neg (by omega)))))))))
                  omega
          · skip
            rcases Int.lt_or_le v 137 with c | c
            · skip
              rcases Int.lt_or_le v 136 with c | c
              · skip
                have e : td v = 1 := (if_neg (by omega)).trans ((if_neg (by omega)).trans ((if_pos (by omega)).trans ((if_neg (by omega)).trans ((if_neg (by omega)).trans ((if_pos (by omega)).trans ((if_pos (by omega))))))))
                omega
              · skip
                have e : td v = 1 := (if_neg (by omega)).trans ((if_neg (by omega)).trans ((if_pos (by omega)).trans ((if_neg (by omega)).trans ((if_neg (by omega)).trans ((if_pos (by omega)).trans ((if_neg (by omega))))))))
                omega
            · skip
              rcases Int.lt_or_le v 138 with c | c
              · skip
                have e : td v = 1 := (if_neg (by omega)).trans ((if_neg (by omega)).trans ((if_pos (by omega)).trans ((if_neg (by omega)).trans ((if_neg (by omega)).trans ((if_neg (by omega)).trans ((if_pos (by omega))))))))
                omega
              · skip
                rcases Int.lt_or_le v 139 with c | c
                · skip
                  obtain rfl : v = 138 := by omega
                  exact absurd k (by decide +kernel)
                · skip
                  have e : td v = 1 := (if_neg (by omega)).trans ((if_neg (by omega)).trans ((if_pos (by omega)).trans ((if_neg (by omega)).trans ((if_neg (by omega)).trans ((if_neg (by omega)).trans ((if_neg (by omega)).trans ((if_neg (by omega)))))))))
                  omega
      · skip
        rcases Int.lt_or_le v 150 with c | c
        · skip
          rcases Int.lt_or_le v 145 with c | c
          · skip
            rcases Int.lt_or_le v 142 with c | c
            · skip
              rcases Int.lt_or_le v 141 with c | c
              · skip
                obtain rfl : v = 140 := by omega
                exact absurd k (by decide +kernel)
              · skip
                have e : td v = 1 := (if_neg (by omega)).trans ((if_neg (by omega)).trans ((if_neg (by omega)).trans ((if_pos (by omega)).trans ((if_pos (by omega)).trans ((if_pos (by omega)).trans ((if_neg (by omega))))))))
                omega
            · skip
              rcases Int.lt_or_le v 143 with c | c
              · skip
                obtain rfl : v = 142 := by omega
                exact absurd k (by decide +kernel)
              · skip
                rcases Int.lt_or_le v 144 with c | c
                · skip
                  have e : td v = 1 := (if_neg (by omega)).trans ((if_neg (by omega)).trans ((if_neg (by omega)).trans ((if_pos (by omega)).trans ((if_pos (by omega)).trans ((if_neg (by omega)).trans ((if_neg (by omega)).trans ((if_pos (by omega)))))))))
                  omega
                · skip
                  obtain rfl : v = 144 := by omega
                  exact absurd k (by decide +kernel)
          · skip
            rcases Int.lt_or_le v 147 with c | c
            · skip
              rcases Int.lt_or_le v 146 with c | c
              · skip
                obtain rfl : v = 145 := by omega
                exact absurd k (by decide +kernel)
              · skip
                obtain rfl : v = 146 := by omega
                exact absurd k (by decide +kernel)
            · skip
              rcases Int.lt_or_le v 148 with c | c
              · skip
                have e : td v = 1 := (if_neg (by omega)).trans ((if_neg (by omega)).trans ((if_neg (by omega)).trans ((if_pos (by omega)).trans ((if_neg (by omega)).trans ((if_neg (by omega)).trans ((if_pos (by omega))))))))
                omega
              · skip
                rcases Int.lt_or_le v 149 with c | c
                · skip
                  have e : td v = 1 := (if_neg (by omega)).trans ((if_neg (by omega)).trans ((if_neg (by omega)).trans ((if_pos (by omega)).trans ((if_neg (by omega)).trans ((if_neg (by omega)).trans ((if_neg (by omega)).trans ((if_pos (by omega)))))))))
                  omega
                · skip
                  have e : td v = 1 := (if_neg (by omega)).trans ((if_neg (by omega)).trans ((if_neg (by omega)).trans ((if_pos (by omega)).trans ((if_neg (by omega)).trans ((if_neg (by omega)).trans ((if_neg (by omega)).trans ((if_neg (by omega)))))))))
                  omega
        · skip
          rcases Int.lt_or_le v 155 with c | c
          · skip
            rcases Int.lt_or_le v 152 with c | c
            · skip
              rcases Int.lt_or_le v 151 with c | c
              · skip
                have e : td v = 1 := (if_neg (by omega)).trans ((if_neg (by omega)).trans ((if_neg (by omega)).trans ((if_neg (by omega)).trans ((if_pos (by omega)).trans ((if_pos (by omega)).trans ((if_pos (by omega))))))))
                omega
              · skip
                have e : td v = 1 := (if_neg (by omega)).trans ((if_neg (by omega)).trans ((if_neg (by omega)).trans ((if_neg (by omega)).trans ((if_pos (by omega)).trans ((if_pos (by omega)).trans ((if_neg (by omega))))))))
                omega
            · skip
              rcases Int.lt_or_le v 153 with c | c
              · skip
                have e : td v = 1 := (if_neg (by omega)).trans ((if_neg (by omega)).trans ((if_neg (by omega)).trans ((if_neg (by omega)).trans ((if_pos (by omega)).trans ((if_neg (by omega)).trans ((if_pos (by omega))))))))
                omega
              · skip
                rcases Int.lt_or_le v 154 with c | c
                · skip
                  have e : td v = 1 := (if_neg (by omega)).trans ((if_neg (by omega)).trans ((if_neg (by omega)).trans ((if_neg (by omega)).trans ((if_pos (by omega)).trans ((if_neg (by omega)).trans ((if_neg (by omega)).trans ((if_pos (by omega)))))))))
                  omega
                · skip
                  have e : td v = 1 := (if_neg (by omega)).trans ((if_neg (by omega)).trans ((if_neg (by omega)).trans ((if_neg (by omega)).trans ((if_pos (by omega)).trans ((if_neg (by omega)).trans ((if_neg (by omega)).trans ((if_neg (by omega)))))))))
                  omega
          · skip
            rcases Int.lt_or_le v 157 with c | c
            · skip
              rcases Int.lt_or_le v 156 with c | c
              · skip
                obtain rfl : v = 155 := by omega
                exact absurd k (by decide +kernel)
              · skip
                have e : td v = 1 := (if_neg (by omega)).trans ((if_neg (by omega)).trans ((if_neg (by omega)).trans ((if_neg (by omega)).trans ((if_neg (by omega)).trans ((if_pos (by omega)).trans ((if_neg (by omega))))))))
                omega
            · skip
              rcases Int.lt_or_le v 158 with c | c
              · skip
                have e : td v = 1 := (if_neg (by omega)).trans ((if_neg (by omega)).trans ((if_neg (by omega)).trans ((if_neg (by omega)).trans ((if_neg (by omega)).trans ((if_neg (by omega)).trans ((if_pos (by omega))))))))
                omega
              · skip
                rcases Int.lt_or_le v 159 with c | c
                · skip
                  obtain rfl : v = 158 := by omega
                  exact absurd k (by decide +kernel)
                · skip
                  have e : td v = 0 := (if_neg (by omega)).trans ((if_neg (by omega)).trans ((if_neg (by omega)).trans ((if_neg (by omega)).trans ((if_neg (by omega)).trans ((if_neg (by omega)).trans ((if_neg (by omega)).trans ((if_neg (by omega)))))))))
                  omega
theorem ta_r (v : Int) : 1400 ≤ ta v ∧ ta v < 1509 := by
  rcases Int.lt_or_le v 80 with c | c
  · skip
    rcases Int.lt_or_le v 37 with c | c
    · skip
      rcases Int.lt_or_le v 18 with c | c
      · skip
        rcases Int.lt_or_le v 10 with c | c
        · skip
          rcases Int.lt_or_le v 6 with c | c
          · skip
            rcases Int.lt_or_le v 4 with c | c
            · skip
              rcases Int.lt_or_le v 3 with c | c
              · skip
                rw [show ta v = 1400 from (if_pos (by omega)).trans ((if_pos (by omega)).trans ((if_pos (by omega)).trans ((if_pos (by omega)).trans ((if_pos (by omega)).trans ((if_pos (by omega)).trans ((if_pos (by omega))))))))]; decide
              · skip
                rw [show ta v = 1401 from (if_pos (by omega)).trans ((if_pos (by omega)).trans ((if_pos (by omega)).trans ((if_pos (by omega)).trans ((if_pos (by omega)).trans ((if_pos (by omega)).trans ((if_neg (by omega))))))))]; decide
            · skip
              rcases Int.lt_or_le v 5 with c | c
              · skip
                rw [show ta v = 1400 from (if_pos (by omega)).trans ((if_pos (by omega)).trans ((if_pos (by omega)).trans ((if_pos (by omega)).trans ((if_pos (by omega)).trans ((if_neg (by omega)).trans ((if_pos (by omega))))))))]; decide
              · skip
                rw [show ta v = 1402 from (if_pos (by omega)).trans ((if_pos (by omega)).trans ((if_pos (by omega)).trans ((if_pos (by omega)).trans ((if_pos (by omega)).trans ((if_neg (by omega)).trans ((if_neg (by omega))))))))]; decide
          · skip
            rcases Int.lt_or_le v 8 with c | c
            · skip
              rcases Int.lt_or_le v 7 with c | c
              · skip
                rw [show ta v = 1403 from (if_pos (by omega)).trans ((if_pos (by omega)).trans ((if_pos (by omega)).trans ((if_pos (by omega)).trans ((if_neg (by omega)).trans ((if_pos (by omega)).trans ((if_pos (by omega))))))))]; decide
              · skip
                rw [show ta v = 1400 from (if_pos (by omega)).trans ((if_pos (by omega)).trans ((if_pos (by omega)).trans ((if_pos (by omega)).trans ((if_neg (by omega)).trans ((if_pos (by omega)).trans ((if_neg (by omega))))))))]; decide
            · skip
              rcases Int.lt_or_le v 9 with c | c
              · skip
                rw [show ta v = 1404 from (if_pos (by omega)).trans ((if_pos (by omega)).trans ((if_pos (by omega)).trans ((if_pos (by omega)).trans ((if_neg (by omega)).trans ((if_neg (by omega)).trans ((if_pos (by omega))))))))]; decide
              · skip
                rw [show ta v = 1405 from (if_pos (by omega)).trans ((if_pos (by omega)).trans ((if_pos (by omega)).trans ((if_pos (by omega)).trans ((if_neg (by omega)).trans ((if_neg (by omega)).trans ((if_neg (by omega))))))))]; decide
        · skip
          rcases Int.lt_or_le v 14 with c | c
          · skip
            rcases Int.lt_or_le v 12 with c | c
            · skip
              rcases Int.lt_or_le v 11 with c | c
              · skip
                rw [show ta v = 1406 from (if_pos (by omega)).trans ((if_pos (by omega)).trans ((if_pos (by omega)).trans ((if_neg (by omega)).trans ((if_pos (by omega)).trans ((if_pos (by omega)).trans ((if_pos (by omega))))))))]; decide
              · skip
                rw [show ta v = 1407 from (if_pos (by omega)).trans ((if_pos (by omega)).trans ((if_pos (by omega)).trans ((if_neg (by omega)).trans ((if_pos (by omega)).trans ((if_pos (by omega)).trans ((if_neg (by omega))))))))]; decide
            · skip
              rcases Int.lt_or_le v 13 with c | c
              · skip
                rw [show ta v = 1408 from (if_pos (by omega)).trans ((if_pos (by omega)).trans ((if_pos (by omega)).trans ((if_neg (by omega)).trans ((if_pos (by omega)).trans ((if_neg (by omega)).trans ((if_pos (by omega))))))))]; decide
              · skip
                rw [show ta v = 1409 from (if_pos (by omega)).trans ((if_pos (by omega)).trans ((if_pos (by omega)).trans ((if_neg (by omega)).trans ((if_pos (by omega)).trans ((if_neg (by omega)).trans ((if_neg (by omega))))))))]; decide
          · skip
            rcases Int.lt_or_le v 16 with c | c
            · skip
              rcases Int.lt_or_le v 15 with c | c
              · skip
                rw [show ta v = 1410 from (if_pos (by omega)).trans ((if_pos (by omega)).trans ((if_pos (by omega)).trans ((if_neg (by omega)).trans ((if_neg (by omega)).trans ((if_pos (by omega)).trans ((if_pos (by omega))))))))]; decide
              · skip
                rw [show ta v = 1411 from (if_pos (by omega)).trans ((if_pos (by omega)).trans ((if_pos (by omega)).trans ((if_neg (by omega)).trans ((if_neg (by omega)).trans ((if_pos (by omega)).trans ((if_neg (by omega))))))))]; decide
            · skip
              rcases Int.lt_or_le v 17 with c | c
              · skip
                rw [show ta v = 1412 from (if_pos (by omega)).trans ((if_pos (by omega)).trans ((if_pos (by omega)).trans ((if_neg (by omega)).trans ((if_neg (by omega)).trans ((if_neg (by omega)).trans ((if_pos (by omega))))))))]; decide
              · skip
                rw [show ta v = 1413 from (if_pos (by omega)).trans ((if_pos (by omega)).trans ((if_pos (by omega)).trans ((if_neg (by omega)).trans ((if_neg (by omega)).trans ((if_neg (by omega)).trans ((if_neg (by omega))))))))]; decide
      · skip
        rcases Int.lt_or_le v 26 with c | c
        · skip
          rcases Int.lt_or_le v 22 with c | c
          · skip
            rcases Int.lt_or_le v 20 with c | c
            · skip
              rcases Int.lt_or_le v 19 with c | c
              · skip
                rw [show ta v = 1414 from (if_pos (by omega)).trans ((if_pos (by omega)).trans ((if_neg (by omega)).trans ((if_pos (by omega)).trans ((if_pos (by omega)).trans ((if_pos (by omega)).trans ((if_pos (by omega))))))))]; decide
              · skip
                rw [show ta v = 1415 from (if_pos (by omega)).trans ((if_pos (by omega)).trans ((if_neg (by omega)).trans ((if_pos (by omega)).trans ((if_pos (by omega)).trans ((if_pos (by omega)).trans ((if_neg (by omega))))))))]; decide
            · skip
              rcases Int.lt_or_le v 21 with c | c
              · skip
                rw [show ta v = 1416 from (if_pos (by omega)).trans ((if_pos (by omega)).trans ((if_neg (by omega)).trans ((if_pos (by omega)).trans ((if_pos (by omega)).trans ((if_neg (by omega)).trans ((if_pos (by omega))))))))]; decide
              · skip
                rw [show ta v = 1400 from (if_pos (by omega)).trans ((if_pos (by omega)).trans ((if_neg (by omega)).trans ((if_pos (by omega)).trans ((if_pos (by omega)).trans ((if_neg (by omega)).trans ((if_neg (by omega))))))))]; decide
          · skip
            rcases Int.lt_or_le v 24 with c | c
            · skip
              rcases Int.lt_or_le v 23 with c | c
              · skip
                rw [show ta v = 1417 from (if_pos (by omega)).trans ((if_pos (by omega)).trans ((if_neg (by omega)).trans ((if_pos (by omega)).trans ((if_neg (by omega)).trans ((if_pos (by omega)).trans ((if_pos (by omega))))))))]; decide
              · skip
                rw [show ta v = 1418 from (if_pos (by omega)).trans ((if_pos (by omega)).trans ((if_neg (by omega)).trans ((if_pos (by omega)).trans ((if_neg (by omega)).trans ((if_pos (by omega)).trans ((if_neg (by omega))))))))]; decide
            · skip
              rcases Int.lt_or_le v 25 with c | c
              · skip
                rw [show ta v = 1419 from (if_pos (by omega)).trans ((if_pos (by omega)).trans ((if_neg (by omega)).trans ((if_pos (by omega)).trans ((if_neg (by omega)).trans ((if_neg (by omega)).trans ((if_pos (by omega))))))))]; decide
              · skip
                rw [show ta v = 1400 from (if_pos (by omega)).trans ((if_pos (by omega)).trans ((if_neg (by omega)).trans ((if_pos (by omega)).trans ((if_neg (by omega)).trans ((if_neg (by omega)).trans ((if_neg (by omega))))))))]; decide
        · skip
          rcases Int.lt_or_le v 31 with c | c
          · skip
            rcases Int.lt_or_le v 29 with c | c
            · skip
              rcases Int.lt_or_le v 27 with c | c
              · skip
                rw [show ta v = 1420 from (if_pos (by omega)).trans ((if_pos (by omega)).trans ((if_neg (by omega)).trans ((if_neg (by omega)).trans ((if_pos (by omega)).trans ((if_pos (by omega)).trans ((if_pos (by omega))))))))]; decide
              · skip
                rw [show ta v = 1400 from (if_pos (by omega)).trans ((if_pos (by omega)).trans ((if_neg (by omega)).trans ((if_neg (by omega)).trans ((if_pos (by omega)).trans ((if_pos (by omega)).trans ((if_neg (by omega))))))))]; decide
            · skip
              rcases Int.lt_or_le v 30 with c | c
              · skip
                rw [show ta v = 1421 from (if_pos (by omega)).trans ((if_pos (by omega)).trans ((if_neg (by omega)).trans ((if_neg (by omega)).trans ((if_pos (by omega)).trans ((if_neg (by omega)).trans ((if_pos (by omega))))))))]; decide
              · skip
                rw [show ta v = 1422 from (if_pos (by omega)).trans ((if_pos (by omega)).trans ((if_neg (by omega)).trans ((if_neg (by omega)).trans ((if_pos (by omega)).trans ((if_neg (by omega)).trans ((if_neg (by omega))))))))]; decide
          · skip
            rcases Int.lt_or_le v 33 with c | c
            · skip
              rcases Int.lt_or_le v 32 with c | c
              · skip
                rw [show ta v = 1400 from (if_pos (by omega)).trans ((if_pos (by omega)).trans ((if_neg (by omega)).trans ((if_neg (by omega)).trans ((if_neg (by omega)).trans ((if_pos (by omega)).trans ((if_pos (by omega))))))))]; decide
              · skip
                rw [show ta v = 1423 from (if_pos (by omega)).trans ((if_pos (by omega)).trans ((if_neg (by omega)).trans ((if_neg (by omega)).trans ((if_neg (by omega)).trans ((if_pos (by omega)).trans ((if_neg (by omega))))))))]; decide
            · skip
              rcases Int.lt_or_le v 34 with c | c
              · skip
                rw [show ta v = 1424 from (if_pos (by omega)).trans ((if_pos (by omega)).trans ((if_neg (by omega)).trans ((if_neg (by omega)).trans ((if_neg (by omega)).trans ((if_neg (by omega)).trans ((if_pos (by omega))))))))]; decide
              · skip
                rw [show ta v = 1400 from (if_pos (by omega)).trans ((if_pos (by omega)).trans ((if_neg (by omega)).trans ((if_neg (by omega)).trans ((if_neg (by omega)).trans ((if_neg (by omega)).trans ((if_neg (by omega))))))))]; decide
    · skip
      rcases Int.lt_or_le v 56 with c | c
      · skip
        rcases Int.lt_or_le v 45 with c | c
        · skip
          rcases Int.lt_or_le v 41 with c | c
          · skip
            rcases Int.lt_or_le v 39 with c | c
            · skip
              rcases Int.lt_or_le v 38 with c | c
              · skip
                rw [show ta v = 1425 from (if_pos (by omega)).trans ((if_neg (by omega)).trans ((if_pos (by omega)).trans ((if_pos (by omega)).trans ((if_pos (by omega)).trans ((if_pos (by omega)).trans ((if_pos (by omega))))))))]; decide
              · skip
                rw [show ta v = 1426 from (if_pos (by omega)).trans ((if_neg (by omega)).trans ((if_pos (by omega)).trans ((if_pos (by omega)).trans ((if_pos (by omega)).trans ((if_pos (by omega)).trans ((if_neg (by omega))))))))]; decide
            · skip
              rcases Int.lt_or_le v 40 with c | c
              · skip
                rw [show ta v = 1427 from (if_pos (by omega)).trans ((if_neg (by omega)).trans ((if_pos (by omega)).trans ((if_pos (by omega)).trans ((if_pos (by omega)).trans ((if_neg (by omega)).trans ((if_pos (by omega))))))))]; decide
              · skip
                rw [show ta v = 1428 from (if_pos (by omega)).trans ((if_neg (by omega)).trans ((if_pos (by omega)).trans ((if_pos (by omega)).trans ((if_pos (by omega)).trans ((if_neg (by omega)).trans ((if_neg (by omega))))))))]; decide
          · skip
            rcases Int.lt_or_le v 43 with c | c
            · skip
              rcases Int.lt_or_le v 42 with c | c
              · skip
                rw [show ta v = 1429 from (if_pos (by omega)).trans ((if_neg (by omega)).trans ((if_pos (by omega)).trans ((if_pos (by omega)).trans ((if_neg (by omega)).trans ((if_pos (by omega)).trans ((if_pos (by omega))))))))]; decide
              · skip
                rw [show ta v = 1430 from (if_pos (by omega)).trans ((if_neg (by omega)).trans ((if_pos (by omega)).trans ((if_pos (by omega)).trans ((if_neg (by omega)).trans ((if_pos (by omega)).trans ((if_neg (by omega))))))))]; decide
            · skip
              rcases Int.lt_or_le v 44 with c | c
              · skip
                rw [show ta v = 1431 from (if_pos (by omega)).trans ((if_neg (by omega)).trans ((if_pos (by omega)).trans ((if_pos (by omega)).trans ((if_neg (by omega)).trans ((if_neg (by omega)).trans ((if_pos (by omega))))))))]; decide
              · skip
                rw [show ta v = 1432 from (if_pos (by omega)).trans ((if_neg (by omega)).trans ((if_pos (by omega)).trans ((if_pos (by omega)).trans ((if_neg (by omega)).trans ((if_neg (by omega)).trans ((if_neg (by omega))))))))]; decide
        · skip
          rcases Int.lt_or_le v 49 with c | c
          · skip
            rcases Int.lt_or_le v 47 with c | c
            · skip
              rcases Int.lt_or_le v 46 with c | c
              · skip
                rw [show ta v = 1433 from (if_pos (by omega)).trans ((if_neg (by omega)).trans ((if_pos (by omega)).trans ((if_neg (by omega)).trans ((if_pos (by omega)).trans ((if_pos (by omega)).trans ((if_pos (by omega))))))))]; decide
              · skip
                rw [show ta v = 1434 from (if_pos (by omega)).trans ((if_neg (by omega)).trans ((if_pos (by omega)).trans ((if_neg (by omega)).trans ((if_pos (by omega)).trans ((if_pos (by omega)).trans ((if_neg (by omega))))))))]; decide
            · skip
              rcases Int.lt_or_le v 48 with c | c
              · skip
                rw [show ta v = 1435 from (if_pos (by omega)).trans ((if_neg (by omega)).trans ((if_pos (by omega)).trans ((if_neg (by omega)).trans ((if_pos (by omega)).trans ((if_neg (by omega)).trans ((if_pos (by omega))))))))]; decide
              · skip
                rw [show ta v = 1436 from (if_pos (by omega)).trans ((if_neg (by omega)).trans ((if_pos (by omega)).trans ((if_neg (by omega)).trans ((if_pos (by omega)).trans ((if_neg (by omega)).trans ((if_neg (by omega))))))))]; decide
          · skip
            rcases Int.lt_or_le v 51 with c | c
            · skip
              rcases Int.lt_or_le v 50 with c | c
              · skip
                rw [show ta v = 1437 from (if_pos (by omega)).trans ((if_neg (by omega)).trans ((if_pos (by omega)).trans ((if_neg (by omega)).trans ((if_neg (by omega)).trans ((if_pos (by omega)).trans ((if_pos (by omega))))))))]; decide
              · skip
                rw [show ta v = 1438 from (if_pos (by omega)).trans ((if_neg (by omega)).trans ((if_pos (by omega)).trans ((if_neg (by omega)).trans ((if_neg (by omega)).trans ((if_pos (by omega)).trans ((if_neg (by omega))))))))]; decide
            · skip
              rcases Int.lt_or_le v 52 with c | c
              · skip
                rw [show ta v = 1439 from (if_pos (by omega)).trans ((if_neg (by omega)).trans ((if_pos (by omega)).trans ((if_neg (by omega)).trans ((if_neg (by omega)).trans ((if_neg (by omega)).trans ((if_pos (by omega))))))))]; decide
              · skip
                rw [show ta v = 1400 from (if_pos (by omega)).trans ((if_neg (by omega)).trans ((if_pos (by omega)).trans ((if_neg (by omega)).trans ((if_neg (by omega)).trans ((if_neg (by omega)).trans ((if_neg (by omega))))))))]; decide
      · skip
        rcases Int.lt_or_le v 71 with c | c
        · skip
          rcases Int.lt_or_le v 60 with c | c
          · skip
            rcases Int.lt_or_le v 58 with c | c
            · skip
              rcases Int.lt_or_le v 57 with c | c
              · skip
                rw [show ta v = 1440 from (if_pos (by omega)).trans ((if_neg (by omega)).trans ((if_neg (by omega)).trans ((if_pos (by omega)).trans ((if_pos (by omega)).trans ((if_pos (by omega)).trans ((if_pos (by omega))))))))]; decide
              · skip
                rw [show ta v = 1441 from (if_pos (by omega)).trans ((if_neg (by omega)).trans ((if_neg (by omega)).trans ((if_pos (by omega)).trans ((if_pos (by omega)).trans ((if_pos (by omega)).trans ((if_neg (by omega))))))))]; decide
            · skip
              rcases Int.lt_or_le v 59 with c | c
              · skip
                rw [show ta v = 1442 from (if_pos (by omega)).trans ((if_neg (by omega)).trans ((if_neg (by omega)).trans ((if_pos (by omega)).trans ((if_pos (by omega)).trans ((if_neg (by omega)).trans ((if_pos (by omega))))))))]; decide
              · skip
                rw [show ta v = 1443 from (if_pos (by omega)).trans ((if_neg (by omega)).trans ((if_neg (by omega)).trans ((if_pos (by omega)).trans ((if_pos (by omega)).trans ((if_neg (by omega)).trans ((if_neg (by omega))))))))]; decide
          · skip
            rcases Int.lt_or_le v 69 with c | c
            · skip
              rcases Int.lt_or_le v 61 with c | c
              · skip
                rw [show ta v = 1444 from (if_pos (by omega)).trans ((if_neg (by omega)).trans ((if_neg (by omega)).trans ((if_pos (by omega)).trans ((if_neg (by omega)).trans ((if_pos (by omega)).trans ((if_pos (by omega))))))))]; decide
              · skip
                rw [show ta v = 1400 from (if_pos (by omega)).trans ((if_neg (by omega)).trans ((if_neg (by omega)).trans ((if_pos (by omega)).trans ((if_neg (by omega)).trans ((if_pos (by omega)).trans ((if_neg (by omega))))))))]; decide
            · skip
              rcases Int.lt_or_le v 70 with c | c
              · skip
                rw [show ta v = 1445 from (if_pos (by omega)).trans ((if_neg (by omega)).trans ((if_neg (by omega)).trans ((if_pos (by omega)).trans ((if_neg (by omega)).trans ((if_neg (by omega)).trans ((if_pos (by omega))))))))]; decide
              · skip
                rw [show ta v = 1446 from (if_pos (by omega)).trans ((if_neg (by omega)).trans ((if_neg (by omega)).trans ((if_pos (by omega)).trans ((if_neg (by omega)).trans ((if_neg (by omega)).trans ((if_neg (by omega))))))))]; decide
        · skip
          rcases Int.lt_or_le v 75 with c | c
          · skip
            rcases Int.lt_or_le v 73 with c | c
            · skip
              rcases Int.lt_or_le v 72 with c | c
              · skip
                rw [show ta v = 1447 from (if_pos (by omega)).trans ((if_neg (by omega)).trans ((if_neg (by omega)).trans ((if_neg (by omega)).trans ((if_pos (by omega)).trans ((if_pos (by omega)).trans ((if_pos (by omega))))))))]; decide
              · skip
                rw [show ta v = 1400 from (if_pos (by omega)).trans ((if_neg (by omega)).trans ((if_neg (by omega)).trans ((if_neg (by omega)).trans ((if_pos (by omega)).trans ((if_pos (by omega)).trans ((if_neg (by omega))))))))]; decide
            · skip
              rcases Int.lt_or_le v 74 with c | c
              · skip
                rw [show ta v = 1448 from (if_pos (by omega)).trans ((if_neg (by omega)).trans ((if_neg (by omega)).trans ((if_neg (by omega)).trans ((if_pos (by omega)).trans ((if_neg (by omega)).trans ((if_pos (by omega))))))))]; decide
              · skip
                rw [show ta v = 1449 from (if_pos (by omega)).trans ((if_neg (by omega)).trans ((if_neg (by omega)).trans ((if_neg (by omega)).trans ((if_pos (by omega)).trans ((if_neg (by omega)).trans ((if_neg (by omega))))))))]; decide
          · skip
            rcases Int.lt_or_le v 77 with c | c
            · skip
              rcases Int.lt_or_le v 76 with c | c
              · skip
                rw [show ta v = 1450 from (if_pos (by omega)).trans ((if_neg (by omega)).trans ((if_neg (by omega)).trans ((if_neg (by omega)).trans ((if_neg (by omega)).trans ((if_pos (by omega)).trans ((if_pos (by omega))))))))]; decide
              · skip
                rw [show ta v = 1451 from (if_pos (by omega)).trans ((if_neg (by omega)).trans ((if_neg (by omega)).trans ((if_neg (by omega)).trans ((if_neg (by omega)).trans ((if_pos (by omega)).trans ((if_neg (by omega))))))))]; decide
            · skip
              rcases Int.lt_or_le v 78 with c | c
              · skip
                rw [show ta v = 1452 from (if_pos (by omega)).trans ((if_neg (by omega)).trans ((if_neg (by omega)).trans ((if_neg (by omega)).trans ((if_neg (by omega)).trans ((if_neg (by omega)).trans ((if_pos (by omega))))))))]; decide
              · skip
                rcases Int.lt_or_le v 79 with c | c
                · skip
                  rw [show ta v = 1453 from (if_pos (by omega)).trans ((if_neg (by omega)).trans ((if_neg (by omega)).trans ((if_neg (by omega)).trans ((if_neg (by omega)).trans ((if_neg (by omega)).trans ((if_neg (by omega)).trans ((if_pos (by omega)))))))))]; decide
                · skip
                  rw [show ta v = 1454 from (if_pos (by omega)).trans ((if_neg (by omega)).trans ((if_neg (by omega)).trans ((if_neg (by omega)).trans ((if_neg (by omega)).trans ((if_neg (by omega)).trans ((if_neg (by omega)).trans ((if_neg (by omega)))))))))]; decide
  · skip
    rcases Int.lt_or_le v 112 with c | c
    · skip
      rcases Int.lt_or_le v 96 with c | c
      · skip
        rcases Int.lt_or_le v 88 with c | c
        · skip
          rcases Int.lt_or_le v 84 with c | c
          · skip
            rcases Int.lt_or_le v 82 with c | c
            · skip
              rcases Int.lt_or_le v 81 with c | c
              · skip
                rw [show ta v = 1455 from (if_neg (by omega)).trans ((if_pos (by omega)).trans ((if_pos (by omega)).trans ((if_pos (by omega)).trans ((if_pos (by omega)).trans ((if_pos (by omega)).trans ((if_pos (by omega))))))))]; decide
              · skip
                rw [show ta v = 1456 from (if_neg (by omega)).trans ((if_pos (by omega)).trans ((if_pos (by omega)).trans ((if_pos (by omega)).trans ((if_pos (by omega)).trans ((if_pos (by omega)).trans ((if_neg (by omega))))))))]; decide
            · skip
              rcases Int.lt_or_le v 83 with c | c
              · skip
                rw [show ta v = 1457 from (if_neg (by omega)).trans ((if_pos (by omega)).trans ((if_pos (by omega)).trans ((if_pos (by omega)).trans ((if_pos (by omega)).trans ((if_neg (by omega)).trans ((if_pos (by omega))))))))]; decide
              · skip
                rw [show ta v = 1458 from (if_neg (by omega)).trans ((if_pos (by omega)).trans ((if_pos (by omega)).trans ((if_pos (by omega)).trans ((if_pos (by omega)).trans ((if_neg (by omega)).trans ((if_neg (by omega))))))))]; decide
          · skip
            rcases Int.lt_or_le v 86 with c | c
            · skip
              rcases Int.lt_or_le v 85 with c | c
              · skip
                rw [show ta v = 1459 from (if_neg (by omega)).trans ((if_pos (by omega)).trans ((if_pos (by omega)).trans ((if_pos (by omega)).trans ((if_neg (by omega)).trans ((if_pos (by omega)).trans ((if_pos (by omega))))))))]; decide
              · skip
                rw [show ta v = 1460 from (if_neg (by omega)).trans ((if_pos (by omega)).trans ((if_pos (by omega)).trans ((if_pos (by omega)).trans ((if_neg (by omega)).trans ((if_pos (by omega)).trans ((if_neg (by omega))))))))]; decide
            · skip
              rcases Int.lt_or_le v 87 with c | c
              · skip
                rw [show ta v = 1461 from (if_neg (by omega)).trans ((if_pos (by omega)).trans ((if_pos (by omega)).trans ((if_pos (by omega)).trans ((if_neg (by omega)).trans ((if_neg (by omega)).trans ((if_pos (by omega))))))))]; decide
              · skip
                rw [show ta v = 1400 from (if_neg (by omega)).trans ((if_pos (by omega)).trans ((if_pos (by omega)).trans ((if_pos (by omega)).trans ((if_neg (by omega)).trans ((if_neg (by omega)).trans ((if_neg (by omega))))))))]; decide
        · skip
          rcases Int.lt_or_le v 92 with c | c
          · skip
            rcases Int.lt_or_le v 90 with c | c
            · skip
              rcases Int.lt_or_le v 89 with c | c
              · skip
                rw [show ta v = 1462 from (if_neg (by omega)).trans ((if_pos (by omega)).trans ((if_pos (by omega)).trans ((if_neg (by omega)).trans ((if_pos (by omega)).trans ((if_pos (by omega)).trans ((if_pos (by omega))))))))]; decide
              · skip
                rw [show ta v = 1463 from (if_neg (by omega)).trans ((if_pos (by omega)).trans ((if_pos (by omega)).trans ((if_neg (by omega)).trans ((if_pos (by omega)).trans ((if_pos (by omega)).trans ((if_neg (by omega))))))))]; decide
            · skip
              rcases Int.lt_or_le v 91 with c | c
              · skip
                rw [show ta v = 1464 from (if_neg (by omega)).trans ((if_pos (by omega)).trans ((if_pos (by omega)).trans ((if_neg (by omega)).trans ((if_pos (by omega)).trans ((if_neg (by omega)).trans ((if_pos (by omega))))))))]; decide
              · skip
                rw [show ta v = 1465 from (if_neg (by omega)).trans ((if_pos (by omega)).trans ((if_pos (by omega)).trans ((if_neg (by omega)).trans ((if_pos (by omega)).trans ((if_neg (by omega)).trans ((if_neg (by omega))))))))]; decide
          · skip
            rcases Int.lt_or_le v 94 with c | c
            · skip
              rcases Int.lt_or_le v 93 with c | c
              · skip
                rw [show ta v = 1466 from (if_neg (by omega)).trans ((if_pos (by omega)).trans ((if_pos (by omega)).trans ((if_neg (by omega)).trans ((if_neg (by omega)).trans ((if_pos (by omega)).trans ((if_pos (by omega))))))))]; decide
              · skip
                rw [show ta v = 1467 from (if_neg (by omega)).trans ((if_pos (by omega)).trans ((if_pos (by omega)).trans ((if_neg (by omega)).trans ((if_neg (by omega)).trans ((if_pos (by omega)).trans ((if_neg (by omega))))))))]; decide
            · skip
              rcases Int.lt_or_le v 95 with c | c
              · skip
                rw [show ta v = 1468 from (if_neg (by omega)).trans ((if_pos (by omega)).trans ((if_pos (by omega)).trans ((if_neg (by omega)).trans ((if_neg (by omega)).trans ((if_neg (by omega)).trans ((if_pos (by omega))))))))]; decide
              · skip
                rw [show ta v = 1469 from (if_neg (by omega)).trans ((if_pos (by omega)).trans ((if_pos (by omega)).trans ((if_neg (by omega)).trans ((if_neg (by omega)).trans ((if_neg (by omega)).trans ((if_neg (by omega))))))))]; decide
      · skip
        rcases Int.lt_or_le v 104 with c | c
        · skip
          rcases Int.lt_or_le v 100 with c | c
          · skip
            rcases Int.lt_or_le v 98 with c | c
            · skip
              rcases Int.lt_or_le v 97 with c | c
              · skip
                rw [show ta v = 1400 from (if_neg (by omega)).trans ((if_pos (by omega)).trans ((if_neg (by omega)).trans ((if_pos (by omega)).trans ((if_pos (by omega)).trans ((if_pos (by omega)).trans ((if_pos (by omega))))))))]; decide
              · skip
                rw [show ta v = 1470 from (if_neg (by omega)).trans ((if_pos (by omega)).trans ((if_neg (by omega)).trans ((if_pos (by omega)).trans ((if_pos (by omega)).trans ((if_pos (by omega)).trans ((if_neg (by omega))))))))]; decide
            · skip
              rcases Int.lt_or_le v 99 with c | c
              · skip
                rw [show ta v = 1471 from (if_neg (by omega)).trans ((if_pos (by omega)).trans ((if_neg (by omega)).trans ((if_pos (by omega)).trans ((if_pos (by omega)).trans ((if_neg (by omega)).trans ((if_pos (by omega))))))))]; decide
              · skip
                rw [show ta v = 1472 from (if_neg (by omega)).trans ((if_pos (by omega)).trans ((if_neg (by omega)).trans ((if_pos (by omega)).trans ((if_pos (by omega)).trans ((if_neg (by omega)).trans ((if_neg (by omega))))))))]; decide
          · skip
            rcases Int.lt_or_le v 102 with c | c
            · skip
              rcases Int.lt_or_le v 101 with c | c
              · skip
                rw [show ta v = 1473 from (if_neg (by omega)).trans ((if_pos (by omega)).trans ((if_neg (by omega)).trans ((if_pos (by omega)).trans ((if_neg (by omega)).trans ((if_pos (by omega)).trans ((if_pos (by omega))))))))]; decide
              · skip
                rw [show ta v = 1474 from (if_neg (by omega)).trans ((if_pos (by omega)).trans ((if_neg (by omega)).trans ((if_pos (by omega)).trans ((if_neg (by omega)).trans ((if_pos (by omega)).trans ((if_neg (by omega))))))))]; decide
            · skip
              rcases Int.lt_or_le v 103 with c | c
              · skip
                rw [show ta v = 1475 from (if_neg (by omega)).trans ((if_pos (by omega)).trans ((if_neg (by omega)).trans ((if_pos (by omega)).trans ((if_neg (by omega)).trans ((if_neg (by omega)).trans ((if_pos (by omega))))))))]; decide
              · skip
                rw [show ta v = 1476 from (if_neg (by omega)).trans ((if_pos (by omega)).trans ((if_neg (by omega)).trans ((if_pos (by omega)).trans ((if_neg (by omega)).trans ((if_neg (by omega)).trans ((if_neg (by omega))))))))]; decide
        · skip
          rcases Int.lt_or_le v 108 with c | c
          · skip
            rcases Int.lt_or_le v 106 with c | c
            · skip
              rcases Int.lt_or_le v 105 with c | c
              · skip
                rw [show ta v = 1477 from (if_neg (by omega)).trans ((if_pos (by omega)).trans ((if_neg (by omega)).trans ((if_neg (by omega)).trans ((if_pos (by omega)).trans ((if_pos (by omega)).trans ((if_pos (by omega))))))))]; decide
              · skip
                rw [show ta v = 1478 from (if_neg (by omega)).trans ((if_pos (by omega)).trans ((if_neg (by omega)).trans ((if_neg (by omega)).trans ((if_pos (by omega)).trans ((if_pos (by omega)).trans ((if_neg (by omega))))))))]; decide
            · skip
              rcases Int.lt_or_le v 107 with c | c
              · skip
                rw [show ta v = 1479 from (if_neg (by omega)).trans ((if_pos (by omega)).trans ((if_neg (by omega)).trans ((if_neg (by omega)).trans ((if_pos (by omega)).trans ((if_neg (by omega)).trans ((if_pos (by omega))))))))]; decide
              · skip
                rw [show ta v = 1480 from (if_neg (by omega)).trans ((if_pos (by omega)).trans ((if_neg (by omega)).trans ((if_neg (by omega)).trans ((if_pos (by omega)).trans ((if_neg (by omega)).trans ((if_neg (by omega))))))))]; decide
          · skip
            rcases Int.lt_or_le v 110 with c | c
            · skip
              rcases Int.lt_or_le v 109 with c | c
              · skip
                rw [show ta v = 1481 from (if_neg (by omega)).trans ((if_pos (by omega)).trans ((if_neg (by omega)).trans ((if_neg (by omega)).trans ((if_neg (by omega)).trans ((if_pos (by omega)).trans ((if_pos (by omega))))))))]; decide
              · skip
                rw [show ta v = 1482 from (if_neg (by omega)).trans ((if_pos (by omega)).trans ((if_neg (by omega)).trans ((if_neg (by omega)).trans ((if_neg (by omega)).trans ((if_pos (by omega)).trans ((if_neg (by omega))))))))]; decide
            · skip
              rcases Int.lt_or_le v 111 with c | c
              · skip
                rw [show ta v = 1483 from (if_neg (by omega)).trans ((if_pos (by omega)).trans ((if_neg (by omega)).trans ((if_neg (by omega)).trans ((if_neg (by omega)).trans ((if_neg (by omega)).trans ((if_pos (by omega))))))))]; decide
              · skip
                rw [show ta v = 1484 from (if_neg (by omega)).trans ((if_pos (by omega)).trans ((if_neg (by omega)).trans ((if_neg (by omega)).trans ((if_neg (by omega)).trans ((if_neg (by omega)).trans ((if_neg (by omega))))))))]; decide
    · skip
      rcases Int.lt_or_le v 131 with c | c
      · skip
        rcases Int.lt_or_le v 120 with c | c
        · skip
          rcases Int.lt_or_le v 116 with c | c
          · skip
            rcases Int.lt_or_le v 114 with c | c
            · skip
              rcases Int.lt_or_le v 113 with c | c
              · skip
                rw [show ta v = 1400 from (if_neg (by omega)).trans ((if_neg (by omega)).trans ((if_pos (by omega)).trans ((if_pos (by omega)).trans ((if_pos (by omega)).trans ((if_pos (by omega)).trans ((if_pos (by omega))))))))]; decide
              · skip
                rw [show ta v = 1485 from (if_neg (by omega)).trans ((if_neg (by omega)).trans ((if_pos (by omega)).trans ((if_pos (by omega)).trans ((if_pos (by omega)).trans ((if_pos (by omega)).trans ((if_neg (by omega))))))))]; decide
            · skip
              rcases Int.lt_or_le v 115 with c | c
              · skip
                rw [show ta v = 1486 from (if_neg (by omega)).trans ((if_neg (by omega)).trans ((if_pos (by omega)).trans ((if_pos (by omega)).trans ((if_pos (by omega)).trans ((if_neg (by omega)).trans ((if_pos (by omega))))))))]; decide
              · skip
                rw [show ta v = 1487 from (if_neg (by omega)).trans ((if_neg (by omega)).trans ((if_pos (by omega)).trans ((if_pos (by omega)).trans ((if_pos (by omega)).trans ((if_neg (by omega)).trans ((if_neg (by omega))))))))]; decide
          · skip
            rcases Int.lt_or_le v 118 with c | c
            · skip
              rcases Int.lt_or_le v 117 with c | c
              · skip
                rw [show ta v = 1488 from (if_neg (by omega)).trans ((if_neg (by omega)).trans ((if_pos (by omega)).trans ((if_pos (by omega)).trans ((if_neg (by omega)).trans ((if_pos (by omega)).trans ((if_pos (by omega))))))))]; decide
              · skip
                rw [show ta v = 1489 from (if_neg (by omega)).trans ((if_neg (by omega)).trans ((if_pos (by omega)).trans ((if_pos (by omega)).trans ((if_neg (by omega)).trans ((if_pos (by omega)).trans ((if_neg (by omega))))))))]; decide
            · skip
              rcases Int.lt_or_le v 119 with c | c
              · skip
                rw [show ta v = 1490 from (if_neg (by omega)).trans ((if_neg (by omega)).trans ((if_pos (by omega)).trans ((if_pos (by omega)).trans ((if_neg (by omega)).trans ((if_neg (by omega)).trans ((if_pos (by omega))))))))]; decide
              · skip
                rw [show ta v = 1491 from (if_neg (by omega)).trans ((if_neg (by omega)).trans ((if_pos (by omega)).trans ((if_pos (by omega)).trans ((if_neg (by omega)).trans ((if_neg (by omega)).trans ((if_neg (by omega))))))))]; decide
        · skip
          rcases Int.lt_or_le v 127 with c | c
          · skip
            rcases Int.lt_or_le v 122 with c | c
            · skip
              rcases Int.lt_or_le v 121 with c | c
              · skip
                rw [show ta v = 1492 from (if_neg (by omega)).trans ((if_neg (by omega)).trans ((if_pos (by omega)).trans ((if_neg (by omega)).trans ((if_pos (by omega)).trans ((if_pos (by omega)).trans ((if_pos (by omega))))))))]; decide
              · skip
                rw [show ta v = 1493 from (if_neg (by omega)).trans ((if_neg (by omega)).trans ((if_pos (by omega)).trans ((if_neg (by omega)).trans ((if_pos (by omega)).trans ((if_pos (by omega)).trans ((if_neg (by omega))))))))]; decide
            · skip
              rcases Int.lt_or_le v 126 with c | c
              · skip
                rw [show ta v = 1400 from (if_neg (by omega)).trans ((if_neg (by omega)).trans ((if_pos (by omega)).trans ((if_neg (by omega)).trans ((if_pos (by omega)).trans ((if_neg (by omega)).trans ((if_pos (by omega))))))))]; decide
              · skip
                rw [show ta v = 1494 from (if_neg (by omega)).trans ((if_neg (by omega)).trans ((if_pos (by omega)).trans ((if_neg (by omega)).trans ((if_pos (by omega)).trans ((if_neg (by omega)).trans ((if_neg (by omega))))))))]; decide
          · skip
            rcases Int.lt_or_le v 129 with c | c
            · skip
              rcases Int.lt_or_le v 128 with c | c
              · skip
                rw [show ta v = 1495 from (if_neg (by omega)).trans ((if_neg (by omega)).trans ((if_pos (by omega)).trans ((if_neg (by omega)).trans ((if_neg (by omega)).trans ((if_pos (by omega)).trans ((if_pos (by omega))))))))]; decide
              · skip
                rw [show ta v = 1496 from (if_neg (by omega)).trans ((if_neg (by omega)).trans ((if_pos (by omega)).trans ((if_neg (by omega)).trans ((if_neg (by omega)).trans ((if_pos (by omega)).trans ((if_neg (by omega))))))))]; decide
            · skip
              rcases Int.lt_or_le v 130 with c | c
              · skip
                rw [show ta v = 1497 from (if_neg (by omega)).trans ((if_neg (by omega)).trans ((if_pos (by omega)).trans ((if_neg (by omega)).trans ((if_neg (by omega)).trans ((if_neg (by omega)).trans ((if_pos (by omega))))))))]; decide
              · skip
                rw [show ta v = 1498 from (if_neg (by omega)).trans ((if_neg (by omega)).trans ((if_pos (by omega)).trans ((if_neg (by omega)).trans ((if_neg (by omega)).trans ((if_neg (by omega)).trans ((if_neg (by omega))))))))]; decide
      · skip
        rcases Int.lt_or_le v 143 with c | c
        · skip
          rcases Int.lt_or_le v 139 with c | c
          · skip
            rcases Int.lt_or_le v 133 with c | c
            · skip
              rcases Int.lt_or_le v 132 with c | c
              · skip
                rw [show ta v = 1499 from (if_neg (by omega)).trans ((if_neg (by omega)).trans ((if_neg (by omega)).trans ((if_pos (by omega)).trans ((if_pos (by omega)).trans ((if_pos (by omega)).trans ((if_pos (by omega))))))))]; decide
              · skip
                rw [show ta v = 1500 from (if_neg (by omega)).trans ((if_neg (by omega)).trans ((if_neg (by omega)).trans ((if_pos (by omega)).trans ((if_pos (by omega)).trans ((if_pos (by omega)).trans ((if_neg (by omega))))))))]; decide
            · skip
              rcases Int.lt_or_le v 138 with c | c
              · skip
                rw [show ta v = 1400 from (if_neg (by omega)).trans ((if_neg (by omega)).trans ((if_neg (by omega)).trans ((if_pos (by omega)).trans ((if_pos (by omega)).trans ((if_neg (by omega)).trans ((if_pos (by omega))))))))]; decide
              · skip
                rw [show ta v = 1501 from (if_neg (by omega)).trans ((if_neg (by omega)).trans ((if_neg (by omega)).trans ((if_pos (by omega)).trans ((if_pos (by omega)).trans ((if_neg (by omega)).trans ((if_neg (by omega))))))))]; decide
          · skip
            rcases Int.lt_or_le v 141 with c | c
            · skip
              rcases Int.lt_or_le v 140 with c | c
              · skip
                rw [show ta v = 1400 from (if_neg (by omega)).trans ((if_neg (by omega)).trans ((if_neg (by omega)).trans ((if_pos (by omega)).trans ((if_neg (by omega)).trans ((if_pos (by omega)).trans ((if_pos (by omega))))))))]; decide
              · skip
                rw [show ta v = 1502 from (if_neg (by omega)).trans ((if_neg (by omega)).trans ((if_neg (by omega)).trans ((if_pos (by omega)).trans ((if_neg (by omega)).trans ((if_pos (by omega)).trans ((if_neg (by omega))))))))]; decide
            · skip
              rcases Int.lt_or_le v 142 with c | c
              · skip
                rw [show ta v = 1400 from (if_neg (by omega)).trans ((if_neg (by omega)).trans ((if_neg (by omega)).trans ((if_pos (by omega)).trans ((if_neg (by omega)).trans ((if_neg (by omega)).trans ((if_pos (by omega))))))))]; decide
              · skip
                rw [show ta v = 1503 from (if_neg (by omega)).trans ((if_neg (by omega)).trans ((if_neg (by omega)).trans ((if_pos (by omega)).trans ((if_neg (by omega)).trans ((if_neg (by omega)).trans ((if_neg (by omega))))))))]; decide
        · skip
          rcases Int.lt_or_le v 147 with c | c
          · skip
            rcases Int.lt_or_le v 145 with c | c
            · skip
              rcases Int.lt_or_le v 144 with c | c
              · skip
                rw [show ta v = 1400 from (if_neg (by omega)).trans ((if_neg (by omega)).trans ((if_neg (by omega)).trans ((if_neg (by omega)).trans ((if_pos (by omega)).trans ((if_pos (by omega)).trans ((if_pos (by omega))))))))]; decide
              · skip
                rw [show ta v = 1504 from (if_neg (by omega)).trans ((if_neg (by omega)).trans ((if_neg (by omega)).trans ((if_neg (by omega)).trans ((if_pos (by omega)).trans ((if_pos (by omega)).trans ((if_neg (by omega))))))))]; decide
            · skip
              rcases Int.lt_or_le v 146 with c | c
              · skip
                rw [show ta v = 1505 from (if_neg (by omega)).trans ((if_neg (by omega)).trans ((if_neg (by omega)).trans ((if_neg (by omega)).trans ((if_pos (by omega)).trans ((if_neg (by omega)).trans ((if_pos (by omega))))))))]; decide
              · skip
                rw [show ta v = 1506 from (if_neg (by omega)).trans ((if_neg (by omega)).trans ((if_neg (by omega)).trans ((if_neg (by omega)).trans ((if_pos (by omega)).trans ((if_neg (by omega)).trans ((if_neg (by omega))))))))]; decide
          · skip
            rcases Int.lt_or_le v 156 with c | c
            · skip
              rcases Int.lt_or_le v 155 with c | c
              · skip
                rw [show ta v = 1400 from (if_neg (by omega)).trans ((if_neg (by omega)).trans ((if_neg (by omega)).trans ((if_neg (by omega)).trans ((if_neg (by omega)).trans ((if_pos (by omega)).trans ((if_pos (by omega))))))))]; decide
              · skip
                rw [show ta v = 1507 from (if_neg (by omega)).trans ((if_neg (by omega)).trans ((if_neg (by omega)).trans ((if_neg (by omega)).trans ((if_neg (by omega)).trans ((if_pos (by omega)).trans ((if_neg (by omega))))))))]; decide
            · skip
              rcases Int.lt_or_le v 158 with c | c
              · skip
                rw [show ta v = 1400 from (if_neg (by omega)).trans ((if_neg (by omega)).trans ((if_neg (by omega)).trans ((if_neg (by omega)).trans ((if_neg (by omega)).trans ((if_neg (by omega)).trans ((if_pos (by omega))))))))]; decide
              · skip
                rcases Int.lt_or_le v 159 with c | c
                · skip
                  rw [show ta v = 1508 from (if_neg (by omega)).trans ((if_neg (by omega)).trans ((if_neg (by omega)).trans ((if_neg (by omega)).trans ((if_neg (by omega)).trans ((if_neg (by omega)).trans ((if_neg (by omega)).trans ((if_pos (by omega)))))))))]; decide
                · skip
                  rw [show ta v = 1400 from (if_neg (by omega)).trans ((if_neg (by omega)).trans ((if_neg (by omega)).trans ((if_neg (by omega)).trans ((if_neg (by omega)).trans ((if_neg (by omega)).trans ((if_neg (by omega)).trans ((if_neg (by omega)))))))))]; decide
