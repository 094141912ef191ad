/-! GETTERS OF SPACES; CARDS INSIDE; TRENDS -/
theorem sO_le {t : Ts} {v k B : Int} (e : ∀ c : Int, 0 ≤ c → c < 240 → t v c ≤ B) : sO t v k ≤ B * pos t k 240 := by
  have aux : ∀ m : Nat, m ≤ 240 → si (fun c => if t 6 c = k then t v c else 0) m ≤ B * pos t k m := by
    intro m
    induction m with
    | zero => intro _; show (0 : Int) ≤ B * 0; omega
    | succ m ih =>
      intro l
      have i1 := ih (by omega)
      have m0 : (0 : Int) ≤ m := by omega
      have e1 : ((m + 1 : Nat) : Int) = (m : Int) + 1 := by omega
      rw [e1, pos_s m0, si_s (f := fun c => if t 6 c = k then t v c else 0) m0, Int.mul_add]
      have b := e m m0 (by omega)
      by_cases c : t 6 m = k
      · rw [bi_t c, if_pos c]; omega
      · rw [bi_f c, if_neg c]; omega
  exact aux 240 (by decide)
theorem sO_ge {t : Ts} {v k B : Int} (e : ∀ c : Int, 0 ≤ c → c < 240 → B ≤ t v c) : B * pos t k 240 ≤ sO t v k := by
  have aux : ∀ m : Nat, m ≤ 240 → B * pos t k m ≤ si (fun c => if t 6 c = k then t v c else 0) m := by
    intro m
    induction m with
    | zero => intro _; show B * 0 ≤ (0 : Int); omega
    | succ m ih =>
      intro l
      have i1 := ih (by omega)
      have m0 : (0 : Int) ≤ m := by omega
      have e1 : ((m + 1 : Nat) : Int) = (m : Int) + 1 := by omega
      rw [e1, pos_s m0, si_s (f := fun c => if t 6 c = k then t v c else 0) m0, Int.mul_add]
      have b := e m m0 (by omega)
      by_cases c : t 6 m = k
      · rw [bi_t c, if_pos c]; omega
      · rw [bi_f c, if_neg c]; omega
  exact aux 240 (by decide)
/-- how many cells a space has -/
theorem t9_r {t : Ts} {k : Int} (lt : LayT t) (k0 : 0 ≤ k) (k1 : k < t 7 0) : 1 ≤ t 9 k ∧ t 9 k ≤ 48 := by
  obtain ⟨e, c0, c1, c2, c3⟩ := lt.2.1 k k0 k1
  have h1 : pos t k (t 8 k + 1) = pos t k (t 8 k) + bi (t 6 (t 8 k) = k) := pos_s c0
  rw [bi_t c2] at h1
  have h2 := (pos_r (t := t) (k := k) c0).1
  have mono : ∀ (a : Int) (n : Nat), 0 ≤ a → pos t k a ≤ pos t k (a + n) := by
    intro a n a0
    induction n with
    | zero => simp
    | succ n ih =>
      have e1 : a + ((n + 1 : Nat) : Int) = a + (n : Int) + 1 := by omega
      rw [e1, pos_s (by omega)]
      have := bi_r (t 6 (a + n) = k)
      omega
  have h3 := mono (t 8 k + 1) (239 - t 8 k).toNat (by omega)
  rw [show t 8 k + 1 + (((239 - t 8 k).toNat : Nat) : Int) = 240 by omega] at h3
  refine ⟨by omega, ?_⟩
  rcases Int.lt_or_le (t 9 k) 49 with c | c
  · omega
  · obtain ⟨x, x0, x1, x2, x3⟩ := cell_ex (t := t) (k := k) 240 48 (by decide) (by rw [e] at c; show 48 < pos t k 240; omega)
    have := pos_st lt.1 x0 x1 x2
    omega
def wv (t : Ts) (k : Int) : Int := sO t 40 k / (100 * t 9 k)
theorem wv_r {n : Int} {t : Ts} {k : Int} (g : Bd n t) (lt : LayT t) (k0 : 0 ≤ k) (k1 : k < t 7 0) : (-2400000000000 ≤ sO t 40 k ∧ sO t 40 k ≤ 2400000000000) ∧ -(400 + 200 * n) ≤ wv t k ∧ wv t k ≤ 400 + 200 * n := by
  have gn := g.1
  have b1 := sO_le (t := t) (v := 40) (k := k) (B := 40000 + 20000 * n) (fun c c0 c1 => (b_40 g c0 c1).2)
  have b2 := sO_ge (t := t) (v := 40) (k := k) (B := -40000 - 20000 * n) (fun c c0 c1 => (b_40 g c0 c1).1)
  have p := t9_r lt k0 k1
  rw [← (lt.2.1 k k0 k1).1] at b1 b2
  have m1 : (40000 + 20000 * n) * t 9 k ≤ (40000 + 20000 * n) * 48 := Int.mul_le_mul_of_nonneg_left p.2 (by omega)
  have e2 : (-40000 - 20000 * n) * t 9 k = -((40000 + 20000 * n) * t 9 k) := by rw [← Int.neg_mul]; congr 1; omega
  have e3 : (400 + 200 * n) * (100 * t 9 k) = (40000 + 20000 * n) * t 9 k := by rw [← Int.mul_assoc]; congr 1; omega
  rw [e2] at b2
  refine ⟨⟨by omega, by omega⟩, ?_, ?_⟩
  · exact Int.le_ediv_of_mul_le (by omega) (by rw [Int.neg_mul, e3]; exact b2)
  · exact Int.ediv_le_of_le_mul (by omega) (by rw [e3]; exact b1)
abbrev dtc (t : Ts) (k : Int) : Prop := ¬ (w64 (sO t 45 k) ≤ 20 * t 9 k)
theorem rC_heat {H Q L : Int} {h : Hp} {t : Ts} (r : RC H Q L h t) (d : t 137 0 = 0) : rowC h t 1315 40 := ⟨by decide, l_81 r.1, fun c c0 c1 => gc_81_40 r d c0 c1⟩
theorem rC_stale {H Q L : Int} {h : Hp} {t : Ts} (r : RC H Q L h t) (d : t 137 0 = 0) : rowC h t 1316 41 := ⟨by decide, l_82 r.1, fun c c0 c1 => gc_82_41 r d c0 c1⟩
theorem rC_moist {H Q L : Int} {h : Hp} {t : Ts} (r : RC H Q L h t) (d : t 137 0 = 0) : rowC h t 1317 42 := ⟨by decide, l_83 r.1, fun c c0 c1 => gc_83_42 r d c0 c1⟩
theorem rC_smoke {H Q L : Int} {h : Hp} {t : Ts} (r : RC H Q L h t) (d : t 137 0 = 0) : rowC h t 1318 45 := ⟨by decide, l_84 r.1, fun c c0 c1 => gc_84_45 r d c0 c1⟩
theorem z_warmth1 {H Q L : Int} {h : Hp} {t : Ts} {n k : Int} (r : RC H Q L h t) (d : t 137 0 = 0) (g : Bd n t) (lt : LayT t) (k0 : 0 ≤ k) (k1 : k < t 7 0) {K : Int → Prop} (kk : K (wv t k)) : wp_Space_warmth1 (L + (10 + 3 * k)) 1315 h K := by
  have b := wv_r g lt k0 k1
  have gn := g.1
  have p := t9_r lt k0 k1
  have l3 := (r.2.2.2.2 d).1.2.2.2.1 k k0 k1
  unfold wp_Space_warmth1
  refine z_spacesum r d lt k0 k1 (rC_heat r d) ?_
  rw [l3.1, w64_id (x := sO t 40 k) (by omega) (by omega), w64_id (x := 100 * t 9 k) (by omega) (by omega), z_floorDiv (by unfold r64; omega) (by unfold r64; omega) (by omega) (by omega)]
  show K (w32 (wv t k))
  rw [w32_id (by omega) (by omega)]
  exact kk
theorem z_isDetected {H Q L : Int} {h : Hp} {t : Ts} {k : Int} (r : RC H Q L h t) (d : t 137 0 = 0) (lt : LayT t) (k0 : 0 ≤ k) (k1 : k < t 7 0) {K : Int → Prop} (kk : K (bi (dtc t k))) : wp_Life_isDetected 1314 (L + (10 + 3 * k)) h K := by
  have hL : L = 908 ∨ L = 1038 := r.2.1.2.2.1
  have p := t9_r lt k0 k1
  have l3 := (r.2.2.2.2 d).1.2.2.2.1 k k0 k1
  unfold wp_Life_isDetected
  rw [p_80_3 r.1, l3.1, w64_id (x := 20 * t 9 k) (by omega) (by omega)]
  refine ⟨by omega, z_spacesum r d lt k0 k1 (rC_smoke r d) ?_⟩
  rw [lcmp_le]
  refine ⟨fun q => ?_, fun q => ?_⟩
  · rw [bi_f (fun z => z q)] at kk
    exact kk
  · rw [bi_t q] at kk
    exact kk
theorem z_glass {H Q L : Int} {h : Hp} {t : Ts} {k : Int} (r : RC H Q L h t) (d : t 137 0 = 0) (lt : LayT t) (k0 : 0 ≤ k) (k1 : k < t 7 0) {K : Int → Prop} (kk : K (t 13 k)) : wp_Space_glass (L + (10 + 3 * k)) h K := by
  have sh := r.1; have hh := r.2.1.1; have hl := r.2.1.2.2.1; have hk := r.2.1.2.1; have sw := r.2.1.2.2.2.1; have sq := r.2.1.2.2.2.2.2.1; have sl := r.2.1.2.2.2.2.2.2.2.1
  have hL : L = 908 ∨ L = 1038 := hl
  have lc := (r.2.2.2.2 d).1
  have l3 := (lc.2.2.2.1 k k0 k1).2.2.2.2
  have n1 := lc.1.1.2
  have t13 := (lt.2.2.1 k k0 k1).2
  have bq : ∀ q : Int, 0 ≤ q → q < 4 → 0 ≤ rd h (L + (12 + 3 * k)) q ∧ rd h (L + (12 + 3 * k)) q ≤ 550 := by
    intro q q0 q1
    rw [l3 q q0 q1]
    exact si_b (fun _ => bi_r _) 550
  have b0 := bq 0 (by decide) (by decide)
  have b1 := bq 1 (by decide) (by decide)
  have b2 := bq 2 (by decide) (by decide)
  have b3 := bq 3 (by decide) (by decide)
  have sum : rd h (L + (12 + 3 * k)) 0 + rd h (L + (12 + 3 * k)) 1 + rd h (L + (12 + 3 * k)) 2 + rd h (L + (12 + 3 * k)) 3 = t 13 k := by
    rw [l3 0 (by decide) (by decide), l3 1 (by decide) (by decide), l3 2 (by decide) (by decide), l3 3 (by decide) (by decide), t13]
    have s4 : ∀ (f0 f1 f2 f3 g : Int → Int), (∀ e, f0 e + f1 e + f2 e + f3 e = g e) → ∀ n : Nat, sm f0 n + sm f1 n + sm f2 n + sm f3 n = sm g n := by
      intro f0 f1 f2 f3 g e n
      induction n with
      | zero => rfl
      | succ n ih =>
        show (sm f0 n + f0 n) + (sm f1 n + f1 n) + (sm f2 n + f2 n) + (sm f3 n + f3 n) = sm g n + g n
        have := e n
        omega
    refine s4 _ _ _ _ _ (fun e => ?_) 550
    by_cases c : gBd (e % 110) ∧ t 3 e = 3 ∧ t 6 (48 * (e / 110) + (if gOne (e % 110) = -1 then gTwo (e % 110) else gOne (e % 110))) = k
    · rw [bi_t (p := gBd (e % 110) ∧ t 3 e = 3 ∧ t 6 (48 * (e / 110) + (if gOne (e % 110) = -1 then gTwo (e % 110) else gOne (e % 110))) = k) c]
      have ab : ∀ q : Int, bi (gBd (e % 110) ∧ (if gOne (e % 110) = -1 then (if e % 110 < 54 then 0 else 2) else (if e % 110 < 54 then 1 else 3)) = q ∧ t 3 e = 3 ∧ t 6 (48 * (e / 110) + (if gOne (e % 110) = -1 then gTwo (e % 110) else gOne (e % 110))) = k) = bi ((if gOne (e % 110) = -1 then (if e % 110 < 54 then 0 else 2) else (if e % 110 < 54 then 1 else 3)) = q) := fun q => ebi ⟨fun z => z.2.1, fun z => ⟨c.1, z, c.2⟩⟩
      rw [ab 0, ab 1, ab 2, ab 3]
      by_cases c1 : gOne (e % 110) = -1
      · by_cases c2 : e % 110 < 54
        · simp [c1, c2, bi]
        · simp [c1, c2, bi]
      · by_cases c2 : e % 110 < 54
        · simp [c1, c2, bi]
        · simp [c1, c2, bi]
    · rw [bi_f c, bi_f (fun z => c ⟨z.1, z.2.2⟩), bi_f (fun z => c ⟨z.1, z.2.2⟩), bi_f (fun z => c ⟨z.1, z.2.2⟩), bi_f (fun z => c ⟨z.1, z.2.2⟩)]
      rfl
  unfold wp_Space_glass
  rw [p_60_5 hl k0 (by omega) sh, l_62 hl k0 (by omega) sh, w32_id (x := rd h (L + (12 + 3 * k)) 0 + rd h (L + (12 + 3 * k)) 1) (by omega) (by omega), w32_id (x := rd h (L + (12 + 3 * k)) 0 + rd h (L + (12 + 3 * k)) 1 + rd h (L + (12 + 3 * k)) 2) (by omega) (by omega), w32_id (by omega) (by omega), sum]
  exact ⟨by omega, by decide, by decide, by decide, by decide, kk⟩
theorem z_spaceOf {H Q L : Int} {h : Hp} {t : Ts} {k : Int} (r : RC H Q L h t) (d : t 137 0 = 0) (K : Int → Prop) (E : Int → Hp → Prop) : wp_Kh_spaceOf 64 k h K E = if 0 ≤ k ∧ k ≤ t 7 0 - 1 then K (L + (10 + 3 * k)) else (xr h ∧ E (nx h) (mk h 26 6)) := by
  have sh := r.1; have hh := r.2.1.1; have hl := r.2.1.2.2.1; have hk := r.2.1.2.1; have sw := r.2.1.2.2.2.1; have sq := r.2.1.2.2.2.2.2.1; have sl := r.2.1.2.2.2.2.2.2.2.1
  have hL : L = 908 ∨ L = 1038 := hl
  have lc := (r.2.2.2.2 d).1
  have n1 := lc.1.1
  unfold wp_Kh_spaceOf
  rw [sl, lc.2.1, p_50_0 hl sh, l_51 hl sh, w32_id (by omega) (by omega)]
  simp only [z_Kh_isIn, z_Kh_need, bi_nz]
  by_cases c : 0 ≤ k ∧ k ≤ t 7 0 - 1
  · rw [if_pos c, if_pos c, p_51 hl c.1 (by omega) sh]
    exact propext ⟨fun z => z.2.2.2, fun z => ⟨by omega, by omega, by omega, z⟩⟩
  · rw [if_neg c, if_neg c]
    exact propext ⟨fun z => z.2, fun z => ⟨by omega, z⟩⟩
theorem k_detected {H Q L : Int} {h : Hp} {t : Ts} {k : Int} (r : RC H Q L h t) (x : xr h) (lt : t 137 0 = 0 → LayT t) {K : Int → Prop} {E : Int → Hp → Prop} (kk : KG h (cd2 t (0 ≤ k ∧ k ≤ t 7 0 - 1)) (bi (dtc t k)) K E) : wp_Kh_detected 64 k h K E := by
  have sh := r.1; have hh := r.2.1.1; have hl := r.2.1.2.2.1; have hk := r.2.1.2.1; have sw := r.2.1.2.2.2.1; have sq := r.2.1.2.2.2.2.2.1; have sl := r.2.1.2.2.2.2.2.2.2.1
  unfold wp_Kh_detected
  rw [z_Kh_isUp sh, r.dn]
  by_cases d : t 137 0 = 0
  · rw [if_pos d, z_spaceOf r d]
    by_cases c : 0 ≤ k ∧ k ≤ t 7 0 - 1
    · rw [if_pos c, p_1_13 sh]
      exact ⟨by decide, z_isDetected r d (lt d) c.1 (by omega) (kk.1 (cd2_t d c))⟩
    · rw [if_neg c]
      exact ⟨x, kk.2.1 (cd2_f d c)⟩
  · rw [if_neg d]
    exact ⟨x, kk.2.2 (cd2_d d)⟩
theorem z_moDetected {h : Hp} {t : Ts} {k : Int} (sh : Sh h) (r : RT h t) (lt : LayT t) (k0 : 0 ≤ k) (k1 : k < t 7 0) (k2 : t 7 0 ≤ 40) {K : Int → Prop} (kk : K (bi (dtc t k))) : wp_Mo_isDetected 1400 k h K := by
  have p := t9_r lt k0 k1
  unfold wp_Mo_isDetected
  rw [tp_45 sh]
  refine z_sumOf sh r ⟨by decide, tl_45 sh, fun c c0 c1 => gt_45 r c0 c1⟩ ?_
  rw [tp_9 sh, tl_9 sh, gt_9 r k0 (by omega), w64_id (x := 20 * t 9 k) (by omega) (by omega), lcmp_le]
  refine ⟨by decide, by omega, fun q => ?_, fun q => ?_⟩
  · rw [bi_f (fun z => z q)] at kk
    exact kk
  · rw [bi_t q] at kk
    exact kk
theorem z_moWarmth {h : Hp} {t : Ts} {n k : Int} (sh : Sh h) (r : RT h t) (g : Bd n t) (lt : LayT t) (k0 : 0 ≤ k) (k1 : k < t 7 0) (k2 : t 7 0 ≤ 40) {K : Int → Prop} (kk : K (wv t k)) : wp_Mo_warmthOf 1400 k h K := by
  have p := t9_r lt k0 k1
  have b := wv_r g lt k0 k1
  unfold wp_Mo_warmthOf
  rw [tp_40 sh]
  refine z_sumOf sh r ⟨by decide, tl_40 sh, fun c c0 c1 => gt_40 r c0 c1⟩ ?_
  rw [tp_9 sh, tl_9 sh, gt_9 r k0 (by omega), w64_id (x := 100 * t 9 k) (by omega) (by omega), w64_id (x := sO t 40 k) (by omega) (by omega), z_by (by unfold r64; omega) (by omega) (by omega)]
  exact ⟨by decide, by omega, kk⟩
theorem sO_0 {t : Ts} {v k c : Int} (n : v ≠ 0) : sO (tset t 0 0 c) v k = sO t v k := by
  unfold sO
  exact si_cg (fun d _ _ => by rw [tset_nv (by decide), tset_nv n])
theorem pos_0 {t : Ts} {k c x : Int} : pos (tset t 0 0 x) k c = pos t k c := by
  unfold pos
  exact si_cg (fun d _ _ => by rw [tset_nv (by decide)])
theorem LayT.code {t : Ts} {x : Int} (lt : LayT t) : LayT (tset t 0 0 x) := by
  have e : ∀ v k : Int, v ≠ 0 → tset t 0 0 x v k = t v k := fun v k n => tset_nv n
  unfold LayT
  simp only [e 8 _ (by decide), e 6 _ (by decide), e 7 _ (by decide), e 9 _ (by decide), e 12 _ (by decide), e 13 _ (by decide), e 3 _ (by decide), e 11 _ (by decide), e 14 _ (by decide), e 15 _ (by decide), pos_0]
  exact lt
theorem m_detected {h : Hp} {t : Ts} {k : Int} (sh : Sh h) (r : RT h t) (lt : t 137 0 = 0 → LayT t ∧ 0 < t 7 0 ∧ t 7 0 ≤ 40) (b7 : r32 (t 7 0 - 1)) {K : Int → Hp → Prop} (kk : MT h t (cd2 t (0 ≤ k ∧ k ≤ t 7 0 - 1)) (bi (dtc t k)) (tset t 0 0 0) K) : wp_Mo_detected 1400 k h K := by
  unfold wp_Mo_detected
  rw [gt_7 r, z_Mo_in, w32_of b7]
  refine fl2r sh r (fun d c h1 r1 s1 f1 => ?_) kk.2
  have k0 := kk.1 (cd2_t d c) h1 r1 f1
  obtain ⟨l1, l2, l3⟩ := lt d
  have e7 : (tset t 0 0 0) 7 0 = t 7 0 := tset_nv (by decide)
  refine z_moDetected s1 r1 l1.code c.1 (by rw [e7]; omega) (by rw [e7]; omega) ?_
  have e : bi (dtc (tset t 0 0 0) k) = bi (dtc t k) := by unfold dtc; rw [sO_0 (by decide), tset_nv (by decide)]
  rw [e]
  by_cases z : dtc t k
  · rw [bi_t z] at k0 ⊢
    exact ⟨fun q => absurd q (by decide), fun _ => k0⟩
  · rw [bi_f z] at k0 ⊢
    exact ⟨fun _ => k0, fun q => absurd rfl q⟩
