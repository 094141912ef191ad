/-! SPACE, BETWEEN, INSIDE, TREND -/
abbrev ok_space (t : Ts) (k j : Int) : Prop := (0 ≤ k ∧ k ≤ t 7 0 - 1) ∧ 0 ≤ j ∧ j ≤ 6
def v_space (t : Ts) (k j : Int) : Int := if j = 0 then t 8 k / 48 else if j = 1 then t 8 k % 48 else if j = 2 then t 9 k else if j = 3 then t 5 (t 8 k) else if j = 4 then t 12 k else if j = 5 then t 13 k else wv t k
theorem first_cell {H Q L : Int} {h : Hp} {t : Ts} {k : Int} (r : RC H Q L h t) (d : t 137 0 = 0) (lt : LayT t) (k0 : 0 ≤ k) (k1 : k < t 7 0) : rd h (L + (11 + 3 * k)) 0 = t 8 k % 48 := by
  obtain ⟨e, c0, c1, c2, c3⟩ := lt.2.1 k k0 k1
  have z := ((r.2.2.2.2 d).1.2.2.1 (t 8 k) c0 c1).2
  have p := pos_z (t := t) (k := k) (t 8 k).toNat (fun x x0 x1 => c3 x x0 (by omega))
  rw [show (((t 8 k).toNat : Nat) : Int) = t 8 k by omega] at p
  rw [c2, p] at z
  exact z
theorem k_space {H Q L : Int} {h : Hp} {t : Ts} {n k j : Int} (r : RC H Q L h t) (x : xr h) (g : Bd n t) (lt : t 137 0 = 0 → LayT t) {K : Int → Prop} {E : Int → Hp → Prop} (kk : KG h (cd2 t (ok_space t k j)) (v_space t k j) K E) : wp_Kh_space 64 k j h K E := by
  have sh := r.1; have hh := r.2.1.1; have hl := r.2.1.2.2.1; have hk := r.2.1.2.1; have sw := r.2.1.2.2.2.1; have sq := r.2.1.2.2.2.2.2.1; have sl := r.2.1.2.2.2.2.2.2.2.1
  have hL : L = 908 ∨ L = 1038 := hl
  unfold wp_Kh_space
  rw [z_Kh_isUp sh, r.dn]
  by_cases d : t 137 0 = 0
  · rw [if_pos d, z_spaceOf r d]
    simp only [z_Kh_isIn, z_Kh_need, bi_nz]
    by_cases c : 0 ≤ k ∧ k ≤ t 7 0 - 1
    · rw [if_pos c]
      by_cases c1 : 0 ≤ j ∧ j ≤ 6
      · have k0 := kk.1 (cd2_t d ⟨c, c1⟩)
        have k1 : k < t 7 0 := by omega
        have lc := (r.2.2.2.2 d).1
        have n1 := lc.1.1
        obtain ⟨l1, l2, l3, l4, _⟩ := lc.2.2.2.1 k c.1 k1
        rw [if_pos c1, p_1_13 sh, p_80_0 sh, l1, l2, l3, l4, p_60_1 hl c.1 (by omega) sh, l_61 hl c.1 (by omega) sh, first_cell r d (lt d) c.1 k1]
        unfold v_space at k0
        refine ⟨fun q => ⟨by decide, by omega, z_warmth1 r d g (lt d) c.1 k1 ?_⟩, fun q => ⟨by omega, ?_⟩, fun q => ⟨by omega, by omega, by decide, ?_⟩, fun q => ⟨by omega, ?_⟩, fun q => ⟨by omega, ?_⟩, fun q => ⟨by omega, ?_⟩, fun q => ⟨by omega, z_glass r d (lt d) c.1 k1 ?_⟩, trivial⟩
        · obtain rfl : j = 6 := by omega
          exact k0
        all_goals (subst q; exact k0)
      · rw [if_neg c1]
        exact ⟨x, kk.2.1 (cd2_f d (fun z => c1 z.2))⟩
    · rw [if_neg c]
      exact ⟨x, kk.2.1 (cd2_f d (fun z => c z.1))⟩
  · rw [if_neg d]
    exact ⟨x, kk.2.2 (cd2_d d)⟩
theorem m_space {h : Hp} {t : Ts} {n k j : Int} (sh : Sh h) (r : RT h t) (g : Bd n t) (lt : t 137 0 = 0 → LayT t ∧ 0 < t 7 0 ∧ t 7 0 ≤ 40) (b7 : r32 (t 7 0 - 1)) {K : Int → Hp → Prop} (kk : MT h t (cd2 t (ok_space t k j)) (v_space t k j) (tset t 0 0 0) K) : wp_Mo_space 1400 k j h K := by
  unfold wp_Mo_space
  rw [gt_7 r, z_Mo_in, w32_of b7]
  simp only [z_Mo_in, zb (fun s0 => wp_Mo_space_34 K 1400 k j s0 1400 h), za (fun s0 => wp_Mo_space_34 K 1400 k j s0 1400 h)]
  unfold wp_Mo_space_34
  refine ⟨by decide, fl2 (ok := ok_space t k j) sh r (fun d c h1 r1 s1 f1 => ?_) kk.2⟩
  have k0 := kk.1 (cd2_t d c) h1 r1 f1
  obtain ⟨l1, l2, l3⟩ := lt d
  have gn := g.1
  have e7 : (tset t 0 0 0) 7 0 = t 7 0 := tset_nv (by decide)
  have ew : wv (tset t 0 0 0) k = wv t k := by unfold wv; rw [sO_0 (by decide), tset_nv (by decide)]
  have b := wv_r g l1 c.1.1 (by omega)
  obtain ⟨e9, c0, c1, c2, c3⟩ := l1.2.1 k c.1.1 (by omega)
  unfold v_space at k0
  unfold wp_Mo_flatOfSpace
  rw [tp_8 s1, tl_8 s1, tp_9 s1, tl_9 s1, tp_5 s1, tl_5 s1, tp_12 s1, tl_12 s1, tp_13 s1, tl_13 s1, gt_8 r1 c.1.1 (by omega), gt_9 r1 c.1.1 (by omega), gt_12 r1 c.1.1 (by omega), gt_13 r1 c.1.1 (by omega), tset_nv (v := 0) (by decide), tset_nv (v := 0) (by decide), tset_nv (v := 0) (by decide), tset_nv (v := 0) (by decide), gt_5 r1 c0 c1, tset_nv (v := 0) (by decide), tdiv_pos c0 (by decide), tmod_pos c0 (by decide), w32_id (x := t 8 k / 48) (by omega) (by omega)]
  refine ⟨fun q => z_moWarmth s1 r1 (g.pun (by unfold bdv; omega)) l1.code c.1.1 (by rw [e7]; omega) (by rw [e7]; omega) ?_, fun q => ⟨by decide, by omega, ?_⟩, fun q => ⟨by decide, by omega, ?_⟩, fun q => ⟨by decide, by omega, ?_⟩, fun q => ⟨by decide, by omega, by decide, by omega, ?_⟩, fun q => ⟨by decide, by omega, ?_⟩, fun q => ⟨by decide, by omega, ?_⟩, trivial⟩
  · rw [ew, w32_id (by omega) (by omega)]
    obtain rfl : j = 6 := by omega
    exact k0
  all_goals (subst q; exact k0)
abbrev ok_btw (t : Ts) (a b q : Int) : Prop := (0 ≤ a ∧ a ≤ t 7 0 - 1) ∧ (0 ≤ b ∧ b ≤ t 7 0 - 1) ∧ 0 ≤ q ∧ q ≤ 3
theorem z_pair {H Q L : Int} {h : Hp} {t : Ts} {a b q : Int} (r : RC H Q L h t) (d : t 137 0 = 0) (lt : LayT t) (o : ok_btw t a b q) {K : Int → Prop}
    (k1 : ∀ p : Int, 0 ≤ p → p < 780 → rd h (L + 6) (4 * p + q) = t 11 (4 * (40 * a + b) + q) → K p) (k2 : t 11 (4 * (40 * a + b) + q) = 0 → K (-1)) : wp_Layout_pair L a b h K := by
  have sh := r.1; have hh := r.2.1.1; have hl := r.2.1.2.2.1; have hk := r.2.1.2.1; have sw := r.2.1.2.2.2.1; have sq := r.2.1.2.2.2.2.2.1; have sl := r.2.1.2.2.2.2.2.2.2.1
  have hL : L = 908 ∨ L = 1038 := hl
  have lc := (r.2.2.2.2 d).1
  have n1 := lc.1.1
  have l5 := lc.2.2.2.2.2.1
  have l6 := lc.2.2.2.2.2.2.1
  obtain ⟨oa, ob, oq⟩ := o
  have ly := lt.2.2.2.1 a b q oa.1 (by omega) ob.1 (by omega) oq.1 (by omega)
  unfold wp_Layout_pair
  have q1 : w32 (w32 (40 * b) + a) = 40 * b + a := by unfold w32; omega
  have q2 : w32 (w32 (40 * a) + b) = 40 * a + b := by unfold w32; omega
  rw [q1, q2, p_50_9 hl sh, l_57 hl sh]
  refine ⟨fun c => ⟨fun c1 => k2 (ly.2.1 (by omega)), fun c1 => ⟨by omega, by omega, ?_⟩⟩, fun c => ⟨by omega, by omega, ?_⟩⟩
  · rcases l6 b a ob.1 (by omega) (by omega) with z | z
    · rw [z.1]
      exact k2 (ly.1.trans (z.2 q oq.1 (by omega)))
    · exact k1 _ z.1 (by omega) ((z.2.2.2 q oq.1 (by omega)).trans ly.1.symm)
  · rcases l6 a b oa.1 (by omega) (by omega) with z | z
    · rw [z.1]
      exact k2 (z.2 q oq.1 (by omega))
    · exact k1 _ z.1 (by omega) (z.2.2.2 q oq.1 (by omega))
theorem k_between {H Q L : Int} {h : Hp} {t : Ts} {a b q : Int} (r : RC H Q L h t) (x : xr h) (lt : t 137 0 = 0 → LayT t) {K : Int → Prop} {E : Int → Hp → Prop} (kk : KG h (cd2 t (ok_btw t a b q)) (t 11 (4 * (40 * a + b) + q)) K E) : wp_Kh_between 64 a b q h K E := by
  have sh := r.1; have hh := r.2.1.1; have hl := r.2.1.2.2.1; have hk := r.2.1.2.1; have sw := r.2.1.2.2.2.1; have sq := r.2.1.2.2.2.2.2.1; have sl := r.2.1.2.2.2.2.2.2.2.1
  have hL : L = 908 ∨ L = 1038 := hl
  unfold wp_Kh_between
  rw [z_Kh_isUp sh, r.dn]
  by_cases d : t 137 0 = 0
  · have lc := (r.2.2.2.2 d).1
    have n1 := lc.1.1
    rw [if_pos d, sl, lc.2.1, w32_id (by omega) (by omega)]
    simp only [z_Kh_isIn, zb (fun s0 => wp_Kh_between_59 K E 64 a b q s0 h), za (fun s0 => wp_Kh_between_59 K E 64 a b q s0 h)]
    unfold wp_Kh_between_59
    rw [z_Kh_need]
    simp only [bi_nz]
    refine ⟨by omega, ?_⟩
    by_cases c : ok_btw t a b q
    · have k0 := kk.1 (cd2_t d c)
      rw [if_pos c, sl]
      refine ⟨by omega, z_pair r d (lt d) c (fun p p0 p1 e => ?_) (fun e => ?_)⟩
      · rw [p_50_7 hl sh, l_56 hl sh, w32_id (x := 4 * p) (by omega) (by omega), w32_id (x := 4 * p + q) (by omega) (by omega), e]
        exact ⟨fun _ => ⟨by omega, by omega, k0⟩, fun z => absurd (show p ≠ -1 by omega) z⟩
      · rw [e] at k0
        exact ⟨fun z => absurd rfl z, fun _ => k0⟩
    · rw [if_neg c]
      exact ⟨x, kk.2.1 (cd2_f d c)⟩
  · rw [if_neg d]
    exact ⟨x, kk.2.2 (cd2_d d)⟩
theorem m_between {h : Hp} {t : Ts} {a b q : Int} (sh : Sh h) (r : RT h t) (lt : t 137 0 = 0 → 0 < t 7 0 ∧ t 7 0 ≤ 40) (b7 : r32 (t 7 0 - 1)) {K : Int → Hp → Prop} (kk : MT h t (cd2 t (ok_btw t a b q)) (t 11 (4 * (40 * a + b) + q)) (tset t 0 0 0) K) : wp_Mo_between 1400 a b q h K := by
  unfold wp_Mo_between
  rw [gt_7 r, z_Mo_in, w32_of b7]
  simp only [z_Mo_in, zb (fun s0 => wp_Mo_between_50 K 1400 a b q s0 1400 h), za (fun s0 => wp_Mo_between_50 K 1400 a b q s0 1400 h)]
  unfold wp_Mo_between_50
  refine ⟨by decide, fl2 (ok := ok_btw t a b q) sh r (fun d c h1 r1 s1 f1 => ?_) kk.2⟩
  have l := lt d
  obtain ⟨oa, ob, oq⟩ := c
  have q1 : w32 (w32 (4 * w32 (w32 (40 * a) + b)) + q) = 4 * (40 * a + b) + q := by unfold w32; omega
  rw [q1, tp_11 s1, tl_11 s1, gt_11 r1 (by omega) (by omega), tset_nv (by decide)]
  exact ⟨by decide, by omega, kk.1 (cd2_t d ⟨oa, ob, oq⟩) h1 r1 f1⟩
/-- cards in a space -/
def v_inside (t : Ts) (k : Int) : Int := si (fun c => bi (t 106 c ≠ 0 ∧ 0 ≤ t 111 c ∧ t 6 (t 111 c) = k)) 40
theorem k_inside {H Q L : Int} {h : Hp} {t : Ts} {n k : Int} (r : RC H Q L h t) (x : xr h) (g : Bd n t) {K : Int → Prop} {E : Int → Hp → Prop} (kk : KG h (cd2 t (0 ≤ k ∧ k ≤ t 7 0 - 1)) (v_inside t k) K E) : wp_Kh_inside 64 k h K E := by
  have sh := r.1; have hh := r.2.1.1; have hl := r.2.1.2.2.1; have hk := r.2.1.2.1; have sw := r.2.1.2.2.2.1; have sq := r.2.1.2.2.2.2.2.1; have sl := r.2.1.2.2.2.2.2.2.2.1
  have hH : H = 628 ∨ H = 768 := hh
  have hL : L = 908 ∨ L = 1038 := hl
  unfold wp_Kh_inside
  rw [z_Kh_isUp sh, r.dn]
  by_cases d : t 137 0 = 0
  · rw [if_pos d, z_spaceOf r d]
    by_cases c : 0 ≤ k ∧ k ≤ t 7 0 - 1
    · have k0 := kk.1 (cd2_t d c)
      have lc := (r.2.2.2.2 d).1
      rw [if_pos c, sw, p_20_22 hh sh]
      refine ⟨by omega, ?_⟩
      rintro _ rfl
      rw [l_39 hh sh]
      refine ⟨by omega, ?_⟩
      rintro _ rfl
      unfold wp_Kh_inside_29
      intro P hP
      refine up_ind (P := fun a n => P n a) 40 (fun a n => 0 ≤ a ∧ 0 ≤ n ∧ n ≤ a ∧ n = si (fun c => bi (t 106 c ≠ 0 ∧ 0 ≤ t 111 c ∧ t 6 (t 111 c) = k)) a) (fun a n a5 I next => ?_) (fun n I => ?_) 0 0 (by decide) ⟨by decide, by decide, by decide, rfl⟩
      · obtain ⟨a0, n0, na, e⟩ := I
        have e3 := si_s (f := fun c => bi (t 106 c ≠ 0 ∧ 0 ≤ t 111 c ∧ t 6 (t 111 c) = k)) a0
        have b := b_111 g a0 a5
        have st : ∀ y : Int, y = bi (t 106 a ≠ 0 ∧ 0 ≤ t 111 a ∧ t 6 (t 111 a) = k) → P (w32 (n + y)) (w32 (a + 1)) := by
          intro y ey
          have br := bi_r (t 106 a ≠ 0 ∧ 0 ≤ t 111 a ∧ t 6 (t 111 a) = k)
          rw [w32_id (x := n + y) (by omega) (by omega), w32_id (x := a + 1) (by omega) (by omega)]
          exact next _ ⟨by omega, by omega, by omega, by rw [e3, ← e, ey]⟩
        apply hP
        refine ⟨fun q => absurd q (by omega), fun _ => ?_⟩
        rw [l_39 hh sh, p_39 hh a0 a5 sh]
        refine ⟨by omega, by omega, ?_⟩
        rintro _ rfl
        rw [gc_45_106 r d a0 a5, gc_45_111 r d a0 a5, sl, p_50_2 hl sh, l_52 hl sh]
        refine ⟨by omega, fun q => ?_, fun q => ⟨fun q1 => ?_, fun q1 => ⟨by omega, by omega, by omega, ?_⟩⟩⟩
        · rintro _ rfl
          exact st 0 (bi_f (fun z => z.1 q)).symm
        · rintro _ rfl
          exact st 0 (bi_f (fun z => by omega)).symm
        · obtain ⟨n0, n1⟩ := lc.1.2 (t 111 a) (by omega) (by omega)
          rw [(lc.2.2.1 (t 111 a) (by omega) (by omega)).1]
          refine ⟨fun q2 => ?_, fun q2 => ?_⟩
          · rintro _ rfl
            exact st 1 (bi_t ⟨q, by omega, by omega⟩).symm
          · rintro _ rfl
            exact st 0 (bi_f (fun z => by omega)).symm
      · obtain ⟨a0, n0, na, e⟩ := I
        refine hP _ _ ⟨fun _ => ?_, fun q => absurd q (by omega)⟩
        rw [e]
        exact k0
    · rw [if_neg c]
      exact ⟨x, kk.2.1 (cd2_f d c)⟩
  · rw [if_neg d]
    exact ⟨x, kk.2.2 (cd2_d d)⟩
theorem m_inside {h : Hp} {t : Ts} {n k : Int} (sh : Sh h) (r : RT h t) (g : Bd n t) (b7 : r32 (t 7 0 - 1)) {K : Int → Hp → Prop} (kk : MT h t (cd2 t (0 ≤ k ∧ k ≤ t 7 0 - 1)) (v_inside t k) (tset t 0 0 0) K) : wp_Mo_inside 1400 k h K := by
  unfold wp_Mo_inside
  rw [gt_7 r, z_Mo_in, w32_of b7]
  refine fl2 sh r (fun d c h1 r1 s1 f1 => ?_) kk.2
  have k0 := kk.1 (cd2_t d c) h1 r1 f1
  unfold wp_Mo_inside_27
  intro P hP
  refine up_ind (P := fun a n => P n a) 40 (fun a n => 0 ≤ a ∧ 0 ≤ n ∧ n ≤ a ∧ n = si (fun c => bi (t 106 c ≠ 0 ∧ 0 ≤ t 111 c ∧ t 6 (t 111 c) = k)) a) (fun a n a5 I next => ?_) (fun n I => ?_) 0 0 (by decide) ⟨by decide, by decide, by decide, rfl⟩
  · obtain ⟨a0, n0, na, e⟩ := I
    have e3 := si_s (f := fun c => bi (t 106 c ≠ 0 ∧ 0 ≤ t 111 c ∧ t 6 (t 111 c) = k)) a0
    have b := b_111 g a0 a5
    have st : ∀ y : Int, y = bi (t 106 a ≠ 0 ∧ 0 ≤ t 111 a ∧ t 6 (t 111 a) = k) → P (w32 (n + y)) (w32 (a + 1)) := by
      intro y ey
      have br := bi_r (t 106 a ≠ 0 ∧ 0 ≤ t 111 a ∧ t 6 (t 111 a) = k)
      rw [w32_id (x := n + y) (by omega) (by omega), w32_id (x := a + 1) (by omega) (by omega)]
      exact next _ ⟨by omega, by omega, by omega, by rw [e3, ← e, ey]⟩
    apply hP
    rw [tp_106 s1, tl_106 s1, tp_111 s1, tl_111 s1, tp_6 s1, tl_6 s1, gt_106 r1 a0 a5, gt_111 r1 a0 a5, tset_nv (v := 0) (by decide), tset_nv (v := 0) (by decide)]
    refine ⟨fun q => absurd q (by omega), fun _ => ⟨by decide, by omega, fun q => ?_, fun q => ⟨by decide, by omega, fun q1 => ?_, fun q1 => ⟨by omega, fun q2 => ⟨by omega, by decide, by omega, ?_⟩, fun q2 => absurd (show t 111 a ≥ 0 by omega) q2⟩⟩⟩⟩
    · rintro _ rfl
      exact st 0 (bi_f (fun z => z.1 q)).symm
    · rintro _ rfl
      exact st 0 (bi_f (fun z => by omega)).symm
    · rw [gt_6 r1 (by omega) (by omega), tset_nv (v := 0) (by decide)]
      refine ⟨fun q3 => ?_, fun q3 => ?_⟩
      · rintro _ rfl
        exact st 0 (bi_f (fun z => by omega)).symm
      · rintro _ rfl
        exact st 1 (bi_t ⟨q, by omega, by omega⟩).symm
  · obtain ⟨a0, n0, na, e⟩ := I
    refine hP _ _ ⟨fun _ => ?_, fun q => absurd q (by omega)⟩
    rw [e]
    exact k0
abbrev ok_trend (t : Ts) (i j : Int) : Prop := (0 ≤ i ∧ i ≤ 7) ∧ ¬ (t 75 i = 0) ∧ 0 ≤ j ∧ j ≤ mn (t 78 i) 48 - 1
theorem k_trend {H Q L : Int} {h : Hp} {t : Ts} {n i j : Int} (r : RC H Q L h t) (x : xr h) (g : Bd n t) {K : Int → Prop} {E : Int → Hp → Prop} (kk : KG h (cd2 t (ok_trend t i j)) (t 79 (48 * i + rg (t 78 i) j 48)) K E) : wp_Kh_trend 64 i j h K E := by
  have sh := r.1; have hh := r.2.1.1; have hl := r.2.1.2.2.1; have hk := r.2.1.2.1; have sw := r.2.1.2.2.2.1; have sq := r.2.1.2.2.2.2.2.1; have sl := r.2.1.2.2.2.2.2.2.2.1
  have hH : H = 628 ∨ H = 768 := hh
  unfold wp_Kh_trend
  rw [z_Kh_isUp sh, r.dn]
  by_cases d : t 137 0 = 0
  · rw [if_pos d, z_Kh_isIn]
    have err : ¬ ok_trend t i j → wp_Kh_trend_65 K E 64 i j 0 h := by
      intro c
      unfold wp_Kh_trend_65
      rw [z_Kh_need, if_neg (by decide)]
      exact ⟨x, kk.2.1 (cd2_f d c)⟩
    by_cases c : 0 ≤ i ∧ i ≤ 7
    · have b := b_78 g c.1 (by omega)
      have b5 := b_75 g c.1 (show i < 8 by omega)
      have gn := g.1
      have bm : mn (t 78 i) 48 ≤ t 78 i ∧ mn (t 78 i) 48 ≤ 48 ∧ 0 ≤ mn (t 78 i) 48 := by unfold mn; split <;> omega
      rw [bi_t c, sw, p_20_23 hh sh, l_40 hh sh, p_40 hh c.1 (by omega) sh, gc_46_75 r d c.1 (by omega), gc_46_78 r d c.1 (by omega), z_min1, z_Kh_isIn, w32_id (x := mn (t 78 i) 48 - 1) (by omega) (by omega)]
      refine ⟨fun q => absurd q (by decide), fun _ => ⟨by omega, by omega, by omega, by omega, fun q => err (fun z => z.2.1 q), fun q => ⟨by omega, ?_⟩⟩⟩
      by_cases c2 : 0 ≤ j ∧ j ≤ mn (t 78 i) 48 - 1
      · rw [bi_t c2]
        refine ⟨fun q => absurd q (by decide), fun _ => ?_⟩
        have k0 := kk.1 (cd2_t d ⟨c, q, c2⟩)
        have e : Int.tmod (w32 (w32 (t 78 i - 1) - j)) 48 = (t 78 i - 1 - j) % 48 := by
          rw [w32_id (x := t 78 i - 1) (by omega) (by omega), w32_id (by omega) (by omega), tmod_pos (by omega) (by decide)]
        have lt2 : (t 78 i - 1 - j) % 48 < t 78 i := by
          rcases Int.lt_or_le (t 78 i) 48 with y | y
          · omega
          · omega
        unfold wp_Kh_trend_65
        rw [z_Kh_need, if_pos (by decide), sw, p_20_23 hh sh, l_40 hh sh, p_40 hh c.1 (by omega) sh]
        refine ⟨by omega, by omega, by omega, ?_⟩
        rintro _ rfl
        rw [gc_46_78 r d c.1 (by omega), e, p_46_3 hh c.1 (by omega) sh, l_47 hh c.1 (by omega) sh, gc_47_79 r d c.1 (by omega) (by omega) (by omega) (by omega) lt2]
        exact ⟨by omega, by omega, by omega, k0⟩
      · rw [bi_f c2]
        exact ⟨fun _ => err (fun z => c2 z.2.2), fun q => absurd rfl q⟩
    · rw [bi_f c]
      exact ⟨fun _ => err (fun z => c z.1), fun q => absurd rfl q⟩
  · rw [if_neg d]
    exact ⟨x, kk.2.2 (cd2_d d)⟩
theorem m_trend {h : Hp} {t : Ts} {n i j : Int} (sh : Sh h) (r : RT h t) (g : Bd n t) {K : Int → Hp → Prop} (kk : MT h t (cd2 t (ok_trend t i j)) (t 79 (48 * i + rg (t 78 i) j 48)) (tset t 0 0 0) K) : wp_Mo_trend 1400 i j h K := by
  unfold wp_Mo_trend
  rw [z_Mo_in]
  have all : wp_Mo_trend_43 K 1400 i j (bi (ok_trend t i j)) h := by
    unfold wp_Mo_trend_43
    refine fl2 (ok := ok_trend t i j) sh r (fun d c h1 r1 s1 f1 => ?_) kk.2
    have k0 := kk.1 (cd2_t d c) h1 r1 f1
    have b := b_78 g c.1.1 (by omega)
    have gn := g.1
    have bm : mn (t 78 i) 48 ≤ t 78 i := by unfold mn; split <;> omega
    have e : w32 (w32 (48 * i) + Int.tmod (w32 (w32 (t 78 i - 1) - j)) 48) = 48 * i + (t 78 i - 1 - j) % 48 := by
      rw [w32_id (x := t 78 i - 1) (by omega) (by omega), w32_id (x := t 78 i - 1 - j) (by omega) (by omega), tmod_pos (by omega) (by decide), w32_id (x := 48 * i) (by omega) (by omega), w32_id (by omega) (by omega)]
    rw [tp_78 s1, tl_78 s1, gt_78 r1 c.1.1 (by omega), tset_nv (v := 0) (by decide), e, tp_79 s1, tl_79 s1, gt_79 r1 (by omega) (by omega), tset_nv (v := 0) (by decide)]
    exact ⟨by decide, by omega, by decide, by omega, k0⟩
  by_cases c : 0 ≤ i ∧ i ≤ 7
  · rw [bi_t c, tp_75 sh, tl_75 sh, gt_75 r c.1 (by omega), tp_78 sh, tl_78 sh, gt_78 r c.1 (by omega), z_Mo_isKept]
    refine ⟨fun q => absurd q (by decide), fun _ => ⟨by decide, by omega, fun q => ?_, fun q => ⟨by decide, by omega, ?_⟩⟩⟩
    · rw [bi_f (fun z => z.2.1 q)] at all
      exact all
    · by_cases c2 : 0 ≤ j ∧ j ≤ mn (t 78 i) 48 - 1
      · rw [bi_t c2]
        rw [bi_t ⟨c, q, c2⟩] at all
        exact ⟨fun q => absurd q (by decide), fun _ => all⟩
      · rw [bi_f c2]
        rw [bi_f (fun z => c2 z.2.2)] at all
        exact ⟨fun _ => all, fun q => absurd rfl q⟩
  · rw [bi_f c]
    rw [bi_f (fun z => c z.1)] at all
    exact ⟨fun _ => all, fun q => absurd rfl q⟩
