/-! MORE SETTERS -/
def t_settle (t : Ts) (x k y : Int) : Ts := if 0 ≤ cfA t x k then (if y ≠ 0 then tset t 3 (550 * (4 + x) + cfA t x k) (t 3 (cfA t x k)) else tset (tset t 3 (550 * (4 + x) + cfA t x k) (t 3 (cfA t x k))) 3 (550 * (1 + x) + cfA t x k) (t 3 (cfA t x k))) else t
def v_settle (t : Ts) (x k y : Int) : Int := if 0 ≤ cfA t x k then cfN (t_settle t x k y) x else -1
theorem k_settle123 {H Q L : Int} {h : Hp} {t : Ts} {i : Int} (r : RC H Q L h t) (d : t 137 0 = 0) (i0 : 0 ≤ i) (i1 : i ≤ 2) {K E : Int → Hp → Prop} (kk : K (cfN t i) h) : wp_Kh_settle_123 K E 64 (1343 + 15 * i) h := by
  have sh := r.1; have hh := r.2.1.1; have hl := r.2.1.2.2.1; have hk := r.2.1.2.1; have sw := r.2.1.2.2.2.1; have sq := r.2.1.2.2.2.2.2.1; have sl := r.2.1.2.2.2.2.2.2.2.1
  have hH : H = 628 ∨ H = 768 := hh
  unfold wp_Kh_settle_123
  rw [sw, p_20_0 hh sh]
  refine ⟨by omega, by omega, z_deskconflict r d i0 (by omega) ?_⟩
  have b := cfN_r (t := t) (x := i)
  rw [cfA_N, w32_id (x := -(-cfN t i - 1)) (by omega) (by omega), w32_id (by omega) (by omega), show -(-cfN t i - 1) - 1 = cfN t i by omega]
  exact kk
theorem k_settle {H Q L : Int} {h : Hp} {t : Ts} {n i k y : Int} (r : RC H Q L h t) (g : Bd n t) (x : xr h) {K E : Int → Hp → Prop}
    (kk : cd2 t ((0 ≤ i ∧ i ≤ 2) ∧ ¬ (k < 0)) = 0 → ∀ h1, RC H Q L h1 (t_settle t i k y) → frC h h1 → K (v_settle t i k y) h1) (ke : ErrC h (cd2 t ((0 ≤ i ∧ i ≤ 2) ∧ ¬ (k < 0))) E) : wp_Kh_settle 64 i k y h K E := by
  have sh := r.1; have hh := r.2.1.1; have hl := r.2.1.2.2.1; have hk := r.2.1.2.1; have sw := r.2.1.2.2.2.1; have sq := r.2.1.2.2.2.2.2.1; have sl := r.2.1.2.2.2.2.2.2.2.1
  have hH : H = 628 ∨ H = 768 := hh
  unfold wp_Kh_settle
  rw [z_Kh_isUp sh, r.dn, z_Kh_deskOf sh]
  by_cases d : t 137 0 = 0
  · rw [if_pos d]
    by_cases c : 0 ≤ i ∧ i ≤ 2
    · rw [if_pos c]
      unfold wp_Kh_settle_20
      simp only [z_Kh_need]
      refine ⟨fun q => ?_, fun q => ?_⟩
      · rw [if_neg (by decide)]
        exact ⟨x, ke.1 (cd2_f d (fun z => z.2 q))⟩
      · rw [if_pos (by decide), sw, p_20_0 hh sh]
        refine ⟨by omega, by omega, z_deskconflict r d c.1 (by omega) ?_⟩
        have k2 := kk (cd2_t d ⟨c, q⟩)
        have b := cfA_r (t := t) (x := i) (k := k)
        unfold v_settle at k2
        unfold t_settle at k2
        refine ⟨fun q2 => ?_, fun q2 => ?_⟩
        · simp only [if_pos (show 0 ≤ cfA t i k from q2)] at k2
          generalize cfA t i k = a at *
          have a0 : 0 ≤ a / 110 := by omega
          have a1 : a / 110 < 5 := by omega
          have c0 : 0 ≤ a % 110 := by omega
          have c1 : a % 110 < 110 := by omega
          have b3 := b_3 g (i := a) (by omega) (by omega)
          have E1 : ∀ {v : Int}, up h (1353 + 15 * i + a / 110) (a % 110) v = up h (1353 + 15 * i + a / 110) (a % 110) v := rfl
          rintro _ rfl _ rfl
          rw [tdiv_pos (by omega) (by decide), tmod_pos (by omega) (by decide), w32_id (x := a / 110) (by omega) (by omega)]
          rw [p_107_1 c.1 (by omega) sh, p_111_0 c.1 (by omega) sh, l_112 c.1 (by omega) sh, p_21_0 hh sh, l_22 hh sh, p_22 hh a0 a1 sh, l_23 hh a0 a1 sh, p_112 c.1 (by omega) a0 a1 sh, l_113 c.1 (by omega) a0 a1 sh]
          have e3 : rd h (H + (3 + a / 110)) (a % 110) = t 3 a := (gc_23_3 r d a0 a1 c0 c1).trans (congrArg (t 3) (by omega))
          rw [e3, w8_id (by omega) (by omega)]
          refine ⟨by omega, by omega, by omega, by omega, by omega, by omega, by omega, by omega, by omega, by omega, ?_⟩
          intro h21 e21
          have r21 : RC H Q L h21 (tset t 3 (550 * (4 + i) + a) (t 3 a)) := by
            have w := r.put (x := t 3 a) (e_113_3 (H := H) (Q := Q) c.1 (by omega) a0 a1 c0 c1) (by unfold ctl; omega) (by unfold spv; omega)
            rw [← e21, show 2200 + 110 * (5 * i + a / 110) + a % 110 = 550 * (4 + i) + a by omega] at w
            exact w
          have f21 : frS h h21 := by rw [e21]; exact (frS.rf h).put (by omega)
          have d21 : (tset t 3 (550 * (4 + i) + a) (t 3 a)) 137 0 = 0 := by rw [tset_nv (by decide)]; exact d
          have s21 := r21.1
          have sw21 := r21.2.1.2.2.2.1
          refine ⟨fun q3 => ?_, fun q3 => ?_⟩
          · rw [if_pos q3] at k2
            exact k_settle123 r21 d21 c.1 c.2 (k2 _ r21 f21.fr)
          · rw [if_neg q3] at k2
            rw [p_107_0 c.1 (by omega) s21, p_108_0 c.1 (by omega) s21, l_109 c.1 (by omega) s21, sw21, p_20_0 hh s21, p_21_0 hh s21, l_22 hh s21, p_22 hh a0 a1 s21, l_23 hh a0 a1 s21, p_109 c.1 (by omega) a0 a1 s21, l_110 c.1 (by omega) a0 a1 s21]
            have e4 : rd h21 (H + (3 + a / 110)) (a % 110) = t 3 a := (gc_23_3 r21 d21 a0 a1 c0 c1).trans ((tset_ne (by omega)).trans (congrArg (t 3) (by omega)))
            rw [e4, w8_id (by omega) (by omega)]
            refine ⟨by omega, by omega, by omega, by omega, by omega, by omega, by omega, by omega, by omega, by omega, by omega, ?_⟩
            intro h36 e36
            have r36 : RC H Q L h36 (tset (tset t 3 (550 * (4 + i) + a) (t 3 a)) 3 (550 * (1 + i) + a) (t 3 a)) := by
              have w := r21.put (x := t 3 a) (e_110_3 (H := H) (Q := Q) c.1 (by omega) a0 a1 c0 c1) (by unfold ctl; omega) (by unfold spv; omega)
              rw [← e36, show 550 + 110 * (5 * i + a / 110) + a % 110 = 550 * (1 + i) + a by omega] at w
              exact w
            have f36 : frS h h36 := by rw [e36]; exact f21.put (by omega)
            exact k_settle123 r36 (by rw [tset_nv (by decide)]; exact d21) c.1 c.2 (k2 _ r36 f36.fr)
        · simp only [if_neg (show ¬ 0 ≤ cfA t i k from q2)] at k2
          exact k2 _ r (frS.rf h).fr
    · rw [if_neg c]
      exact ⟨x, ke.1 (cd2_f d (fun z => c z.1))⟩
  · rw [if_neg d]
    exact ⟨x, ke.2 (cd2_d d)⟩
theorem m_settle {h : Hp} {t : Ts} {i k y : Int} (sh : Sh h) (r : RT h t) {K : Int → Hp → Prop}
    (kk : cd2 t ((0 ≤ i ∧ i ≤ 2) ∧ ¬ (k < 0)) = 0 → ∀ h1, RT h1 (t_settle (tset t 0 0 0) i k y) → frT h h1 → K (v_settle (tset t 0 0 0) i k y) h1) (ke : cd2 t ((0 ≤ i ∧ i ≤ 2) ∧ ¬ (k < 0)) ≠ 0 → ∀ h1, RT h1 (tset t 0 0 (cd2 t ((0 ≤ i ∧ i ≤ 2) ∧ ¬ (k < 0)))) → frT h h1 → K 0 h1) : wp_Mo_settle 1400 i k y h K := by
  unfold wp_Mo_settle
  rw [z_Mo_isDesk]
  simp only [zn (fun s => wp_Mo_settle_17 K 1400 i k y s 1400 h), za (fun s => wp_Mo_settle_17 K 1400 i k y s 1400 h)]
  unfold wp_Mo_settle_17 wp_Mo_settle_89
  refine ⟨by decide, fl2 sh r (fun d c h1 r1 s1 f1 => z_conflictAt s1 r1 c.1.1 (by omega) ?_) ke⟩
  have k2 := kk (cd2_t d c)
  generalize tset t 0 0 0 = t1 at *
  have b := cfA_r (t := t1) (x := i) (k := k)
  unfold v_settle at k2
  unfold t_settle at k2
  by_cases z : 0 ≤ cfA t1 i k
  · simp only [if_pos z] at k2
    rw [if_pos z]
    generalize cfA t1 i k = a at *
    have q1 : w32 (w32 (550 * w32 (1 + i)) + a) = 550 * (1 + i) + a := by unfold w32; omega
    have q2 : w32 (w32 (550 * w32 (4 + i)) + a) = 550 * (4 + i) + a := by unfold w32; omega
    rw [q1, q2, tp_3 s1, tl_3 s1, gt_3 r1 (i := a) (by omega) (by omega)]
    refine ⟨fun _ => ⟨by decide, by omega, by omega, ?_⟩, fun q => absurd z q⟩
    intro h15 e15
    have r15 : RT h15 (tset t1 3 (550 * (4 + i) + a) (t1 3 a)) := by rw [e15]; exact r1.put (t_3 (by omega) (by omega))
    have f15 : frT h h15 := by rw [e15]; exact f1.put (t_3 (by omega) (by omega))
    have s15 := f15.sh sh
    refine ⟨fun q3 => ?_, fun q3 => ?_⟩
    · rw [if_pos q3] at k2
      exact z_conflicts s15 r15 c.1.1 (by omega) (k2 _ r15 f15)
    · rw [if_neg q3] at k2
      rw [tp_3 s15, tl_3 s15, gt_3 r15 (i := a) (by omega) (by omega), tset_ne (by omega)]
      refine ⟨by decide, by omega, by omega, ?_⟩
      intro h21 e21
      have r21 : RT h21 (tset (tset t1 3 (550 * (4 + i) + a) (t1 3 a)) 3 (550 * (1 + i) + a) (t1 3 a)) := by rw [e21]; exact r15.put (t_3 (by omega) (by omega))
      have f21 : frT h h21 := by rw [e21]; exact f15.put (t_3 (by omega) (by omega))
      exact z_conflicts (f21.sh sh) r21 c.1.1 (by omega) (k2 _ r21 f21)
  · simp only [if_neg z] at k2
    rw [if_neg z]
    exact ⟨fun q => absurd q (by decide), fun _ => k2 _ r1 f1⟩
theorem k_crash {H Q L : Int} {h : Hp} {t : Ts} {y : Int} (r : RC H Q L h t) (x : xr h) {K : Hp → Prop} {E : Int → Hp → Prop}
    (kk : cd2 t (-1 ≤ y ∧ y ≤ 1000) = 0 → ∀ h1, RC H Q L h1 (tset t 136 0 y) → frC h h1 → K h1) (ke : ErrC h (cd2 t (-1 ≤ y ∧ y ≤ 1000)) E) : wp_Kh_crash 64 y h K E := by
  have sh := r.1; have hh := r.2.1.1; have hl := r.2.1.2.2.1; have hk := r.2.1.2.1; have sw := r.2.1.2.2.2.1; have sq := r.2.1.2.2.2.2.2.1; have sl := r.2.1.2.2.2.2.2.2.2.1
  unfold wp_Kh_crash
  rw [z_Kh_isUp sh, r.dn]
  by_cases d : t 137 0 = 0
  · rw [if_pos d]
    simp only [z_Kh_isIn, z_Kh_need, bi_nz]
    by_cases c : -1 ≤ y ∧ y ≤ 1000
    · rw [if_pos c, p_1_3 sh]
      exact ⟨by decide, fun h7 e => e ▸ kk (cd2_t d c) _ (r.put e_7_136 (by unfold ctl; omega) (by unfold spv; omega)) ((frS.rf h).put (by omega)).fr⟩
    · rw [if_neg c]
      exact ⟨x, ke.1 (cd2_f d c)⟩
  · rw [if_neg d]
    exact ⟨x, ke.2 (cd2_d d)⟩
theorem m_crash {h : Hp} {t : Ts} {y : Int} (sh : Sh h) (r : RT h t) {K : Hp → Prop}
    (kk : cd2 t (-1 ≤ y ∧ y ≤ 1000) = 0 → ∀ h1, RT h1 (tset (tset t 0 0 0) 136 0 y) → frT h h1 → K h1) (ke : cd2 t (-1 ≤ y ∧ y ≤ 1000) ≠ 0 → ∀ h1, RT h1 (tset t 0 0 (cd2 t (-1 ≤ y ∧ y ≤ 1000))) → frT h h1 → K h1) : wp_Mo_crash 1400 y h K := by
  unfold wp_Mo_crash
  rw [z_Mo_in]
  exact fl2r sh r (fun d c h1 r1 s1 f1 h9 e => e ▸ kk (cd2_t d c) _ (r1.put t_136) (f1.put t_136)) ke
def t_ignite (t : Ts) (j : Int) : Ts := if t 44 j ≤ 0 then tset t 44 j 10 else t
theorem k_ignite {H Q L : Int} {h : Hp} {t : Ts} {s c : Int} (r : RC H Q L h t) (x : xr h) {K E : Int → Hp → Prop}
    (kk : cd2 t ((0 ≤ s ∧ s ≤ 4) ∧ 0 ≤ c ∧ c ≤ 47) = 0 → ∀ h1, RC H Q L h1 (t_ignite t (48 * s + c)) → frC h h1 → K (bi (t 44 (48 * s + c) ≤ 0)) h1) (ke : ErrC h (cd2 t ((0 ≤ s ∧ s ≤ 4) ∧ 0 ≤ c ∧ c ≤ 47)) E) : wp_Kh_ignite 64 s c h K E := by
  have sh := r.1; have hh := r.2.1.1; have hl := r.2.1.2.2.1; have hk := r.2.1.2.1; have sw := r.2.1.2.2.2.1; have sq := r.2.1.2.2.2.2.2.1; have sl := r.2.1.2.2.2.2.2.2.2.1
  unfold wp_Kh_ignite
  rw [z_Kh_isUp sh, r.dn, z_Kh_isCell]
  by_cases d : t 137 0 = 0
  · rw [if_pos d]
    by_cases z : (0 ≤ s ∧ s ≤ 4) ∧ 0 ≤ c ∧ c ≤ 47
    · rw [if_pos z]
      have q : w32 (w32 (48 * s) + c) = 48 * s + c := by unfold w32; omega
      rintro _ rfl
      unfold wp_Kh_ignite_33 wp_Kh_ignite_62
      rw [q, p_1_13 sh, p_80_5 sh, l_86 sh, gc_86_44 r d (by omega) (by omega)]
      have k2 := kk (cd2_t d z)
      unfold t_ignite at k2
      refine ⟨by decide, by decide, by omega, fun q1 => ⟨by decide, fun _ => ⟨by decide, by omega, ?_⟩, fun n => absurd rfl n⟩, fun q1 => ⟨by decide, fun n => absurd n (by decide), fun _ => ⟨by decide, by omega, by decide, by omega, ?_⟩⟩⟩
      · rw [if_pos q1, bi_t q1] at k2
        rintro _ rfl
        exact ⟨fun n => absurd rfl n, fun _ => k2 _ (r.put (e_86_44 (by omega) (by omega)) (by unfold ctl; omega) (by unfold spv; omega)) ((frS.rf h).put (by omega)).fr⟩
      · rw [if_neg q1, bi_f q1] at k2
        rintro _ rfl
        refine ⟨fun _ => k2 _ ?_ ((frS.rf h).put (by omega)).fr, fun n => absurd (by decide) n⟩
        have w := r.put (x := t 44 (48 * s + c)) (e_86_44 (H := H) (Q := Q) (i := 48 * s + c) (by omega) (by omega)) (by unfold ctl; omega) (by unfold spv; omega)
        rwa [tset_id rfl] at w
    · rw [if_neg z]
      exact ⟨x, ke.1 (cd2_f d z)⟩
  · rw [if_neg d]
    exact ⟨x, ke.2 (cd2_d d)⟩
theorem m_ignite {h : Hp} {t : Ts} {s c : Int} (sh : Sh h) (r : RT h t) {K : Int → Hp → Prop}
    (kk : cd2 t ((0 ≤ s ∧ s ≤ 4) ∧ 0 ≤ c ∧ c ≤ 47) = 0 → ∀ h1, RT h1 (t_ignite (tset t 0 0 0) (48 * s + c)) → frT h h1 → K (bi (t 44 (48 * s + c) ≤ 0)) h1) (ke : cd2 t ((0 ≤ s ∧ s ≤ 4) ∧ 0 ≤ c ∧ c ≤ 47) ≠ 0 → ∀ h1, RT h1 (tset t 0 0 (cd2 t ((0 ≤ s ∧ s ≤ 4) ∧ 0 ≤ c ∧ c ≤ 47))) → frT h h1 → K 0 h1) : wp_Mo_ignite 1400 s c h K := by
  unfold wp_Mo_ignite
  rw [z_Mo_isCell]
  refine fl2r sh r (fun d z h1 r1 s1 f1 => ?_) ke
  have q : w32 (w32 (48 * s) + c) = 48 * s + c := by unfold w32; omega
  rw [q, tp_44 s1, tl_44 s1, gt_44 r1 (by omega) (by omega), lcmp_le, tset_nv (by decide)]
  have k2 := kk (cd2_t d z)
  unfold t_ignite at k2
  rw [tset_nv (by decide)] at k2
  refine ⟨by decide, by omega, fun q1 => ⟨by omega, ?_⟩, fun q1 => ?_⟩
  · rw [if_pos q1, bi_t q1] at k2
    rintro _ rfl
    exact k2 _ (r1.put (t_44 (by omega) (by omega))) (f1.put (t_44 (by omega) (by omega)))
  · rw [if_neg q1, bi_f q1] at k2
    exact k2 _ r1 f1
