/-! MORE OF WHAT IS TOLD -/
def t_weather (t : Ts) (hr y : Int) : Ts × Int := tKeep (wl [slF 4 (hr / 12)]) (tset t 17 hr y)
abbrev ok_weather (hr y : Int) : Prop := (0 ≤ hr ∧ hr ≤ 23) ∧ -400 ≤ y ∧ y ≤ 500
theorem k_weather {H Q L : Int} {h : Hp} {t : Ts} {n hr y : Int} (r : RC H Q L h t) (x : xr h) (g : Bd n t) (gb : frF t ≤ 1 + 20 * n) {K E : Int → Hp → Prop}
    (kk : cd2 t (ok_weather hr y) = 0 → ∀ h1, RC H Q L h1 (t_weather t hr y).1 → frC h h1 → K (kpA (t_weather t hr y) (t 17 hr)) h1) (ke : ErrC h (cd2 t (ok_weather hr y)) E) : wp_Kh_weather 64 hr y h K E := by
  have sh := r.1; have hh := r.2.1.1; have hl := r.2.1.2.2.1; have hk := r.2.1.2.1; have sw := r.2.1.2.2.2.1; have sq := r.2.1.2.2.2.2.2.1; have sl := r.2.1.2.2.2.2.2.2.2.1
  have hH : H = 628 ∨ H = 768 := hh
  unfold wp_Kh_weather
  rw [z_Kh_isUp sh, r.dn, z_Kh_isHour]
  by_cases d : t 137 0 = 0
  · rw [if_pos d]
    by_cases c1 : 0 ≤ hr ∧ hr ≤ 23
    · rw [if_pos c1]
      simp only [z_Kh_isIn, z_Kh_need, bi_nz]
      by_cases c2 : -400 ≤ y ∧ y ≤ 500
      · have c3 : cnt 4 = 2 := by decide
        have s := sl_at (kd := 4) (ix := hr / 12) (by decide) (by omega)
        rw [if_pos c2, sw, p_20_3 hh sh, l_28 hh sh, gc_28_17 r d c1.1 (by omega), tdiv_pos c1.1 (by decide), w32_id (x := hr / 12) (by omega) (by omega)]
        refine ⟨by omega, by omega, by omega, ?_⟩
        rintro _ rfl
        refine ⟨by omega, ?_⟩
        intro h1 e1
        have r1 := r.put (x := y) (e_28_17 (H := H) (Q := Q) c1.1 (by omega)) (by unfold ctl; omega) (by unfold spv; omega)
        rw [← e1] at r1
        have f1 : frS h h1 := by rw [e1]; exact (frS.rf h).put (by omega)
        exact k_kept1 r1 ((tset_nv (by decide)).trans d) (bp_17 g (by omega) (by omega)) (by rw [frF_t (by omega)]; exact gb) (by omega) s.2.1 s.2.2.1 (tld_no (by decide) (by omega)) (fun h2 r2 f2 => kk (cd2_t d ⟨c1, c2⟩) h2 r2 (f1.tr f2).fr)
      · rw [if_neg c2]
        exact ⟨x, ke.1 (cd2_f d (fun z => c2 z.2))⟩
    · rw [if_neg c1]
      exact ⟨x, ke.1 (cd2_f d (fun z => c1 z.1))⟩
  · rw [if_neg d]
    exact ⟨x, ke.2 (cd2_d d)⟩
theorem m_weather {h : Hp} {t : Ts} {n hr y : Int} (sh : Sh h) (r : RT h t) (g : Bd n t) (gb : frF t ≤ 1 + 20 * n) {K : Int → Hp → Prop}
    (k : MT h t (cd2 t (ok_weather hr y)) (kpA (t_weather (tset t 0 0 0) hr y) (t 17 hr)) (t_weather (tset t 0 0 0) hr y).1 K) : wp_Mo_weather 1400 hr y h K := by
  unfold wp_Mo_weather
  simp only [z_Mo_in, zb (fun s0 => wp_Mo_weather_32 K 1400 hr y s0 1400 h), za (fun s0 => wp_Mo_weather_32 K 1400 hr y s0 1400 h)]
  unfold wp_Mo_weather_32
  refine ⟨by decide, fl2 (ok := ok_weather hr y) sh r (fun d c h1 r1 s1 f1 => ?_) k.2⟩
  have k0 := k.1 (cd2_t d c)
  obtain ⟨c1, c2⟩ := c
  have c3 : cnt 4 = 2 := by decide
  have s := sl_at (kd := 4) (ix := hr / 12) (by decide) (by omega)
  rw [tp_17 s1, tl_17 s1, gt_17 r1 c1.1 (by omega), tset_nv (v := 0) (by decide), tdiv_pos c1.1 (by decide), w32_id (x := hr / 12) (by omega) (by omega)]
  refine ⟨by decide, by omega, ?_⟩
  rintro _ rfl
  refine ⟨by omega, ?_⟩
  intro h2 e2
  have r2 := r1.put (x := y) (t_17 c1.1 (by omega))
  rw [← e2] at r2
  have f2 : frT h h2 := by rw [e2]; exact f1.put (t_17 c1.1 (by omega))
  have g2 : Bd n (tset (tset t 0 0 0) 17 hr y) := bp_17 (g.pun (by unfold bdv; omega)) (by omega) (by omega)
  refine m_writeOne (f2.sh sh) r2 ((tset_nv (by decide)).trans ((tset_nv (by decide)).trans d)) g2 (by rw [frF_t (by omega), frF_t (by omega)]; exact gb) (by omega) (by omega) s.2.1 s.2.2.1 (fun h3 r3 f3 => ?_)
  have k3 := k0 h3 r3 (f2.tr f3)
  unfold kpA t_weather at k3
  refine ⟨fun z => ?_, fun z => ?_⟩
  · rw [if_pos z] at k3; exact k3
  · rw [if_neg z] at k3; exact k3
def t_sun (t : Ts) (sd hr y : Int) : Ts × Int := tKeep (wl [slF 5 sd]) (tset t 18 (24 * sd + hr) y)
abbrev ok_sun (sd hr y : Int) : Prop := (0 ≤ sd ∧ sd ≤ 3) ∧ (0 ≤ hr ∧ hr ≤ 23) ∧ 0 ≤ y ∧ y ≤ 200
theorem k_sun {H Q L : Int} {h : Hp} {t : Ts} {n sd hr y : Int} (r : RC H Q L h t) (x : xr h) (g : Bd n t) (gb : frF t ≤ 1 + 20 * n) {K E : Int → Hp → Prop}
    (kk : cd2 t (ok_sun sd hr y) = 0 → ∀ h1, RC H Q L h1 (t_sun t sd hr y).1 → frC h h1 → K (kpA (t_sun t sd hr y) (t 18 (24 * sd + hr))) h1) (ke : ErrC h (cd2 t (ok_sun sd hr y)) E) : wp_Kh_sun 64 sd hr y h K E := by
  have sh := r.1; have hh := r.2.1.1; have hl := r.2.1.2.2.1; have hk := r.2.1.2.1; have sw := r.2.1.2.2.2.1; have sq := r.2.1.2.2.2.2.2.1; have sl := r.2.1.2.2.2.2.2.2.2.1
  have hH : H = 628 ∨ H = 768 := hh
  unfold wp_Kh_sun
  rw [z_Kh_isUp sh, r.dn]
  by_cases d : t 137 0 = 0
  · rw [if_pos d]
    simp only [z_Kh_isIn, z_Kh_need, bi_nz, z_Kh_isHour]
    by_cases c0 : 0 ≤ sd ∧ sd ≤ 3
    · rw [if_pos c0]
      by_cases c1 : 0 ≤ hr ∧ hr ≤ 23
      · rw [if_pos c1]
        by_cases c2 : 0 ≤ y ∧ y ≤ 200
        · have c3 : cnt 5 = 4 := by decide
          have s := sl_at (kd := 5) (ix := sd) (by decide) (by omega)
          rw [if_pos c2, sw, p_20_4 hh sh, l_29 hh sh, p_29 hh c0.1 (by omega) sh, l_30 hh c0.1 (by omega) sh, gc_30_18 r d c0.1 (by omega) c1.1 (by omega)]
          refine ⟨by omega, by omega, by omega, by omega, by omega, ?_⟩
          rintro _ rfl
          refine ⟨by omega, by omega, ?_⟩
          intro h1 e1
          have r1 := r.put (x := y) (e_30_18 (H := H) (Q := Q) c0.1 (by omega) c1.1 (by omega)) (by unfold ctl; omega) (by unfold spv; omega)
          rw [← e1] at r1
          have f1 : frS h h1 := by rw [e1]; exact (frS.rf h).put (by omega)
          exact k_kept1 r1 ((tset_nv (by decide)).trans d) (bp_18 g (by omega) (by omega)) (by rw [frF_t (by omega)]; exact gb) (by omega) s.2.1 s.2.2.1 (tld_no (by decide) (by omega)) (fun h2 r2 f2 => kk (cd2_t d ⟨c0, c1, c2⟩) h2 r2 (f1.tr f2).fr)
        · rw [if_neg c2]
          exact ⟨x, ke.1 (cd2_f d (fun z => c2 z.2.2))⟩
      · rw [if_neg c1]
        exact ⟨x, ke.1 (cd2_f d (fun z => c1 z.2.1))⟩
    · rw [if_neg c0]
      exact ⟨x, ke.1 (cd2_f d (fun z => c0 z.1))⟩
  · rw [if_neg d]
    exact ⟨x, ke.2 (cd2_d d)⟩
theorem m_sun {h : Hp} {t : Ts} {n sd hr y : Int} (sh : Sh h) (r : RT h t) (g : Bd n t) (gb : frF t ≤ 1 + 20 * n) {K : Int → Hp → Prop}
    (k : MT h t (cd2 t (ok_sun sd hr y)) (kpA (t_sun (tset t 0 0 0) sd hr y) (t 18 (24 * sd + hr))) (t_sun (tset t 0 0 0) sd hr y).1 K) : wp_Mo_sun 1400 sd hr y h K := by
  unfold wp_Mo_sun
  simp only [z_Mo_in, zb (fun s0 => wp_Mo_sun_42 K 1400 sd hr y s0 1400 h), za (fun s0 => wp_Mo_sun_42 K 1400 sd hr y s0 1400 h)]
  unfold wp_Mo_sun_42
  refine ⟨by decide, fl2 (ok := ok_sun sd hr y) sh r (fun d c h1 r1 s1 f1 => ?_) k.2⟩
  have k0 := k.1 (cd2_t d c)
  obtain ⟨c0, c1, c2⟩ := c
  have c3 : cnt 5 = 4 := by decide
  have s := sl_at (kd := 5) (ix := sd) (by decide) (by omega)
  have q : w32 (w32 (24 * sd) + hr) = 24 * sd + hr := by unfold w32; omega
  rw [q, tp_18 s1, tl_18 s1, gt_18 r1 (by omega) (by omega), tset_nv (v := 0) (by decide)]
  refine ⟨by decide, by omega, ?_⟩
  rintro _ rfl
  refine ⟨by omega, ?_⟩
  intro h2 e2
  have r2 := r1.put (x := y) (t_18 (i := 24 * sd + hr) (by omega) (by omega))
  rw [← e2] at r2
  have f2 : frT h h2 := by rw [e2]; exact f1.put (t_18 (i := 24 * sd + hr) (by omega) (by omega))
  have g2 : Bd n (tset (tset t 0 0 0) 18 (24 * sd + hr) y) := bp_18 (g.pun (by unfold bdv; omega)) (by omega) (by omega)
  refine m_writeOne (f2.sh sh) r2 ((tset_nv (by decide)).trans ((tset_nv (by decide)).trans d)) g2 (by rw [frF_t (by omega), frF_t (by omega)]; exact gb) c0.1 (by omega) s.2.1 s.2.2.1 (fun h3 r3 f3 => ?_)
  have k3 := k0 h3 r3 (f2.tr f3)
  unfold kpA t_sun at k3
  refine ⟨fun z => ?_, fun z => ?_⟩
  · rw [if_pos z] at k3; exact k3
  · rw [if_neg z] at k3; exact k3
def t_life (t : Ts) (p y : Int) : Ts × Int := tKeep (wl [slF 11 p]) (tset t 23 p y)
abbrev ok_life (p y : Int) : Prop := (0 ≤ p ∧ p ≤ 2) ∧ 1 ≤ y ∧ y ≤ 100000
theorem k_life {H Q L : Int} {h : Hp} {t : Ts} {n p y : Int} (r : RC H Q L h t) (x : xr h) (g : Bd n t) (gb : frF t ≤ 1 + 20 * n) {K E : Int → Hp → Prop}
    (kk : cd2 t (ok_life p y) = 0 → ∀ h1, RC H Q L h1 (t_life t p y).1 → frC h h1 → K (kpA (t_life t p y) (t 23 p)) h1) (ke : ErrC h (cd2 t (ok_life p y)) E) : wp_Kh_life 64 p y h K E := by
  have sh := r.1; have hh := r.2.1.1; have hl := r.2.1.2.2.1; have hk := r.2.1.2.1; have sw := r.2.1.2.2.2.1; have sq := r.2.1.2.2.2.2.2.1; have sl := r.2.1.2.2.2.2.2.2.2.1
  have hH : H = 628 ∨ H = 768 := hh
  unfold wp_Kh_life
  rw [z_Kh_isUp sh, r.dn, z_partOf r]
  simp only [z_Kh_isIn, z_Kh_need, bi_nz]
  by_cases d : t 137 0 = 0
  · rw [if_pos d]
    by_cases c1 : 0 ≤ p ∧ p ≤ 2
    · rw [if_pos c1]
      by_cases c2 : 1 ≤ y ∧ y ≤ 100000
      · have c3 : cnt 11 = 3 := by decide
        have s := sl_at (kd := 11) (ix := p) (by decide) (by omega)
        rw [if_pos c2, gc_43_23 r d c1.1 (by omega)]
        refine ⟨by omega, ?_⟩
        rintro _ rfl
        intro h1 e1
        have r1 := r.put (x := y) (e_43_23 (H := H) (Q := Q) c1.1 (by omega)) (by unfold ctl; omega) (by unfold spv; omega)
        rw [← e1] at r1
        have f1 : frS h h1 := by rw [e1]; exact (frS.rf h).put (by omega)
        exact k_kept1 r1 ((tset_nv (by decide)).trans d) (bp_23 g (by omega) (by omega)) (by rw [frF_t (by omega)]; exact gb) (by omega) s.2.1 s.2.2.1 (tld_no (by decide) (by omega)) (fun h2 r2 f2 => kk (cd2_t d ⟨c1, c2⟩) h2 r2 (f1.tr f2).fr)
      · rw [if_neg c2]
        exact ⟨x, ke.1 (cd2_f d (fun z => c2 z.2))⟩
    · rw [if_neg c1]
      exact ⟨x, ke.1 (cd2_f d (fun z => c1 z.1))⟩
  · rw [if_neg d]
    exact ⟨x, ke.2 (cd2_d d)⟩
theorem m_life {h : Hp} {t : Ts} {n p y : Int} (sh : Sh h) (r : RT h t) (g : Bd n t) (gb : frF t ≤ 1 + 20 * n) {K : Int → Hp → Prop}
    (k : MT h t (cd2 t (ok_life p y)) (kpA (t_life (tset t 0 0 0) p y) (t 23 p)) (t_life (tset t 0 0 0) p y).1 K) : wp_Mo_life 1400 p y h K := by
  unfold wp_Mo_life
  simp only [z_Mo_in, zb (fun s0 => wp_Mo_life_30 K 1400 p y s0 1400 h), za (fun s0 => wp_Mo_life_30 K 1400 p y s0 1400 h)]
  unfold wp_Mo_life_30
  refine ⟨by decide, fl2 (ok := ok_life p y) sh r (fun d c h1 r1 s1 f1 => ?_) k.2⟩
  have k0 := k.1 (cd2_t d c)
  obtain ⟨c1, c2⟩ := c
  have c3 : cnt 11 = 3 := by decide
  have s := sl_at (kd := 11) (ix := p) (by decide) (by omega)
  rw [tp_23 s1, tl_23 s1, gt_23 r1 c1.1 (by omega), tset_nv (v := 0) (by decide)]
  refine ⟨by decide, by omega, ?_⟩
  rintro _ rfl
  refine ⟨by omega, ?_⟩
  intro h2 e2
  have r2 := r1.put (x := y) (t_23 c1.1 (by omega))
  rw [← e2] at r2
  have f2 : frT h h2 := by rw [e2]; exact f1.put (t_23 c1.1 (by omega))
  have g2 : Bd n (tset (tset t 0 0 0) 23 p y) := bp_23 (g.pun (by unfold bdv; omega)) (by omega) (by omega)
  refine m_writeOne (f2.sh sh) r2 ((tset_nv (by decide)).trans ((tset_nv (by decide)).trans d)) g2 (by rw [frF_t (by omega), frF_t (by omega)]; exact gb) (by omega) (by omega) s.2.1 s.2.2.1 (fun h3 r3 f3 => ?_)
  have k3 := k0 h3 r3 (f2.tr f3)
  unfold kpA t_life at k3
  refine ⟨fun z => ?_, fun z => ?_⟩
  · rw [if_pos z] at k3; exact k3
  · rw [if_neg z] at k3; exact k3
def t_rate (t : Ts) (c y z : Int) : Ts × Int := tKeep (wl [slF 7 0, slF 7 1]) (tset (tset t 19 c y) 20 c z)
abbrev ok_rate (c y z : Int) : Prop := (0 ≤ c ∧ c ≤ 10) ∧ (1 ≤ y ∧ y ≤ 500) ∧ 0 ≤ z ∧ z ≤ 9
theorem k_rate {H Q L : Int} {h : Hp} {t : Ts} {n c y z : Int} (r : RC H Q L h t) (x : xr h) (g : Bd n t) (gb : frF t ≤ 1 + 20 * n) {K E : Int → Hp → Prop}
    (kk : cd2 t (ok_rate c y z) = 0 → ∀ h1, RC H Q L h1 (t_rate t c y z).1 → frC h h1 → K (kpA (t_rate t c y z) (t 19 c)) h1) (ke : ErrC h (cd2 t (ok_rate c y z)) E) : wp_Kh_rate 64 c y z h K E := by
  have sh := r.1; have hh := r.2.1.1; have hl := r.2.1.2.2.1; have hk := r.2.1.2.1; have sw := r.2.1.2.2.2.1; have sq := r.2.1.2.2.2.2.2.1; have sl := r.2.1.2.2.2.2.2.2.2.1
  have hH : H = 628 ∨ H = 768 := hh
  unfold wp_Kh_rate
  rw [z_Kh_isUp sh, r.dn]
  by_cases d : t 137 0 = 0
  · rw [if_pos d]
    simp only [z_Kh_isIn, zb (fun s0 => wp_Kh_rate_45 K E 64 c y z s0 h), za (fun s0 => wp_Kh_rate_45 K E 64 c y z s0 h)]
    unfold wp_Kh_rate_45
    rw [z_Kh_need]
    simp only [bi_nz]
    by_cases o : ok_rate c y z
    · obtain ⟨c0, c1, c2⟩ := o
      rw [if_pos ⟨c0, c1, c2⟩, sw, p_20_7 hh sh, l_32 hh sh, gc_32_19 r d c0.1 (by omega)]
      refine ⟨by omega, by omega, by omega, ?_⟩
      rintro _ rfl
      refine ⟨by omega, ?_⟩
      intro h1 e1
      have r1 := r.put (x := y) (e_32_19 (H := H) (Q := Q) c0.1 (by omega)) (by unfold ctl; omega) (by unfold spv; omega)
      rw [← e1] at r1
      have f1 : frS h h1 := by rw [e1]; exact (frS.rf h).put (by omega)
      rw [r1.2.1.2.2.2.1, p_20_8 hh r1.1, l_33 hh r1.1]
      refine ⟨by omega, by omega, by omega, ?_⟩
      intro h2 e2
      have r2 := r1.put (x := z) (e_33_20 (H := H) (Q := Q) c0.1 (by omega)) (by unfold ctl; omega) (by unfold spv; omega)
      rw [← e2] at r2
      have f2 : frS h h2 := by rw [e2]; exact f1.put (by omega)
      exact k_kept2 r2 ((tset_nv (by decide)).trans ((tset_nv (by decide)).trans d)) (bp_20 (bp_19 g (by omega) (by omega)) (by omega) (by omega)) (by rw [frF_t (by omega), frF_t (by omega)]; exact gb) (by decide) (by decide) (by decide) (by decide) (by decide) (tld_no (by decide) (by decide)) (tld_no (by decide) (by decide)) (fun h3 r3 f3 => kk (cd2_t d ⟨c0, c1, c2⟩) h3 r3 (f2.tr f3).fr)
    · rw [if_neg o]
      exact ⟨x, ke.1 (cd2_f d o)⟩
  · rw [if_neg d]
    exact ⟨x, ke.2 (cd2_d d)⟩
theorem m_rate {h : Hp} {t : Ts} {n c y z : Int} (sh : Sh h) (r : RT h t) (g : Bd n t) (gb : frF t ≤ 1 + 20 * n) {K : Int → Hp → Prop}
    (k : MT h t (cd2 t (ok_rate c y z)) (kpA (t_rate (tset t 0 0 0) c y z) (t 19 c)) (t_rate (tset t 0 0 0) c y z).1 K) : wp_Mo_rate 1400 c y z h K := by
  unfold wp_Mo_rate
  simp only [z_Mo_in, zb (fun s0 => wp_Mo_rate_42 K 1400 c y z s0 1400 h), za (fun s0 => wp_Mo_rate_42 K 1400 c y z s0 1400 h)]
  unfold wp_Mo_rate_42
  refine ⟨by decide, fl2 (ok := ok_rate c y z) sh r (fun d o h1 r1 s1 f1 => ?_) k.2⟩
  have k0 := k.1 (cd2_t d o)
  obtain ⟨c0, c1, c2⟩ := o
  rw [tp_19 s1, tl_19 s1, gt_19 r1 c0.1 (by omega), tset_nv (v := 0) (by decide)]
  refine ⟨by decide, by omega, ?_⟩
  rintro _ rfl
  refine ⟨by omega, ?_⟩
  intro h2 e2
  have r2 := r1.put (x := y) (t_19 c0.1 (by omega))
  rw [← e2] at r2
  have f2 : frT h h2 := by rw [e2]; exact f1.put (t_19 c0.1 (by omega))
  have s2 := f2.sh sh
  rw [tp_20 s2, tl_20 s2]
  refine ⟨by decide, by omega, ?_⟩
  intro h4 e4
  have r4 := r2.put (x := z) (t_20 c0.1 (by omega))
  rw [← e4] at r4
  have f4 : frT h h4 := by rw [e4]; exact f2.put (t_20 c0.1 (by omega))
  have g4 : Bd n (tset (tset (tset t 0 0 0) 19 c y) 20 c z) := bp_20 (bp_19 (g.pun (by unfold bdv; omega)) (by omega) (by omega)) (by omega) (by omega)
  refine m_writeTwo (f4.sh sh) r4 ((tset_nv (by decide)).trans ((tset_nv (by decide)).trans ((tset_nv (by decide)).trans d))) g4 (by rw [frF_t (by omega), frF_t (by omega), frF_t (by omega)]; exact gb) (by decide) (by decide) (by decide) (by decide) (by decide) (by decide) (by decide) (fun h3 r3 f3 => ?_)
  have k3 := k0 h3 r3 (f4.tr f3)
  unfold kpA t_rate at k3
  refine ⟨fun q => ?_, fun q => ?_⟩
  · rw [if_pos q] at k3; exact k3
  · rw [if_neg q] at k3; exact k3
def t_pay (t : Ts) (f y : Int) : Ts × Int := tKeep (wl [slF 8 f, slF 9 0]) (tset (tset t 120 f (w64 (t 120 f + y))) 122 0 (w64 (t 122 0 + y)))
abbrev ok_pay (f y : Int) : Prop := (0 ≤ f ∧ f ≤ 9) ∧ 1 ≤ y ∧ y ≤ 100000000
theorem k_pay {H Q L : Int} {h : Hp} {t : Ts} {n f y : Int} (r : RC H Q L h t) (x : xr h) (g : Bd n t) (gb : frF t ≤ 1 + 20 * n) {K E : Int → Hp → Prop}
    (kk : cd2 t (ok_pay f y) = 0 → ∀ h1, RC H Q L h1 (t_pay t f y).1 → frC h h1 → K (kpA (t_pay t f y) 0) h1) (ke : ErrC h (cd2 t (ok_pay f y)) E) : wp_Kh_pay 64 f y h K E := by
  have sh := r.1; have hh := r.2.1.1; have hl := r.2.1.2.2.1; have hk := r.2.1.2.1; have sw := r.2.1.2.2.2.1; have sq := r.2.1.2.2.2.2.2.1; have sl := r.2.1.2.2.2.2.2.2.2.1
  have hH : H = 628 ∨ H = 768 := hh
  unfold wp_Kh_pay
  rw [z_Kh_isUp sh, r.dn, z_Kh_isFlat]
  simp only [z_Kh_isIn, z_Kh_need, bi_nz]
  by_cases d : t 137 0 = 0
  · rw [if_pos d]
    by_cases c0 : 0 ≤ f ∧ f ≤ 9
    · rw [if_pos c0]
      by_cases c1 : 1 ≤ y ∧ y ≤ 100000000
      · have c8 : cnt 8 = 10 := by decide
        have s := sl_at (kd := 8) (ix := f) (by decide) (by omega)
        have s9 := sl_at (kd := 9) (ix := 0) (by decide) (by decide)
        have e8 : bsF 8 = 36 := by decide
        have e9 : bsF 9 = 46 := by decide
        rw [if_pos c1, sw, p_20_9 hh sh, l_34 hh sh, p_34 hh c0.1 (by omega) sh, gc_41_120 r d c0.1 (by omega)]
        refine ⟨by omega, by omega, by omega, by omega, ?_⟩
        intro h1 e1
        have r1 := r.put (x := w64 (t 120 f + y)) (e_41_120 (H := H) (Q := Q) c0.1 (by omega)) (by unfold ctl; omega) (by unfold spv; omega)
        rw [← e1] at r1
        have f1 : frS h h1 := by rw [e1]; exact (frS.rf h).put (by omega)
        have d1 : tset t 120 f (w64 (t 120 f + y)) 137 0 = 0 := (tset_nv (by decide)).trans d
        rw [r1.2.1.2.2.2.1, gc_20_122 r1 d1, tset_nv (show (122 : Int) ≠ 120 by decide)]
        refine ⟨by omega, ?_⟩
        intro h2 e2
        have r2 := r1.put (x := w64 (t 122 0 + y)) (e_20_122 (H := H) (Q := Q)) (by unfold ctl; omega) (by unfold spv; omega)
        rw [← e2] at r2
        have f2 : frS h h2 := by rw [e2]; exact f1.put (by omega)
        exact k_kept2 r2 ((tset_nv (by decide)).trans d1) ((g.pun (by unfold bdv; omega)).pun (by unfold bdv; omega)) (by rw [frF_t (by omega), frF_t (by omega)]; exact gb) (by omega) (by decide) s.2.1 (by omega) s9.2.2.1 (tld_no (by decide) (by omega)) (tld_no (by decide) (by decide)) (fun h3 r3 f3 => kk (cd2_t d ⟨c0, c1⟩) h3 r3 (f2.tr f3).fr)
      · rw [if_neg c1]
        exact ⟨x, ke.1 (cd2_f d (fun z => c1 z.2))⟩
    · rw [if_neg c0]
      exact ⟨x, ke.1 (cd2_f d (fun z => c0 z.1))⟩
  · rw [if_neg d]
    exact ⟨x, ke.2 (cd2_d d)⟩
theorem m_pay {h : Hp} {t : Ts} {n f y : Int} (sh : Sh h) (r : RT h t) (g : Bd n t) (gb : frF t ≤ 1 + 20 * n) {K : Int → Hp → Prop}
    (k : MT h t (cd2 t (ok_pay f y)) (kpA (t_pay (tset t 0 0 0) f y) 0) (t_pay (tset t 0 0 0) f y).1 K) : wp_Mo_pay 1400 f y h K := by
  unfold wp_Mo_pay
  simp only [z_Mo_in, zb (fun s0 => wp_Mo_pay_30 K 1400 f y s0 1400 h), za (fun s0 => wp_Mo_pay_30 K 1400 f y s0 1400 h)]
  unfold wp_Mo_pay_30
  refine ⟨by decide, fl2 (ok := ok_pay f y) sh r (fun d o h1 r1 s1 f1 => ?_) k.2⟩
  have k0 := k.1 (cd2_t d o)
  obtain ⟨c0, c1⟩ := o
  have c8 : cnt 8 = 10 := by decide
  have s := sl_at (kd := 8) (ix := f) (by decide) (by omega)
  have s9 := sl_at (kd := 9) (ix := 0) (by decide) (by decide)
  have e8 : bsF 8 = 36 := by decide
  have e9 : bsF 9 = 46 := by decide
  have g1 : Bd n (tset t 0 0 0) := g.pun (by unfold bdv; omega)
  have gb1 : frF (tset t 0 0 0) ≤ 1 + 20 * n := by rw [frF_t (by omega)]; exact gb
  have d1 : (tset t 0 0 0) 137 0 = 0 := (tset_nv (by decide)).trans d
  generalize tset t 0 0 0 = t1 at *
  rw [tp_120 s1, tl_120 s1, gt_120 r1 c0.1 (by omega)]
  refine ⟨by decide, by omega, by omega, ?_⟩
  intro h2 e2
  have r2 := r1.put (x := w64 (t1 120 f + y)) (t_120 c0.1 (by omega))
  rw [← e2] at r2
  have f2 : frT h h2 := by rw [e2]; exact f1.put (t_120 c0.1 (by omega))
  rw [gt_122 r2, tset_nv (show (122 : Int) ≠ 120 by decide)]
  intro h4 e4
  have r4 := r2.put (x := w64 (t1 122 0 + y)) t_122
  rw [← e4] at r4
  have f4 : frT h h4 := by rw [e4]; exact f2.put t_122
  refine m_writeTwo (f4.sh sh) r4 ((tset_nv (by decide)).trans ((tset_nv (by decide)).trans d1)) ((g1.pun (by unfold bdv; omega)).pun (by unfold bdv; omega)) (by rw [frF_t (by omega), frF_t (by omega)]; exact gb1) c0.1 (by omega) (by decide) (by decide) s.2.1 (by omega) s9.2.2.1 (fun h3 r3 f3 => ?_)
  have k3 := k0 h3 r3 (f4.tr f3)
  unfold kpA t_pay at k3
  refine ⟨fun z => ?_, fun z => ?_⟩
  · rw [if_pos z] at k3; exact k3
  · rw [if_neg z] at k3; exact k3
def t_price (t : Ts) (i y : Int) : Ts × Int := tKeep (wl [slF 10 0]) (if i = 0 then tset t 21 0 y else tset t 22 (i - 1) y)
abbrev ok_price (i y : Int) : Prop := (0 ≤ i ∧ i ≤ 3) ∧ 0 ≤ y ∧ y ≤ (if i = 0 then 20000 else 1000)
theorem k_price {H Q L : Int} {h : Hp} {t : Ts} {n i y : Int} (r : RC H Q L h t) (x : xr h) (g : Bd n t) (gb : frF t ≤ 1 + 20 * n) {K E : Int → Hp → Prop}
    (kk : cd2 t (ok_price i y) = 0 → ∀ h1, RC H Q L h1 (t_price t i y).1 → frC h h1 → K (kpA (t_price t i y) (if i = 0 then t 21 0 else t 22 (i - 1))) h1) (ke : ErrC h (cd2 t (ok_price i y)) E) : wp_Kh_price 64 i y h K E := by
  have sh := r.1; have hh := r.2.1.1; have hl := r.2.1.2.2.1; have hk := r.2.1.2.1; have sw := r.2.1.2.2.2.1; have sq := r.2.1.2.2.2.2.2.1; have sl := r.2.1.2.2.2.2.2.2.2.1
  have hH : H = 628 ∨ H = 768 := hh
  unfold wp_Kh_price
  rw [z_Kh_isUp sh, r.dn]
  by_cases d : t 137 0 = 0
  · rw [if_pos d, z_Kh_isIn]
    have fin : wp_Kh_price_43 K E 64 i y (bi (ok_price i y)) h := by
      unfold wp_Kh_price_43
      rw [z_Kh_need]
      simp only [bi_nz]
      by_cases o : ok_price i y
      · rw [if_pos o, sw]
        have k0 := kk (cd2_t d o)
        obtain ⟨c0, c1⟩ := o
        unfold t_price at k0
        refine ⟨fun q => ?_, fun q => ⟨by omega, ?_⟩⟩
        · rw [if_neg q] at k0 c1
          rw [p_20_18 hh sh, l_35 hh sh, w32_id (x := i - 1) (by omega) (by omega), gc_35_22 r d (by omega) (by omega)]
          refine ⟨by omega, by omega, by omega, ?_⟩
          unfold wp_Kh_price_71
          rw [sw, p_20_18 hh sh, l_35 hh sh, w32_id (x := i - 1) (by omega) (by omega)]
          refine ⟨fun _ => ⟨by omega, by omega, by omega, ?_⟩, fun q2 => absurd q q2⟩
          intro h1 e1
          have r1 := r.put (x := y) (e_35_22 (H := H) (Q := Q) (i := i - 1) (by omega) (by omega)) (by unfold ctl; omega) (by unfold spv; omega)
          rw [← e1] at r1
          have f1 : frS h h1 := by rw [e1]; exact (frS.rf h).put (by omega)
          unfold wp_Kh_price_99
          refine k_kept1 r1 ((tset_nv (by decide)).trans d) (bp_22 g (by omega) (by omega)) (by rw [frF_t (by omega)]; exact gb) (by decide) (by decide) (by decide) (tld_no (by decide) (by decide)) (fun h2 r2 f2 => ?_)
          have k1 := k0 h2 r2 (f1.tr f2).fr
          unfold kpA at k1
          rw [if_neg q] at k1
          exact k1
        · obtain rfl : i = 0 := by omega
          rw [if_pos rfl] at k0 c1
          rw [gc_20_21 r d]
          unfold wp_Kh_price_71
          rw [sw]
          refine ⟨fun q2 => absurd rfl q2, fun _ => ⟨by omega, ?_⟩⟩
          intro h1 e1
          have r1 := r.put (x := y) (e_20_21 (H := H) (Q := Q)) (by unfold ctl; omega) (by unfold spv; omega)
          rw [← e1] at r1
          have f1 : frS h h1 := by rw [e1]; exact (frS.rf h).put (by omega)
          unfold wp_Kh_price_99
          refine k_kept1 r1 ((tset_nv (by decide)).trans d) (bp_21 g (by omega) (by omega)) (by rw [frF_t (by omega)]; exact gb) (by decide) (by decide) (by decide) (tld_no (by decide) (by decide)) (fun h2 r2 f2 => ?_)
          have k1 := k0 h2 r2 (f1.tr f2).fr
          unfold kpA at k1
          rw [if_pos rfl] at k1
          exact k1
      · rw [if_neg o]
        exact ⟨x, ke.1 (cd2_f d o)⟩
    by_cases c : 0 ≤ i ∧ i ≤ 3
    · rw [bi_t c]
      refine ⟨fun q => absurd q (by decide), fun _ => ⟨fun q => ?_, fun q => ?_⟩⟩
      · unfold wp_Kh_price_32
        rw [z_Kh_isIn, zb (fun s0 => wp_Kh_price_43 K E 64 i y s0 h)]
        rw [ebi (show ok_price i y ↔ (0 ≤ y ∧ y ≤ 1000) by unfold ok_price; rw [if_neg q]; omega)] at fin
        exact fin
      · unfold wp_Kh_price_32
        rw [z_Kh_isIn, zb (fun s0 => wp_Kh_price_43 K E 64 i y s0 h)]
        rw [ebi (show ok_price i y ↔ (0 ≤ y ∧ y ≤ 20000) by unfold ok_price; rw [if_pos (show i = 0 by omega)]; omega)] at fin
        exact fin
    · rw [bi_f c]
      rw [bi_f (fun z => c z.1)] at fin
      exact ⟨fun _ => fin, fun q => absurd rfl q⟩
  · rw [if_neg d]
    exact ⟨x, ke.2 (cd2_d d)⟩
theorem m_price {h : Hp} {t : Ts} {n i y : Int} (sh : Sh h) (r : RT h t) (g : Bd n t) (gb : frF t ≤ 1 + 20 * n) {K : Int → Hp → Prop}
    (k : MT h t (cd2 t (ok_price i y)) (kpA (t_price (tset t 0 0 0) i y) (if i = 0 then t 21 0 else t 22 (i - 1))) (t_price (tset t 0 0 0) i y).1 K) : wp_Mo_price 1400 i y h K := by
  unfold wp_Mo_price
  rw [z_Mo_in]
  have fin : wp_Mo_price_40 K 1400 i y (bi (ok_price i y)) 1400 h := by
    unfold wp_Mo_price_40
    refine ⟨by decide, fl2 (ok := ok_price i y) sh r (fun d o h1 r1 s1 f1 => ?_) k.2⟩
    have k0 := k.1 (cd2_t d o)
    obtain ⟨c0, c1⟩ := o
    have g1 : Bd n (tset t 0 0 0) := g.pun (by unfold bdv; omega)
    have gb1 : frF (tset t 0 0 0) ≤ 1 + 20 * n := by rw [frF_t (by omega)]; exact gb
    have d1 : (tset t 0 0 0) 137 0 = 0 := (tset_nv (by decide)).trans d
    have ea : (if i = 0 then t 21 0 else t 22 (i - 1)) = (if i = 0 then (tset t 0 0 0) 21 0 else (tset t 0 0 0) 22 (i - 1)) := by rw [tset_nv (by decide), tset_nv (by decide)]
    rw [ea] at k0
    clear ea
    generalize tset t 0 0 0 = t1 at *
    unfold t_price at k0
    unfold wp_Mo_price_68 wp_Mo_price_90
    refine ⟨fun q => ?_, fun q => ?_⟩
    · rw [if_neg q, if_neg q] at k0
      rw [if_neg q] at c1
      rw [tp_22 s1, tl_22 s1, w32_id (x := i - 1) (by omega) (by omega), gt_22 r1 (by omega) (by omega)]
      refine ⟨by decide, by omega, fun _ => ⟨by decide, by omega, ?_⟩, fun q2 => absurd q q2⟩
      intro h2 e2
      have r2 := r1.put (x := y) (t_22 (i := i - 1) (by omega) (by omega))
      rw [← e2] at r2
      have f2 : frT h h2 := by rw [e2]; exact f1.put (t_22 (i := i - 1) (by omega) (by omega))
      refine m_writeOne (f2.sh sh) r2 ((tset_nv (by decide)).trans d1) (bp_22 g1 (by omega) (by omega)) (by rw [frF_t (by omega)]; exact gb1) (by decide) (by decide) (by decide) (by decide) (fun h3 r3 f3 => ?_)
      have k3 := k0 h3 r3 (f2.tr f3)
      unfold kpA at k3
      refine ⟨fun z => ?_, fun z => ?_⟩
      · rw [if_pos z] at k3; exact k3
      · rw [if_neg z] at k3; exact k3
    · obtain rfl : i = 0 := by omega
      rw [if_pos rfl, if_pos rfl] at k0
      rw [if_pos rfl] at c1
      rw [gt_21 r1]
      refine ⟨fun q2 => absurd rfl q2, fun _ => ?_⟩
      intro h2 e2
      have r2 := r1.put (x := y) t_21
      rw [← e2] at r2
      have f2 : frT h h2 := by rw [e2]; exact f1.put t_21
      refine m_writeOne (f2.sh sh) r2 ((tset_nv (by decide)).trans d1) (bp_21 g1 (by omega) (by omega)) (by rw [frF_t (by omega)]; exact gb1) (by decide) (by decide) (by decide) (by decide) (fun h3 r3 f3 => ?_)
      have k3 := k0 h3 r3 (f2.tr f3)
      unfold kpA at k3
      refine ⟨fun z => ?_, fun z => ?_⟩
      · rw [if_pos z] at k3; exact k3
      · rw [if_neg z] at k3; exact k3
  by_cases c : 0 ≤ i ∧ i ≤ 3
  · rw [bi_t c]
    refine ⟨fun q => absurd q (by decide), fun _ => ⟨fun q => ?_, fun q => ?_⟩⟩
    · unfold wp_Mo_price_29
      rw [z_Mo_in, zb (fun s0 => wp_Mo_price_40 K 1400 i y s0 1400 h)]
      rw [ebi (show ok_price i y ↔ (0 ≤ y ∧ y ≤ 1000) by unfold ok_price; rw [if_neg q]; omega)] at fin
      exact fin
    · unfold wp_Mo_price_29
      rw [z_Mo_in, zb (fun s0 => wp_Mo_price_40 K 1400 i y s0 1400 h)]
      rw [ebi (show ok_price i y ↔ (0 ≤ y ∧ y ≤ 20000) by unfold ok_price; rw [if_pos (show i = 0 by omega)]; omega)] at fin
      exact fin
  · rw [bi_f c]
    rw [bi_f (fun z => c z.1)] at fin
    exact ⟨fun _ => fin, fun q => absurd rfl q⟩
