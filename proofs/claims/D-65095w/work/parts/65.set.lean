/-! SETTERS THAT WRITE NOTHING TO THE DISK -/
def mn (a b : Int) : Int := if b < a then b else a
def mx (a b : Int) : Int := if a < b then b else a
theorem z_min1 (a b : Int) (K : Int → Prop) : wp_Math_min1 a b K = K (mn a b) := by
  unfold wp_Math_min1 mn
  rw [ia]
  by_cases c : a > b
  · rw [if_pos c, if_pos c]
  · rw [if_neg c, if_neg c]
theorem z_max1 (a b : Int) (K : Int → Prop) : wp_Math_max1 a b K = K (mx a b) := by
  unfold wp_Math_max1 mx
  rw [ia]
  by_cases c : a < b
  · rw [if_pos c, if_pos c]
  · rw [if_neg c, if_neg c]
theorem k_wipe {H Q L : Int} {h : Hp} {t : Ts} (r : RC H Q L h t) (x : xr h) {K E : Int → Hp → Prop}
    (kk : t 137 0 = 0 → ∀ h1, RC H Q L h1 (tset t 25 0 0) → frC h h1 → K (t 25 0) h1) (ke : t 137 0 ≠ 0 → E (nx h) (mk h 25 6)) : wp_Kh_wipe 64 h K E := by
  have sh := r.1; have hh := r.2.1.1; have hl := r.2.1.2.2.1; have hk := r.2.1.2.1; have sw := r.2.1.2.2.2.1; have sq := r.2.1.2.2.2.2.2.1; have sl := r.2.1.2.2.2.2.2.2.2.1
  unfold wp_Kh_wipe
  rw [z_Kh_isUp sh, r.dn]
  by_cases d : t 137 0 = 0
  · rw [if_pos d]
    simp (disch := first | assumption | omega) only [ne_eq, not_false_eq_true, true_and, and_true, forall_eq, rd_up_eq, rd_up_ne, ln_up, tset_eq, tset_ne, z_Kh_isIn, z_Kh_need, z_Kh_may, bi_nz, z_Mo_in, p_1_1, p_1_2, p_1_3, p_1_4, p_1_5, p_1_6, p_1_12, p_1_13, gc_80_4 r d, gc_80_25 r d, gc_80_52 r d, gc_80_53 r d, gc_80_54 r d, gc_80_55 r d, gc_80_61 r d, gc_80_62 r d, gc_80_63 r d, gc_80_64 r d, gc_80_65 r d, gc_80_66 r d, gc_80_67 r d, gc_80_68 r d, gc_80_72 r d, gc_80_87 r d, gc_80_112 r d]
    exact ⟨by decide, kk d _ (r.put e_80_25 (by unfold ctl; omega) (by unfold spv; omega)) ((frS.rf h).put (by omega)).fr⟩
  · rw [if_neg d]
    exact ⟨x, ke d⟩
theorem m_wipe {h : Hp} {t : Ts} (sh : Sh h) (r : RT h t) {K : Int → Hp → Prop}
    (kk : t 137 0 = 0 → ∀ h1, RT h1 (tset (tset t 0 0 0) 25 0 0) → frT h h1 → K (t 25 0) h1) (ke : t 137 0 ≠ 0 → ∀ h1, RT h1 (tset t 0 0 1) → frT h h1 → K 0 h1) : wp_Mo_wipe 1400 h K := by
  unfold wp_Mo_wipe
  refine fl1 sh r (fun d h1 r1 s1 f1 => ?_) ke
  simp (disch := first | assumption | omega) only [ne_eq, not_false_eq_true, true_and, and_true, forall_eq, rd_up_eq, rd_up_ne, ln_up, tset_eq, tset_ne, z_Kh_isIn, z_Kh_need, z_Kh_may, bi_nz, z_Mo_in, gt_25 r1]
  exact kk d _ (r1.put t_25) (f1.put t_25)
theorem k_mains {H Q L : Int} {h : Hp} {t : Ts} {y : Int} (r : RC H Q L h t) (x : xr h) (hb : y = 0 ∨ y = 1) {K E : Int → Hp → Prop}
    (kk : t 137 0 = 0 → ∀ h1, RC H Q L h1 (tset t 52 0 y) → frC h h1 → K (t 52 0) h1) (ke : t 137 0 ≠ 0 → E (nx h) (mk h 25 6)) : wp_Kh_mains 64 y h K E := by
  have sh := r.1; have hh := r.2.1.1; have hl := r.2.1.2.2.1; have hk := r.2.1.2.1; have sw := r.2.1.2.2.2.1; have sq := r.2.1.2.2.2.2.2.1; have sl := r.2.1.2.2.2.2.2.2.2.1
  unfold wp_Kh_mains
  rw [z_Kh_isUp sh, r.dn]
  by_cases d : t 137 0 = 0
  · rw [if_pos d]
    simp (disch := first | assumption | omega) only [ne_eq, not_false_eq_true, true_and, and_true, forall_eq, rd_up_eq, rd_up_ne, ln_up, tset_eq, tset_ne, z_Kh_isIn, z_Kh_need, z_Kh_may, bi_nz, z_Mo_in, p_1_1, p_1_2, p_1_3, p_1_4, p_1_5, p_1_6, p_1_12, p_1_13, gc_80_4 r d, gc_80_25 r d, gc_80_52 r d, gc_80_53 r d, gc_80_54 r d, gc_80_55 r d, gc_80_61 r d, gc_80_62 r d, gc_80_63 r d, gc_80_64 r d, gc_80_65 r d, gc_80_66 r d, gc_80_67 r d, gc_80_68 r d, gc_80_72 r d, gc_80_87 r d, gc_80_112 r d]
    exact ⟨by decide, hb, kk d _ (r.put e_80_52 (by unfold ctl; omega) (by unfold spv; omega)) ((frS.rf h).put (by omega)).fr⟩
  · rw [if_neg d]
    exact ⟨x, ke d⟩
theorem m_mains {h : Hp} {t : Ts} {y : Int} (sh : Sh h) (r : RT h t) (hb : y = 0 ∨ y = 1) {K : Int → Hp → Prop}
    (kk : t 137 0 = 0 → ∀ h1, RT h1 (tset (tset t 0 0 0) 52 0 y) → frT h h1 → K (t 52 0) h1) (ke : t 137 0 ≠ 0 → ∀ h1, RT h1 (tset t 0 0 1) → frT h h1 → K 0 h1) : wp_Mo_mains 1400 y h K := by
  unfold wp_Mo_mains
  refine fl1 sh r (fun d h1 r1 s1 f1 => ?_) ke
  simp (disch := first | assumption | omega) only [ne_eq, not_false_eq_true, true_and, and_true, forall_eq, rd_up_eq, rd_up_ne, ln_up, tset_eq, tset_ne, z_Kh_isIn, z_Kh_need, z_Kh_may, bi_nz, z_Mo_in, gt_52 r1]
  exact ⟨hb, kk d _ (r1.put t_52) (f1.put t_52)⟩
theorem k_empty {H Q L : Int} {h : Hp} {t : Ts} (r : RC H Q L h t) (x : xr h) {K E : Int → Hp → Prop}
    (kk : t 137 0 = 0 → ∀ h1, RC H Q L h1 (tset t 143 0 0) → frC h h1 → K (t 143 0) h1) (ke : t 137 0 ≠ 0 → E (nx h) (mk h 25 6)) : wp_Kh_empty 64 h K E := by
  have sh := r.1; have hh := r.2.1.1; have hl := r.2.1.2.2.1; have hk := r.2.1.2.1; have sw := r.2.1.2.2.2.1; have sq := r.2.1.2.2.2.2.2.1; have sl := r.2.1.2.2.2.2.2.2.2.1
  unfold wp_Kh_empty
  rw [z_Kh_isUp sh, r.dn]
  by_cases d : t 137 0 = 0
  · rw [if_pos d]
    simp (disch := first | assumption | omega) only [ne_eq, not_false_eq_true, true_and, and_true, forall_eq, rd_up_eq, rd_up_ne, ln_up, tset_eq, tset_ne, z_Kh_isIn, z_Kh_need, z_Kh_may, bi_nz, z_Mo_in, p_1_1, p_1_2, p_1_3, p_1_4, p_1_5, p_1_6, p_1_12, p_1_13, p_80_0, p_80_1, p_80_2, p_80_3, p_80_4, p_80_5, p_80_6, p_80_7, p_80_8, p_80_20, p_80_22, p_80_23, p_80_24, p_80_25, p_80_26, p_80_28, p_80_30, p_80_31, p_80_32, p_80_36, p_80_37, p_80_38, p_80_41, p_80_42, gc_104_143 r d]
    exact ⟨by decide, by decide, kk d _ (r.put e_104_143 (by unfold ctl; omega) (by unfold spv; omega)) ((frS.rf h).put (by omega)).fr⟩
  · rw [if_neg d]
    exact ⟨x, ke d⟩
theorem m_empty {h : Hp} {t : Ts} (sh : Sh h) (r : RT h t) {K : Int → Hp → Prop}
    (kk : t 137 0 = 0 → ∀ h1, RT h1 (tset (tset t 0 0 0) 143 0 0) → frT h h1 → K (t 143 0) h1) (ke : t 137 0 ≠ 0 → ∀ h1, RT h1 (tset t 0 0 1) → frT h h1 → K 0 h1) : wp_Mo_empty 1400 h K := by
  unfold wp_Mo_empty
  refine fl1 sh r (fun d h1 r1 s1 f1 => ?_) ke
  simp (disch := first | assumption | omega) only [ne_eq, not_false_eq_true, true_and, and_true, forall_eq, rd_up_eq, rd_up_ne, ln_up, tset_eq, tset_ne, z_Kh_isIn, z_Kh_need, z_Kh_may, bi_nz, z_Mo_in, gt_143 r1]
  exact kk d _ (r1.put t_143) (f1.put t_143)
theorem k_fuel {H Q L : Int} {h : Hp} {t : Ts} {n y : Int} (r : RC H Q L h t) (g : Bd n t) (x : xr h) {K E : Int → Hp → Prop}
    (kk : cd2 t (0 ≤ y ∧ y ≤ 1000) = 0 → ∀ h1, RC H Q L h1 (tset t 53 0 (mn 1000 (t 53 0 + y))) → frC h h1 → K (mn 1000 (t 53 0 + y)) h1) (ke : ErrC h (cd2 t (0 ≤ y ∧ y ≤ 1000)) E) : wp_Kh_fuel 64 y h K E := by
  have sh := r.1; have hh := r.2.1.1; have hl := r.2.1.2.2.1; have hk := r.2.1.2.1; have sw := r.2.1.2.2.2.1; have sq := r.2.1.2.2.2.2.2.1; have sl := r.2.1.2.2.2.2.2.2.2.1
  unfold wp_Kh_fuel
  rw [z_Kh_isUp sh, r.dn]
  by_cases d : t 137 0 = 0
  · rw [if_pos d]
    simp only [z_Kh_isIn, z_Kh_need, bi_nz]
    by_cases c : 0 ≤ y ∧ y ≤ 1000
    · have b := b_53 g
      rw [if_pos c]
      simp (disch := first | assumption | omega) only [ne_eq, not_false_eq_true, true_and, and_true, forall_eq, rd_up_eq, rd_up_ne, ln_up, tset_eq, tset_ne, z_Kh_isIn, z_Kh_need, z_Kh_may, bi_nz, z_Mo_in, p_1_1, p_1_2, p_1_3, p_1_4, p_1_5, p_1_6, p_1_12, p_1_13, gc_80_4 r d, gc_80_25 r d, gc_80_52 r d, gc_80_53 r d, gc_80_54 r d, gc_80_55 r d, gc_80_61 r d, gc_80_62 r d, gc_80_63 r d, gc_80_64 r d, gc_80_65 r d, gc_80_66 r d, gc_80_67 r d, gc_80_68 r d, gc_80_72 r d, gc_80_87 r d, gc_80_112 r d, z_min1, w32_id]
      exact ⟨by decide, by decide, kk (cd2_t d c) _ (r.put e_80_53 (by unfold ctl; omega) (by unfold spv; omega)) ((frS.rf h).put (by omega)).fr⟩
    · rw [if_neg c]
      exact ⟨x, ke.1 (cd2_f d c)⟩
  · rw [if_neg d]
    exact ⟨x, ke.2 (cd2_d d)⟩
theorem m_fuel {h : Hp} {t : Ts} {n y : Int} (sh : Sh h) (r : RT h t) (g : Bd n t) {K : Int → Hp → Prop}
    (kk : cd2 t (0 ≤ y ∧ y ≤ 1000) = 0 → ∀ h1, RT h1 (tset (tset t 0 0 0) 53 0 (mn 1000 (t 53 0 + y))) → frT h h1 → K (mn 1000 (t 53 0 + y)) h1) (ke : cd2 t (0 ≤ y ∧ y ≤ 1000) ≠ 0 → ∀ h1, RT h1 (tset t 0 0 (cd2 t (0 ≤ y ∧ y ≤ 1000))) → frT h h1 → K 0 h1) : wp_Mo_fuel 1400 y h K := by
  unfold wp_Mo_fuel
  rw [z_Mo_in]
  refine fl2 sh r (fun d c h1 r1 s1 f1 => ?_) ke
  have b := b_53 g
  simp (disch := first | assumption | omega) only [ne_eq, not_false_eq_true, true_and, and_true, forall_eq, rd_up_eq, rd_up_ne, ln_up, tset_eq, tset_ne, z_Kh_isIn, z_Kh_need, z_Kh_may, bi_nz, z_Mo_in, gt_53 r1, w32_id]
  have k2 := kk (cd2_t d c)
  refine ⟨fun q => ?_, fun q => ?_⟩
  · rw [show mn 1000 (t 53 0 + y) = t 53 0 + y by unfold mn; split <;> omega] at k2
    exact k2 _ (r1.put t_53) (f1.put t_53)
  · rw [show mn 1000 (t 53 0 + y) = 1000 by unfold mn; split <;> omega] at k2
    exact k2 _ (r1.put t_53) (f1.put t_53)
def t_reset (t : Ts) (c : Int) : Ts := if t 59 c = 0 then t else tset (tset t 59 c 0) 58 c 0
theorem k_reset {H Q L : Int} {h : Hp} {t : Ts} {c : Int} (r : RC H Q L h t) (x : xr h) {K E : Int → Hp → Prop}
    (kk : cd2 t (0 ≤ c ∧ c ≤ 10) = 0 → ∀ h1, RC H Q L h1 (t_reset t c) → frC h h1 → K (t 59 c) h1) (ke : ErrC h (cd2 t (0 ≤ c ∧ c ≤ 10)) E) : wp_Kh_reset 64 c h K E := by
  have sh := r.1; have hh := r.2.1.1; have hl := r.2.1.2.2.1; have hk := r.2.1.2.1; have sw := r.2.1.2.2.2.1; have sq := r.2.1.2.2.2.2.2.1; have sl := r.2.1.2.2.2.2.2.2.2.1
  unfold wp_Kh_reset
  rw [z_Kh_isUp sh, r.dn]
  by_cases d : t 137 0 = 0
  · rw [if_pos d]
    simp only [z_Kh_isIn, z_Kh_need, bi_nz]
    by_cases z : 0 ≤ c ∧ c ≤ 10
    · rw [if_pos z]
      simp (disch := first | assumption | omega) only [ne_eq, not_false_eq_true, true_and, and_true, forall_eq, rd_up_eq, rd_up_ne, ln_up, tset_eq, tset_ne, z_Kh_isIn, z_Kh_need, z_Kh_may, bi_nz, z_Mo_in, p_1_1, p_1_2, p_1_3, p_1_4, p_1_5, p_1_6, p_1_12, p_1_13, p_80_0, p_80_1, p_80_2, p_80_3, p_80_4, p_80_5, p_80_6, p_80_7, p_80_8, p_80_20, p_80_22, p_80_23, p_80_24, p_80_25, p_80_26, p_80_28, p_80_30, p_80_31, p_80_32, p_80_36, p_80_37, p_80_38, p_80_41, p_80_42, p_88, l_88, gc_115_56 r d, gc_115_57 r d, gc_115_58 r d, gc_115_59 r d, gc_115_60 r d]
      have k2 := kk (cd2_t d z)
      unfold t_reset at k2
      refine ⟨by decide, by decide, by omega, by omega, fun q => ?_, fun q => ?_⟩
      · rw [if_pos q] at k2
        exact k2 _ r (frS.rf h).fr
      · rw [if_neg q] at k2
        exact k2 _ ((r.put (e_115_59 z.1 (by omega)) (by unfold ctl; omega) (by unfold spv; omega)).put (e_115_58 z.1 (by omega)) (by unfold ctl; omega) (by unfold spv; omega)) (((frS.rf h).put (by omega)).put (by omega)).fr
    · rw [if_neg z]
      exact ⟨x, ke.1 (cd2_f d z)⟩
  · rw [if_neg d]
    exact ⟨x, ke.2 (cd2_d d)⟩
theorem m_reset {h : Hp} {t : Ts} {c : Int} (sh : Sh h) (r : RT h t) {K : Int → Hp → Prop}
    (kk : cd2 t (0 ≤ c ∧ c ≤ 10) = 0 → ∀ h1, RT h1 (t_reset (tset t 0 0 0) c) → frT h h1 → K (on1 (t 59 c)) h1) (ke : cd2 t (0 ≤ c ∧ c ≤ 10) ≠ 0 → ∀ h1, RT h1 (tset t 0 0 (cd2 t (0 ≤ c ∧ c ≤ 10))) → frT h h1 → K 0 h1) : wp_Mo_reset 1400 c h K := by
  unfold wp_Mo_reset
  rw [z_Mo_in]
  refine fl2r sh r (fun d z h1 r1 s1 f1 => ?_) ke
  simp (disch := first | assumption | omega) only [ne_eq, not_false_eq_true, true_and, and_true, forall_eq, rd_up_eq, rd_up_ne, ln_up, tset_eq, tset_ne, z_Kh_isIn, z_Kh_need, z_Kh_may, bi_nz, z_Mo_in, tp_58, tl_58, tp_59, tl_59, gt_59 r1]
  have k2 := kk (cd2_t d z)
  unfold t_reset on1 at k2
  rw [tset_ne (by omega)] at k2
  refine ⟨by decide, by omega, fun q => ⟨by omega, by decide, by omega, ?_⟩, fun q => ?_⟩
  · rw [if_neg q, if_neg q] at k2
    exact k2 _ ((r1.put (t_59 z.1 (by omega))).put (t_58 z.1 (by omega))) ((f1.put (t_59 z.1 (by omega))).put (t_58 z.1 (by omega)))
  · rw [if_pos (by omega), if_pos (by omega)] at k2
    exact k2 _ r1 f1
