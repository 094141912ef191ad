/-! EDIT; TEXT AND TAPE -/
def tE (t : Ts) (b e st kd : Int) : Nat → Ts × Int
  | 0 => (t, 0)
  | k + 1 => if (tE t b e st kd k).1 3 (b + (e + (k : Int) * st)) ≠ kd ∧ (2 ≤ kd ∨ ¬ gBd (e + (k : Int) * st)) then (tset (tE t b e st kd k).1 3 (b + (e + (k : Int) * st)) kd, (tE t b e st kd k).2 + 1) else tE t b e st kd k
theorem tE_s {t : Ts} {b e st kd k : Int} (k0 : 0 ≤ k) : tE t b e st kd (k + 1).toNat = if (tE t b e st kd k.toNat).1 3 (b + (e + k * st)) ≠ kd ∧ (2 ≤ kd ∨ ¬ gBd (e + k * st)) then (tset (tE t b e st kd k.toNat).1 3 (b + (e + k * st)) kd, (tE t b e st kd k.toNat).2 + 1) else tE t b e st kd k.toNat := by
  have e1 : (k + 1).toNat = k.toNat + 1 := by omega
  have e2 : ((k.toNat : Nat) : Int) = k := by omega
  rw [e1]
  show (if (tE t b e st kd k.toNat).1 3 (b + (e + ((k.toNat : Nat) : Int) * st)) ≠ kd ∧ (2 ≤ kd ∨ ¬ gBd (e + ((k.toNat : Nat) : Int) * st)) then (tset (tE t b e st kd k.toNat).1 3 (b + (e + ((k.toNat : Nat) : Int) * st)) kd, (tE t b e st kd k.toNat).2 + 1) else tE t b e st kd k.toNat) = _
  rw [e2]
theorem tE_u {t : Ts} {b e st kd u j : Int} (n : u ≠ 3) : ∀ k : Nat, (tE t b e st kd k).1 u j = t u j := by
  intro k
  induction k with
  | zero => rfl
  | succ k ih =>
    unfold tE
    split
    · show tset (tE t b e st kd k).1 3 (b + (e + (k : Int) * st)) kd u j = t u j
      rw [tset_nv n, ih]
    · exact ih
abbrev ok_edit (d s e n st kd : Int) : Prop := (0 ≤ d ∧ d ≤ 2) ∧ ((0 ≤ s ∧ s ≤ 4) ∧ 0 ≤ e ∧ e ≤ 109) ∧ (1 ≤ n ∧ n ≤ 110) ∧ (1 ≤ st ∧ st ≤ 110) ∧ (0 ≤ kd ∧ kd ≤ 3) ∧ ¬ (w32 (e + w32 (w32 (n - 1) * st)) ≥ 110)
theorem ok_edit_r {d s e n st kd k : Int} (o : ok_edit d s e n st kd) (k0 : 0 ≤ k) (k1 : k < n) : w32 (k * st) = k * st ∧ w32 (e + k * st) = e + k * st ∧ 0 ≤ e + k * st ∧ e + k * st < 110 := by
  obtain ⟨o1, o2, o3, o4, o5, o6⟩ := o
  have a1 : (n - 1) * st ≤ 109 * 110 := Int.mul_le_mul (by omega) o4.2 (by omega) (by omega)
  have a0 : 0 ≤ (n - 1) * st := Int.mul_nonneg (by omega) (by omega)
  have a2 : k * st ≤ (n - 1) * st := Int.mul_le_mul_of_nonneg_right (by omega) (by omega)
  have a3 : 0 ≤ k * st := Int.mul_nonneg k0 (by omega)
  rw [w32_id (x := n - 1) (by omega) (by omega)] at o6
  generalize (n - 1) * st = y at *
  generalize k * st = z at *
  rw [w32_id (x := y) (by omega) (by omega), w32_id (x := e + y) (by omega) (by omega)] at o6
  rw [w32_id (x := z) (by omega) (by omega), w32_id (x := e + z) (by omega) (by omega)]
  omega
theorem k_edit {H Q L : Int} {h : Hp} {t : Ts} {n m i s e st kd : Int} (r : RC H Q L h t) (x : xr h) {K E : Int → Hp → Prop}
    (kk : cd2 t (ok_edit i s e m st kd) = 0 → ∀ h1, RC H Q L h1 (tE t (550 * (1 + i) + 110 * s) e st kd m.toNat).1 → frC h h1 → K (tE t (550 * (1 + i) + 110 * s) e st kd m.toNat).2 h1) (ke : ErrC h (cd2 t (ok_edit i s e m st kd)) E) : wp_Kh_edit 64 i s e m st kd h K E := by
  have sh := r.1; have hh := r.2.1.1; have hl := r.2.1.2.2.1; have hk := r.2.1.2.1; have sw := r.2.1.2.2.2.1; have sq := r.2.1.2.2.2.2.2.1; have sl := r.2.1.2.2.2.2.2.2.2.1
  unfold wp_Kh_edit
  rw [z_Kh_isUp sh, r.dn, z_Kh_deskOf sh, z_Kh_isStorey]
  by_cases d : t 137 0 = 0
  · rw [if_pos d]
    by_cases c : 0 ≤ i ∧ i ≤ 2
    · rw [if_pos c]
      by_cases c1 : 0 ≤ s ∧ s ≤ 4
      · rw [if_pos c1]
        simp only [z_Kh_isIn, zn (fun s0 => wp_Kh_edit_85 K E s e m st kd (1343 + 15 * i) s0 h), za (fun s0 => wp_Kh_edit_85 K E s e m st kd (1343 + 15 * i) s0 h)]
        unfold wp_Kh_edit_85
        rw [z_Kh_need]
        simp only [bi_nz]
        by_cases c2 : (0 ≤ e ∧ e ≤ 109) ∧ (1 ≤ m ∧ m ≤ 110) ∧ (1 ≤ st ∧ st ≤ 110) ∧ (0 ≤ kd ∧ kd ≤ 3) ∧ ¬ (w32 (e + w32 (w32 (m - 1) * st)) ≥ 110)
        · have o : ok_edit i s e m st kd := ⟨c, ⟨c1, c2.1⟩, c2.2⟩
          rw [if_pos c2, p_107_0 c.1 (by omega) sh, p_108_0 c.1 (by omega) sh, l_109 c.1 (by omega) sh, p_109 c.1 (by omega) c1.1 (by omega) sh]
          refine ⟨by omega, by omega, by omega, by omega, ?_⟩
          rintro _ rfl
          unfold wp_Kh_edit_106
          intro P hP
          refine up_ind (P := fun y (p : Int × Hp) => P p.1 y p.2) m (fun k p => 0 ≤ k ∧ p.1 = (tE t (550 * (1 + i) + 110 * s) e st kd k.toNat).2 ∧ RC H Q L p.2 (tE t (550 * (1 + i) + 110 * s) e st kd k.toNat).1 ∧ frS h p.2 ∧ 0 ≤ p.1 ∧ p.1 ≤ k) (fun k p k1 I next => ?_) (fun p I => ?_) 0 (0, h) (by omega) ⟨by decide, rfl, r, frS.rf h, Int.le_refl 0, Int.le_refl 0⟩
          · obtain ⟨n', h'⟩ := p
            obtain ⟨k0, en, r', f', n0, nk⟩ := I
            simp only at en r' f' n0 nk ⊢
            obtain ⟨z1, z2, z3, z4⟩ := ok_edit_r o k0 k1
            have sh' := r'.1
            have d' : (tE t (550 * (1 + i) + 110 * s) e st kd k.toNat).1 137 0 = 0 := by rw [tE_u (by decide)]; exact d
            have g' : rd h' (1346 + 15 * i + s) (e + k * st) = (tE t (550 * (1 + i) + 110 * s) e st kd k.toNat).1 3 (550 * (1 + i) + 110 * s + (e + k * st)) := (gc_110_3 r' d' c.1 (by omega) c1.1 (by omega) z3 z4).trans (congrArg ((tE t (550 * (1 + i) + 110 * s) e st kd k.toNat).1 3) (by omega))
            have ts := tE_s (t := t) (b := 550 * (1 + i) + 110 * s) (e := e) (st := st) (kd := kd) k0
            have wr : ∀ h2, h2 = up h' (1346 + 15 * i + s) (e + k * st) (w8 (w8 kd)) → RC H Q L h2 (tset (tE t (550 * (1 + i) + 110 * s) e st kd k.toNat).1 3 (550 * (1 + i) + 110 * s + (e + k * st)) kd) ∧ frS h h2 := by
              intro h2 e2
              rw [w8_id (x := kd) (by omega) (by omega), w8_id (by omega) (by omega)] at e2
              have w := r'.put (x := kd) (e_110_3 (H := H) (Q := Q) c.1 (by omega) c1.1 (by omega) z3 z4) (by unfold ctl; omega) (by unfold spv; omega)
              rw [show 550 + 110 * (5 * i + s) + (e + k * st) = 550 * (1 + i) + 110 * s + (e + k * st) by omega, ← e2] at w
              exact ⟨w, by rw [e2]; exact f'.put (by omega)⟩
            apply hP
            refine ⟨fun q => absurd q (by omega), fun _ => ?_⟩
            rintro _ rfl
            rw [z1, z2, l_110 c.1 (by omega) c1.1 (by omega) sh', g']
            refine ⟨by omega, by omega, fun q => ?_, fun q => ?_⟩
            · rintro _ rfl
              rw [w32_id (by omega) (by omega)]
              rw [if_neg (fun z => z.1 q)] at ts
              exact next (n', h') ⟨by omega, by rw [ts]; exact en, by rw [ts]; exact r', f', n0, by omega⟩
            · have go : (2 ≤ kd ∨ ¬ gBd (e + k * st)) → wp_Kh_edit_146 P K E e m st kd (1346 + 15 * i + s) n' k (e + k * st) h' := by
                intro b
                unfold wp_Kh_edit_146
                rw [l_110 c.1 (by omega) c1.1 (by omega) sh']
                refine ⟨by omega, by omega, fun h2 e2 => ?_⟩
                obtain ⟨w1, w2⟩ := wr h2 e2
                rintro _ rfl _ rfl
                rw [w32_id (by omega) (by omega), w32_id (by omega) (by omega)]
                rw [if_pos ⟨q, b⟩] at ts
                exact next (n' + 1, h2) ⟨by omega, by rw [ts, en], by rw [ts]; exact w1, w2, by show 0 ≤ n' + 1; omega, by show n' + 1 ≤ k + 1; omega⟩
              refine ⟨fun q2 => go (Or.inl q2), fun q2 => ?_⟩
              rw [z_Grid_isBorder z3 z4]
              refine ⟨fun q3 => ?_, fun q3 => go (Or.inr (fun z => q3 (bi_nz.mpr z)))⟩
              rintro _ rfl
              rw [w32_id (by omega) (by omega)]
              rw [if_neg (fun z => by rcases z.2 with y | y; exact q2 y; exact y (bi_nz.mp q3))] at ts
              exact next (n', h') ⟨by omega, by rw [ts]; exact en, by rw [ts]; exact r', f', n0, by omega⟩
          · obtain ⟨k0, en, r', f', n0, nk⟩ := I
            refine hP _ _ _ ⟨fun _ => ?_, fun q => absurd q (by omega)⟩
            rw [en]
            exact kk (cd2_t d o) _ r' f'.fr
        · rw [if_neg c2]
          exact ⟨x, ke.1 (cd2_f d (fun z => c2 ⟨z.2.1.2, z.2.2⟩))⟩
      · rw [if_neg c1]
        exact ⟨x, ke.1 (cd2_f d (fun z => c1 z.2.1.1))⟩
    · rw [if_neg c]
      exact ⟨x, ke.1 (cd2_f d (fun z => c z.1))⟩
  · rw [if_neg d]
    exact ⟨x, ke.2 (cd2_d d)⟩
theorem m_edit {h : Hp} {t : Ts} {m i s e st kd : Int} (sh : Sh h) (r : RT h t) {K : Int → Hp → Prop}
    (kk : cd2 t (ok_edit i s e m st kd) = 0 → ∀ h1, RT h1 (tE (tset t 0 0 0) (550 * (1 + i) + 110 * s) e st kd m.toNat).1 → frT h h1 → K (tE (tset t 0 0 0) (550 * (1 + i) + 110 * s) e st kd m.toNat).2 h1) (ke : cd2 t (ok_edit i s e m st kd) ≠ 0 → ∀ h1, RT h1 (tset t 0 0 (cd2 t (ok_edit i s e m st kd))) → frT h h1 → K 0 h1) : wp_Mo_edit 1400 i s e m st kd h K := by
  unfold wp_Mo_edit
  rw [z_Mo_isDesk]
  simp only [z_Mo_isEdge, z_Mo_in, zn (fun s0 => wp_Mo_edit_74 K 1400 i s e m st kd s0 1400 h), za (fun s0 => wp_Mo_edit_74 K 1400 i s e m st kd s0 1400 h)]
  unfold wp_Mo_edit_74
  refine ⟨by decide, fl2 (ok := ok_edit i s e m st kd) sh r (fun d o h1 r1 s1 f1 => ?_) ke⟩
  have k2 := kk (cd2_t d o)
  generalize tset t 0 0 0 = t1 at *
  have c := o.1
  have c1 := o.2.1.1
  have c5 := o.2.2.2.2.1
  have c3 := o.2.2.1
  unfold wp_Mo_edit_89
  intro P hP
  refine up_ind (P := fun y (p : Int × Hp) => P p.1 y p.2) m (fun k p => 0 ≤ k ∧ p.1 = (tE t1 (550 * (1 + i) + 110 * s) e st kd k.toNat).2 ∧ RT p.2 (tE t1 (550 * (1 + i) + 110 * s) e st kd k.toNat).1 ∧ frT h p.2 ∧ 0 ≤ p.1 ∧ p.1 ≤ k) (fun k p k1 I next => ?_) (fun p I => ?_) 0 (0, h1) (by omega) ⟨by decide, rfl, r1, f1, Int.le_refl 0, Int.le_refl 0⟩
  · obtain ⟨n', h'⟩ := p
    obtain ⟨k0, en, r', f', n0, nk⟩ := I
    simp only at en r' f' n0 nk ⊢
    obtain ⟨z1, z2, z3, z4⟩ := ok_edit_r o k0 k1
    have sh' := f'.sh sh
    have ts := tE_s (t := t1) (b := 550 * (1 + i) + 110 * s) (e := e) (st := st) (kd := kd) k0
    apply hP
    refine ⟨fun q => absurd q (by omega), fun _ => ?_⟩
    rintro _ rfl _ rfl
    rw [z1, z2]
    have q4 : w32 (w32 (w32 (550 * w32 (1 + i)) + w32 (110 * s)) + (e + k * st)) = 550 * (1 + i) + 110 * s + (e + k * st) := by
      generalize e + k * st = y at *
      unfold w32; omega
    rw [q4]
    have go : (2 ≤ kd ∨ ¬ gBd (e + k * st)) → wp_Mo_edit_136 P K 1400 i s e m st kd n' k (550 * (1 + i) + 110 * s + (e + k * st)) h' := by
      intro b
      unfold wp_Mo_edit_136
      rw [tp_3 sh', tl_3 sh', gt_3 r' (i := 550 * (1 + i) + 110 * s + (e + k * st)) (by omega) (by omega)]
      refine ⟨by decide, by omega, fun q => ?_, fun q => ⟨by omega, fun h2 e2 => ?_⟩⟩
      · rintro _ rfl
        rw [w32_id (by omega) (by omega)]
        rw [if_neg (fun z => z.1 q)] at ts
        exact next (n', h') ⟨by omega, by rw [ts]; exact en, by rw [ts]; exact r', f', n0, by omega⟩
      · rintro _ rfl _ rfl
        rw [w32_id (by omega) (by omega), w32_id (by omega) (by omega)]
        rw [if_pos ⟨q, b⟩] at ts
        exact next (n' + 1, h2) ⟨by omega, by rw [ts, en], by rw [ts, e2]; exact r'.put (t_3 (by omega) (by omega)), by show frT h h2; rw [e2]; exact f'.put (t_3 (i := 550 * (1 + i) + 110 * s + (e + k * st)) (by omega) (by omega)), by show 0 ≤ n' + 1; omega, by show n' + 1 ≤ k + 1; omega⟩
    refine ⟨fun q2 => go (Or.inl (by omega)), fun q2 => ?_⟩
    rw [z_Mo_isBorder z3 z4]
    refine ⟨fun q3 => ?_, fun q3 => go (Or.inr (fun z => q3 (bi_nz.mpr z)))⟩
    rintro _ rfl
    rw [w32_id (by omega) (by omega)]
    rw [if_neg (fun z => by rcases z.2 with y | y; omega; exact y (bi_nz.mp q3))] at ts
    exact next (n', h') ⟨by omega, by rw [ts]; exact en, by rw [ts]; exact r', f', n0, by omega⟩
  · obtain ⟨k0, en, r', f', n0, nk⟩ := I
    refine hP _ _ _ ⟨fun _ => ?_, fun q => absurd q (by omega)⟩
    rw [en]
    exact k2 _ r' f'
def t_type (t : Ts) (y : Int) : Ts := tset (tset t 24 (t 25 0) y) 25 0 (t 25 0 + 1)
theorem k_type {H Q L : Int} {h : Hp} {t : Ts} {n y : Int} (r : RC H Q L h t) (g : Bd n t) (x : xr h) {K E : Int → Hp → Prop}
    (kk : cd3 t (32 ≤ y ∧ y ≤ 126) (¬ (t 25 0 ≥ 196)) = 0 → ∀ h1, RC H Q L h1 (t_type t y) → frC h h1 → K (t 25 0 + 1) h1) (ke : ErrC h (cd3 t (32 ≤ y ∧ y ≤ 126) (¬ (t 25 0 ≥ 196))) E) : wp_Kh_type 64 y h K E := by
  have sh := r.1; have hh := r.2.1.1; have hl := r.2.1.2.2.1; have hk := r.2.1.2.1; have sw := r.2.1.2.2.2.1; have sq := r.2.1.2.2.2.2.2.1; have sl := r.2.1.2.2.2.2.2.2.2.1
  unfold wp_Kh_type
  rw [z_Kh_isUp sh, r.dn]
  by_cases d : t 137 0 = 0
  · rw [if_pos d]
    simp only [z_Kh_isIn, z_Kh_need, bi_nz]
    by_cases c : 32 ≤ y ∧ y ≤ 126
    · have b := b_25 g
      rw [if_pos c, p_1_13 sh, gc_80_25 r d]
      unfold wp_Kh_type_36
      simp only [z_Kh_may]
      refine ⟨by decide, fun q => ?_, fun q => ?_⟩
      · rw [if_neg (by decide)]
        exact ⟨x, ke.2 (cd3_m d c (fun z => z q))⟩
      · rw [if_pos (by decide)]
        simp (disch := first | assumption | omega) only [ne_eq, not_false_eq_true, true_and, and_true, forall_eq, rd_up_eq, rd_up_ne, ln_up, tset_eq, tset_ne, z_Kh_isIn, z_Kh_need, z_Kh_may, bi_nz, z_Mo_in, p_1_1, p_1_2, p_1_3, p_1_4, p_1_5, p_1_6, p_1_12, p_1_13, p_80_0, p_80_1, p_80_2, p_80_3, p_80_4, p_80_5, p_80_6, p_80_7, p_80_8, p_80_20, p_80_22, p_80_23, p_80_24, p_80_25, p_80_26, p_80_28, p_80_30, p_80_31, p_80_32, p_80_36, p_80_37, p_80_38, p_80_41, p_80_42, l_101, gc_80_4 r d, gc_80_25 r d, gc_80_52 r d, gc_80_53 r d, gc_80_54 r d, gc_80_55 r d, gc_80_61 r d, gc_80_62 r d, gc_80_63 r d, gc_80_64 r d, gc_80_65 r d, gc_80_66 r d, gc_80_67 r d, gc_80_68 r d, gc_80_72 r d, gc_80_87 r d, gc_80_112 r d, w32_id, w8_id]
        refine ⟨by decide, by decide, by omega, by decide, kk (cd3_t d c q) _ ?_ (((frS.rf h).put (by omega)).put (by omega)).fr⟩
        unfold t_type
        rw [tset_comm (by omega)]
        exact (r.put e_80_25 (by unfold ctl; omega) (by unfold spv; omega)).put (e_101_24 (by omega) (by omega)) (by unfold ctl; omega) (by unfold spv; omega)
    · rw [if_neg c]
      exact ⟨x, ke.1 (cd3_f d c)⟩
  · rw [if_neg d]
    exact ⟨x, ke.2 (cd3_d d)⟩
theorem m_type {h : Hp} {t : Ts} {n y : Int} (sh : Sh h) (r : RT h t) (g : Bd n t) {K : Int → Hp → Prop}
    (kk : cd3 t (32 ≤ y ∧ y ≤ 126) (¬ (t 25 0 ≥ 196)) = 0 → ∀ h1, RT h1 (t_type (tset t 0 0 0) y) → frT h h1 → K (t 25 0 + 1) h1) (ke : cd3 t (32 ≤ y ∧ y ≤ 126) (¬ (t 25 0 ≥ 196)) ≠ 0 → ∀ h1, RT h1 (tset t 0 0 (cd3 t (32 ≤ y ∧ y ≤ 126) (¬ (t 25 0 ≥ 196)))) → frT h h1 → K 0 h1) : wp_Mo_type 1400 y h K := by
  unfold wp_Mo_type
  rw [z_Mo_in, gt_25 r, zn (fun s => wp_Mo_type_27 K 1400 y s (bi (32 ≤ y ∧ y ≤ 126)) 1400 h)]
  unfold wp_Mo_type_27
  refine ⟨by decide, fl3 sh r (fun d c m h1 r1 s1 f1 => ?_) ke⟩
  have b := b_25 g
  have k2 := kk (cd3_t d c m)
  have e : (tset t 0 0 0) 25 0 = t 25 0 := tset_nv (by decide)
  rw [← e] at b m k2
  generalize tset t 0 0 0 = t1 at *
  simp (disch := first | assumption | omega) only [ne_eq, not_false_eq_true, true_and, and_true, forall_eq, rd_up_eq, rd_up_ne, ln_up, tset_eq, tset_ne, z_Kh_isIn, z_Kh_need, z_Kh_may, bi_nz, z_Mo_in, tp_24, tl_24, gt_25 r1, w32_id]
  refine ⟨by decide, by omega, k2 _ ?_ ?_⟩
  · exact (r1.put (t_24 (by omega) (by omega))).put t_25
  · exact (f1.put (t_24 (by omega) (by omega))).put t_25
def t_feed (t : Ts) (y : Int) : Ts := tset (tset t 142 (t 143 0) (w8 y)) 143 0 (t 143 0 + 1)
theorem w8_w8 (x : Int) : w8 (w8 x) = w8 x := by unfold w8; omega
theorem k_tapeput {H Q L : Int} {h : Hp} {t : Ts} {n y : Int} (r : RC H Q L h t) (d : t 137 0 = 0) (g : Bd n t) (m : ¬ (t 143 0 ≥ 4100)) {K : Hp → Prop} (kk : ∀ h1, RC H Q L h1 (t_feed t y) → frS h h1 → K h1) : wp_Tape_put 1340 y h K := by
  have sh := r.1; have hh := r.2.1.1; have hl := r.2.1.2.2.1; have hk := r.2.1.2.1; have sw := r.2.1.2.2.2.1; have sq := r.2.1.2.2.2.2.2.1; have sl := r.2.1.2.2.2.2.2.2.2.1
  have b := b_143 g
  unfold wp_Tape_put
  simp (disch := first | assumption | omega) only [ne_eq, not_false_eq_true, true_and, and_true, forall_eq, rd_up_eq, rd_up_ne, ln_up, tset_eq, tset_ne, z_Kh_isIn, z_Kh_need, z_Kh_may, bi_nz, z_Mo_in, p_104_0, l_105, gc_104_143 r d, w32_id, w8_w8]
  refine ⟨by decide, by omega, kk _ ?_ (((frS.rf h).put (by omega)).put (by omega))⟩
  unfold t_feed
  rw [tset_comm (by omega)]
  exact (r.put e_104_143 (by unfold ctl; omega) (by unfold spv; omega)).put (e_105_142 (by omega) (by omega)) (by unfold ctl; omega) (by unfold spv; omega)
theorem k_feed {H Q L : Int} {h : Hp} {t : Ts} {n y : Int} (r : RC H Q L h t) (g : Bd n t) (x : xr h) {K E : Int → Hp → Prop}
    (kk : cd3 t (0 ≤ y ∧ y ≤ 255) (¬ (t 143 0 ≥ 4100)) = 0 → ∀ h1, RC H Q L h1 (t_feed t y) → frC h h1 → K (t 143 0 + 1) h1) (ke : ErrC h (cd3 t (0 ≤ y ∧ y ≤ 255) (¬ (t 143 0 ≥ 4100))) E) : wp_Kh_feed 64 y h K E := by
  have sh := r.1; have hh := r.2.1.1; have hl := r.2.1.2.2.1; have hk := r.2.1.2.1; have sw := r.2.1.2.2.2.1; have sq := r.2.1.2.2.2.2.2.1; have sl := r.2.1.2.2.2.2.2.2.2.1
  unfold wp_Kh_feed wp_Kh_isByte
  rw [z_Kh_isUp sh, r.dn]
  by_cases d : t 137 0 = 0
  · rw [if_pos d]
    simp only [z_Kh_isIn, z_Kh_need, bi_nz]
    by_cases c : 0 ≤ y ∧ y ≤ 255
    · rw [if_pos c, p_1_13 sh, p_80_37 sh, gc_104_143 r d]
      unfold wp_Kh_feed_29
      simp only [z_Kh_may]
      refine ⟨by decide, by decide, fun q => ?_, fun q => ?_⟩
      · rw [if_neg (by decide)]
        exact ⟨x, ke.2 (cd3_m d c (fun z => z q))⟩
      · rw [if_pos (by decide), p_1_13 sh, p_80_37 sh]
        refine ⟨by decide, by decide, k_tapeput r d g q (fun h1 r1 f1 => ?_)⟩
        have d1 : (t_feed t y) 137 0 = 0 := by unfold t_feed; rw [tset_nv (by decide), tset_nv (by decide)]; exact d
        rw [p_1_13 r1.1, p_80_37 r1.1, gc_104_143 r1 d1]
        refine ⟨by decide, by decide, ?_⟩
        have e : (t_feed t y) 143 0 = t 143 0 + 1 := tset_eq _ _ _ _
        rw [e]
        exact kk (cd3_t d c q) _ r1 f1.fr
    · rw [if_neg c]
      exact ⟨x, ke.1 (cd3_f d c)⟩
  · rw [if_neg d]
    exact ⟨x, ke.2 (cd3_d d)⟩
theorem m_feed {h : Hp} {t : Ts} {n y : Int} (sh : Sh h) (r : RT h t) (g : Bd n t) {K : Int → Hp → Prop}
    (kk : cd3 t (0 ≤ y ∧ y ≤ 255) (¬ (t 143 0 ≥ 4100)) = 0 → ∀ h1, RT h1 (t_feed (tset t 0 0 0) y) → frT h h1 → K (t 143 0 + 1) h1) (ke : cd3 t (0 ≤ y ∧ y ≤ 255) (¬ (t 143 0 ≥ 4100)) ≠ 0 → ∀ h1, RT h1 (tset t 0 0 (cd3 t (0 ≤ y ∧ y ≤ 255) (¬ (t 143 0 ≥ 4100)))) → frT h h1 → K 0 h1) : wp_Mo_feed 1400 y h K := by
  unfold wp_Mo_feed
  rw [z_Mo_in, gt_143 r, zn (fun s => wp_Mo_feed_25 K 1400 y s (bi (0 ≤ y ∧ y ≤ 255)) 1400 h)]
  unfold wp_Mo_feed_25
  refine ⟨by decide, fl3 sh r (fun d c m h1 r1 s1 f1 => ?_) ke⟩
  have b := b_143 g
  have k2 := kk (cd3_t d c m)
  have e : (tset t 0 0 0) 143 0 = t 143 0 := tset_nv (by decide)
  rw [← e] at b m k2
  generalize tset t 0 0 0 = t1 at *
  simp (disch := first | assumption | omega) only [ne_eq, not_false_eq_true, true_and, and_true, forall_eq, rd_up_eq, rd_up_ne, ln_up, tset_eq, tset_ne, z_Kh_isIn, z_Kh_need, z_Kh_may, bi_nz, z_Mo_in, tp_142, tl_142, gt_143 r1, w32_id, w8_w8]
  refine ⟨by decide, by omega, k2 _ ?_ ?_⟩
  · exact (r1.put (t_142 (by omega) (by omega))).put t_143
  · exact (f1.put (t_142 (by omega) (by omega))).put t_143
