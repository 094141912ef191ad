/-! WHAT IS TOLD -/
theorem tKeep_nv {w : Int → Int} {t : Ts} {v j : Int} (n : v ≠ 129 ∧ v ≠ 130 ∧ v ≠ 131 ∧ v ≠ 133 ∧ v ≠ 134 ∧ v ≠ 135 ∧ v ≠ 136 ∧ v ≠ 137) : (tKeep w t).1 v j = t v j := by
  have e1 : ∀ m : Int, (kpS m t).1 v j = t v j := by
    intro m
    unfold kpS snK
    split
    · rfl
    · exact tSnE_nv (by omega)
  unfold tKeep
  generalize wN w = M
  have e2 := e1 M
  unfold kpE
  generalize kpS M t = S at *
  have e3 := tGr_nv (w := w) (m := M) (t := S.1) (v := v) (j := j) (by omega) 135
  generalize tGr w M S.1 135 = T at *
  split
  · show (if T.2.2 = 1 then tset T.1 135 0 (S.1 135 0 + M) else T.1) v j = t v j
    split
    · rw [tset_nv (by omega), e3, e2]
    · rw [e3, e2]
  · exact e2
theorem k_want {h : Hp} {kd ix : Int} (sh : Sh h) (i1 : ix ≤ 1000) (o : 0 ≤ slF kd ix) (o1 : slF kd ix < 135) {K : Int → Hp → Prop} (kk : K 68 (up h 69 (slF kd ix) 1)) : wp_Kh_want 64 kd ix h K := by
  unfold wp_Kh_want wp_Group_want
  rw [p_1_2 sh, p_5_0 sh, l_6 sh]
  refine ⟨by decide, z_slot sh i1 ⟨by decide, by omega, ?_⟩⟩
  rintro _ rfl
  exact kk
theorem k_want2 {h : Hp} {kd ix : Int} (sh : Sh h) (i1 : ix ≤ 1000) (o : 0 ≤ slF kd ix) (o1 : slF kd ix < 135) {K : Int → Hp → Prop} (kk : K 68 (up h 69 (slF kd ix) 1)) : wp_Group_want 68 kd ix h K := by
  unfold wp_Group_want
  rw [p_5_0 sh, l_6 sh]
  refine z_slot sh i1 ⟨by decide, by omega, ?_⟩
  rintro _ rfl
  exact kk
theorem sh_69 {h h1 : Hp} (s : Sh h) (o : onl 69 h h1) : Sh h1 := by
  have e : nx h1 = nx h := by unfold nx; rw [o.1]
  refine s.cg (fun a i n => ?_) (fun a _ => o.ln) (by omega) (fun k _ => o.rd (by decide))
  by_cases q : a = 69
  · rw [q] at n
    exact absurd (sc_69 (H := 0) (Q := 0) (L := 0)).1 n
  · exact o.2 a i (Or.inl q)
theorem k_fin {H Q L : Int} {h : Hp} {t : Ts} {h2 : Hp} {n : Int} {l : List Int} (r : RC H Q L h t) (d : t 137 0 = 0) (g : Bd n t) (gb : frF t ≤ 1 + 20 * n) (ps : l.Pairwise (· < ·)) (bl : ∀ k ∈ l, 0 ≤ k ∧ k < 135) (m1 : (l.length : Int) ≤ 60) (tl : ∀ k ∈ l, tldK t k) (o : onl 69 h h2) (hw : ∀ k : Int, 0 ≤ k → k < 135 → rd h2 69 k = wl l k) {K : Int → Hp → Prop}
    (kk : ∀ h1, RC H Q L h1 (tKeep (wl l) t).1 → frS h h1 → K (tKeep (wl l) t).2 h1) : wp_Group_keep 68 h2 K := by
  have hh := r.2.1.1
  have hl := r.2.1.2.2.1
  have sp := r.2.2.2.2 d
  have r2 : RK H Q L h2 t := r.k.sc o (by decide) (fun i _ => sc_69)
  have f2 : frS h h2 := ⟨o.1, fun b i c => o.2 b i (Or.inl (by omega))⟩
  have v2 : ∀ a i : Int, lv H Q L a i = -2 → h2.1 a i = h.1 a i := fun a i c => o.2 a i (Or.inl (fun q => by
    have y := (sc_69 (H := H) (Q := Q) (L := L) (i := i)).2
    rw [q] at c
    omega))
  have spc : SpC H L h2 t := sp.cg (Q := Q) hh hl v2 (fun b z b0 _ => f2.2 b z (by omega)) (by rw [f2.nx]; omega) (fun _ _ _ => rfl)
  refine k_keep r2 d g gb spc.2.1 spc.2.2.2.2.1.2.2 hw (by rw [wN_wl l ps bl]; exact m1) (fun k k0 k1 q => tl k ?_) (fun h1 r1 f1 v1 w1 => ?_)
  · unfold wl at q
    rcases Decidable.em (k ∈ l) with y | y
    · exact y
    · rw [if_neg y] at q
      exact absurd rfl q
  · refine kk h1 ⟨r1.1, r1.2.1, r1.2.2, w1, fun u => ?_⟩ (f2.tr f1)
    exact spc.cg (Q := Q) hh hl v1 (fun b z b0 _ => f1.2 b z (by omega)) (by rw [f1.nx]; omega) (fun v k q => tKeep_nv (by unfold spv at q; omega))
/-- one key -/
theorem k_kept1 {H Q L : Int} {h : Hp} {t : Ts} {n kd ix v : Int} (r : RC H Q L h t) (d : t 137 0 = 0) (g : Bd n t) (gb : frF t ≤ 1 + 20 * n) (i1 : ix ≤ 1000) (o : 0 ≤ slF kd ix) (o1 : slF kd ix < 135) (tl : tldK t (slF kd ix)) {K : Int → Hp → Prop}
    (kk : ∀ h1, RC H Q L h1 (tKeep (wl [slF kd ix]) t).1 → frS h h1 → K (if (tKeep (wl [slF kd ix]) t).2 = 0 then -1001 else v) h1) : wp_Kh_want 64 kd ix h (fun r14 h15 => wp_Kh_kept 64 r14 v h15 (fun r17 h18 => K r17 h18)) := by
  refine k_want r.1 i1 o o1 ?_
  unfold wp_Kh_kept
  refine ⟨by decide, k_fin (l := [slF kd ix]) r d g gb (List.pairwise_singleton _ _) (fun k hk => by rw [List.mem_singleton.mp hk]; omega) (by simp) (fun k hk => by rw [List.mem_singleton.mp hk]; exact tl) ((onl.rf 69 h).put o) (fun k k0 k1 => ?_) (fun h1 r1 f1 => ?_)⟩
  · unfold wl
    by_cases c : k = slF kd ix
    · rw [c, rd_up_eq, if_pos (by simp)]
    · rw [rd_up_ne (by omega), if_neg (by simpa using c)]
      exact r.2.2.2.1 k k0 k1
  · have k2 := kk h1 r1 f1
    refine ⟨fun q => ?_, fun q => ?_⟩
    · rw [if_pos q] at k2; exact k2
    · rw [if_neg q] at k2; exact k2
/-- two keys -/
theorem k_kept2 {H Q L : Int} {h : Hp} {t : Ts} {n kd ix kd2 ix2 v : Int} (r : RC H Q L h t) (d : t 137 0 = 0) (g : Bd n t) (gb : frF t ≤ 1 + 20 * n) (i1 : ix ≤ 1000) (i2 : ix2 ≤ 1000) (o : 0 ≤ slF kd ix) (o1 : slF kd ix < slF kd2 ix2) (o2 : slF kd2 ix2 < 135) (tl : tldK t (slF kd ix)) (tl2 : tldK t (slF kd2 ix2)) {K : Int → Hp → Prop}
    (kk : ∀ h1, RC H Q L h1 (tKeep (wl [slF kd ix, slF kd2 ix2]) t).1 → frS h h1 → K (if (tKeep (wl [slF kd ix, slF kd2 ix2]) t).2 = 0 then -1001 else v) h1) : wp_Kh_want 64 kd ix h (fun r14 h15 => r14 ≠ 0 ∧ wp_Group_want r14 kd2 ix2 h15 (fun r18 h19 => wp_Kh_kept 64 r18 v h19 (fun r17 h18 => K r17 h18))) := by
  refine k_want r.1 i1 o (by omega) ⟨by decide, k_want2 (sh_69 r.1 ((onl.rf 69 h).put o)) i2 (by omega) o2 ?_⟩
  unfold wp_Kh_kept
  refine ⟨by decide, k_fin (l := [slF kd ix, slF kd2 ix2]) r d g gb (by simp; omega) (fun k hk => by simp at hk; omega) (by simp) (fun k hk => by
    simp at hk
    rcases hk with rfl | rfl
    · exact tl
    · exact tl2) (((onl.rf 69 h).put o).put (by omega)) (fun k k0 k1 => ?_) (fun h1 r1 f1 => ?_)⟩
  · unfold wl
    by_cases c2 : k = slF kd2 ix2
    · rw [c2, rd_up_eq, if_pos (by simp)]
    · rw [rd_up_ne (by omega)]
      by_cases c : k = slF kd ix
      · rw [c, rd_up_eq, if_pos (by simp)]
      · rw [rd_up_ne (by omega), if_neg (by simp [c, c2])]
        exact r.2.2.2.1 k k0 k1
  · have k2 := kk h1 r1 f1
    refine ⟨fun q => ?_, fun q => ?_⟩
    · rw [if_pos q] at k2; exact k2
    · rw [if_neg q] at k2; exact k2
theorem m_writeOne {h : Hp} {t : Ts} {n kd ix : Int} (sh : Sh h) (r : RT h t) (d : t 137 0 = 0) (g : Bd n t) (gb : frF t ≤ 1 + 20 * n) (i0 : 0 ≤ ix) (i1 : ix ≤ 1000) (o : 0 ≤ slF kd ix) (o1 : slF kd ix < 135) {K : Int → Hp → Prop}
    (kk : ∀ h1, RT h1 (tKeep (wl [slF kd ix]) t).1 → frT h h1 → K (tKeep (wl [slF kd ix]) t).2 h1) : wp_Mo_writeOne 1400 kd ix h K := by
  unfold wp_Mo_writeOne
  refine m_begin sh r (fun h2 r2 f2 g2 => m_addKey (f2.sh sh) r2 i0 i1 g2 (by simp) (fun h3 r3 f3 g3 => ?_))
  have g3' : grpL h3 [slF kd ix] := g3
  exact m_writeGroup (l := [slF kd ix]) ((f2.tr f3).sh sh) r3 d g gb g3' (List.pairwise_singleton _ _) (fun k hk => by rw [List.mem_singleton.mp hk]; omega) (by simp) (fun h4 r4 f4 => kk h4 r4 ((f2.tr f3).tr f4))
theorem m_writeTwo {h : Hp} {t : Ts} {n kd ix kd2 ix2 : Int} (sh : Sh h) (r : RT h t) (d : t 137 0 = 0) (g : Bd n t) (gb : frF t ≤ 1 + 20 * n) (i0 : 0 ≤ ix) (i1 : ix ≤ 1000) (j0 : 0 ≤ ix2) (j1 : ix2 ≤ 1000) (o : 0 ≤ slF kd ix) (o1 : slF kd ix < slF kd2 ix2) (o2 : slF kd2 ix2 < 135) {K : Int → Hp → Prop}
    (kk : ∀ h1, RT h1 (tKeep (wl [slF kd ix, slF kd2 ix2]) t).1 → frT h h1 → K (tKeep (wl [slF kd ix, slF kd2 ix2]) t).2 h1) : wp_Mo_beginGroup 1400 h (fun h18 => wp_Mo_addKey 1400 kd ix h18 (fun h20 => wp_Mo_addKey 1400 kd2 ix2 h20 (fun h22 => wp_Mo_writeGroup 1400 h22 K))) := by
  refine m_begin sh r (fun h2 r2 f2 g2 => m_addKey (f2.sh sh) r2 i0 i1 g2 (by simp) (fun h3 r3 f3 g3 => m_addKey ((f2.tr f3).sh sh) r3 j0 j1 g3 (by simp) (fun h4 r4 f4 g4 => ?_)))
  have g4' : grpL h4 [slF kd ix, slF kd2 ix2] := g4
  exact m_writeGroup (l := [slF kd ix, slF kd2 ix2]) (((f2.tr f3).tr f4).sh sh) r4 d g gb g4' (by simp; omega) (fun k hk => by simp at hk; omega) (by simp) (fun h5 r5 f5 => kk h5 r5 (((f2.tr f3).tr f4).tr f5))
theorem sl_at {kd ix : Int} (a : 1 ≤ kd ∧ kd ≤ 15) (b : 0 ≤ ix ∧ ix < cnt kd) : slF kd ix = bsF kd + ix ∧ 0 ≤ slF kd ix ∧ slF kd ix < 135 ∧ kdF (slF kd ix) = kd ∧ ixF (slF kd ix) = ix := by
  have s := bs_s a.1 a.2
  have e : slF kd ix = bsF kd + ix := if_pos ⟨a, b⟩
  have hr := kd_r (k := bsF kd + ix) (by omega) (by omega)
  have ek : kdF (bsF kd + ix) = kd := by
    rcases Int.lt_or_le (kdF (bsF kd + ix)) kd with c | c
    · have m := bs_m (kd - (kdF (bsF kd + ix) + 1)).toNat (kdF (bsF kd + ix) + 1) (by omega) (by omega)
      rw [show kdF (bsF kd + ix) + 1 + (((kd - (kdF (bsF kd + ix) + 1)).toNat : Nat) : Int) = kd by omega] at m
      omega
    · rcases Int.lt_or_le kd (kdF (bsF kd + ix)) with d | d
      · have m := kd_lt (k := bsF kd + ix) (by omega) (by omega) a.1 d
        omega
      · omega
  refine ⟨e, by omega, by omega, by rw [e]; exact ek, ?_⟩
  rw [e]
  unfold ixF
  rw [ek]
  omega
theorem tld_no {t : Ts} {kd ix : Int} (a : 1 ≤ kd ∧ kd ≤ 12) (b : 0 ≤ ix ∧ ix < cnt kd) : tldK t (slF kd ix) := by
  have s := sl_at (kd := kd) (ix := ix) (by omega) b
  unfold tldK
  rw [s.2.2.2.1]
  omega
/-- answers of calls that wrote -/
def kpA (q : Ts × Int) (v : Int) : Int := if q.2 = 0 then -1001 else v
def t_people (t : Ts) (f hr y : Int) : Ts × Int := tKeep (wl [slF 3 f]) (tset t 16 (24 * f + hr) y)
abbrev ok_people (f hr y : Int) : Prop := (0 ≤ f ∧ f ≤ 9) ∧ (0 ≤ hr ∧ hr ≤ 23) ∧ 0 ≤ y ∧ y ≤ 20
theorem frF_t {t : Ts} {v j x : Int} (n : v ≠ 129 ∧ v ≠ 133 ∧ v ≠ 134) : frF (tset t v j x) = frF t := by
  have e : ∀ u k : Int, u = 129 ∨ u = 133 ∨ u = 134 → tset t v j x u k = t u k := fun u k q => tset_nv (by omega)
  unfold frF gF
  rw [e 134 0 (by omega), e 133 0 (by omega)]
  simp only [e 129 _ (by omega)]
theorem k_people {H Q L : Int} {h : Hp} {t : Ts} {n f hr y : Int} (r : RC H Q L h t) (x : xr h) (g : Bd n t) (gb : frF t ≤ 1 + 20 * n) {K E : Int → Hp → Prop}
    (kk : cd2 t (ok_people f hr y) = 0 → ∀ h1, RC H Q L h1 (t_people t f hr y).1 → frC h h1 → K (kpA (t_people t f hr y) (t 16 (24 * f + hr))) h1) (ke : ErrC h (cd2 t (ok_people f hr y)) E) : wp_Kh_people 64 f hr y h K E := by
  have sh := r.1; have hh := r.2.1.1; have hl := r.2.1.2.2.1; have hk := r.2.1.2.1; have sw := r.2.1.2.2.2.1; have sq := r.2.1.2.2.2.2.2.1; have sl := r.2.1.2.2.2.2.2.2.2.1
  have hH : H = 628 ∨ H = 768 := hh
  unfold wp_Kh_people
  rw [z_Kh_isUp sh, r.dn, z_Kh_isFlat, z_Kh_isHour]
  by_cases d : t 137 0 = 0
  · rw [if_pos d]
    by_cases c0 : 0 ≤ f ∧ f ≤ 9
    · rw [if_pos c0]
      by_cases c1 : 0 ≤ hr ∧ hr ≤ 23
      · rw [if_pos c1]
        simp only [z_Kh_isIn, z_Kh_need, bi_nz]
        by_cases c2 : 0 ≤ y ∧ y ≤ 20
        · have c3 : cnt 3 = 10 := by decide
          have s := sl_at (kd := 3) (ix := f) (by decide) (by omega)
          rw [if_pos c2, sw, p_20_2 hh sh, l_26 hh sh, p_26 hh c0.1 (by omega) sh, l_27 hh c0.1 (by omega) sh, gc_27_16 r d c0.1 (by omega) c1.1 (by omega), w8_w8, w8_id (by omega) (by omega)]
          refine ⟨by omega, by omega, by omega, by omega, by omega, ?_⟩
          rintro _ rfl
          refine ⟨by omega, by omega, ?_⟩
          intro h1 e1
          have r1 := r.put (x := y) (e_27_16 (H := H) (Q := Q) c0.1 (by omega) c1.1 (by omega)) (by unfold ctl; omega) (by unfold spv; omega)
          rw [← e1] at r1
          have f1 : frS h h1 := by rw [e1]; exact (frS.rf h).put (by omega)
          exact k_kept1 r1 ((tset_nv (by decide)).trans d) (bp_16 g (by omega) (by omega)) (by rw [frF_t (by omega)]; exact gb) (by omega) s.2.1 s.2.2.1 (tld_no (by decide) (by omega)) (fun h2 r2 f2 => kk (cd2_t d ⟨c0, c1, c2⟩) h2 r2 (f1.tr f2).fr)
        · rw [if_neg c2]
          exact ⟨x, ke.1 (cd2_f d (fun z => c2 z.2.2))⟩
      · rw [if_neg c1]
        exact ⟨x, ke.1 (cd2_f d (fun z => c1 z.2.1))⟩
    · rw [if_neg c0]
      exact ⟨x, ke.1 (cd2_f d (fun z => c0 z.1))⟩
  · rw [if_neg d]
    exact ⟨x, ke.2 (cd2_d d)⟩
theorem m_people {h : Hp} {t : Ts} {n f hr y : Int} (sh : Sh h) (r : RT h t) (g : Bd n t) (gb : frF t ≤ 1 + 20 * n) {K : Int → Hp → Prop}
    (k : MT h t (cd2 t (ok_people f hr y)) (kpA (t_people (tset t 0 0 0) f hr y) (t 16 (24 * f + hr))) (t_people (tset t 0 0 0) f hr y).1 K) : wp_Mo_people 1400 f hr y h K := by
  unfold wp_Mo_people
  simp only [z_Mo_in, zb (fun s0 => wp_Mo_people_42 K 1400 f hr y s0 1400 h), za (fun s0 => wp_Mo_people_42 K 1400 f hr y s0 1400 h)]
  unfold wp_Mo_people_42
  refine ⟨by decide, fl2 (ok := ok_people f hr y) sh r (fun d c h1 r1 s1 f1 => ?_) k.2⟩
  have k0 := k.1 (cd2_t d c)
  obtain ⟨c0, c1, c2⟩ := c
  have c3 : cnt 3 = 10 := by decide
  have s := sl_at (kd := 3) (ix := f) (by decide) (by omega)
  have q : w32 (w32 (24 * f) + hr) = 24 * f + hr := by unfold w32; omega
  rw [q, tp_16 s1, tl_16 s1, gt_16 r1 (by omega) (by omega), tset_nv (v := 0) (by decide)]
  refine ⟨by decide, by omega, ?_⟩
  rintro _ rfl
  refine ⟨by omega, ?_⟩
  intro h2 e2
  have r2 := r1.put (x := y) (t_16 (i := 24 * f + hr) (by omega) (by omega))
  rw [← e2] at r2
  have f2 : frT h h2 := by rw [e2]; exact f1.put (t_16 (i := 24 * f + hr) (by omega) (by omega))
  have g2 : Bd n (tset (tset t 0 0 0) 16 (24 * f + hr) y) := bp_16 (g.pun (by unfold bdv; omega)) (by omega) (by omega)
  refine m_writeOne (f2.sh sh) r2 ((tset_nv (by decide)).trans ((tset_nv (by decide)).trans d)) g2 (by rw [frF_t (by omega), frF_t (by omega)]; exact gb) c0.1 (by omega) s.2.1 s.2.2.1 (fun h3 r3 f3 => ?_)
  have k3 := k0 h3 r3 (f2.tr f3)
  unfold kpA t_people at k3
  refine ⟨fun z => ?_, fun z => ?_⟩
  · rw [if_pos z] at k3; exact k3
  · rw [if_neg z] at k3; exact k3
