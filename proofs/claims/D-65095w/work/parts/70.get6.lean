/-! GETTERS: METER, ROWS, TAPE, TREND; SETTERS: COPY, POKE -/
abbrev ok_meter (i j : Int) : Prop := (0 ≤ i ∧ i ≤ 10) ∧ 0 ≤ j ∧ j ≤ 2
def v_meter (t : Ts) (i j : Int) : Int := if j = 0 then w32 (t 117 i) else if j = 1 then t 118 i else t 119 i
theorem k_meter {H Q L : Int} {h : Hp} {t : Ts} {n i j : Int} (r : RC H Q L h t) (x : xr h) (g : Bd n t) (w : t 119 10 = 0) (hm : ∀ f : Int, 0 ≤ f → f < 10 → r32 (t 117 f)) {K : Int → Prop} {E : Int → Hp → Prop} (k : KG h (cd2 t (ok_meter i j)) (v_meter t i j) K E) : wp_Kh_meter 64 i j h K E := by
  have sh := r.1; have hh := r.2.1.1; have hl := r.2.1.2.2.1; have hk := r.2.1.2.1; have sw := r.2.1.2.2.2.1; have sq := r.2.1.2.2.2.2.2.1; have sl := r.2.1.2.2.2.2.2.2.2.1
  have hH : H = 628 ∨ H = 768 := hh
  unfold wp_Kh_meter
  rw [z_Kh_isUp sh, r.dn]
  by_cases d : t 137 0 = 0
  · rw [if_pos d]
    simp only [z_Kh_isIn, zb (fun s0 => wp_Kh_meter_33 K E 64 i j s0 h), za (fun s0 => wp_Kh_meter_33 K E 64 i j s0 h)]
    unfold wp_Kh_meter_33
    rw [z_Kh_need]
    simp only [bi_nz]
    by_cases c : ok_meter i j
    · have k0 := k.1 (cd2_t d c)
      have fl := (r.2.2.2.2 d).2.2.2.2.1.2.2
      unfold v_meter at k0
      rw [if_pos c, sw, fl, gc_20_118 r d]
      refine ⟨fun q => ⟨fun q1 => ⟨fun q2 => ?_, fun q2 => ⟨by omega, ?_⟩⟩, fun q1 => ⟨by omega, ?_⟩⟩, fun q => ?_⟩
      · obtain rfl : i = 10 := by omega
        rw [if_neg q1, if_neg q2, w] at k0
        exact k0
      · obtain rfl : i = 10 := by omega
        rw [if_neg q1, if_pos (by omega)] at k0
        exact k0
      · obtain rfl : i = 10 := by omega
        rw [if_pos (by omega)] at k0
        exact k0
      · rw [p_20_9 hh sh, l_34 hh sh, p_34 hh c.1.1 (by omega) sh, p_41_2 hh c.1.1 (by omega) sh, l_42 hh c.1.1 (by omega) sh]
        refine ⟨by omega, by omega, by omega, by omega, by omega, by omega, ?_⟩
        rcases (show j = 0 ∨ j = 1 ∨ j = 2 by omega) with rfl | rfl | rfl
        · rw [gc_42_117 r d c.1.1 (by omega)]
          rw [if_pos rfl, w32_of (hm i c.1.1 (by omega))] at k0
          exact k0
        · rw [gc_42_118 r d c.1.1 (by omega)]
          exact k0
        · rw [gc_42_119 r d c.1.1 (by omega)]
          exact k0
    · rw [if_neg c]
      exact ⟨x, k.2.1 (cd2_f d c)⟩
  · rw [if_neg d]
    exact ⟨x, k.2.2 (cd2_d d)⟩
theorem m_meter {h : Hp} {t : Ts} {n i j : Int} (sh : Sh h) (r : RT h t) (g : Bd n t) {K : Int → Hp → Prop} (k : MT h t (cd2 t (ok_meter i j)) (v_meter t i j) (tset t 0 0 0) K) : wp_Mo_meter 1400 i j h K := by
  unfold wp_Mo_meter
  simp only [z_Mo_in, zb (fun s0 => wp_Mo_meter_30 K 1400 i j s0 1400 h), za (fun s0 => wp_Mo_meter_30 K 1400 i j s0 1400 h)]
  unfold wp_Mo_meter_30
  refine ⟨by decide, fl2 (ok := ok_meter i j) sh r (fun d c h1 r1 s1 f1 => ?_) k.2⟩
  have k0 := k.1 (cd2_t d c) h1 r1 f1
  have b8 := b_118 g (i := i) c.1.1 (by omega)
  have b9 := b_119 g (i := i) c.1.1 (by omega)
  have gn := g.1
  unfold v_meter at k0
  rw [tp_117 s1, tl_117 s1, tp_118 s1, tl_118 s1, tp_119 s1, tl_119 s1, gt_117 r1 c.1.1 (by omega), gt_118 r1 c.1.1 (by omega), gt_119 r1 c.1.1 (by omega), tset_nv (by decide), tset_nv (by decide), tset_nv (by decide), w32_id (x := t 118 i) (by omega) (by omega), w32_id (x := t 119 i) (by omega) (by omega)]
  refine ⟨fun q => ⟨fun q1 => ⟨by decide, by omega, ?_⟩, fun q1 => ⟨by decide, by omega, ?_⟩⟩, fun q => ⟨by decide, by omega, ?_⟩⟩
  · rw [if_neg q, if_neg q1] at k0
    exact k0
  · rw [if_neg q, if_pos (by omega)] at k0
    exact k0
  · rw [if_pos (by omega)] at k0
    exact k0
/-- how many keys are there -/
def keyN (t : Ts) : Int := si (fun k => on1 (t 130 k)) 135
theorem on1_r (x : Int) : 0 ≤ on1 x ∧ on1 x ≤ 1 := by unfold on1; split <;> omega
theorem si_b {f : Int → Int} (e : ∀ k, 0 ≤ f k ∧ f k ≤ 1) : ∀ n : Nat, 0 ≤ sm f n ∧ sm f n ≤ n := by
  intro n
  induction n with
  | zero => exact ⟨Int.le_refl _, Int.le_refl _⟩
  | succ n ih =>
    have := e n
    show 0 ≤ sm f n + f n ∧ sm f n + f n ≤ ((n + 1 : Nat) : Int)
    omega
theorem z_keysmany {H Q L : Int} {h : Hp} {t : Ts} (r : RC H Q L h t) {K : Int → Prop} (k : K (keyN t)) : wp_Keys_many Q h K := by
  have sh := r.1; have hh := r.2.1.1; have hl := r.2.1.2.2.1; have hk := r.2.1.2.1; have sw := r.2.1.2.2.2.1; have sq := r.2.1.2.2.2.2.2.1; have sl := r.2.1.2.2.2.2.2.2.2.1
  have hQ : Q = 474 ∨ Q = 1168 := hk
  unfold wp_Keys_many
  rw [p_65_0 hk sh]
  rintro _ rfl
  rw [l_66 hk sh]
  refine ⟨by omega, ?_⟩
  rintro _ rfl
  unfold wp_Keys_many_13
  intro P hP
  refine up_ind (P := fun a n => P n a) 135 (fun a n => 0 ≤ a ∧ 0 ≤ n ∧ n ≤ a ∧ n = si (fun j => on1 (t 130 j)) a) (fun a n a5 I next => ?_) (fun n I => ?_) 0 0 (by decide) ⟨by decide, by decide, by decide, rfl⟩
  · obtain ⟨a0, n0, na, e⟩ := I
    have e3 := si_s (f := fun j => on1 (t 130 j)) a0
    apply hP
    refine ⟨fun q => absurd q (by omega), fun _ => ?_⟩
    rw [l_66 hk sh, gc_66_130 r a0 a5]
    refine ⟨by omega, by omega, ?_⟩
    rintro _ rfl
    refine ⟨fun q => ?_, fun q => ?_⟩
    · rintro _ rfl
      rw [w32_id (by omega) (by omega), w32_id (by omega) (by omega)]
      refine next _ ⟨by omega, by omega, by omega, ?_⟩
      rw [e3, ← e]
      show n + 0 = n + on1 (t 130 a)
      rw [q]
      rfl
    · rintro _ rfl
      rw [w32_id (by omega) (by omega), w32_id (by omega) (by omega)]
      refine next _ ⟨by omega, by omega, by omega, ?_⟩
      rw [e3, ← e]
      show n + 1 = n + on1 (t 130 a)
      unfold on1
      rw [if_neg q]
  · obtain ⟨a0, n0, na, e⟩ := I
    refine hP _ _ ⟨fun _ => ?_, fun q => absurd q (by omega)⟩
    rw [e]
    exact k
def v_rows (t : Ts) (i : Int) : Int := if i = 0 then t 133 0 else if i = 1 then t 134 0 else if i = 2 then t 135 0 else keyN t
theorem k_rows {H Q L : Int} {h : Hp} {t : Ts} {i : Int} (r : RC H Q L h t) (x : xr h) {K : Int → Prop} {E : Int → Hp → Prop} (k : KG h (cd2 t (0 ≤ i ∧ i ≤ 3)) (v_rows t i) K E) : wp_Kh_rows 64 i h K E := by
  have sh := r.1; have hh := r.2.1.1; have hl := r.2.1.2.2.1; have hk := r.2.1.2.1; have sw := r.2.1.2.2.2.1; have sq := r.2.1.2.2.2.2.2.1; have sl := r.2.1.2.2.2.2.2.2.2.1
  have hQ : Q = 474 ∨ Q = 1168 := hk
  unfold wp_Kh_rows
  rw [z_Kh_isUp sh, r.dn]
  by_cases d : t 137 0 = 0
  · rw [if_pos d]
    simp only [z_Kh_isIn, z_Kh_need, bi_nz]
    by_cases c : 0 ≤ i ∧ i ≤ 3
    · have k0 := k.1 (cd2_t d c)
      unfold v_rows at k0
      rw [if_pos c, p_1_3 sh, sq, gc_7_133 r, gc_7_134 r, gc_7_135 r d]
      refine ⟨fun q => ⟨fun q1 => ⟨fun q2 => ⟨by decide, by omega, z_keysmany r ?_⟩, fun q2 => ⟨by decide, ?_⟩⟩, fun q1 => ⟨by decide, ?_⟩⟩, fun q => ⟨by decide, ?_⟩⟩
      · rw [if_neg q, if_neg q1, if_neg q2] at k0
        exact k0
      · rw [if_neg q, if_neg q1, if_pos (by omega)] at k0
        exact k0
      · rw [if_neg q, if_pos (by omega)] at k0
        exact k0
      · rw [if_pos (by omega)] at k0
        exact k0
    · rw [if_neg c]
      exact ⟨x, k.2.1 (cd2_f d c)⟩
  · rw [if_neg d]
    exact ⟨x, k.2.2 (cd2_d d)⟩
theorem m_rows {h : Hp} {t : Ts} {n i : Int} (sh : Sh h) (r : RT h t) (g : Bd n t) {K : Int → Hp → Prop} (k : MT h t (cd2 t (0 ≤ i ∧ i ≤ 3)) (v_rows t i) (tset t 0 0 0) K) : wp_Mo_rows 1400 i h K := by
  unfold wp_Mo_rows
  rw [z_Mo_in]
  refine fl2 sh r (fun d c h1 r1 s1 f1 => ?_) k.2
  have k0 := k.1 (cd2_t d c) h1 r1 f1
  have b := b_134 g
  have gn := g.1
  unfold v_rows keyN at k0
  unfold wp_Mo_rows_23
  intro P hP
  refine up_ind (P := fun a n => P n a) 135 (fun a n => 0 ≤ a ∧ 0 ≤ n ∧ n ≤ a ∧ n = si (fun j => on1 (t 130 j)) a) (fun a n a5 I next => ?_) (fun n I => ?_) 0 0 (by decide) ⟨by decide, by decide, by decide, rfl⟩
  · obtain ⟨a0, n0, na, e⟩ := I
    have e3 := si_s (f := fun j => on1 (t 130 j)) a0
    apply hP
    refine ⟨fun q => absurd q (by omega), fun _ => ?_⟩
    rw [tp_130 s1, tl_130 s1, gt_130 r1 a0 a5, tset_nv (by decide)]
    refine ⟨by decide, by omega, fun q => ?_, fun q => ?_⟩
    · rintro _ rfl
      rw [w32_id (by omega) (by omega), w32_id (by omega) (by omega)]
      refine next _ ⟨by omega, by omega, by omega, ?_⟩
      rw [e3, ← e]
      show n + 0 = n + on1 (t 130 a)
      rw [q]
      rfl
    · rintro _ rfl
      rw [w32_id (by omega) (by omega), w32_id (by omega) (by omega)]
      refine next _ ⟨by omega, by omega, by omega, ?_⟩
      rw [e3, ← e]
      show n + 1 = n + on1 (t 130 a)
      unfold on1
      rw [if_neg q]
  · obtain ⟨a0, n0, na, e⟩ := I
    refine hP _ _ ⟨fun _ => ?_, fun q => absurd q (by omega)⟩
    rw [gt_135 r1, gt_134 r1, gt_133 r1, tset_nv (by decide), tset_nv (by decide), tset_nv (by decide), w32_id (x := t 134 0) (by omega) (by omega)]
    refine ⟨fun q => ⟨fun q1 => ⟨fun q2 => ?_, fun q2 => ?_⟩, fun q1 => ?_⟩, fun q => ?_⟩
    · rw [if_neg q, if_neg q1, if_neg q2, ← e] at k0
      exact k0
    · rw [if_neg q, if_neg q1, if_pos (by omega)] at k0
      exact k0
    · rw [if_neg q, if_pos (by omega)] at k0
      exact k0
    · rw [if_pos (by omega)] at k0
      exact k0
theorem k_tape {H Q L : Int} {h : Hp} {t : Ts} {n i : Int} (r : RC H Q L h t) (x : xr h) (g : Bd n t) {K : Int → Prop} {E : Int → Hp → Prop} (k : KG h (cd2 t (0 ≤ i ∧ i ≤ t 141 0 - 1)) (iand (t 140 i) 255) K E) : wp_Kh_tape 64 i h K E := by
  have sh := r.1; have hh := r.2.1.1; have hl := r.2.1.2.2.1; have hk := r.2.1.2.1; have sw := r.2.1.2.2.2.1; have sq := r.2.1.2.2.2.2.2.1; have sl := r.2.1.2.2.2.2.2.2.2.1
  unfold wp_Kh_tape
  rw [z_Kh_isUp sh, r.dn]
  by_cases d : t 137 0 = 0
  · have b := b_141 g
    rw [if_pos d, p_1_13 sh, p_80_36 sh, p_102_0 sh, l_103 sh, gc_102_141 r d, w32_id (by omega) (by omega)]
    simp only [z_Kh_isIn, z_Kh_need, bi_nz]
    refine ⟨by decide, by decide, ?_⟩
    by_cases c : 0 ≤ i ∧ i ≤ t 141 0 - 1
    · rw [if_pos c, gc_103_140 r (by omega) (by omega)]
      exact ⟨by decide, by omega, k.1 (cd2_t d c)⟩
    · rw [if_neg c]
      exact ⟨x, k.2.1 (cd2_f d c)⟩
  · rw [if_neg d]
    exact ⟨x, k.2.2 (cd2_d d)⟩
theorem m_tape {h : Hp} {t : Ts} {n i : Int} (sh : Sh h) (r : RT h t) (g : Bd n t) {K : Int → Hp → Prop} (k : MT h t (cd2 t (0 ≤ i ∧ i ≤ t 141 0 - 1)) (iand (t 140 i) 255) (tset t 0 0 0) K) : wp_Mo_tape 1400 i h K := by
  unfold wp_Mo_tape
  have b := b_141 g
  rw [gt_141 r]
  simp only [zn (fun s0 => wp_Mo_tape_18 K 1400 i s0 1400 h), zan (fun s0 => wp_Mo_tape_18 K 1400 i s0 1400 h)]
  rw [ebi (show (¬ i < 0 ∧ ¬ i ≥ t 141 0) ↔ (0 ≤ i ∧ i ≤ t 141 0 - 1) by omega)]
  unfold wp_Mo_tape_18
  refine ⟨by decide, fl2 sh r (fun d c h1 r1 s1 f1 => ?_) k.2⟩
  rw [tp_140 s1, tl_140 s1, gt_140 r1 (by omega) (by omega), tset_nv (by decide)]
  exact ⟨by decide, by omega, k.1 (cd2_t d c) h1 r1 f1⟩
abbrev ok_poke (t : Ts) (i y : Int) : Prop := (0 ≤ i ∧ i ≤ t 143 0 - 1) ∧ 0 ≤ y ∧ y ≤ 255
theorem k_poke {H Q L : Int} {h : Hp} {t : Ts} {n i y : Int} (r : RC H Q L h t) (x : xr h) (g : Bd n t) {K E : Int → Hp → Prop}
    (kk : cd2 t (ok_poke t i y) = 0 → ∀ h1, RC H Q L h1 (tset t 142 i (w8 y)) → frC h h1 → K (iand (t 142 i) 255) h1) (ke : ErrC h (cd2 t (ok_poke t i y)) E) : wp_Kh_poke 64 i y h K E := by
  have sh := r.1; have hh := r.2.1.1; have hl := r.2.1.2.2.1; have hk := r.2.1.2.1; have sw := r.2.1.2.2.2.1; have sq := r.2.1.2.2.2.2.2.1; have sl := r.2.1.2.2.2.2.2.2.2.1
  unfold wp_Kh_poke wp_Kh_isByte
  rw [z_Kh_isUp sh, r.dn]
  by_cases d : t 137 0 = 0
  · have b := b_143 g
    rw [if_pos d, p_1_13 sh, p_80_37 sh, p_104_0 sh, l_105 sh, gc_104_143 r d, w32_id (by omega) (by omega)]
    simp only [z_Kh_isIn, z_Kh_need, bi_nz]
    refine ⟨by decide, by decide, ?_⟩
    by_cases c : 0 ≤ i ∧ i ≤ t 143 0 - 1
    · rw [if_pos c]
      by_cases c1 : 0 ≤ y ∧ y ≤ 255
      · rw [if_pos c1, gc_105_142 r (by omega) (by omega), w8_w8]
        refine ⟨by decide, by omega, ?_⟩
        rintro _ rfl
        refine ⟨by omega, ?_⟩
        rintro _ rfl
        exact kk (cd2_t d ⟨c, c1⟩) _ (r.put (e_105_142 (by omega) (by omega)) (by unfold ctl; omega) (by unfold spv; omega)) ((frS.rf h).put (by omega)).fr
      · rw [if_neg c1]
        exact ⟨x, ke.1 (cd2_f d (fun z => c1 z.2))⟩
    · rw [if_neg c]
      exact ⟨x, ke.1 (cd2_f d (fun z => c z.1))⟩
  · rw [if_neg d]
    exact ⟨x, ke.2 (cd2_d d)⟩
theorem m_poke {h : Hp} {t : Ts} {n i y : Int} (sh : Sh h) (r : RT h t) (g : Bd n t) {K : Int → Hp → Prop} (k : MT h t (cd2 t (ok_poke t i y)) (iand (t 142 i) 255) (tset (tset t 0 0 0) 142 i (w8 y)) K) : wp_Mo_poke 1400 i y h K := by
  unfold wp_Mo_poke
  have b := b_143 g
  rw [gt_143 r]
  simp only [z_Mo_in, zb (fun s0 => wp_Mo_poke_30 K 1400 i y s0 1400 h), zan (fun s0 => wp_Mo_poke_30 K 1400 i y s0 1400 h)]
  rw [ebi (show (¬ i < 0 ∧ ¬ i ≥ t 143 0 ∧ 0 ≤ y ∧ y ≤ 255) ↔ ok_poke t i y by unfold ok_poke; omega)]
  unfold wp_Mo_poke_30
  refine ⟨by decide, fl2 (ok := ok_poke t i y) sh r (fun d c h1 r1 s1 f1 => ?_) k.2⟩
  rw [tp_142 s1, tl_142 s1, gt_142 r1 (by omega) (by omega), tset_nv (by decide), w8_w8]
  refine ⟨by decide, by omega, ?_⟩
  rintro _ rfl
  refine ⟨by omega, ?_⟩
  rintro _ rfl
  exact k.1 (cd2_t d c) _ (r1.put (t_142 (by omega) (by omega))) (f1.put (t_142 (by omega) (by omega)))
/-- how much of the tape comes to the reel -/
def cpN (t : Ts) : Int := mn (t 141 0) (4100 - t 143 0)
def t_cpy (t : Ts) (m : Int) : Ts := tset (tsr t 142 (t 143 0) (t 143 0 + m) (fun k => t 140 (k - t 143 0))) 143 0 (t 143 0 + m)
theorem t_cpy_0 (t : Ts) : t_cpy t 0 = t := by
  unfold t_cpy
  have e : tsr t 142 (t 143 0) (t 143 0 + 0) (fun k => t 140 (k - t 143 0)) = t := by
    funext u k
    unfold tsr
    rw [if_neg (by omega)]
  rw [e]
  exact tset_id (by omega)
theorem t_cpy_u {t : Ts} {m u k : Int} (n : u ≠ 142) (n2 : u ≠ 143) : t_cpy t m u k = t u k := by unfold t_cpy; rw [tset_nv n2, tsr_nv n]
theorem t_cpy_s {t : Ts} {m : Int} (m0 : 0 ≤ m) (b : -128 ≤ t 140 m ∧ t 140 m ≤ 127) : t_feed (t_cpy t m) (t 140 m) = t_cpy t (m + 1) := by
  funext u k
  unfold t_feed
  have e1 : t_cpy t m 143 0 = t 143 0 + m := tset_eq _ _ _ _
  rw [e1]
  by_cases c : u = 143 ∧ k = 0
  · rw [c.1, c.2, tset_eq]
    show t 143 0 + m + 1 = tset _ 143 0 _ 143 0
    rw [tset_eq]
    omega
  · rw [tset_ne c]
    unfold t_cpy
    rw [tset_ne (t := tsr t 142 (t 143 0) (t 143 0 + (m + 1)) _) c]
    by_cases c2 : u = 142 ∧ k = t 143 0 + m
    · rw [c2.1, c2.2, tset_eq, tsr_in (by omega) (by omega), w8_id b.1 b.2]
      exact congrArg (t 140) (by omega)
    · rw [tset_ne c2, tset_ne c]
      unfold tsr
      by_cases c3 : u = 142 ∧ t 143 0 ≤ k ∧ k < t 143 0 + m
      · rw [if_pos c3, if_pos (by omega)]
      · rw [if_neg c3, if_neg (by omega)]
theorem Bd.cpy {n : Int} {t : Ts} {m : Int} (g : Bd n t) (m0 : 0 ≤ m) (m1 : m ≤ cpN t) : Bd n (t_cpy t m) := by
  have b1 := b_141 g
  have b3 := b_143 g
  have e : m ≤ t 141 0 ∧ m ≤ 4100 - t 143 0 := by unfold cpN mn at m1; split at m1 <;> omega
  unfold t_cpy
  exact bp_143 (br_142 g (fun k k0 k1 _ _ => b_140 g (by omega) (by omega))) (by omega) (by omega)
theorem k_copy {H Q L : Int} {h : Hp} {t : Ts} {n : Int} (r : RC H Q L h t) (x : xr h) (g : Bd n t) {K E : Int → Hp → Prop}
    (kk : t 137 0 = 0 → ∀ h1, RC H Q L h1 (t_cpy t (cpN t)) → frC h h1 → K (t 143 0 + cpN t) h1) (ke : t 137 0 ≠ 0 → E (nx h) (mk h 25 6)) : wp_Kh_copy 64 h K E := by
  have sh := r.1; have hh := r.2.1.1; have hl := r.2.1.2.2.1; have hk := r.2.1.2.1; have sw := r.2.1.2.2.2.1; have sq := r.2.1.2.2.2.2.2.1; have sl := r.2.1.2.2.2.2.2.2.2.1
  unfold wp_Kh_copy
  rw [z_Kh_isUp sh, r.dn]
  by_cases d : t 137 0 = 0
  · rw [if_pos d]
    have b1 := b_141 g
    have b3 := b_143 g
    have eN : (cpN t ≤ t 141 0 ∧ cpN t ≤ 4100 - t 143 0) ∧ (cpN t = t 141 0 ∨ cpN t = 4100 - t 143 0) := by unfold cpN mn; split <;> omega
    unfold wp_Kh_copy_6
    intro P hP
    refine up_ind (P := P) (cpN t) (fun m h' => 0 ≤ m ∧ RC H Q L h' (t_cpy t m) ∧ frS h h') (fun m h' m5 I next => ?_) (fun h' I => ?_) 0 h (by omega) ⟨by decide, by rw [t_cpy_0]; exact r, frS.rf h⟩
    · obtain ⟨m0, r', f'⟩ := I
      have d' : t_cpy t m 137 0 = 0 := (t_cpy_u (by decide) (by decide)).trans d
      have s' := r'.1
      have g' := g.cpy m0 (by omega)
      have e1 : t_cpy t m 141 0 = t 141 0 := t_cpy_u (by decide) (by decide)
      have e3 : t_cpy t m 143 0 = t 143 0 + m := tset_eq _ _ _ _
      have e0 : t_cpy t m 140 m = t 140 m := t_cpy_u (by decide) (by decide)
      apply hP
      rw [p_1_13 s', p_80_36 s', p_80_37 s', gc_102_141 r' d', gc_104_143 r' d', e1, e3, p_102_0 s', l_103 s', gc_103_140 r' m0 (by omega), e0]
      refine ⟨by decide, by decide, fun q => absurd q (by omega), fun _ => ⟨by decide, fun q => absurd q (by omega), fun _ => ⟨by decide, by omega, k_tapeput r' d' g' (by rw [e3]; omega) (fun h1 r1 f1 => ?_)⟩⟩⟩
      rintro _ rfl
      rw [w32_id (by omega) (by omega)]
      rw [t_cpy_s m0 (b_140 g m0 (by omega))] at r1
      exact next _ ⟨by omega, r1, f'.tr f1⟩
    · obtain ⟨m0, r', f'⟩ := I
      have d' : t_cpy t (cpN t) 137 0 = 0 := (t_cpy_u (by decide) (by decide)).trans d
      have s' := r'.1
      have e1 : t_cpy t (cpN t) 141 0 = t 141 0 := t_cpy_u (by decide) (by decide)
      have e3 : t_cpy t (cpN t) 143 0 = t 143 0 + cpN t := tset_eq _ _ _ _
      have k2 := kk d h' r' f'.fr
      apply hP
      rw [p_1_13 s', p_80_36 s', p_80_37 s', gc_102_141 r' d', gc_104_143 r' d', e1, e3]
      exact ⟨by decide, by decide, fun _ => ⟨by decide, k2⟩, fun q => ⟨by decide, fun _ => k2, fun q2 => by omega⟩⟩
  · rw [if_neg d]
    exact ⟨x, ke d⟩
theorem m_copy {h : Hp} {t : Ts} {n : Int} (sh : Sh h) (r : RT h t) (g : Bd n t) {K : Int → Hp → Prop}
    (kk : t 137 0 = 0 → ∀ h1, RT h1 (t_cpy (tset t 0 0 0) (cpN t)) → frT h h1 → K (t 143 0 + cpN t) h1) (ke : t 137 0 ≠ 0 → ∀ h1, RT h1 (tset t 0 0 1) → frT h h1 → K 0 h1) : wp_Mo_copy 1400 h K := by
  unfold wp_Mo_copy
  refine fl1 sh r (fun d h1 r1 s1 f1 => ?_) ke
  have k2 := kk d
  have g1 : Bd n (tset t 0 0 0) := g.pun (by unfold bdv; omega)
  have e : (tset t 0 0 0) 143 0 = t 143 0 := tset_nv (by decide)
  have e' : cpN t = cpN (tset t 0 0 0) := by unfold cpN; rw [tset_nv (by decide), tset_nv (by decide)]
  rw [← e, e'] at k2
  clear e e'
  generalize tset t 0 0 0 = t1 at *
  have b1 := b_141 g1
  have b3 := b_143 g1
  have eN : (cpN t1 ≤ t1 141 0 ∧ cpN t1 ≤ 4100 - t1 143 0) ∧ (cpN t1 = t1 141 0 ∨ cpN t1 = 4100 - t1 143 0) := by unfold cpN mn; split <;> omega
  unfold wp_Mo_copy_11
  intro P hP
  refine up_ind (P := P) (cpN t1) (fun m h' => 0 ≤ m ∧ RT h' (t_cpy t1 m) ∧ frT h h') (fun m h' m5 I next => ?_) (fun h' I => ?_) 0 h1 (by omega) ⟨by decide, by rw [t_cpy_0]; exact r1, f1⟩
  · obtain ⟨m0, r', f'⟩ := I
    have s' := f'.sh sh
    have e1 : t_cpy t1 m 141 0 = t1 141 0 := t_cpy_u (by decide) (by decide)
    have e3 : t_cpy t1 m 143 0 = t1 143 0 + m := tset_eq _ _ _ _
    have e0 : t_cpy t1 m 140 m = t1 140 m := t_cpy_u (by decide) (by decide)
    apply hP
    rw [gt_141 r', gt_143 r', e1, e3, tp_140 s', tl_140 s', tp_142 s', tl_142 s', gt_140 r' m0 (by omega), e0]
    refine ⟨fun q => absurd q (by omega), fun _ => ⟨fun q => absurd q (by omega), fun _ => ⟨by decide, by omega, by decide, by omega, ?_⟩⟩⟩
    intro h2 e2
    have r2 : RT h2 (tset (t_cpy t1 m) 142 (t1 143 0 + m) (w8 (t1 140 m))) := by rw [e2]; exact r'.put (t_142 (by omega) (by omega))
    have f2 : frT h h2 := by rw [e2]; exact f'.put (t_142 (i := t1 143 0 + m) (by omega) (by omega))
    rw [gt_143 r2, tset_nv (by decide), e3, w32_id (by omega) (by omega)]
    rintro h3 e4
    rintro _ rfl
    rw [w32_id (by omega) (by omega)]
    refine next _ ⟨by omega, ?_, ?_⟩
    · rw [← t_cpy_s m0 (b_140 g1 m0 (by omega)), e4]
      unfold t_feed
      rw [e3]
      exact r2.put t_143
    · rw [e4]
      exact f2.put t_143
  · obtain ⟨m0, r', f'⟩ := I
    have e1 : t_cpy t1 (cpN t1) 141 0 = t1 141 0 := t_cpy_u (by decide) (by decide)
    have e3 : t_cpy t1 (cpN t1) 143 0 = t1 143 0 + cpN t1 := tset_eq _ _ _ _
    have k3 := k2 h' r' f'
    apply hP
    rw [gt_141 r', gt_143 r', e1, e3]
    exact ⟨fun _ => k3, fun q => ⟨fun _ => k3, fun q2 => by omega⟩⟩
