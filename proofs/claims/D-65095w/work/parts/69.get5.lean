/-! GETTERS OF THE COMPONENT (PURE) AND OF THE TWIN -/
def KG (h : Hp) (c v : Int) (K : Int → Prop) (E : Int → Hp → Prop) : Prop := (c = 0 → K v) ∧ (c = 1 → E (nx h) (mk h 26 6)) ∧ (c = 2 → E (nx h) (mk h 25 6))
def MT (h : Hp) (t : Ts) (c v : Int) (t2 : Ts) (K : Int → Hp → Prop) : Prop := (c = 0 → ∀ h1, RT h1 t2 → frT h h1 → K v h1) ∧ (c ≠ 0 → ∀ h1, RT h1 (tset t 0 0 c) → frT h h1 → K 0 h1)
def v_state (t : Ts) (i : Int) : Int := if i = 0 then t 54 0 else if i = 1 then t 53 0 else if i = 2 then t 55 0 else if i = 3 then t 61 0 else if i = 4 then on1 (t 63 0) else if i = 5 then t 62 0 else if i = 6 then t 68 0 else if i = 7 then t 66 0 else if i = 8 then on1 (t 64 0) else if i = 9 then on1 (t 65 0) else t 2 0
theorem k_state {H Q L : Int} {h : Hp} {t : Ts} {i : Int} (r : RC H Q L h t) (x : xr h) {K : Int → Prop} {E : Int → Hp → Prop} (k : KG h (cd2 t (0 ≤ i ∧ i ≤ 10)) (v_state t i) K E) : wp_Kh_state 64 i h K E := by
  have sh := r.1; have hh := r.2.1.1; have hl := r.2.1.2.2.1; have hk := r.2.1.2.1; have sw := r.2.1.2.2.2.1; have sq := r.2.1.2.2.2.2.2.1; have sl := r.2.1.2.2.2.2.2.2.2.1
  have hH : H = 628 ∨ H = 768 := hh
  unfold wp_Kh_state wp_Kh_state_104 wp_Kh_state_139 wp_Kh_state_150
  rw [z_Kh_isUp sh, r.dn]
  by_cases d : t 137 0 = 0
  · rw [if_pos d]
    simp only [z_Kh_isIn, z_Kh_need, bi_nz]
    by_cases c : 0 ≤ i ∧ i ≤ 10
    · rw [if_pos c, sw, p_1_13 sh]
      simp only [z_Kh_one, gc_80_54 r d, gc_80_53 r d, gc_80_55 r d, gc_80_61 r d, gc_80_63 r d, gc_80_62 r d, gc_80_68 r d, gc_80_66 r d, gc_80_64 r d, gc_80_65 r d, gc_20_2 r d]
      have k0 := k.1 (cd2_t d c)
      unfold v_state at k0
      refine ⟨fun q => ⟨by omega, ?_⟩, fun q => ⟨by decide, ?_⟩, fun q => ⟨by decide, ?_⟩, fun q => ⟨by decide, ?_⟩, fun q => ⟨by decide, ?_⟩, fun q => ⟨by decide, ?_⟩, fun q => ⟨by decide, ?_⟩, fun q => ⟨by decide, ?_⟩, fun q => ⟨by decide, ?_⟩, fun q => ⟨by decide, ?_⟩, fun q => ⟨by decide, ?_⟩, trivial⟩
      · obtain rfl : i = 10 := by omega
        exact k0
      all_goals (subst q; exact k0)
    · rw [if_neg c]
      exact ⟨x, k.2.1 (cd2_f d c)⟩
  · rw [if_neg d]
    exact ⟨x, k.2.2 (cd2_d d)⟩
theorem m_state {h : Hp} {t : Ts} {n i : Int} (sh : Sh h) (r : RT h t) (g : Bd n t) {K : Int → Hp → Prop} (k : MT h t (cd2 t (0 ≤ i ∧ i ≤ 10)) (v_state t i) (tset t 0 0 0) K) : wp_Mo_state 1400 i h K := by
  unfold wp_Mo_state wp_Mo_state_96 wp_Mo_state_126 wp_Mo_state_139
  rw [z_Mo_in]
  refine fl2 sh r (fun d c h1 r1 s1 f1 => ?_) k.2
  have k0 := k.1 (cd2_t d c) h1 r1 f1
  have b2 := b_2 g
  have b66 := b_66 g
  have b68 := b_68 g
  have gn := g.1
  unfold v_state on1 at k0
  simp only [gt_54 r1, gt_53 r1, gt_55 r1, gt_61 r1, gt_63 r1, gt_62 r1, gt_68 r1, gt_66 r1, gt_64 r1, gt_65 r1, gt_2 r1]
  simp only [tset_nv (show (54 : Int) ≠ 0 by decide), tset_nv (show (53 : Int) ≠ 0 by decide), tset_nv (show (55 : Int) ≠ 0 by decide), tset_nv (show (61 : Int) ≠ 0 by decide), tset_nv (show (63 : Int) ≠ 0 by decide), tset_nv (show (62 : Int) ≠ 0 by decide), tset_nv (show (68 : Int) ≠ 0 by decide), tset_nv (show (66 : Int) ≠ 0 by decide), tset_nv (show (64 : Int) ≠ 0 by decide), tset_nv (show (65 : Int) ≠ 0 by decide), tset_nv (show (2 : Int) ≠ 0 by decide)]
  rw [w32_id (x := t 2 0) (by omega) (by omega), w32_id (x := t 68 0) (by omega) (by omega), w32_id (x := t 66 0) (by omega) (by omega)]
  refine ⟨fun q => ?_, fun q => ?_, fun q => ?_, fun q => ?_, fun q => ?_, fun q => ?_, fun q => ?_, fun q => ?_, fun q => ?_, fun q => ?_, fun q => ?_, trivial⟩
  · obtain rfl : i = 10 := by omega
    exact k0
  all_goals subst q
  · exact k0
  · exact k0
  · exact k0
  · exact k0
  · refine ⟨fun z => ?_, fun z => ?_⟩
    · simpa [z] using k0
    · simpa [z] using k0
  · exact k0
  · exact k0
  · exact k0
  · refine ⟨fun z => ?_, fun z => ?_⟩
    · simpa [z] using k0
    · simpa [z] using k0
  · refine ⟨fun z => ?_, fun z => ?_⟩
    · simpa [z] using k0
    · simpa [z] using k0
def v_fault (t : Ts) (i : Int) : Int := if t 36 0 = 0 then -1 else if i = 0 then t 34 0 else t 35 0
theorem k_fault {H Q L : Int} {h : Hp} {t : Ts} {i : Int} (r : RC H Q L h t) (x : xr h) {K : Int → Prop} {E : Int → Hp → Prop} (k : KG h (cd2 t (0 ≤ i ∧ i ≤ 1)) (v_fault t i) K E) : wp_Kh_fault 64 i h K E := by
  have sh := r.1; have hh := r.2.1.1; have hl := r.2.1.2.2.1; have hk := r.2.1.2.1; have sw := r.2.1.2.2.2.1; have sq := r.2.1.2.2.2.2.2.1; have sl := r.2.1.2.2.2.2.2.2.2.1
  unfold wp_Kh_fault
  rw [z_Kh_isUp sh, r.dn]
  by_cases d : t 137 0 = 0
  · rw [if_pos d]
    simp only [z_Kh_isIn, z_Kh_need, bi_nz]
    by_cases c : 0 ≤ i ∧ i ≤ 1
    · have fl := (r.2.2.2.2 d).2.2.2.2.1
      rw [if_pos c, p_1_13 sh, fl.1, fl.2.1]
      have k0 := k.1 (cd2_t d c)
      unfold v_fault at k0
      refine ⟨fun q => ⟨by decide, ?_⟩, fun q => ⟨by decide, ?_⟩⟩
      · rw [if_neg q] at k0
        exact k0
      · rw [if_pos (show i = 0 by omega)] at k0
        exact k0
    · rw [if_neg c]
      exact ⟨x, k.2.1 (cd2_f d c)⟩
  · rw [if_neg d]
    exact ⟨x, k.2.2 (cd2_d d)⟩
theorem m_fault {h : Hp} {t : Ts} {i : Int} (sh : Sh h) (r : RT h t) {K : Int → Hp → Prop} (k : MT h t (cd2 t (0 ≤ i ∧ i ≤ 1)) (v_fault t i) (tset t 0 0 0) K) : wp_Mo_fault 1400 i h K := by
  unfold wp_Mo_fault
  rw [z_Mo_in]
  refine fl2 sh r (fun d c h1 r1 s1 f1 => ?_) k.2
  have k0 := k.1 (cd2_t d c) h1 r1 f1
  unfold v_fault at k0
  rw [gt_36 r1, gt_35 r1, gt_34 r1, tset_nv (by decide), tset_nv (by decide), tset_nv (by decide)]
  refine ⟨fun q => ?_, fun q => ?_⟩
  · rw [if_neg q] at k0
    refine ⟨fun q2 => ?_, fun q2 => ?_⟩
    · rw [if_neg q2] at k0
      exact k0
    · rw [if_pos (show i = 0 by omega)] at k0
      exact k0
  · rw [if_pos (show t 36 0 = 0 by omega)] at k0
    exact k0
theorem z_Mo_isKept (k m x : Int) (K : Int → Prop) : wp_Mo_isKept k m x K = K (bi (0 ≤ k ∧ k ≤ mn m x - 1)) := by
  unfold wp_Mo_isKept mn
  simp only [ia]
  by_cases c : k < 0
  · rw [if_pos c, bi_f (by omega)]
  · rw [if_neg c]
    by_cases c1 : k ≥ m
    · rw [if_pos c1, bi_f]
      split <;> omega
    · rw [if_neg c1]
      by_cases c2 : k ≥ x
      · rw [if_pos c2, bi_f]
        split <;> omega
      · rw [if_neg c2, bi_t]
        split <;> omega
/-- the place of the k-th from the last of many in a ring -/
abbrev rg (m k n : Int) : Int := (m - 1 - k) % n
abbrev ok_alarm (t : Ts) (i j : Int) : Prop := (0 ≤ i ∧ i ≤ mn (t 72 0) 32 - 1) ∧ 0 ≤ j ∧ j ≤ 1
def v_alarm (t : Ts) (i j : Int) : Int := if j = 0 then t 73 (rg (t 72 0) i 32) else t 74 (rg (t 72 0) i 32)
theorem k_alarm {H Q L : Int} {h : Hp} {t : Ts} {n i j : Int} (r : RC H Q L h t) (g : Bd n t) (x : xr h) {K : Int → Prop} {E : Int → Hp → Prop} (k : KG h (cd2 t (ok_alarm t i j)) (v_alarm t i j) K E) : wp_Kh_alarm 64 i j h K E := by
  have sh := r.1; have hh := r.2.1.1; have hl := r.2.1.2.2.1; have hk := r.2.1.2.1; have sw := r.2.1.2.2.2.1; have sq := r.2.1.2.2.2.2.2.1; have sl := r.2.1.2.2.2.2.2.2.2.1
  unfold wp_Kh_alarm
  rw [z_Kh_isUp sh, r.dn]
  by_cases d : t 137 0 = 0
  · have b := b_72 g
    have gn := g.1
    have bm : mn (t 72 0) 32 ≤ t 72 0 ∧ mn (t 72 0) 32 ≤ 32 ∧ 0 ≤ mn (t 72 0) 32 := by unfold mn; split <;> omega
    rw [if_pos d, p_1_13 sh, gc_80_72 r d, z_min1, w32_id (x := mn (t 72 0) 32 - 1) (by omega) (by omega)]
    simp only [z_Kh_isIn, zb (fun s0 => wp_Kh_alarm_43 K E 64 i j s0 h), za (fun s0 => wp_Kh_alarm_43 K E 64 i j s0 h)]
    unfold wp_Kh_alarm_43
    rw [z_Kh_need]
    simp only [bi_nz]
    refine ⟨by decide, ?_⟩
    by_cases c : ok_alarm t i j
    · have k0 := k.1 (cd2_t d c)
      unfold v_alarm rg at k0
      have e : Int.tmod (w32 (w32 (t 72 0 - 1) - i)) 32 = (t 72 0 - 1 - i) % 32 := by
        rw [w32_id (x := t 72 0 - 1) (by omega) (by omega), w32_id (by omega) (by omega), tmod_pos (by omega) (by decide)]
      rw [if_pos c, p_1_13 sh, gc_80_72 r d, e, p_80_25 sh, p_80_26 sh, l_94 sh, l_95 sh]
      refine ⟨by decide, ?_⟩
      rintro _ rfl
      rw [gc_94_73 r (by omega) (by omega), gc_95_74 r (by omega) (by omega)]
      refine ⟨fun q => ⟨by decide, by omega, ?_⟩, fun q => ⟨by decide, by omega, ?_⟩⟩
      · rw [if_neg q] at k0
        exact k0
      · rw [if_pos (show j = 0 by omega)] at k0
        exact k0
    · rw [if_neg c]
      exact ⟨x, k.2.1 (cd2_f d c)⟩
  · rw [if_neg d]
    exact ⟨x, k.2.2 (cd2_d d)⟩
theorem m_alarm {h : Hp} {t : Ts} {n i j : Int} (sh : Sh h) (r : RT h t) (g : Bd n t) {K : Int → Hp → Prop} (k : MT h t (cd2 t (ok_alarm t i j)) (v_alarm t i j) (tset t 0 0 0) K) : wp_Mo_alarm 1400 i j h K := by
  unfold wp_Mo_alarm
  rw [z_Mo_isKept, gt_72 r]
  simp only [z_Mo_in, zb (fun s0 => wp_Mo_alarm_29 K 1400 i j s0 1400 h), za (fun s0 => wp_Mo_alarm_29 K 1400 i j s0 1400 h)]
  unfold wp_Mo_alarm_29
  refine ⟨by decide, fl2 (ok := ok_alarm t i j) sh r (fun d c h1 r1 s1 f1 => ?_) k.2⟩
  have k0 := k.1 (cd2_t d c) h1 r1 f1
  have b := b_72 g
  have gn := g.1
  have bm : mn (t 72 0) 32 ≤ t 72 0 := by unfold mn; split <;> omega
  have e : Int.tmod (w32 (w32 (t 72 0 - 1) - i)) 32 = (t 72 0 - 1 - i) % 32 := by
    rw [w32_id (x := t 72 0 - 1) (by omega) (by omega), w32_id (by omega) (by omega), tmod_pos (by omega) (by decide)]
  have b4 := b_74 g (i := (t 72 0 - 1 - i) % 32) (by omega) (by omega)
  unfold v_alarm rg at k0
  rintro _ rfl
  rw [gt_72 r1, tset_nv (by decide), e, tp_74 s1, tl_74 s1, tp_73 s1, tl_73 s1, gt_74 r1 (by omega) (by omega), gt_73 r1 (by omega) (by omega), tset_nv (by decide), tset_nv (by decide), w32_id (x := t 74 ((t 72 0 - 1 - i) % 32)) (by omega) (by omega)]
  refine ⟨fun q => ⟨by decide, by omega, ?_⟩, fun q => ⟨by decide, by omega, ?_⟩⟩
  · rw [if_neg q] at k0
    exact k0
  · rw [if_pos (show j = 0 by omega)] at k0
    exact k0
abbrev ok_card (t : Ts) (i : Int) : Prop := (0 ≤ i ∧ i ≤ 39) ∧ ¬ (t 106 i = 0)
theorem z_cardOf {H Q L : Int} {h : Hp} {t : Ts} {i : Int} (r : RC H Q L h t) (d : t 137 0 = 0) (x : xr h) {K : Int → Prop} {E : Int → Hp → Prop} (k : ok_card t i → K (H + (84 + i))) (e : ¬ ok_card t i → E (nx h) (mk h 26 6)) : wp_Kh_cardOf 64 i h K E := by
  have sh := r.1; have hh := r.2.1.1; have hl := r.2.1.2.2.1; have hk := r.2.1.2.1; have sw := r.2.1.2.2.2.1; have sq := r.2.1.2.2.2.2.2.1; have sl := r.2.1.2.2.2.2.2.2.2.1
  have hH : H = 628 ∨ H = 768 := hh
  unfold wp_Kh_cardOf wp_Kh_cardOf_32
  simp only [z_Kh_isIn, z_Kh_need]
  by_cases c : 0 ≤ i ∧ i ≤ 39
  · rw [bi_t c, sw, p_20_22 hh sh, l_39 hh sh, p_39 hh c.1 (by omega) sh, gc_45_106 r d c.1 (by omega)]
    refine ⟨fun q => absurd q (by decide), fun _ => ⟨by omega, by omega, by omega, by omega, fun q => ?_, fun q => ?_⟩⟩
    · rw [if_neg (by decide)]
      exact ⟨x, e (fun z => z.2 q)⟩
    · rw [if_pos (by decide)]
      exact ⟨by omega, by omega, by omega, k ⟨c, q⟩⟩
  · rw [bi_f c]
    refine ⟨fun _ => ?_, fun q => absurd rfl q⟩
    rw [if_neg (by decide)]
    exact ⟨x, e (fun z => c z.1)⟩
theorem k_place {H Q L : Int} {h : Hp} {t : Ts} {i : Int} (r : RC H Q L h t) (x : xr h) {K : Int → Prop} {E : Int → Hp → Prop} (k : KG h (cd2 t (ok_card t i)) (t 111 i) K E) : wp_Kh_place 64 i h K E := by
  have sh := r.1; have hh := r.2.1.1; have hl := r.2.1.2.2.1; have hk := r.2.1.2.1; have sw := r.2.1.2.2.2.1; have sq := r.2.1.2.2.2.2.2.1; have sl := r.2.1.2.2.2.2.2.2.2.1
  have hH : H = 628 ∨ H = 768 := hh
  unfold wp_Kh_place
  rw [z_Kh_isUp sh, r.dn]
  by_cases d : t 137 0 = 0
  · rw [if_pos d]
    refine z_cardOf r d x (fun c => ?_) (fun c => k.2.1 (cd2_f d c))
    rw [gc_45_111 r d c.1.1 (by omega)]
    exact ⟨by omega, k.1 (cd2_t d c)⟩
  · rw [if_neg d]
    exact ⟨x, k.2.2 (cd2_d d)⟩
theorem z_Mo_isCard {h : Hp} {t : Ts} (sh : Sh h) (r : RT h t) (i : Int) (K : Int → Prop) : wp_Mo_isCard 1400 i h K = K (bi (ok_card t i)) := by
  unfold wp_Mo_isCard
  simp only [ia]
  by_cases c : i < 0
  · rw [if_pos c, bi_f (by omega)]
  · rw [if_neg c]
    by_cases c1 : i ≥ 40
    · rw [if_pos c1, bi_f (by omega)]
    · rw [if_neg c1, tp_106 sh, tl_106 sh, gt_106 r (by omega) (by omega)]
      by_cases c2 : t 106 i = 0
      · rw [if_pos c2, bi_f (fun z => z.2 c2)]
        exact propext ⟨fun z => z.2.2, fun z => ⟨by decide, by omega, z⟩⟩
      · rw [if_neg c2, bi_t ⟨by omega, c2⟩]
        exact propext ⟨fun z => z.2.2, fun z => ⟨by decide, by omega, z⟩⟩
theorem m_place {h : Hp} {t : Ts} {i : Int} (sh : Sh h) (r : RT h t) {K : Int → Hp → Prop} (k : MT h t (cd2 t (ok_card t i)) (t 111 i) (tset t 0 0 0) K) : wp_Mo_place 1400 i h K := by
  unfold wp_Mo_place
  rw [z_Mo_isCard sh r]
  refine fl2 (ok := ok_card t i) sh r (fun d c h1 r1 s1 f1 => ?_) k.2
  rw [tp_111 s1, tl_111 s1, gt_111 r1 c.1.1 (by omega), tset_nv (by decide)]
  exact ⟨by decide, by omega, k.1 (cd2_t d c) h1 r1 f1⟩
abbrev ok_log (t : Ts) (i j : Int) : Prop := (0 ≤ i ∧ i ≤ mn (t 112 0) 64 - 1) ∧ 0 ≤ j ∧ j ≤ 3
def v_log (t : Ts) (i j : Int) : Int := if j = 0 then t 113 (rg (t 112 0) i 64) else if j = 1 then t 114 (rg (t 112 0) i 64) else if j = 2 then t 115 (rg (t 112 0) i 64) else t 116 (rg (t 112 0) i 64)
theorem k_log {H Q L : Int} {h : Hp} {t : Ts} {n i j : Int} (r : RC H Q L h t) (g : Bd n t) (x : xr h) {K : Int → Prop} {E : Int → Hp → Prop} (k : KG h (cd2 t (ok_log t i j)) (v_log t i j) K E) : wp_Kh_log 64 i j h K E := by
  have sh := r.1; have hh := r.2.1.1; have hl := r.2.1.2.2.1; have hk := r.2.1.2.1; have sw := r.2.1.2.2.2.1; have sq := r.2.1.2.2.2.2.2.1; have sl := r.2.1.2.2.2.2.2.2.2.1
  unfold wp_Kh_log
  rw [z_Kh_isUp sh, r.dn]
  by_cases d : t 137 0 = 0
  · have b := b_112 g
    have gn := g.1
    have bm : mn (t 112 0) 64 ≤ t 112 0 ∧ mn (t 112 0) 64 ≤ 64 ∧ 0 ≤ mn (t 112 0) 64 := by unfold mn; split <;> omega
    rw [if_pos d, p_1_13 sh, gc_80_112 r d, z_min1, w32_id (x := mn (t 112 0) 64 - 1) (by omega) (by omega)]
    simp only [z_Kh_isIn, zb (fun s0 => wp_Kh_log_45 K E 64 i j s0 h), za (fun s0 => wp_Kh_log_45 K E 64 i j s0 h)]
    unfold wp_Kh_log_45
    rw [z_Kh_need]
    simp only [bi_nz]
    refine ⟨by decide, ?_⟩
    by_cases c : ok_log t i j
    · have k0 := k.1 (cd2_t d c)
      unfold v_log rg at k0
      have e : w32 (w32 (4 * Int.tmod (w32 (w32 (t 112 0 - 1) - i)) 64) + j) = 4 * ((t 112 0 - 1 - i) % 64) + j := by
        rw [w32_id (x := t 112 0 - 1) (by omega) (by omega), w32_id (x := t 112 0 - 1 - i) (by omega) (by omega), tmod_pos (by omega) (by decide), w32_id (x := 4 * ((t 112 0 - 1 - i) % 64)) (by omega) (by omega), w32_id (by omega) (by omega)]
      rw [if_pos c, p_1_13 sh, gc_80_112 r d, e, p_80_28 sh, l_96 sh]
      have m0 : 0 ≤ (t 112 0 - 1 - i) % 64 := by omega
      have m1 : (t 112 0 - 1 - i) % 64 < 64 := by omega
      generalize (t 112 0 - 1 - i) % 64 = m at *
      refine ⟨by decide, by decide, by omega, ?_⟩
      rcases (show j = 0 ∨ j = 1 ∨ j = 2 ∨ j = 3 by omega) with rfl | rfl | rfl | rfl
      · rw [gc_96_113 r (by omega) (by omega) (by omega), show (4 * m + 0) / 4 = m by omega]
        exact k0
      · rw [gc_96_114 r (by omega) (by omega) (by omega), show (4 * m + 1) / 4 = m by omega]
        exact k0
      · rw [gc_96_115 r (by omega) (by omega) (by omega), show (4 * m + 2) / 4 = m by omega]
        exact k0
      · rw [gc_96_116 r (by omega) (by omega) (by omega), show (4 * m + 3) / 4 = m by omega]
        exact k0
    · rw [if_neg c]
      exact ⟨x, k.2.1 (cd2_f d c)⟩
  · rw [if_neg d]
    exact ⟨x, k.2.2 (cd2_d d)⟩
theorem m_log {h : Hp} {t : Ts} {n i j : Int} (sh : Sh h) (r : RT h t) (g : Bd n t) {K : Int → Hp → Prop} (k : MT h t (cd2 t (ok_log t i j)) (v_log t i j) (tset t 0 0 0) K) : wp_Mo_log 1400 i j h K := by
  unfold wp_Mo_log
  rw [z_Mo_isKept, gt_112 r]
  simp only [z_Mo_in, zb (fun s0 => wp_Mo_log_31 K 1400 i j s0 1400 h), za (fun s0 => wp_Mo_log_31 K 1400 i j s0 1400 h)]
  unfold wp_Mo_log_31
  refine ⟨by decide, fl2 (ok := ok_log t i j) sh r (fun d c h1 r1 s1 f1 => ?_) k.2⟩
  have k0 := k.1 (cd2_t d c) h1 r1 f1
  have b := b_112 g
  have gn := g.1
  have bm : mn (t 112 0) 64 ≤ t 112 0 := by unfold mn; split <;> omega
  have e : Int.tmod (w32 (w32 (t 112 0 - 1) - i)) 64 = (t 112 0 - 1 - i) % 64 := by
    rw [w32_id (x := t 112 0 - 1) (by omega) (by omega), w32_id (by omega) (by omega), tmod_pos (by omega) (by decide)]
  have b4 := b_113 g (i := (t 112 0 - 1 - i) % 64) (by omega) (by omega)
  unfold v_log rg at k0
  rintro _ rfl
  rw [gt_112 r1, tset_nv (by decide), e, tp_113 s1, tl_113 s1, tp_114 s1, tl_114 s1, tp_115 s1, tl_115 s1, tp_116 s1, tl_116 s1, gt_113 r1 (by omega) (by omega), gt_114 r1 (by omega) (by omega), gt_115 r1 (by omega) (by omega), gt_116 r1 (by omega) (by omega), tset_nv (by decide), tset_nv (by decide), tset_nv (by decide), tset_nv (by decide), w32_id (x := t 113 ((t 112 0 - 1 - i) % 64)) (by omega) (by omega)]
  refine ⟨fun q => ⟨fun q1 => ⟨fun q2 => ⟨by decide, by omega, ?_⟩, fun q2 => ⟨by decide, by omega, ?_⟩⟩, fun q1 => ⟨by decide, by omega, ?_⟩⟩, fun q => ⟨by decide, by omega, ?_⟩⟩
  · rw [if_neg q, if_neg q1, if_neg q2] at k0
    exact k0
  · rw [if_neg q, if_neg q1, if_pos (by omega)] at k0
    exact k0
  · rw [if_neg q, if_pos (by omega)] at k0
    exact k0
  · rw [if_pos (by omega)] at k0
    exact k0
theorem z_partOf {H Q L : Int} {h : Hp} {t : Ts} {i : Int} (r : RC H Q L h t) (K : Int → Prop) (E : Int → Hp → Prop) : wp_Kh_partOf 64 i h K E = if 0 ≤ i ∧ i ≤ 2 then K (H + (61 + i)) else (xr h ∧ E (nx h) (mk h 26 6)) := by
  have sh := r.1; have hh := r.2.1.1; have hl := r.2.1.2.2.1; have hk := r.2.1.2.1; have sw := r.2.1.2.2.2.1; have sq := r.2.1.2.2.2.2.2.1; have sl := r.2.1.2.2.2.2.2.2.2.1
  have hH : H = 628 ∨ H = 768 := hh
  unfold wp_Kh_partOf
  simp only [z_Kh_isIn, z_Kh_need, bi_nz]
  by_cases c : 0 ≤ i ∧ i ≤ 2
  · rw [if_pos c, if_pos c, sw, p_20_19 hh sh, l_36 hh sh, p_36 hh c.1 (by omega) sh]
    exact propext ⟨fun z => z.2.2.2, fun z => ⟨by omega, by omega, by omega, z⟩⟩
  · rw [if_neg c, if_neg c]
abbrev ok_part (i j : Int) : Prop := (0 ≤ i ∧ i ≤ 2) ∧ 0 ≤ j ∧ j ≤ 3
def v_part (t : Ts) (i j : Int) : Int := if j = 0 then t 23 i else if j = 1 then t 100 i else if j = 2 then t 101 i else on1 (t 102 i)
theorem k_part {H Q L : Int} {h : Hp} {t : Ts} {i j : Int} (r : RC H Q L h t) (x : xr h) {K : Int → Prop} {E : Int → Hp → Prop} (k : KG h (cd2 t (ok_part i j)) (v_part t i j) K E) : wp_Kh_part 64 i j h K E := by
  have sh := r.1; have hh := r.2.1.1; have hl := r.2.1.2.2.1; have hk := r.2.1.2.1; have sw := r.2.1.2.2.2.1; have sq := r.2.1.2.2.2.2.2.1; have sl := r.2.1.2.2.2.2.2.2.2.1
  have hH : H = 628 ∨ H = 768 := hh
  unfold wp_Kh_part
  rw [z_Kh_isUp sh, r.dn, z_partOf r]
  simp only [z_Kh_isIn, z_Kh_need, bi_nz]
  by_cases d : t 137 0 = 0
  · rw [if_pos d]
    by_cases c : 0 ≤ i ∧ i ≤ 2
    · rw [if_pos c]
      by_cases c1 : 0 ≤ j ∧ j ≤ 3
      · have k0 := k.1 (cd2_t d ⟨c, c1⟩)
        unfold v_part at k0
        rw [if_pos c1, z_Kh_one, gc_43_23 r d c.1 (by omega), gc_43_100 r d c.1 (by omega), gc_43_101 r d c.1 (by omega), gc_43_102 r d c.1 (by omega)]
        refine ⟨fun q => ⟨fun q1 => ⟨fun q2 => ⟨by omega, ?_⟩, fun q2 => ⟨by omega, ?_⟩⟩, fun q1 => ⟨by omega, ?_⟩⟩, fun q => ⟨by omega, ?_⟩⟩
        · rw [if_neg q, if_neg q1, if_neg q2] at k0
          exact k0
        · rw [if_neg q, if_neg q1, if_pos (by omega)] at k0
          exact k0
        · rw [if_neg q, if_pos (by omega)] at k0
          exact k0
        · rw [if_pos (by omega)] at k0
          exact k0
      · rw [if_neg c1]
        exact ⟨x, k.2.1 (cd2_f d (fun z => c1 z.2))⟩
    · rw [if_neg c]
      exact ⟨x, k.2.1 (cd2_f d (fun z => c z.1))⟩
  · rw [if_neg d]
    exact ⟨x, k.2.2 (cd2_d d)⟩
theorem m_part {h : Hp} {t : Ts} {n i j : Int} (sh : Sh h) (r : RT h t) (g : Bd n t) {K : Int → Hp → Prop} (k : MT h t (cd2 t (ok_part i j)) (v_part t i j) (tset t 0 0 0) K) : wp_Mo_part 1400 i j h K := by
  unfold wp_Mo_part
  simp only [z_Mo_in, zb (fun s0 => wp_Mo_part_30 K 1400 i j s0 1400 h), za (fun s0 => wp_Mo_part_30 K 1400 i j s0 1400 h)]
  unfold wp_Mo_part_30
  refine ⟨by decide, fl2 (ok := ok_part i j) sh r (fun d c h1 r1 s1 f1 => ?_) k.2⟩
  have k0 := k.1 (cd2_t d c) h1 r1 f1
  have b := b_100 g (i := i) c.1.1 (by omega)
  have gn := g.1
  unfold v_part on1 at k0
  rw [tp_102 s1, tl_102 s1, tp_101 s1, tl_101 s1, tp_100 s1, tl_100 s1, tp_23 s1, tl_23 s1, gt_102 r1 c.1.1 (by omega), gt_101 r1 c.1.1 (by omega), gt_100 r1 c.1.1 (by omega), gt_23 r1 c.1.1 (by omega), tset_nv (by decide), tset_nv (by decide), tset_nv (by decide), tset_nv (by decide), w32_id (x := t 100 i) (by omega) (by omega)]
  refine ⟨fun q => ⟨fun q1 => ⟨fun q2 => ⟨by decide, by omega, fun q3 => ?_, fun q3 => ?_⟩, fun q2 => ⟨by decide, by omega, ?_⟩⟩, fun q1 => ⟨by decide, by omega, ?_⟩⟩, fun q => ⟨by decide, by omega, ?_⟩⟩
  · rw [if_neg q, if_neg q1, if_neg q2, if_pos q3] at k0
    exact k0
  · rw [if_neg q, if_neg q1, if_neg q2, if_neg q3] at k0
    exact k0
  · rw [if_neg q, if_neg q1, if_pos (by omega)] at k0
    exact k0
  · rw [if_neg q, if_pos (by omega)] at k0
    exact k0
  · rw [if_pos (by omega)] at k0
    exact k0
