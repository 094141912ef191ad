/-! MORE GETTERS -/
def cd1 (t : Ts) : Int := if t 137 0 = 0 then 0 else 1
theorem GetC.e25o {H Q L : Int} {h : Hp} {t : Ts} {v : Int} {K : Int → Hp → Prop} (k : GetC H Q L h t (cd1 t) v K) (r : RC H Q L h t) (x : xr h) (d : ¬ t 137 0 = 0) : xr h ∧ (kn (mk h 25 6) (nx h) = 25 ∧ K 1 (mk h 25 6)) := by
  have n : cd1 t = 1 := if_neg d
  exact ⟨x, kn_mk_new _ _ _, n ▸ k.exc r (by rw [n]; decide)⟩
theorem GetT.closed {h : Hp} {t : Ts} {v : Int} {K : Int → Hp → Prop} {B : Hp → Prop} (k : GetT h t (cd1 t) v K) (r : RT h t) (b : t 137 0 = 0 → B (up h 1400 0 0)) :
    wp_Mo_closed 1400 h (fun r4 h5 => (r4 = 0 → B h5) ∧ (¬ (r4 = 0) → K 0 h5)) := by
  rw [z_Mo_closed, r.get t_137 (by unfold ess; omega)]
  by_cases d : t 137 0 = 0
  · rw [if_pos d]
    exact ⟨fun _ => b d, fun q => absurd d q⟩
  · rw [if_neg d]
    have z : cd1 t = 1 := if_neg d
    exact ⟨fun q => absurd q d, fun _ => k 0 _ (by rw [z]; exact r.put t_0) ((frT.rf h).put t_0) (fun q => by rw [z] at q; omega)⟩
theorem c_Lw_spaces {H Q L : Int} {h : Hp} {t : Ts} (r : RC H Q L h t) (x : xr h) {K : Int → Hp → Prop} (k : GetC H Q L h t (cd1 t) (t 7 0) K) : wp_Lw_spaces 64 1509 h K := by
  have sh := r.1
  have hl := r.2.1.2.2.1
  have sw := r.2.1.2.2.2.2.2.2.2.1
  unfold wp_Lw_spaces wp_Kh_spaces wp_Lw_spaces_11
  rw [z_Kh_isUp sh, r.dn, sw]
  refine ⟨by decide, ?_⟩
  by_cases d : t 137 0 = 0
  · rw [if_pos d]
    refine ⟨by rcases hl with rfl | rfl <;> decide, by decide, by rw [l_122 sh]; decide, ?_⟩
    rintro _ rfl
    exact k.ok r (if_pos d) (r.2.2.2.2 d).1.2.1
  · rw [if_neg d]
    exact k.e25o r x d
theorem c_Mo_spaces {h : Hp} {t : Ts} (r : RT h t) {K : Int → Hp → Prop} (k : GetT h t (cd1 t) (t 7 0) K) : wp_Mo_spaces 1400 h K := by
  unfold wp_Mo_spaces
  exact k.closed (B := fun h2 => K (rd h2 1400 7) h2) r (fun d => k.ok r (if_pos d) (r.get0 t_7 (by unfold ess; omega) (by decide)))
theorem c_Lw_alarms {H Q L : Int} {h : Hp} {t : Ts} (r : RC H Q L h t) (x : xr h) {K : Int → Hp → Prop} (k : GetC H Q L h t (cd1 t) (t 72 0) K) : wp_Lw_alarms 64 1509 h K := by
  have sh := r.1
  unfold wp_Lw_alarms wp_Kh_alarms wp_Lw_alarms_11
  rw [z_Kh_isUp sh, r.dn, p_1_13 sh]
  refine ⟨by decide, ?_⟩
  by_cases d : t 137 0 = 0
  · rw [if_pos d]
    refine ⟨by decide, by decide, by rw [l_122 sh]; decide, ?_⟩
    rintro _ rfl
    exact k.ok r (if_pos d) (r.2.2.1.get e_80_72 (act_up d (by unfold pln; omega)))
  · rw [if_neg d]
    exact k.e25o r x d
theorem c_Mo_alarms {h : Hp} {t : Ts} (r : RT h t) {K : Int → Hp → Prop} (k : GetT h t (cd1 t) (t 72 0) K) : wp_Mo_alarms 1400 h K := by
  unfold wp_Mo_alarms
  exact k.closed (B := fun h2 => K (rd h2 1400 72) h2) r (fun d => k.ok r (if_pos d) (r.get0 t_72 (by unfold ess; omega) (by decide)))
theorem z_Kh_deskOf {h : Hp} (sh : Sh h) (i : Int) (K : Int → Prop) (E : Int → Hp → Prop) : wp_Kh_deskOf 64 i h K E = if 0 ≤ i ∧ i ≤ 2 then K (1343 + 15 * i) else (xr h ∧ E (nx h) (mk h 26 6)) := by
  unfold wp_Kh_deskOf
  rw [z_Kh_isIn, z_Kh_need, p_1_13 sh, p_80_38 sh, l_106 sh]
  simp only [bi_nz]
  by_cases c : 0 ≤ i ∧ i ≤ 2
  · rw [if_pos c, if_pos c, p_106 c.1 (by omega) sh]
    exact propext ⟨fun q => q.2.2.2, fun q => ⟨by decide, by decide, by omega, q⟩⟩
  · rw [if_neg c, if_neg c]
theorem c_Lw_draft {H Q L : Int} {h : Hp} {t : Ts} {i s e : Int} (r : RC H Q L h t) (x : xr h) {K : Int → Hp → Prop}
    (k : GetC H Q L h t (cd2 t ((0 ≤ i ∧ i ≤ 2) ∧ (0 ≤ s ∧ s ≤ 4) ∧ 0 ≤ e ∧ e ≤ 109)) (t 3 (550 * (1 + i) + 110 * s + e)) K) : wp_Lw_draft 64 i s e 1509 h K := by
  have sh := r.1
  unfold wp_Lw_draft wp_Kh_draft wp_Lw_draft_15 wp_Lw_draft_19
  rw [z_Kh_isUp sh, r.dn, z_Kh_deskOf sh, z_Kh_isStorey, z_Kh_isIn, z_Kh_need]
  simp only [bi_nz]
  refine ⟨by decide, ?_⟩
  by_cases d : t 137 0 = 0
  · rw [if_pos d]
    by_cases c0 : 0 ≤ i ∧ i ≤ 2
    · rw [if_pos c0]
      by_cases c1 : 0 ≤ s ∧ s ≤ 4
      · rw [if_pos c1]
        by_cases c2 : 0 ≤ e ∧ e ≤ 109
        · rw [if_pos c2, p_107_0 c0.1 (by omega) sh, p_108_0 c0.1 (by omega) sh, p_109 c0.1 (by omega) c1.1 (by omega) sh, l_109 c0.1 (by omega) sh, l_110 c0.1 (by omega) c1.1 (by omega) sh]
          refine ⟨by omega, by omega, by omega, by omega, by omega, by omega, by decide, by rw [l_122 sh]; decide, ?_⟩
          rintro _ rfl
          refine k.ok r (cd2_t d ⟨c0, c1, c2⟩) ((r.2.2.1.get (e_110_3 c0.1 (by omega) c1.1 (by omega) c2.1 (by omega)) (act_up d (by unfold pln; omega))).trans (congrArg (t 3) (by omega)))
        · rw [if_neg c2]
          exact k.e26 r x (cd2_f d (fun q => c2 q.2.2))
      · rw [if_neg c1]
        exact k.e26 r x (cd2_f d (fun q => c1 q.2.1))
    · rw [if_neg c0]
      exact k.e26 r x (cd2_f d (fun q => c0 q.1))
  · rw [if_neg d]
    exact k.e25 r x (cd2_d d)
theorem z_Mo_isDesk (s : Int) (K : Int → Prop) : wp_Mo_isDesk s K = K (bi (0 ≤ s ∧ s ≤ 2)) := by
  unfold wp_Mo_isDesk
  simp only [ia]
  by_cases c : s < 0
  · rw [if_pos c, bi_f (by omega)]
  · rw [if_neg c]
    by_cases d : s ≥ 3
    · rw [if_pos d, bi_f (by omega)]
    · rw [if_neg d, bi_t (by omega)]
theorem c_Mo_draft {h : Hp} {t : Ts} {i s e : Int} (sh : Sh h) (r : RT h t) {K : Int → Hp → Prop}
    (k : GetT h t (cd2 t ((0 ≤ i ∧ i ≤ 2) ∧ (0 ≤ s ∧ s ≤ 4) ∧ 0 ≤ e ∧ e ≤ 109)) (t 3 (550 * (1 + i) + 110 * s + e)) K) : wp_Mo_draft 1400 i s e h K := by
  unfold wp_Mo_draft
  rw [z_Mo_isDesk, z_Mo_isEdge, zb (fun s0 => wp_Mo_draft_21 K 1400 i s e s0 1400 h), za (fun s0 => wp_Mo_draft_21 K 1400 i s e s0 1400 h)]
  refine ⟨by decide, k.fails r (fun d z => ?_)⟩
  have q : w32 (w32 (w32 (550 * w32 (1 + i)) + w32 (110 * s)) + e) = 550 * (1 + i) + 110 * s + e := by unfold w32; omega
  rw [q, tp_3 (sh_c0 sh), tl_3 (sh_c0 sh)]
  exact ⟨by decide, by omega, k.ok r (cd2_t d z) (r.get0 (t_3 (by omega) (by omega)) (by unfold ess; omega) (by decide))⟩
theorem c_Lw_money {H Q L : Int} {h : Hp} {t : Ts} {i : Int} (r : RC H Q L h t) (x : xr h) {K : Int → Hp → Prop}
    (k : GetC H Q L h t (cd2 t (0 ≤ i ∧ i ≤ 3)) (t (122 + i) 0) K) : wp_Lw_money 64 i 1509 h K := by
  have sh := r.1
  have hh := r.2.1.1
  have sw := r.2.1.2.2.2.1
  unfold wp_Lw_money wp_Kh_money wp_Lw_money_11 wp_Lw_money_14
  rw [z_Kh_isUp sh, r.dn, z_Kh_isIn, z_Kh_need, sw]
  simp only [bi_nz, ia]
  have nz : H ≠ 0 := by rcases hh with rfl | rfl <;> decide
  refine ⟨by decide, ?_⟩
  by_cases d : t 137 0 = 0
  · rw [if_pos d]
    by_cases c1 : 0 ≤ i ∧ i ≤ 3
    · rw [if_pos c1]
      have l : 0 < ln h 1509 := by rw [l_122 sh]; decide
      rcases (show i = 0 ∨ i = 1 ∨ i = 2 ∨ i = 3 by omega) with rfl | rfl | rfl | rfl
      · rw [if_neg (by decide)]
        exact ⟨nz, by decide, l, fun _ e => e ▸ k.ok r (cd2_t d c1) (r.2.2.1.get e_20_122 (act_up d (by unfold pln; omega)))⟩
      · rw [if_pos (by decide), if_neg (by decide)]
        exact ⟨nz, by decide, l, fun _ e => e ▸ k.ok r (cd2_t d c1) (r.2.2.1.get e_20_123 (act_up d (by unfold pln; omega)))⟩
      · rw [if_pos (by decide), if_pos (by decide), if_neg (by decide)]
        exact ⟨nz, by decide, l, fun _ e => e ▸ k.ok r (cd2_t d c1) (r.2.2.1.get e_20_124 (act_up d (by unfold pln; omega)))⟩
      · rw [if_pos (by decide), if_pos (by decide), if_pos (by decide)]
        exact ⟨nz, by decide, l, fun _ e => e ▸ k.ok r (cd2_t d c1) (r.2.2.1.get e_20_125 (act_up d (by unfold pln; omega)))⟩
    · rw [if_neg c1]
      exact k.e26 r x (cd2_f d c1)
  · rw [if_neg d]
    exact k.e25 r x (cd2_d d)
theorem c_Mo_money {h : Hp} {t : Ts} {i : Int} (r : RT h t) {K : Int → Hp → Prop}
    (k : GetT h t (cd2 t (0 ≤ i ∧ i ≤ 3)) (t (122 + i) 0) K) : wp_Mo_money 1400 i h K := by
  unfold wp_Mo_money
  rw [z_Mo_in]
  refine k.fails r (fun d c => ?_)
  simp only [ia]
  rcases (show i = 0 ∨ i = 1 ∨ i = 2 ∨ i = 3 by omega) with rfl | rfl | rfl | rfl
  · rw [if_neg (by decide)]
    exact k.ok r (cd2_t d c) (r.get0 t_122 (by unfold ess; omega) (by decide))
  · rw [if_pos (by decide), if_neg (by decide)]
    exact k.ok r (cd2_t d c) (r.get0 t_123 (by unfold ess; omega) (by decide))
  · rw [if_pos (by decide), if_pos (by decide), if_neg (by decide)]
    exact k.ok r (cd2_t d c) (r.get0 t_124 (by unfold ess; omega) (by decide))
  · rw [if_pos (by decide), if_pos (by decide), if_pos (by decide)]
    exact k.ok r (cd2_t d c) (r.get0 t_125 (by unfold ess; omega) (by decide))
theorem z_Kh_isFlat (x : Int) (h : Hp) (K : Prop) (E : Int → Hp → Prop) : wp_Kh_isFlat x h K E = if 0 ≤ x ∧ x ≤ 9 then K else (xr h ∧ E (nx h) (mk h 26 6)) := by
  unfold wp_Kh_isFlat
  rw [z_Kh_isIn, z_Kh_need]
  simp only [bi_nz]
theorem z_Kh_isHour (x : Int) (h : Hp) (K : Prop) (E : Int → Hp → Prop) : wp_Kh_isHour x h K E = if 0 ≤ x ∧ x ≤ 23 then K else (xr h ∧ E (nx h) (mk h 26 6)) := by
  unfold wp_Kh_isHour
  rw [z_Kh_isIn, z_Kh_need]
  simp only [bi_nz]
theorem c_Lw_account {H Q L : Int} {h : Hp} {t : Ts} {f i : Int} (r : RC H Q L h t) (x : xr h) {K : Int → Hp → Prop}
    (k : GetC H Q L h t (cd2 t ((0 ≤ f ∧ f ≤ 9) ∧ 0 ≤ i ∧ i ≤ 1)) (t (120 + i) f) K) : wp_Lw_account 64 f i 1509 h K := by
  have sh := r.1
  have hh := r.2.1.1
  have sw := r.2.1.2.2.2.1
  have l : 0 < ln h 1509 := by rw [l_122 sh]; decide
  unfold wp_Lw_account wp_Kh_account wp_Lw_account_12 wp_Lw_account_16
  rw [z_Kh_isUp sh, r.dn, z_Kh_isFlat, z_Kh_isIn, z_Kh_need, sw]
  simp only [bi_nz, ia]
  refine ⟨by decide, ?_⟩
  by_cases d : t 137 0 = 0
  · rw [if_pos d]
    by_cases c0 : 0 ≤ f ∧ f ≤ 9
    · rw [if_pos c0, p_20_9 hh sh, l_34 hh sh, p_34 hh c0.1 (by omega) sh]
      by_cases c1 : 0 ≤ i ∧ i ≤ 1
      · rw [if_pos c1]
        rcases (show i = 0 ∨ i = 1 by omega) with rfl | rfl
        · rw [if_neg (by decide)]
          exact ⟨by rcases hh with rfl | rfl <;> decide, by rcases hh with rfl | rfl <;> decide, by omega, by rcases hh with rfl | rfl <;> omega, by decide, l, fun _ e => e ▸ k.ok r (cd2_t d ⟨c0, c1⟩) (r.2.2.1.get (e_41_120 c0.1 (by omega)) (act_up d (by unfold pln; omega)))⟩
        · rw [if_pos (by decide)]
          exact ⟨by rcases hh with rfl | rfl <;> decide, by rcases hh with rfl | rfl <;> decide, by omega, by rcases hh with rfl | rfl <;> omega, by decide, l, fun _ e => e ▸ k.ok r (cd2_t d ⟨c0, c1⟩) (r.2.2.1.get (e_41_121 c0.1 (by omega)) (act_up d (by unfold pln; omega)))⟩
      · rw [if_neg c1]
        exact k.e26 r x (cd2_f d (fun q => c1 q.2))
    · rw [if_neg c0]
      exact k.e26 r x (cd2_f d (fun q => c0 q.1))
  · rw [if_neg d]
    exact k.e25 r x (cd2_d d)
theorem c_Mo_account {h : Hp} {t : Ts} {f i : Int} (sh : Sh h) (r : RT h t) {K : Int → Hp → Prop}
    (k : GetT h t (cd2 t ((0 ≤ f ∧ f ≤ 9) ∧ 0 ≤ i ∧ i ≤ 1)) (t (120 + i) f) K) : wp_Mo_account 1400 f i h K := by
  unfold wp_Mo_account
  rw [z_Mo_in, z_Mo_in, zb (fun s0 => wp_Mo_account_28 K 1400 f i s0 1400 h), za (fun s0 => wp_Mo_account_28 K 1400 f i s0 1400 h)]
  refine ⟨by decide, k.fails r (fun d z => ?_)⟩
  simp only [ia]
  rcases (show i = 0 ∨ i = 1 by omega) with rfl | rfl
  · rw [if_neg (by decide), tp_120 (sh_c0 sh), tl_120 (sh_c0 sh)]
    exact ⟨by decide, by omega, k.ok r (cd2_t d z) (r.get0 (t_120 (by omega) (by omega)) (by unfold ess; omega) (by decide))⟩
  · rw [if_pos (by decide), tp_121 (sh_c0 sh), tl_121 (sh_c0 sh)]
    exact ⟨by decide, by omega, k.ok r (cd2_t d z) (r.get0 (t_121 (by omega) (by omega)) (by unfold ess; omega) (by decide))⟩
