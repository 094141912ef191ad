/-! MORE GETTERS -/
theorem c_Lw_disk {H Q L : Int} {h : Hp} {t : Ts} {a b i : Int} (r : RC H Q L h t) (x : xr h) {K : Int → Hp → Prop}
    (k : GetC H Q L h t (cd2 t ((0 ≤ a ∧ a ≤ 1) ∧ (0 ≤ b ∧ b ≤ 199) ∧ 0 ≤ i ∧ i ≤ 47)) (iand (t 129 (9600 * a + 48 * b + i)) 255) K) : wp_Lw_disk 64 a b i 1509 h K := by
  have sh := r.1
  have l : 0 < ln h 1509 := by rw [l_122 sh]; decide
  unfold wp_Lw_disk wp_Kh_disk wp_Lw_disk_15 wp_Lw_disk_19
  rw [z_Kh_isUp sh, r.dn]
  refine ⟨by decide, ?_⟩
  by_cases d : t 137 0 = 0
  · rw [if_pos d]
    simp only [z_Kh_isIn]
    rw [zb (fun s0 => wp_Kh_disk_43 _ _ 64 a b i s0 h), za (fun s0 => wp_Kh_disk_43 _ _ 64 a b i s0 h), za (fun s0 => wp_Kh_disk_43 _ _ 64 a b i s0 h)]
    unfold wp_Kh_disk_43
    rw [z_Kh_need]
    simp only [bi_nz]
    by_cases c : (0 ≤ a ∧ a ≤ 1) ∧ (0 ≤ b ∧ b ≤ 199) ∧ 0 ≤ i ∧ i ≤ 47
    · rw [if_pos c, p_1_3 sh, p_7_0 sh, p_8 c.1.1 (by omega) sh, p_9 c.1.1 (by omega) c.2.1.1 (by omega) sh, l_8 sh, l_9 c.1.1 (by omega) sh, l_10 c.1.1 (by omega) c.2.1.1 (by omega) sh]
      refine ⟨by decide, by decide, by omega, by omega, by omega, by omega, by omega, by decide, l, fun _ e => e ▸ k.ok r (cd2_t d c) ?_⟩
      have q := r.2.2.1.get (e_10_129 (H := H) (Q := Q) c.1.1 (by omega) c.2.1.1 (by omega) c.2.2.1 (by omega)) (act_up d (by unfold pln; omega))
      rw [q]
      exact congrArg (fun z => iand (t 129 z) 255) (by omega)
    · rw [if_neg c]
      exact k.e26 r x (cd2_f d c)
  · rw [if_neg d]
    exact k.e25 r x (cd2_d d)
theorem c_Mo_disk {h : Hp} {t : Ts} {a b i : Int} (sh : Sh h) (r : RT h t) {K : Int → Hp → Prop}
    (k : GetT h t (cd2 t ((0 ≤ a ∧ a ≤ 1) ∧ (0 ≤ b ∧ b ≤ 199) ∧ 0 ≤ i ∧ i ≤ 47)) (iand (t 129 (9600 * a + 48 * b + i)) 255) K) : wp_Mo_disk 1400 a b i h K := by
  unfold wp_Mo_disk
  simp only [z_Mo_in]
  rw [zb (fun s0 => wp_Mo_disk_40 K 1400 a b i s0 1400 h), za (fun s0 => wp_Mo_disk_40 K 1400 a b i s0 1400 h), za (fun s0 => wp_Mo_disk_40 K 1400 a b i s0 1400 h)]
  refine ⟨by decide, k.fails r (fun d z => ?_)⟩
  have q : w32 (w32 (w32 (9600 * a) + w32 (48 * b)) + i) = 9600 * a + 48 * b + i := by unfold w32; omega
  rw [q, tp_129 (sh_c0 sh), tl_129 (sh_c0 sh)]
  exact ⟨by decide, by omega, k.ok r (cd2_t d z) (by rw [r.get0 (t_129 (by omega) (by omega)) (by unfold ess; omega) (by decide)])⟩
theorem c_Lw_cell2 {H Q L : Int} {h : Hp} {t : Ts} {s c i : Int} (r : RC H Q L h t) (x : xr h) {K : Int → Hp → Prop}
    (k : GetC H Q L h t (cd2 t (((0 ≤ s ∧ s ≤ 4) ∧ 0 ≤ c ∧ c ≤ 47) ∧ 0 ≤ i ∧ i ≤ 5)) (t (40 + i) (48 * s + c)) K) : wp_Lw_cell2 64 s c i 1509 h K := by
  have sh := r.1
  have l : 0 < ln h 1509 := by rw [l_122 sh]; decide
  unfold wp_Lw_cell2 wp_Kh_cell wp_Lw_cell2_14 wp_Lw_cell2_18
  rw [z_Kh_isUp sh, r.dn, z_Kh_isCell, z_Kh_isIn, z_Kh_need]
  simp only [bi_nz]
  refine ⟨by decide, ?_⟩
  by_cases d : t 137 0 = 0
  · rw [if_pos d]
    by_cases c0 : (0 ≤ s ∧ s ≤ 4) ∧ 0 ≤ c ∧ c ≤ 47
    · rw [if_pos c0]
      by_cases c1 : 0 ≤ i ∧ i ≤ 5
      · rw [if_pos c1]
        rintro _ rfl
        have q : w32 (w32 (48 * s) + c) = 48 * s + c := by unfold w32; omega
        rw [q, p_1_13 sh, p_80_0 sh, p_80_1 sh, p_80_2 sh, p_80_3 sh, p_80_4 sh, p_80_5 sh, l_81 sh, l_82 sh, l_83 sh, l_84 sh, l_85 sh, l_86 sh]
        rcases (show i = 0 ∨ i = 1 ∨ i = 2 ∨ i = 3 ∨ i = 4 ∨ i = 5 by omega) with rfl | rfl | rfl | rfl | rfl | rfl
        · exact ⟨fun q => absurd q (by decide), fun _ => ⟨by decide, by decide, by omega, by decide, l, fun _ e => e ▸ k.ok r (cd2_t d ⟨c0, c1⟩) (r.2.2.1.get (e_81_40 (by omega) (by omega)) (act_up d (by unfold pln; omega)))⟩, fun q => absurd q (by decide), fun q => absurd q (by decide), fun q => absurd q (by decide), fun q => absurd q (by decide), trivial⟩
        · exact ⟨fun q => absurd q (by decide), fun q => absurd q (by decide), fun _ => ⟨by decide, by decide, by omega, by decide, l, fun _ e => e ▸ k.ok r (cd2_t d ⟨c0, c1⟩) (r.2.2.1.get (e_82_41 (by omega) (by omega)) (act_up d (by unfold pln; omega)))⟩, fun q => absurd q (by decide), fun q => absurd q (by decide), fun q => absurd q (by decide), trivial⟩
        · exact ⟨fun q => absurd q (by decide), fun q => absurd q (by decide), fun q => absurd q (by decide), fun _ => ⟨by decide, by decide, by omega, by decide, l, fun _ e => e ▸ k.ok r (cd2_t d ⟨c0, c1⟩) (r.2.2.1.get (e_83_42 (by omega) (by omega)) (act_up d (by unfold pln; omega)))⟩, fun q => absurd q (by decide), fun q => absurd q (by decide), trivial⟩
        · exact ⟨fun q => absurd q (by decide), fun q => absurd q (by decide), fun q => absurd q (by decide), fun q => absurd q (by decide), fun _ => ⟨by decide, by decide, by omega, by decide, l, fun _ e => e ▸ k.ok r (cd2_t d ⟨c0, c1⟩) (r.2.2.1.get (e_85_43 (by omega) (by omega)) (act_up d (by unfold pln; omega)))⟩, fun q => absurd q (by decide), trivial⟩
        · exact ⟨fun q => absurd q (by decide), fun q => absurd q (by decide), fun q => absurd q (by decide), fun q => absurd q (by decide), fun q => absurd q (by decide), fun _ => ⟨by decide, by decide, by omega, by decide, l, fun _ e => e ▸ k.ok r (cd2_t d ⟨c0, c1⟩) (r.2.2.1.get (e_86_44 (by omega) (by omega)) (act_up d (by unfold pln; omega)))⟩, trivial⟩
        · exact ⟨fun _ => ⟨by decide, by decide, by omega, by decide, l, fun _ e => e ▸ k.ok r (cd2_t d ⟨c0, c1⟩) (r.2.2.1.get (e_84_45 (by omega) (by omega)) (act_up d (by unfold pln; omega)))⟩, fun q => absurd q (by decide), fun q => absurd q (by decide), fun q => absurd q (by decide), fun q => absurd q (by decide), fun q => absurd q (by decide), trivial⟩
      · rw [if_neg c1]
        exact k.e26 r x (cd2_f d (fun q => c1 q.2))
    · rw [if_neg c0]
      exact k.e26 r x (cd2_f d (fun q => c0 q.1))
  · rw [if_neg d]
    exact k.e25 r x (cd2_d d)
theorem c_Mo_cell {h : Hp} {t : Ts} {s c i : Int} (sh : Sh h) (r : RT h t) {K : Int → Hp → Prop}
    (k : GetT h t (cd2 t (((0 ≤ s ∧ s ≤ 4) ∧ 0 ≤ c ∧ c ≤ 47) ∧ 0 ≤ i ∧ i ≤ 5)) (t (40 + i) (48 * s + c)) K) : wp_Mo_cell 1400 s c i h K := by
  unfold wp_Mo_cell
  simp only [z_Mo_isCell, z_Mo_in]
  rw [zb (fun s0 => wp_Mo_cell_26 K 1400 s c i s0 1400 h), za (fun s0 => wp_Mo_cell_26 K 1400 s c i s0 1400 h)]
  refine ⟨by decide, k.fails r (fun d z => ?_)⟩
  rintro _ rfl
  have q : w32 (w32 (48 * s) + c) = 48 * s + c := by unfold w32; omega
  simp only [q, ia]
  rcases (show i = 0 ∨ i = 1 ∨ i = 2 ∨ i = 3 ∨ i = 4 ∨ i = 5 by omega) with rfl | rfl | rfl | rfl | rfl | rfl
  · rw [if_neg (by decide), tp_40 (sh_c0 sh), tl_40 (sh_c0 sh)]
    exact ⟨by decide, by omega, k.ok r (cd2_t d z) (r.get0 (t_40 (by omega) (by omega)) (by unfold ess; omega) (by decide))⟩
  · rw [if_pos (by decide), if_neg (by decide), tp_41 (sh_c0 sh), tl_41 (sh_c0 sh)]
    exact ⟨by decide, by omega, k.ok r (cd2_t d z) (r.get0 (t_41 (by omega) (by omega)) (by unfold ess; omega) (by decide))⟩
  · rw [if_pos (by decide), if_pos (by decide), if_neg (by decide), tp_42 (sh_c0 sh), tl_42 (sh_c0 sh)]
    exact ⟨by decide, by omega, k.ok r (cd2_t d z) (r.get0 (t_42 (by omega) (by omega)) (by unfold ess; omega) (by decide))⟩
  · rw [if_pos (by decide), if_pos (by decide), if_pos (by decide), if_neg (by decide), tp_43 (sh_c0 sh), tl_43 (sh_c0 sh)]
    exact ⟨by decide, by omega, k.ok r (cd2_t d z) (r.get0 (t_43 (by omega) (by omega)) (by unfold ess; omega) (by decide))⟩
  · rw [if_pos (by decide), if_pos (by decide), if_pos (by decide), if_pos (by decide), if_neg (by decide), tp_44 (sh_c0 sh), tl_44 (sh_c0 sh)]
    exact ⟨by decide, by omega, k.ok r (cd2_t d z) (r.get0 (t_44 (by omega) (by omega)) (by unfold ess; omega) (by decide))⟩
  · rw [if_pos (by decide), if_pos (by decide), if_pos (by decide), if_pos (by decide), if_pos (by decide), tp_45 (sh_c0 sh), tl_45 (sh_c0 sh)]
    exact ⟨by decide, by omega, k.ok r (cd2_t d z) (r.get0 (t_45 (by omega) (by omega)) (by unfold ess; omega) (by decide))⟩
