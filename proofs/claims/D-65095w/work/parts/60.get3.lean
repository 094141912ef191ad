/-! MORE GETTERS -/
theorem c_Lw_disk {H Q L : Int} {h : Hp} {t : Ts} {a b i : Int} (r : RC H Q L h t) (x : xr h) {K : Int → Hp → Prop}
    (k : GetC H Q L h t (cd2 t ((0 ≤ a ∧ a ≤ 1) ∧ (0 ≤ b ∧ b ≤ 199) ∧ 0 ≤ i ∧ i ≤ 47)) (iand (t 129 (9600 * a + 48 * b + i)) 255) K) : wp_Lw_disk 64 a b i 1509 h K := by
  have sh := r.1
  have l : 0 < ln h 1509 := by rw [l_122 sh]; decide
  unfold wp_Lw_disk wp_Kh_disk wp_Lw_disk_15 wp_Lw_disk_19
  rw [z_Kh_isUp sh, r.dn]
  refine ⟨by decide, ?_⟩
  by_cases d : t 137 0 = 0
  · rw [if_pos d]
    simp only [z_Kh_isIn]
    rw [zb (fun s0 => wp_Kh_disk_43 _ _ 64 a b i s0 h), za (fun s0 => wp_Kh_disk_43 _ _ 64 a b i s0 h), za (fun s0 => wp_Kh_disk_43 _ _ 64 a b i s0 h)]
    unfold wp_Kh_disk_43
    rw [z_Kh_need]
    simp only [bi_nz]
    by_cases c : (0 ≤ a ∧ a ≤ 1) ∧ (0 ≤ b ∧ b ≤ 199) ∧ 0 ≤ i ∧ i ≤ 47
    · rw [if_pos c, p_1_3 sh, p_7_0 sh, p_8 c.1.1 (by omega) sh, p_9 c.1.1 (by omega) c.2.1.1 (by omega) sh, l_8 sh, l_9 c.1.1 (by omega) sh, l_10 c.1.1 (by omega) c.2.1.1 (by omega) sh]
      refine ⟨by decide, by decide, by omega, by omega, by omega, by omega, by omega, by decide, l, fun _ e => e ▸ k.ok r (cd2_t d c) ?_⟩
      have q := r.2.2.1.get (e_10_129 (H := H) (Q := Q) c.1.1 (by omega) c.2.1.1 (by omega) c.2.2.1 (by omega)) (act_up d (by unfold pln; omega))
      rw [q]
      exact congrArg (fun z => iand (t 129 z) 255) (by omega)
    · rw [if_neg c]
      exact k.e26 r x (cd2_f d c)
  · rw [if_neg d]
    exact k.e25 r x (cd2_d d)
theorem c_Mo_disk {h : Hp} {t : Ts} {a b i : Int} (sh : Sh h) (r : RT h t) {K : Int → Hp → Prop}
    (k : GetT h t (cd2 t ((0 ≤ a ∧ a ≤ 1) ∧ (0 ≤ b ∧ b ≤ 199) ∧ 0 ≤ i ∧ i ≤ 47)) (iand (t 129 (9600 * a + 48 * b + i)) 255) K) : wp_Mo_disk 1400 a b i h K := by
  unfold wp_Mo_disk
  simp only [z_Mo_in]
  rw [zb (fun s0 => wp_Mo_disk_40 K 1400 a b i s0 1400 h), za (fun s0 => wp_Mo_disk_40 K 1400 a b i s0 1400 h), za (fun s0 => wp_Mo_disk_40 K 1400 a b i s0 1400 h)]
  refine ⟨by decide, k.fails r (fun d z => ?_)⟩
  have q : w32 (w32 (w32 (9600 * a) + w32 (48 * b)) + i) = 9600 * a + 48 * b + i := by unfold w32; omega
  rw [q, tp_129 (sh_c0 sh), tl_129 (sh_c0 sh)]
  exact ⟨by decide, by omega, k.ok r (cd2_t d z) (by rw [r.get0 (t_129 (by omega) (by omega)) (by unfold ess; omega) (by decide)])⟩
