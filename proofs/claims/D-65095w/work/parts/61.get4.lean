/-! MORE GETTERS -/
def on1 (x : Int) : Int := if x = 0 then 0 else 1
theorem z_Kh_one (x : Int) (K : Int → Prop) : wp_Kh_one x K = K (on1 x) := by
  unfold wp_Kh_one on1
  rw [ia]
  by_cases c : x = 0
  · rw [if_pos c, if_pos c]
  · rw [if_neg c, if_neg c]
def civ (t : Ts) (c i : Int) : Int := if i = 0 then t 56 c else if i = 1 then t 58 c else if i = 2 then on1 (t 59 c) else if i = 3 then on1 (t 57 c) else if i = 4 then t 19 c else t 20 c
theorem c_Lw_circuit {H Q L : Int} {h : Hp} {t : Ts} {c i : Int} (r : RC H Q L h t) (x : xr h) {K : Int → Hp → Prop}
    (k : GetC H Q L h t (cd2 t ((0 ≤ c ∧ c ≤ 10) ∧ 0 ≤ i ∧ i ≤ 5)) (civ t c i) K) : wp_Lw_circuit 64 c i 1509 h K := by
  have sh := r.1
  have hh := r.2.1.1
  have sw := r.2.1.2.2.2.1
  have l : 0 < ln h 1509 := by rw [l_122 sh]; decide
  unfold wp_Lw_circuit wp_Kh_circuit wp_Lw_circuit_13 wp_Lw_circuit_17
  rw [z_Kh_isUp sh, r.dn]
  refine ⟨by decide, ?_⟩
  by_cases d : t 137 0 = 0
  · rw [if_pos d]
    simp only [z_Kh_isIn]
    rw [zb (fun s0 => wp_Kh_circuit_33 _ _ 64 c i s0 h), za (fun s0 => wp_Kh_circuit_33 _ _ 64 c i s0 h)]
    unfold wp_Kh_circuit_33
    rw [z_Kh_need]
    simp only [bi_nz, z_Kh_one]
    by_cases z : (0 ≤ c ∧ c ≤ 10) ∧ 0 ≤ i ∧ i ≤ 5
    · rw [if_pos z, p_1_13 sh, p_80_7 sh, l_88 sh, sw, p_20_7 hh sh, p_20_8 hh sh, l_32 hh sh, l_33 hh sh, p_88 z.1.1 (by omega) sh]
      refine ⟨by decide, by decide, by omega, ?_⟩
      rintro _ rfl
      have g : ∀ {a j v w : Int}, Lc H Q a j v w → pln v → rd h a j = t v w := fun e p => r.2.2.1.get e (act_up d p)
      have n1 : H ≠ 0 := by rcases hh with rfl | rfl <;> decide
      have n2 : H + 32 ≠ 0 := by rcases hh with rfl | rfl <;> decide
      have n3 : H + 33 ≠ 0 := by rcases hh with rfl | rfl <;> decide
      have f : ∀ v : Int, v = civ t c i → (1509 : Int) ≠ 0 ∧ 0 < ln h 1509 ∧ ∀ h9, h9 = up h 1509 0 v → K 0 h9 := fun v e => ⟨by decide, l, fun _ y => y ▸ k.ok r (cd2_t d z) e⟩
      refine ⟨fun q => ⟨n1, n3, by omega, f _ ?_⟩, fun q => ⟨by omega, f _ ?_⟩, fun q => ⟨by omega, f _ ?_⟩, fun q => ⟨by omega, f _ ?_⟩, fun q => ⟨by omega, f _ ?_⟩, fun q => ⟨n1, n2, by omega, f _ ?_⟩, trivial⟩
      · obtain rfl : i = 5 := by omega
        exact g (e_33_20 z.1.1 (by omega)) (by unfold pln; omega)
      · subst q
        exact g (e_115_56 z.1.1 (by omega)) (by unfold pln; omega)
      · subst q
        exact g (e_115_58 z.1.1 (by omega)) (by unfold pln; omega)
      · subst q
        rw [g (e_115_59 z.1.1 (by omega)) (by unfold pln; omega)]
        rfl
      · subst q
        rw [g (e_115_57 z.1.1 (by omega)) (by unfold pln; omega)]
        rfl
      · subst q
        exact g (e_32_19 z.1.1 (by omega)) (by unfold pln; omega)
    · rw [if_neg z]
      exact k.e26 r x (cd2_f d z)
  · rw [if_neg d]
    exact k.e25 r x (cd2_d d)
theorem c_Mo_circuit {h : Hp} {t : Ts} {c i : Int} (sh : Sh h) (r : RT h t) {K : Int → Hp → Prop}
    (k : GetT h t (cd2 t ((0 ≤ c ∧ c ≤ 10) ∧ 0 ≤ i ∧ i ≤ 5)) (civ t c i) K) : wp_Mo_circuit 1400 c i h K := by
  unfold wp_Mo_circuit
  simp only [z_Mo_in]
  rw [zb (fun s0 => wp_Mo_circuit_30 K 1400 c i s0 1400 h), za (fun s0 => wp_Mo_circuit_30 K 1400 c i s0 1400 h)]
  refine ⟨by decide, k.fails r (fun d z => ?_)⟩
  have s0 := sh_c0 (x := 0) sh
  rw [tp_20 s0, tl_20 s0, tp_56 s0, tl_56 s0, tp_58 s0, tl_58 s0, tp_59 s0, tl_59 s0, tp_57 s0, tl_57 s0, tp_19 s0, tl_19 s0]
  have f : ∀ v : Int, v = civ t c i → K v (up h 1400 0 0) := fun v e => k.ok r (cd2_t d z) e
  refine ⟨fun q => ⟨by decide, by omega, f _ ?_⟩, fun q => ⟨by decide, by omega, f _ ?_⟩, fun q => ⟨by decide, by omega, f _ ?_⟩, fun q => ⟨by decide, by omega, fun y => f _ ?_, fun y => f _ ?_⟩, fun q => ⟨by decide, by omega, fun y => f _ ?_, fun y => f _ ?_⟩, fun q => ⟨by decide, by omega, f _ ?_⟩, trivial⟩
  · obtain rfl : i = 5 := by omega
    exact r.get0 (t_20 z.1.1 (by omega)) (by unfold ess; omega) (by decide)
  · subst q
    exact r.get0 (t_56 z.1.1 (by omega)) (by unfold ess; omega) (by decide)
  · subst q
    exact r.get0 (t_58 z.1.1 (by omega)) (by unfold ess; omega) (by decide)
  · subst q
    rw [r.get0 (t_59 z.1.1 (by omega)) (by unfold ess; omega) (by decide)] at y
    exact (if_pos y).symm
  · subst q
    rw [r.get0 (t_59 z.1.1 (by omega)) (by unfold ess; omega) (by decide)] at y
    exact (if_neg y).symm
  · subst q
    rw [r.get0 (t_57 z.1.1 (by omega)) (by unfold ess; omega) (by decide)] at y
    exact (if_pos y).symm
  · subst q
    rw [r.get0 (t_57 z.1.1 (by omega)) (by unfold ess; omega) (by decide)] at y
    exact (if_neg y).symm
  · subst q
    exact r.get0 (t_19 z.1.1 (by omega)) (by unfold ess; omega) (by decide)
