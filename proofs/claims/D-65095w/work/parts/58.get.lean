/-! GETTERS -/
/-- the code of a call: 2 down, 1 argument, 0 -/
def cd2 (t : Ts) (ok : Prop) [Decidable ok] : Int := if t 137 0 = 0 then (if ok then 0 else 1) else 2
theorem cd2_d {t : Ts} {ok : Prop} [Decidable ok] (d : t 137 0 ≠ 0) : cd2 t ok = 2 := if_neg d
theorem cd2_f {t : Ts} {ok : Prop} [Decidable ok] (d : t 137 0 = 0) (k : ¬ ok) : cd2 t ok = 1 := by unfold cd2; rw [if_pos d, if_neg k]
theorem cd2_t {t : Ts} {ok : Prop} [Decidable ok] (d : t 137 0 = 0) (k : ok) : cd2 t ok = 0 := by unfold cd2; rw [if_pos d, if_pos k]
/-- what a getter leaves behind -/
def GetC (H Q L : Int) (h : Hp) (t : Ts) (c v : Int) (K : Int → Hp → Prop) : Prop := ∀ (c1 : Int) (h1 : Hp), RC H Q L h1 t → frC h h1 → c1 = c → (c = 0 → rd h1 1509 0 = v) → K c1 h1
theorem GetC.exc {H Q L : Int} {h : Hp} {t : Ts} {c v κ : Int} {K : Int → Hp → Prop} (k : GetC H Q L h t c v K) (r : RC H Q L h t) (n : c ≠ 0) : K c (mk h κ 6) := k c _ r.mk (frC_exc _ r.1.2.2.1) rfl (fun q => absurd q n)
theorem GetC.ok {H Q L : Int} {h : Hp} {t : Ts} {c v x : Int} {K : Int → Hp → Prop} (k : GetC H Q L h t c v K) (r : RC H Q L h t) (n : c = 0) (e : x = v) : K 0 (up h 1509 0 x) := k 0 _ r.out (frC_out _ _) n.symm (fun _ => by rw [rd_up_eq]; exact e)
theorem c_Lw_edge {H Q L : Int} {h : Hp} {t : Ts} {s e : Int} (r : RC H Q L h t) (x : xr h) {K : Int → Hp → Prop}
    (k : GetC H Q L h t (cd2 t ((0 ≤ s ∧ s ≤ 4) ∧ 0 ≤ e ∧ e ≤ 109)) (t 3 (110 * s + e)) K) : wp_Lw_edge 64 s e 1509 h K := by
  have sh := r.1
  have hh := r.2.1.1
  have sw := r.2.1.2.2.2.1
  unfold wp_Lw_edge wp_Kh_edge wp_Lw_edge_13 wp_Lw_edge_17
  rw [z_Kh_isUp sh, r.dn, z_Kh_isStorey, z_Kh_isIn, z_Kh_need]
  simp only [bi_nz]
  refine ⟨by decide, ?_⟩
  by_cases d : t 137 0 = 0
  · rw [if_pos d]
    by_cases c1 : 0 ≤ s ∧ s ≤ 4
    · rw [if_pos c1]
      by_cases c2 : 0 ≤ e ∧ e ≤ 109
      · rw [if_pos c2, sw, p_20_0 hh sh, p_21_0 hh sh, p_22 hh c1.1 (by omega) sh, l_22 hh sh, l_23 hh c1.1 (by omega) sh]
        refine ⟨by rcases hh with rfl | rfl <;> decide, by rcases hh with rfl | rfl <;> decide, by rcases hh with rfl | rfl <;> decide, by omega, by rcases hh with rfl | rfl <;> omega, by omega, by decide, by rw [l_122 sh]; decide, ?_⟩
        rintro _ rfl
        exact k.ok r (cd2_t d ⟨c1, c2⟩) (r.2.2.1.get (e_23_3 c1.1 (by omega) c2.1 (by omega)) (act_up d (by unfold pln; omega)))
      · rw [if_neg c2]
        have z := cd2_f (ok := (0 ≤ s ∧ s ≤ 4) ∧ 0 ≤ e ∧ e ≤ 109) d (fun q => c2 q.2)
        refine ⟨x, Or.inl ⟨kn_mk_new _ _ _, ?_⟩⟩
        rw [← z]
        exact k.exc r (by rw [z]; decide)
    · rw [if_neg c1]
      have z := cd2_f (ok := (0 ≤ s ∧ s ≤ 4) ∧ 0 ≤ e ∧ e ≤ 109) d (fun q => c1 q.1)
      refine ⟨x, Or.inl ⟨kn_mk_new _ _ _, ?_⟩⟩
      rw [← z]
      exact k.exc r (by rw [z]; decide)
  · rw [if_neg d]
    have z := cd2_d (ok := (0 ≤ s ∧ s ≤ 4) ∧ 0 ≤ e ∧ e ≤ 109) d
    refine ⟨x, Or.inr ⟨kn_mk_new _ _ _, ?_⟩⟩
    rw [← z]
    exact k.exc r (by rw [z]; decide)
