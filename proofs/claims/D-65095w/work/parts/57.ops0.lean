/-! FRAMES OF OPERATIONS; THE SIMPLEST ONES -/
/-- what an operation of the component leaves: constants, the twin; how much it makes -/
def frC (h h1 : Hp) : Prop := (∀ a i : Int, a < 64 ∨ (1400 ≤ a ∧ a < 1509) → h1.1 a i = h.1 a i) ∧ nx h ≤ nx h1 ∧ nx h1 ≤ nx h + 100 ∧ us h1 ≤ us h + 1000
def frT (h h1 : Hp) : Prop := h1.2 = h.2 ∧ ∀ a i : Int, a < 1400 ∨ 1509 ≤ a ∨ fp a i ≠ -7 ∨ i < 0 → h1.1 a i = h.1 a i
theorem RC.out {H Q L : Int} {h : Hp} {t : Ts} {x : Int} (r : RC H Q L h t) : RC H Q L (up h 1509 0 x) t :=
  r.keep (fun a i _ k => rd_up_ne (by
    rintro ⟨rfl, rfl⟩
    rcases k with k | k | k
    · omega
    · omega
    · exact k (by decide +kernel))) (fun a _ => ln_up (by decide)) (Int.le_refl _)
theorem RC.twin {H Q L : Int} {h h1 : Hp} {t : Ts} (r : RC H Q L h t) (f : frT h h1) : RC H Q L h1 t := by
  have e : nx h1 = nx h := by unfold nx; rw [f.1]
  exact r.keep (fun a i _ k => f.2 a i (by omega)) (fun a _ => f.2 a (-2) (by omega)) (by omega)
theorem RT.cg {h h1 : Hp} {t : Ts} (r : RT h t) (e : ∀ a i : Int, 1400 ≤ a → a < 1509 → h1.1 a i = h.1 a i) (b : ∀ v : Int, ess v → 0 < td v → 1400 ≤ ta v ∧ ta v < 1509) : RT h1 t :=
  fun v j k j0 j1 => (e _ _ (b v k (by omega)).1 (b v k (by omega)).2).trans (r v j k j0 j1)
theorem ta_r (v : Int) : 1400 ≤ ta v ∧ ta v < 1509 := by
  unfold ta
  repeat' split
  all_goals decide
theorem RT.comp {h h1 : Hp} {t : Ts} (r : RT h t) (f : frC h h1) : RT h1 t := r.cg (fun a i h0 h2 => f.1 a i (Or.inr ⟨h0, h2⟩)) (fun v _ _ => ta_r v)
theorem RC.dn {H Q L : Int} {h : Hp} {t : Ts} (r : RC H Q L h t) : rd h 70 6 = t 137 0 := r.2.2.1.get e_7_137 ⟨Or.inl (by unfold alw; omega), by omega, by omega, by omega, by omega, by omega, by omega, by omega⟩
theorem frC_out (h : Hp) (x : Int) : frC h (up h 1509 0 x) := ⟨fun a i k => rd_up_ne (by omega), Int.le_refl _, by rw [nx_up]; omega, by rw [us_up]; omega⟩
theorem frC_exc {h : Hp} (κ : Int) (g : 1510 ≤ nx h) : frC h (mk h κ 6) := ⟨fun a i k => rd_mk_old (by omega), by rw [nx_mk]; omega, by rw [nx_mk]; omega, by rw [us_mk]; omega⟩
theorem c_Lw_version {H Q L : Int} {h : Hp} {t : Ts} (r : RC H Q L h t) (x : xr h) {K : Int → Hp → Prop}
    (k : ∀ (c : Int) (h1 : Hp), RC H Q L h1 t → frC h h1 → c = (if t 137 0 = 0 then 0 else 1) → (c = 0 → rd h1 1509 0 = t 4 0) → K c h1) : wp_Lw_version 64 1509 h K := by
  have s := r.1
  have s1 := s
  unfold wp_Lw_version wp_Kh_version wp_Lw_version_11
  rw [z_Kh_isUp s, r.dn, p_1_13 s]
  refine ⟨by decide, ?_⟩
  by_cases d : t 137 0 = 0
  · rw [if_pos d]
    refine ⟨by decide, by decide, by rw [l_122 s]; decide, ?_⟩
    rintro _ rfl
    refine k 0 _ r.out (frC_out _ _) (by rw [if_pos d]) (fun _ => ?_)
    rw [rd_up_eq]
    exact r.2.2.1.get e_80_4 (act_up d (by unfold pln; omega))
  · rw [if_neg d]
    exact ⟨x, kn_mk_new _ _ _, k 1 _ r.mk (frC_exc _ s.2.2.1) (by rw [if_neg d]) (by omega)⟩
