/-! FRAMES OF OPERATIONS; THE SIMPLEST ONES -/
/-- what an operation of the component leaves: constants, the twin; how much it makes -/
def frC (h h1 : Hp) : Prop := (∀ a i : Int, a < 64 ∨ (1400 ≤ a ∧ a < 1509) → h1.1 a i = h.1 a i) ∧ nx h ≤ nx h1 ∧ nx h1 ≤ nx h + 100 ∧ us h1 ≤ us h + 1000
def frT (h h1 : Hp) : Prop := h1.2 = h.2 ∧ ∀ a i : Int, a < 1400 ∨ 1509 ≤ a ∨ fp a i ≠ -7 ∨ i < 0 → h1.1 a i = h.1 a i
theorem RC.out {H Q L : Int} {h : Hp} {t : Ts} {x : Int} (r : RC H Q L h t) : RC H Q L (up h 1509 0 x) t :=
  r.keep (fun a i _ k => rd_up_ne (by
    rintro ⟨rfl, rfl⟩
    rcases k with k | k | k
    · omega
    · omega
    · exact k (by decide +kernel))) (fun a _ => ln_up (by decide)) (Int.le_refl _)
theorem RC.twin {H Q L : Int} {h h1 : Hp} {t : Ts} (r : RC H Q L h t) (f : frT h h1) : RC H Q L h1 t := by
  have e : nx h1 = nx h := by unfold nx; rw [f.1]
  exact r.keep (fun a i _ k => f.2 a i (by omega)) (fun a _ => f.2 a (-2) (by omega)) (by omega)
theorem RT.cg {h h1 : Hp} {t : Ts} (r : RT h t) (e : ∀ a i : Int, 1400 ≤ a → a < 1509 → h1.1 a i = h.1 a i) (b : ∀ v : Int, ess v → 0 < td v → 1400 ≤ ta v ∧ ta v < 1509) : RT h1 t :=
  fun v j k j0 j1 => (e _ _ (b v k (by omega)).1 (b v k (by omega)).2).trans (r v j k j0 j1)
theorem RT.comp {h h1 : Hp} {t : Ts} (r : RT h t) (f : frC h h1) : RT h1 t := r.cg (fun a i h0 h2 => f.1 a i (Or.inr ⟨h0, h2⟩)) (fun v _ _ => ta_r v)
theorem RC.dn {H Q L : Int} {h : Hp} {t : Ts} (r : RC H Q L h t) : rd h 70 6 = t 137 0 := r.2.2.1.get e_7_137 ⟨Or.inl (by unfold alw; omega), by omega, by omega, by omega, by omega, by omega, by omega, by omega⟩
theorem frC_out (h : Hp) (x : Int) : frC h (up h 1509 0 x) := ⟨fun a i k => rd_up_ne (by omega), Int.le_refl _, by rw [nx_up]; omega, by rw [us_up]; omega⟩
theorem frC_exc {h : Hp} (κ : Int) (g : 1510 ≤ nx h) : frC h (mk h κ 6) := ⟨fun a i k => rd_mk_old (by omega), by rw [nx_mk]; omega, by rw [nx_mk]; omega, by rw [us_mk]; omega⟩
theorem RT.put {h : Hp} {t : Ts} {a i v j x : Int} (r : RT h t) (e : Lt a i v j) : RT (up h a i x) (tset t v j x) := by
  intro u k ku k0 k1
  have h2 := r u k ku k0 k1
  show (if ta u = a ∧ ti u k = i then x else h.1 (ta u) (ti u k)) = (if u = v ∧ k = j then x else t u k)
  obtain ⟨e1, e2, e3, e4, e5, e6⟩ := e
  by_cases c : u = v ∧ k = j
  · rw [if_pos c, if_pos (by rw [c.1, c.2]; exact ⟨e1, e2⟩)]
  · rw [if_neg c, if_neg, h2]
    rintro ⟨q1, q2⟩
    apply c
    by_cases z : ta v = 1400
    · have zu : ta u = 1400 := by rw [q1, ← e1, z]
      have w1 : ti u k = u := if_pos zu
      have w2 : ti v j = v := if_pos z
      have w3 := td_one zu k0 k1
      have w4 := td_one z e3 e4
      omega
    · have zu : ta u ≠ 1400 := by rw [q1, ← e1]; exact z
      have w1 : ti u k = k := if_neg zu
      have w2 : ti v j = j := if_neg z
      have w3 : tvi (ta u) = u := by
        rcases ta_inv u with y | y
        · exact absurd y zu
        · exact y
      have w4 : tvi (ta v) = v := by
        rcases ta_inv v with y | y
        · exact absurd y z
        · exact y
      rw [q1] at w3
      rw [e1] at w4
      omega
/-- scratch of the twin -/
theorem RT.sc {h : Hp} {t : Ts} {a i v j x : Int} (r : RT h t) (e : Lt a i v j) (n : ¬ ess v) : RT (up h a i x) t := by
  intro u k ku k0 k1
  have h2 := RT.put (x := x) r e u k ku k0 k1
  rw [h2]
  exact tset_nv (fun q => n (q ▸ ku))
theorem Lt.lo {a i v j : Int} (e : Lt a i v j) : 1400 ≤ a ∧ a < 1509 := by
  have := ta_r v
  rw [e.1] at this
  exact this
theorem frT.rf (h : Hp) : frT h h := ⟨rfl, fun _ _ _ => rfl⟩
theorem frT.tr {a b c : Hp} (x : frT a b) (y : frT b c) : frT a c := ⟨y.1.trans x.1, fun p i k => (y.2 p i k).trans (x.2 p i k)⟩
theorem frT.put {h h1 : Hp} {a i v j x : Int} (f : frT h h1) (e : Lt a i v j) : frT h (up h1 a i x) := f.tr ⟨rfl, fun p z k => by
  show (if p = a ∧ z = i then x else h1.1 p z) = h1.1 p z
  rw [if_neg]
  rintro ⟨rfl, rfl⟩
  have h1 := e.lo
  have h2 := e.2.2.2.2.1
  have h3 := e.2.2.2.2.2
  rcases k with k | k | k | k
  · omega
  · omega
  · exact k h2
  · omega⟩
theorem c_Lw_version {H Q L : Int} {h : Hp} {t : Ts} (r : RC H Q L h t) (x : xr h) {K : Int → Hp → Prop}
    (k : ∀ (c : Int) (h1 : Hp), RC H Q L h1 t → frC h h1 → c = (if t 137 0 = 0 then 0 else 1) → (c = 0 → rd h1 1509 0 = t 4 0) → K c h1) : wp_Lw_version 64 1509 h K := by
  have s := r.1
  have s1 := s
  unfold wp_Lw_version wp_Kh_version wp_Lw_version_11
  rw [z_Kh_isUp s, r.dn, p_1_13 s]
  refine ⟨by decide, ?_⟩
  by_cases d : t 137 0 = 0
  · rw [if_pos d]
    refine ⟨by decide, by decide, by rw [l_122 s]; decide, ?_⟩
    rintro _ rfl
    refine k 0 _ r.out (frC_out _ _) (by rw [if_pos d]) (fun _ => ?_)
    rw [rd_up_eq]
    exact r.2.2.1.get e_80_4 (act_up d (by unfold pln; omega))
  · rw [if_neg d]
    exact ⟨x, kn_mk_new _ _ _, k 1 _ r.mk (frC_exc _ s.2.2.1) (by rw [if_neg d]) (by omega)⟩
theorem c_Mo_version {h : Hp} {t : Ts} (s : Sh h) (r : RT h t) {K : Int → Hp → Prop}
    (k : ∀ (b : Int) (h1 : Hp), RT h1 (tset t 0 0 (if t 137 0 = 0 then 0 else 1)) → frT h h1 → (t 137 0 = 0 → b = t 4 0) → K b h1) : wp_Mo_version 1400 h K := by
  have d : rd h 1400 137 = t 137 0 := r.get t_137 (by unfold ess; omega)
  unfold wp_Mo_version
  rw [z_Mo_closed, d]
  by_cases c : t 137 0 = 0
  · rw [if_pos c]
    rw [if_pos c] at k
    simp only [c, ia, if_true]
    refine k _ _ (r.put t_0) ((frT.rf h).put t_0) (fun _ => ?_)
    rw [rd_up_ne (by omega)]
    exact r.get t_4 (by unfold ess; omega)
  · rw [if_neg c]
    rw [if_neg c] at k
    simp only [ia, c, if_false]
    exact k _ _ (r.put t_0) ((frT.rf h).put t_0) (fun z => absurd z c)
