/-! WRITES THAT KEEP RC -/
theorem lv_w {H Q L k : Int} : lv H Q L 69 k = -1 := (lv_of (ck_6) (cx_6) (cb_6)).trans (by simp [lvc])
theorem at_lv {H Q L a i v j : Int} (hh : is_h H) (hq : is_k Q) (e : Lc H Q a i v j) : At H Q L a i v j := by
  have x := at_of (L := L) hh hq e.2.2.1 e.2.2.2
  rw [e.1, e.2.1] at x
  exact x
theorem RC.put {H Q L : Int} {h : Hp} {t : Ts} {a i v j x : Int} (r : RC H Q L h t) (e : Lc H Q a i v j) (n : ¬ ctl v) (m : ¬ spv v j) : RC H Q L (up h a i x) (tset t v j x) := by
  obtain ⟨r1, r2, r3, r4, r5⟩ := r
  have hh := r2.1
  have hq := r2.2.1
  have hl := r2.2.2.1
  have k := at_lv (L := L) hh hq e
  have v0 : 0 ≤ v := dm_nn e.2.2.1 e.2.2.2
  have ne : ∀ b z : Int, lv H Q L b z < 0 → (up h a i x).1 b z = h.1 b z := fun b z hz => by
    show (if b = a ∧ z = i then x else h.1 b z) = h.1 b z
    rw [if_neg]
    rintro ⟨rfl, rfl⟩
    have := k.1
    omega
  refine ⟨r1.up k.2.2.1 k.2.2.2.1 k.2.2.2.2.1, ?_, RD.put hh hq r3 e n, fun q q0 q1 => ?_, fun u => ?_⟩
  · obtain ⟨s1, s2, s3, s4, s5, s6, s7, s8, s9⟩ := r2
    have p1 : ∀ z : Int, 7 ≤ z → z < 12 → rd (up h a i x) 64 z = rd h 64 z := fun z z0 z1 => ne 64 z (by rw [sp_1 ⟨z0, z1⟩]; decide)
    have p2 : rd (up h a i x) 70 1 = rd h 70 1 := ne 70 1 (by rw [sp_7 rfl]; decide)
    exact ⟨s1, s2, s3, (p1 7 (by decide) (by decide)).trans s4, (p1 8 (by decide) (by decide)).trans s5, p2.trans s6, (p1 11 (by decide) (by decide)).trans s7, (p1 9 (by decide) (by decide)).trans s8, (p1 10 (by decide) (by decide)).trans s9⟩
  · exact (ne 69 q (by rw [lv_w]; decide)).trans (r4 q q0 q1)
  · have u2 : t 137 0 = 0 := (tset_nv (t := t) (v := v) (j := j) (x := x) (u := 137) (k := 0) (fun q => n (by unfold ctl; omega))).symm.trans u
    refine (r5 u2).cg (Q := Q) hh hl (fun b z hz => ne b z (by rw [hz]; decide)) (fun b z b0 _ => ?_) (Int.le_refl _) (fun w z hw => tset_ne (fun q => m (by rw [← q.1, ← q.2]; exact hw)))
    show (if b = a ∧ z = i then x else h.1 b z) = h.1 b z
    rw [if_neg]
    have := k.2.2.2.2.2
    omega
/-- a heap that differs only in the twin's data and in new cells -/
theorem RC.keep {H Q L : Int} {h h2 : Hp} {t : Ts} (r : RC H Q L h t) (e : ∀ a i : Int, a < nx h → (a < 1400 ∨ 1510 ≤ a ∨ fp a i ≠ -7) → h2.1 a i = h.1 a i) (el : ∀ a : Int, a < nx h → ln h2 a = ln h a) (en : nx h ≤ nx h2) : RC H Q L h2 t := by
  obtain ⟨r1, r2, r3, r4, r5⟩ := r
  have hh := r2.1
  have hq := r2.2.1
  have hl := r2.2.2.1
  have g := r1.2.2.1
  have lo : ∀ a i : Int, a < 1400 → h2.1 a i = h.1 a i := fun a i k => e a i (by omega) (Or.inl k)
  refine ⟨r1.cg (fun a i n => ?_) el en (fun k _ => lo 18 k (by decide)), ?_, fun v j j0 j1 ka => ?_, fun q q0 q1 => (lo 69 q (by decide)).trans (r4 q q0 q1), fun u => ?_⟩
  · have : a < 1510 := by
      rcases Int.lt_or_le a 1510 with c | c
      · exact c
      · exact absurd (fp_hi c) n
    exact e a i (by omega) (Or.inr (Or.inr n))
  · obtain ⟨s1, s2, s3, s4, s5, s6, s7, s8, s9⟩ := r2
    exact ⟨s1, s2, s3, (lo 64 7 (by decide)).trans s4, (lo 64 8 (by decide)).trans s5, (lo 70 1 (by decide)).trans s6, (lo 64 11 (by decide)).trans s7, (lo 64 9 (by decide)).trans s8, (lo 64 10 (by decide)).trans s9⟩
  · have k := at_of (L := L) hh hq j0 j1
    exact (lo _ _ k.2.2.2.2.2).trans (r3 v j j0 j1 ka)
  · refine (r5 u).cg (Q := Q) hh hl (fun b z hz => ?_) (fun b z b0 b1 => e b z b1 (Or.inr (Or.inl (by omega)))) en (fun _ _ _ => rfl)
    rcases Int.lt_or_le b 1400 with c | c
    · exact lo b z c
    · exfalso
      have q : lv H Q L b z = -1 := by
        have h1 : lvc H Q L (ck b) (cx b) (cb b) z = -1 := by
          rcases (show ck b = 0 ∨ ck b = 120 ∨ ck b = 121 ∨ ck b = 122 by unfold ck; (repeat' split) <;> omega) with q | q | q | q <;> rw [q] <;> simp [lvc]
        exact h1
      omega
theorem RC.mk {H Q L : Int} {h : Hp} {t : Ts} {κ n : Int} (r : RC H Q L h t) : RC H Q L (mk h κ n) t :=
  r.keep (fun a i k _ => rd_mk_old (by omega)) (fun a k => ln_mk_old (by omega)) (by rw [nx_mk]; omega)
