/-! A ROW IS WRITTEN, ON BOTH SIDES -/
theorem sc_613 {H Q L i : Int} : fp 613 i = -7 ∧ lv H Q L 613 i = -1 := ⟨(fp_of (by decide +kernel : ck 613 = 11) (by decide +kernel : cx 613 = 0) (by decide +kernel : cb 613 = 0)).trans (by simp [fpc]), (lv_of (by decide +kernel : ck 613 = 11) (by decide +kernel : cx 613 = 0) (by decide +kernel : cb 613 = 0)).trans (by simp [lvc])⟩
theorem sc_614 {H Q L i : Int} : fp 614 i = -7 ∧ lv H Q L 614 i = -1 := ⟨(fp_of (by decide +kernel : ck 614 = 12) (by decide +kernel : cx 614 = 0) (by decide +kernel : cb 614 = 0)).trans (by simp [fpc]), (lv_of (by decide +kernel : ck 614 = 12) (by decide +kernel : cx 614 = 0) (by decide +kernel : cb 614 = 0)).trans (by simp [lvc])⟩
theorem RK.put {H Q L : Int} {h : Hp} {t : Ts} {a i v j x : Int} (r : RK H Q L h t) (e : Lc H Q a i v j) (n : ¬ ctl v) : RK H Q L (up h a i x) (tset t v j x) := by
  refine r.upd rfl (fun b z => ?_) (fun u k k0 k1 ka => RD.put r.2.1.1 r.2.1.2.1 r.2.2 e n u k k0 k1 ka)
  by_cases c : b = a ∧ z = i
  · exact Or.inr (Or.inl ⟨v, j, by rw [c.1, c.2]; exact e⟩)
  · exact Or.inl (rd_up_ne c)
theorem RK.putr {H Q L : Int} {h : Hp} {t : Ts} {a lo hi v o : Int} {f : Int → Int} (r : RK H Q L h t) (e : ∀ i : Int, lo ≤ i → i < hi → Lc H Q a i v (i + o)) (n : ¬ ctl v) : RK H Q L (upr h a lo hi f) (tsr t v (lo + o) (hi + o) (fun k => f (k - o))) := by
  have hh := r.2.1.1
  have hq := r.2.1.2.1
  refine r.upd rfl (fun b z => ?_) (fun u k k0 k1 ka => ?_)
  · by_cases c : b = a ∧ lo ≤ z ∧ z < hi
    · exact Or.inr (Or.inl ⟨v, z + o, by rw [c.1]; exact e z c.2.1 c.2.2⟩)
    · exact Or.inl (if_neg c)
  · have ka2 : act t u k := (act_cg (t := t) (t2 := tsr t v (lo + o) (hi + o) (fun k => f (k - o))) (fun w z hw => tsr_nv (fun q : w = v => n (q ▸ hw)))).mp ka
    show (if ca H Q u k = a ∧ lo ≤ ci u k ∧ ci u k < hi then f (ci u k) else h.1 (ca H Q u k) (ci u k)) = (if u = v ∧ lo + o ≤ k ∧ k < hi + o then f (k - o) else t u k)
    by_cases c : u = v ∧ lo + o ≤ k ∧ k < hi + o
    · obtain ⟨q1, q2, q3⟩ := c
      subst q1
      have w := e (k - o) (by omega) (by omega)
      rw [show k - o + o = k by omega] at w
      rw [w.1, w.2.1, if_pos ⟨rfl, by omega, by omega⟩, if_pos ⟨rfl, q2, q3⟩]
    · rw [if_neg c, if_neg]
      · exact r.2.2 u k k0 k1 ka2
      · rintro ⟨p1, p2, p3⟩
        have w := e (ci u k) p2 p3
        have x := ca_inj hh hq k0 k1 w.2.2.1 w.2.2.2 (p1.trans w.1.symm) w.2.1.symm
        exact c ⟨x.1, by omega, by omega⟩
theorem RK.dn1 {H Q L : Int} {h : Hp} {t : Ts} (r : RK H Q L h t) : RK H Q L (up h 70 6 1) (tset t 137 0 1) := by
  have e : Lc H Q 70 6 137 0 := e_7_137
  refine r.upd rfl (fun b z => ?_) (fun u k k0 k1 ka => ?_)
  · by_cases c : b = 70 ∧ z = 6
    · exact Or.inr (Or.inl ⟨137, 0, by rw [c.1, c.2]; exact e⟩)
    · exact Or.inl (rd_up_ne c)
  · by_cases c : u = 137 ∧ k = 0
    · obtain ⟨rfl, rfl⟩ := c
      rw [tset_eq, e.1, e.2.1]
      exact rd_up_eq _ _ _ _
    · rw [tset_ne c]
      have w : (up h 70 6 1).1 (ca H Q u k) (ci u k) = h.1 (ca H Q u k) (ci u k) := rd_up_ne (fun q => by
        have x := ca_inj r.2.1.1 r.2.1.2.1 k0 k1 e.2.2.1 e.2.2.2 (q.1.trans e.1.symm) (q.2.trans e.2.1.symm)
        exact c x)
      rw [w]
      refine r.2.2 u k k0 k1 ?_
      unfold act at ka ⊢
      rw [tset_eq] at ka
      have nv : ∀ v z : Int, v ≠ 137 → tset t 137 0 1 v z = t v z := fun v z n => tset_nv n
      rw [nv 103 _ (by decide), nv 106 _ (by decide), nv 75 _ (by decide), nv 75 _ (by decide), nv 78 _ (by decide), nv 130 _ (by decide), nv 200 _ (by decide)] at ka
      exact ⟨Or.inl (by rcases ka.1 with y | y; exact y; omega), ka.2⟩
/-- a row comes to the disk, or half of it -/
def tRow (t : Ts) (a n : Int) (R : Int → Int) : Ts :=
  if t 136 0 = 0 then tset (tset (tsr t 129 (9600 * a + 48 * n) (9600 * a + 48 * n + 24) (fun k => R (k - (9600 * a + 48 * n)))) 129 (9600 * a + 48 * n + 3) 1) 137 0 1
  else tset (tset (tsr t 129 (9600 * a + 48 * n) (9600 * a + 48 * n + 48) (fun k => R (k - (9600 * a + 48 * n)))) 129 (9600 * a + 48 * n + 3) 0) 136 0 (t 136 0 - (if t 136 0 ≤ 0 then 0 else 1))
theorem k_write {H Q L : Int} {h : Hp} {t : Ts} {a n : Int} {R : Int → Int} (r : RK H Q L h t) (d : t 137 0 = 0) (b : -1 ≤ t 136 0 ∧ t 136 0 ≤ 1000) (a0 : 0 ≤ a) (a1 : a < 2) (n0 : 0 ≤ n) (n1 : n < 200) (rw' : ∀ i : Int, 0 ≤ i → i < 48 → rd h 613 i = R i) {K : Int → Hp → Prop}
    (kk : ∀ h1, RK H Q L h1 (tRow t a n R) → frX H Q L h h1 → (∀ b i : Int, b ≠ 73 + 201 * a + n → b ≠ 70 → rd h1 b i = rd h b i) → K (if t 136 0 = 0 then 0 else 1) h1) : wp_Store_write 70 a n h K := by
  have sh := r.1
  have hh := r.2.1.1
  have hq := r.2.1.2.1
  have al : ∀ v : Int, alw v → pln v → ∀ (t : Ts) (j : Int), act t v j := fun v x y t j => act_al x y
  have e136 : rd h 70 5 = t 136 0 := r.2.2.get e_7_136 (al 136 (by unfold alw; omega) (by unfold pln; omega) _ _)
  have eL : ∀ i : Int, 0 ≤ i → i < 48 → Lc H Q (73 + 201 * a + n) i 129 (i + (9600 * a + 48 * n)) := fun i i0 i1 => by
    have w := e_10_129 (H := H) (Q := Q) a0 a1 n0 n1 i0 i1
    rwa [show 48 * (200 * a + n) + i = i + (9600 * a + 48 * n) by omega] at w
  unfold wp_Store_write
  rw [e136]
  refine ⟨fun q => ?_, fun q => ?_⟩
  · rw [if_pos q] at kk
    unfold tRow at kk
    rw [if_pos q] at kk
    unfold wp_Store_write_12 wp_Store_write_38
    rw [p_7_0 sh, l_8 sh, p_8 a0 a1 sh, l_9 a0 a1 sh, p_9 a0 a1 n0 n1 sh, p_7_7 sh]
    refine ⟨by decide, by omega, by omega, by omega, fun _ => ⟨by decide, by omega, ?_, ?_⟩, fun z => absurd rfl z⟩
    · unfold cpR
      rw [l_11 sh, l_10 a0 a1 n0 n1 sh]
      omega
    · intro h7 e7
      rw [cpy_upr] at e7
      have r7 : RK H Q L h7 (tsr t 129 (0 + (9600 * a + 48 * n)) (0 + 24 + (9600 * a + 48 * n)) (fun k => (fun y => h.1 613 (0 + (y - 0))) (k - (9600 * a + 48 * n)))) := by
        rw [e7]
        exact r.putr (fun i i0 i1 => eL i i0 (by omega)) (by unfold ctl; omega)
      have E : tsr t 129 (0 + (9600 * a + 48 * n)) (0 + 24 + (9600 * a + 48 * n)) (fun k => (fun y => h.1 613 (0 + (y - 0))) (k - (9600 * a + 48 * n))) = tsr t 129 (9600 * a + 48 * n) (9600 * a + 48 * n + 24) (fun k => R (k - (9600 * a + 48 * n))) := by
        funext u k
        unfold tsr
        by_cases c : u = 129 ∧ 9600 * a + 48 * n ≤ k ∧ k < 9600 * a + 48 * n + 24
        · rw [if_pos (by omega), if_pos c]
          show rd h 613 (0 + (k - (9600 * a + 48 * n) - 0)) = R (k - (9600 * a + 48 * n))
          rw [show (0 : Int) + (k - (9600 * a + 48 * n) - 0) = k - (9600 * a + 48 * n) by omega]
          exact rw' _ (by omega) (by omega)
        · rw [if_neg (by omega), if_neg c]
      rw [E] at r7
      have f7 : frX H Q L h h7 := by rw [e7]; exact (frX.rf h).upr hh hq (by omega) (fun i i0 i1 => eL i i0 (by omega))
      have o7 : ∀ b i : Int, b ≠ 73 + 201 * a + n → rd h7 b i = rd h b i := fun b i nb => by rw [e7]; exact rd_upr_ne (by omega)
      have s7 := r7.1
      rw [p_7_0 s7, l_8 s7, p_8 a0 a1 s7, l_9 a0 a1 s7, p_9 a0 a1 n0 n1 s7]
      refine ⟨by decide, by omega, by omega, by omega, fun _ => ?_, fun z => absurd rfl z⟩
      unfold wp_Store_write_59
      rw [l_10 a0 a1 n0 n1 s7, show w8 (w8 1) = 1 by decide]
      refine ⟨by omega, by decide, ?_⟩
      intro h14 e14
      have r14 := r7.put (x := 1) (eL 3 (by decide) (by decide)) (by unfold ctl; omega)
      rw [← e14] at r14
      have f14 : frX H Q L h h14 := by rw [e14]; exact f7.put hh hq (eL 3 (by decide) (by decide))
      have o14 : ∀ b i : Int, b ≠ 73 + 201 * a + n → rd h14 b i = rd h b i := fun b i nb => by rw [e14]; exact (rd_up_ne (by omega)).trans (o7 b i nb)
      have e5 : rd h14 70 5 = 0 := by rw [o14 70 5 (by omega), e136, q]
      rw [e5]
      refine ⟨fun _ => ?_, fun z => absurd (by decide) z⟩
      unfold wp_Store_write_78
      rw [show w32 (0 - 0) = 0 by decide]
      refine ⟨by decide, ?_⟩
      intro h18 e18
      have r18 := r14.put (x := 0) e_7_136 (by unfold ctl; omega)
      rw [← e18, tset_id (by
        rw [tset_nv (by decide), tsr_nv (by decide), q])] at r18
      have f18 : frX H Q L h h18 := by rw [e18]; exact f14.put hh hq e_7_136
      have o18 : ∀ b i : Int, b ≠ 73 + 201 * a + n → b ≠ 70 → rd h18 b i = rd h b i := fun b i nb n7 => by rw [e18]; exact (rd_up_ne (by omega)).trans (o14 b i nb)
      have e6 : rd h18 70 6 = 0 := by
        have w := r18.2.2.get (e_7_137 (H := H) (Q := Q)) (al 137 (by unfold alw; omega) (by unfold pln; omega) _ _)
        rw [w, tset_nv (by decide), tsr_nv (by decide), d]
      rw [e6, show ior 0 1 = 1 by decide, show ior 0 0 = 0 by decide]
      refine ⟨fun z => absurd rfl z, fun _ => ⟨Or.inr rfl, ?_⟩⟩
      rintro h24 e24
      refine ⟨Or.inl rfl, kk h24 ?_ ?_ ?_⟩
      · have w := r18.dn1
        rw [← e24, show 3 + (9600 * a + 48 * n) = 9600 * a + 48 * n + 3 by omega] at w
        exact w
      · rw [e24]
        exact f18.put hh hq e_7_137
      · intro b i nb n7
        rw [e24]
        exact (rd_up_ne (by omega)).trans (o18 b i nb n7)
  · rw [if_neg q] at kk
    unfold tRow at kk
    rw [if_neg q] at kk
    unfold wp_Store_write_12 wp_Store_write_38
    rw [p_7_0 sh, l_8 sh, p_8 a0 a1 sh, l_9 a0 a1 sh, p_9 a0 a1 n0 n1 sh, p_7_7 sh]
    refine ⟨by decide, by omega, by omega, by omega, fun z => absurd z (by decide), fun _ => ⟨by decide, by omega, ?_, ?_⟩⟩
    · unfold cpR
      rw [l_11 sh, l_10 a0 a1 n0 n1 sh]
      omega
    · intro h7 e7
      rw [cpy_upr] at e7
      have r7 : RK H Q L h7 (tsr t 129 (0 + (9600 * a + 48 * n)) (0 + 48 + (9600 * a + 48 * n)) (fun k => (fun y => h.1 613 (0 + (y - 0))) (k - (9600 * a + 48 * n)))) := by
        rw [e7]
        exact r.putr (fun i i0 i1 => eL i i0 (by omega)) (by unfold ctl; omega)
      have E : tsr t 129 (0 + (9600 * a + 48 * n)) (0 + 48 + (9600 * a + 48 * n)) (fun k => (fun y => h.1 613 (0 + (y - 0))) (k - (9600 * a + 48 * n))) = tsr t 129 (9600 * a + 48 * n) (9600 * a + 48 * n + 48) (fun k => R (k - (9600 * a + 48 * n))) := by
        funext u k
        unfold tsr
        by_cases c : u = 129 ∧ 9600 * a + 48 * n ≤ k ∧ k < 9600 * a + 48 * n + 48
        · rw [if_pos (by omega), if_pos c]
          show rd h 613 (0 + (k - (9600 * a + 48 * n) - 0)) = R (k - (9600 * a + 48 * n))
          rw [show (0 : Int) + (k - (9600 * a + 48 * n) - 0) = k - (9600 * a + 48 * n) by omega]
          exact rw' _ (by omega) (by omega)
        · rw [if_neg (by omega), if_neg c]
      rw [E] at r7
      have f7 : frX H Q L h h7 := by rw [e7]; exact (frX.rf h).upr hh hq (by omega) (fun i i0 i1 => eL i i0 (by omega))
      have o7 : ∀ b i : Int, b ≠ 73 + 201 * a + n → rd h7 b i = rd h b i := fun b i nb => by rw [e7]; exact rd_upr_ne (by omega)
      have s7 := r7.1
      rw [p_7_0 s7, l_8 s7, p_8 a0 a1 s7, l_9 a0 a1 s7, p_9 a0 a1 n0 n1 s7]
      refine ⟨by decide, by omega, by omega, by omega, fun z => absurd z (by decide), fun _ => ?_⟩
      unfold wp_Store_write_59
      rw [l_10 a0 a1 n0 n1 s7, show w8 (w8 0) = 0 by decide]
      refine ⟨by omega, by decide, ?_⟩
      intro h14 e14
      have r14 := r7.put (x := 0) (eL 3 (by decide) (by decide)) (by unfold ctl; omega)
      rw [← e14] at r14
      have f14 : frX H Q L h h14 := by rw [e14]; exact f7.put hh hq (eL 3 (by decide) (by decide))
      have o14 : ∀ b i : Int, b ≠ 73 + 201 * a + n → rd h14 b i = rd h b i := fun b i nb => by rw [e14]; exact (rd_up_ne (by omega)).trans (o7 b i nb)
      have e5 : rd h14 70 5 = t 136 0 := by rw [o14 70 5 (by omega), e136]
      rw [e5]
      have go : ∀ z : Int, z = (if t 136 0 ≤ 0 then 0 else 1) → wp_Store_write_78 K 70 1 z (t 136 0) 70 h14 := by
        intro z ez
        unfold wp_Store_write_78
        have zr : 0 ≤ z ∧ z ≤ 1 := by rw [ez]; split <;> omega
        rw [w32_id (by omega) (by omega), ez]
        refine ⟨by decide, ?_⟩
        intro h18 e18
        have r18 := r14.put (x := t 136 0 - (if t 136 0 ≤ 0 then 0 else 1)) e_7_136 (by unfold ctl; omega)
        rw [← e18] at r18
        have f18 : frX H Q L h h18 := by rw [e18]; exact f14.put hh hq e_7_136
        have o18 : ∀ b i : Int, b ≠ 73 + 201 * a + n → b ≠ 70 → rd h18 b i = rd h b i := fun b i nb n7 => by rw [e18]; exact (rd_up_ne (by omega)).trans (o14 b i nb)
        have e6 : rd h18 70 6 = 0 := by
          have w := r18.2.2.get (e_7_137 (H := H) (Q := Q)) (al 137 (by unfold alw; omega) (by unfold pln; omega) _ _)
          rw [w, tset_nv (by decide), tset_nv (by decide), tsr_nv (by decide), d]
        rw [e6, show ior 0 1 = 1 by decide, show ior 0 0 = 0 by decide]
        refine ⟨fun _ => ⟨Or.inl rfl, ?_⟩, fun y => absurd (by decide) y⟩
        rintro h22 e22
        have e22' : h22 = h18 := by
          rw [e22]
          unfold up
          have : (fun x y => if x = 70 ∧ y = 6 then (0 : Int) else h18.1 x y) = h18.1 := by
            funext x y
            by_cases c : x = 70 ∧ y = 6
            · rw [if_pos c, c.1, c.2]; exact e6.symm
            · rw [if_neg c]
          rw [this]
        rw [e22']
        refine ⟨Or.inr rfl, kk h18 ?_ f18 o18⟩
        rw [show 3 + (9600 * a + 48 * n) = 9600 * a + 48 * n + 3 by omega] at r18
        exact r18
      exact ⟨fun q2 => go 0 (by rw [if_pos q2]), fun q2 => go 1 (by rw [if_neg q2])⟩
