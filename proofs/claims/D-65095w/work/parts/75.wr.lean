/-! A ROW IS MADE AND WRITTEN -/
theorem k_make {h : Hp} {kd ix la nu ge src : Int} (sh : Sh h) (n1 : src ≠ 0) (n2 : src ≠ 613) (l : ln h src = 28) {K : Hp → Prop}
    (kk : ∀ h1, onl 613 h h1 → (∀ i : Int, 0 ≤ i → i < 48 → rd h1 613 i = rwb kd ix la nu ge (rd h src) i) → K h1) : wp_Store_make 70 kd ix la nu ge src h K := by
  unfold wp_Store_make wp_Store_make_3
  intro P hP
  refine up_ind (P := P) 48 (fun k h' => 0 ≤ k ∧ h' = upr h 613 0 k (fun _ => 0)) (fun k h' k1 I next => ?_) (fun h' I => ?_) 0 h (by decide) ⟨by decide, (upr_nil (by omega)).symm⟩
  · obtain ⟨k0, e⟩ := I
    have o' : onl 613 h h' := by rw [e]; exact (onl.rf 613 h).upr (by decide)
    apply hP
    rw [o'.rd (show (70 : Int) ≠ 613 by decide), p_7_7 sh, o'.ln, l_11 sh]
    refine ⟨fun q => absurd q (by omega), fun _ => ⟨by decide, by omega, ?_⟩⟩
    rintro _ rfl _ rfl
    rw [w32_id (by omega) (by omega)]
    refine next _ ⟨by omega, ?_⟩
    rw [e, show w8 0 = 0 by decide, upr_up (f := fun _ => 0) (by omega) rfl]
  · obtain ⟨_, e⟩ := I
    have oA : onl 613 h h' := by rw [e]; exact (onl.rf 613 h).upr (by decide)
    refine hP _ _ ⟨fun _ => ?_, fun q => absurd q (by omega)⟩
    rw [oA.rd (show (70 : Int) ≠ 613 by decide), p_7_7 sh, oA.ln, l_11 sh, w8_w8, w8_w8]
    refine ⟨by decide, by decide, ?_⟩
    intro hB eB
    have oB : onl 613 h hB := by rw [eB]; exact oA.put (by decide)
    rw [oB.rd (show (70 : Int) ≠ 613 by decide), p_7_7 sh, oB.ln, l_11 sh]
    refine ⟨by decide, by decide, ?_⟩
    intro hC eC
    have oC : onl 613 h hC := by rw [eC]; exact oB.put (by decide)
    rw [oC.rd (show (70 : Int) ≠ 613 by decide), p_7_7 sh]
    have go : ∀ z : Int, z = (if la = 0 then 0 else 1) → wp_Store_make_54 K 70 nu ge src z 2 613 hC := by
      intro z ez
      unfold wp_Store_make_54
      have zb : -128 ≤ z ∧ z ≤ 127 := by rw [ez]; split <;> omega
      rw [oC.ln, l_11 sh, w8_w8, w8_id zb.1 zb.2]
      refine ⟨by decide, by decide, ?_⟩
      intro hD eD
      have oD : onl 613 h hD := by rw [eD]; exact oC.put (by decide)
      rw [oD.rd (show (70 : Int) ≠ 613 by decide), p_7_7 sh]
      refine z_set (by decide) (by decide) (by decide) (by decide) (by decide) (by rw [oD.ln, l_11 sh]; decide) ?_
      generalize eE : upr hD 613 4 (4 + 4) (fun i => byt nu (i - 4)) = hE
      have oE : onl 613 h hE := by rw [← eE]; exact oD.upr (by decide)
      rw [oE.rd (show (70 : Int) ≠ 613 by decide), p_7_7 sh]
      refine z_set (by decide) (by decide) (by decide) (by decide) (by decide) (by rw [oE.ln, l_11 sh]; decide) ?_
      generalize eF : upr hE 613 8 (8 + 4) (fun i => byt ge (i - 8)) = hF
      have oF : onl 613 h hF := by rw [← eF]; exact oE.upr (by decide)
      rw [oF.rd (show (70 : Int) ≠ 613 by decide), p_7_7 sh]
      refine ⟨n1, by decide, ?_, ?_⟩
      · unfold cpR
        rw [oF.ln, oF.ln, l, l_11 sh]
        omega
      · intro hG eG
        rw [cpy_upr] at eG
        have oG : onl 613 h hG := by rw [eG]; exact oF.upr (by decide)
        have rG : ∀ i : Int, 0 ≤ i → i < 44 → rd hG 613 i = rb0 kd ix la nu ge (rd h src) i := by
          intro i i0 i1
          unfold rb0
          rw [eG]
          rcases (show i = 0 ∨ i = 1 ∨ i = 2 ∨ i = 3 ∨ (4 ≤ i ∧ i < 8) ∨ (8 ≤ i ∧ i < 12) ∨ (12 ≤ i ∧ i < 40) ∨ (40 ≤ i ∧ i < 44) by omega) with c | c | c | c | c | c | c | c
          · subst c
            rw [rd_upr_ne (by omega), ← eF, rd_upr_ne (by omega), ← eE, rd_upr_ne (by omega), eD, rd_up_ne (by omega), eC, rd_up_ne (by omega), eB, rd_up_eq, if_pos rfl]
          · subst c
            rw [rd_upr_ne (by omega), ← eF, rd_upr_ne (by omega), ← eE, rd_upr_ne (by omega), eD, rd_up_ne (by omega), eC, rd_up_eq, if_neg (by decide), if_pos rfl]
          · subst c
            rw [rd_upr_ne (by omega), ← eF, rd_upr_ne (by omega), ← eE, rd_upr_ne (by omega), eD, rd_up_eq, if_neg (by decide), if_neg (by decide), if_pos rfl, ez]
          · subst c
            rw [rd_upr_ne (by omega), ← eF, rd_upr_ne (by omega), ← eE, rd_upr_ne (by omega), eD, rd_up_ne (by omega), eC, rd_up_ne (by omega), eB, rd_up_ne (by omega), e, rd_upr_in (by omega) (by omega), if_neg (by decide), if_neg (by decide), if_neg (by decide), if_pos rfl]
          · rw [rd_upr_ne (by omega), ← eF, rd_upr_ne (by omega), ← eE, rd_upr_in (by omega) (by omega), if_neg (by omega), if_neg (by omega), if_neg (by omega), if_neg (by omega), if_pos (by omega)]
          · rw [rd_upr_ne (by omega), ← eF, rd_upr_in (by omega) (by omega), if_neg (by omega), if_neg (by omega), if_neg (by omega), if_neg (by omega), if_neg (by omega), if_pos (by omega)]
          · rw [rd_upr_in (by omega) (by omega), if_neg (by omega), if_neg (by omega), if_neg (by omega), if_neg (by omega), if_neg (by omega), if_neg (by omega), if_pos (by omega)]
            show rd hF src (0 + (i - 12)) = rd h src (i - 12)
            rw [oF.rd n2, Int.zero_add]
          · rw [rd_upr_ne (by omega), ← eF, rd_upr_ne (by omega), ← eE, rd_upr_ne (by omega), eD, rd_up_ne (by omega), eC, rd_up_ne (by omega), eB, rd_up_ne (by omega), e, rd_upr_in (by omega) (by omega), if_neg (by omega), if_neg (by omega), if_neg (by omega), if_neg (by omega), if_neg (by omega), if_neg (by omega), if_neg (by omega)]
        rw [oG.rd (show (70 : Int) ≠ 613 by decide), p_7_7 sh]
        refine z_check (by decide) (by decide) (by decide) (by rw [oG.ln, l_11 sh]; decide) ?_
        rw [crc_cg rG]
        refine z_set (by decide) (by decide) (by decide) (by decide) (by decide) (by rw [oG.ln, l_11 sh]; decide) (kk _ (oG.upr (by decide)) (fun i i0 i1 => ?_))
        unfold rwb
        by_cases c : i < 44
        · rw [rd_upr_ne (by omega), if_pos c]
          exact rG i i0 c
        · rw [rd_upr_in (by omega) (by omega), if_neg c]
    exact ⟨fun q => go 0 (by rw [if_pos q]), fun q => go 1 (by rw [if_neg q])⟩
/-- the core of the relation: pointers, what is in use, data -/
def RK (H Q L : Int) (h : Hp) (t : Ts) : Prop := Sh h ∧ SwC H Q L h ∧ RD H Q h t
theorem RC.k {H Q L : Int} {h : Hp} {t : Ts} (r : RC H Q L h t) : RK H Q L h t := ⟨r.1, r.2.1, r.2.2.1⟩
theorem RK.upd {H Q L : Int} {h h2 : Hp} {t t2 : Ts} (r : RK H Q L h t) (e2 : h2.2 = h.2)
    (pl : ∀ a i : Int, h2.1 a i = h.1 a i ∨ (∃ v j : Int, Lc H Q a i v j) ∨ (0 ≤ i ∧ 64 ≤ a ∧ a < 1400 ∧ fp a i = -7 ∧ lv H Q L a i = -1))
    (dat : ∀ v j : Int, 0 ≤ j → j < dm v → act t2 v j → h2.1 (ca H Q v j) (ci v j) = t2 v j) : RK H Q L h2 t2 := by
  obtain ⟨r1, r2, r3⟩ := r
  have hh := r2.1
  have hq := r2.2.1
  have en : nx h2 = nx h := by unfold nx; rw [e2]
  have ne : ∀ b z : Int, lv H Q L b z = -2 → h2.1 b z = h.1 b z := fun b z hz => by
    rcases pl b z with k | ⟨v, j, k⟩ | k
    · exact k
    · have w := at_lv (L := L) hh hq k
      have w0 : 0 ≤ v := dm_nn k.2.2.1 k.2.2.2
      have w1 := w.1
      omega
    · omega
  have nf : ∀ b z : Int, fp b z ≠ -7 ∨ z < 0 ∨ b < 64 ∨ 1400 ≤ b → h2.1 b z = h.1 b z := fun b z hz => by
    rcases pl b z with k | ⟨v, j, k⟩ | k
    · exact k
    · have w := at_lv (L := L) hh hq k
      have w1 := w.2.2.1
      have w2 := w.2.2.2
      rcases hz with c | c | c | c
      · exact absurd w1 c
      · omega
      · omega
      · omega
    · rcases hz with c | c | c | c
      · exact absurd k.2.2.2.1 c
      · omega
      · omega
      · omega
  refine ⟨r1.cg (fun a i n => nf a i (Or.inl n)) (fun a _ => nf a (-2) (by omega)) (by omega) (fun k _ => nf 18 k (by omega)), ?_, dat⟩
  obtain ⟨s1, s2, s3, s4, s5, s6, s7, s8, s9⟩ := r2
  have p1 : ∀ z : Int, 7 ≤ z → z < 12 → rd h2 64 z = rd h 64 z := fun z z0 z1 => ne 64 z (sp_1 ⟨z0, z1⟩)
  have p2 : rd h2 70 1 = rd h 70 1 := ne 70 1 (sp_7 rfl)
  exact ⟨s1, s2, s3, (p1 7 (by decide) (by decide)).trans s4, (p1 8 (by decide) (by decide)).trans s5, p2.trans s6, (p1 11 (by decide) (by decide)).trans s7, (p1 9 (by decide) (by decide)).trans s8, (p1 10 (by decide) (by decide)).trans s9⟩
/-- what the store's work leaves -/
def frX (H Q L : Int) (h h1 : Hp) : Prop := frS h h1 ∧ (∀ a i : Int, lv H Q L a i = -2 → h1.1 a i = h.1 a i) ∧ ∀ k : Int, rd h1 69 k = rd h 69 k
theorem frX.rf {H Q L : Int} (h : Hp) : frX H Q L h h := ⟨frS.rf h, fun _ _ _ => rfl, fun _ => rfl⟩
theorem frX.tr {H Q L : Int} {a b c : Hp} (x : frX H Q L a b) (y : frX H Q L b c) : frX H Q L a c := ⟨x.1.tr y.1, fun p i k => (y.2.1 p i k).trans (x.2.1 p i k), fun k => (y.2.2 k).trans (x.2.2 k)⟩
theorem frX.sc {H Q L a : Int} {h h1 : Hp} (o : onl a h h1) (k : 64 ≤ a ∧ a < 1400) (n : a ≠ 69) (s : ∀ i : Int, 0 ≤ i → lv H Q L a i ≠ -2) : frX H Q L h h1 := by
  refine ⟨⟨o.1, fun b i c => o.2 b i (Or.inl (by omega))⟩, fun b i c => ?_, fun i => o.2 69 i (Or.inl (fun q => n q.symm))⟩
  by_cases e : b = a
  · subst e
    rcases Int.lt_or_le i 0 with z | z
    · exact o.2 b i (Or.inr z)
    · exact absurd c (s i z)
  · exact o.2 b i (Or.inl e)
theorem frX.put {H Q L a i v j x : Int} {h h1 : Hp} (f : frX H Q L h h1) (hh : is_h H) (hq : is_k Q) (e : Lc H Q a i v j) : frX H Q L h (up h1 a i x) := by
  have w := at_lv (L := L) hh hq e
  have w0 : 0 ≤ v := dm_nn e.2.2.1 e.2.2.2
  have w1 := w.1
  have w2 := w.2.2.2
  refine f.tr ⟨(frS.rf h1).put (by omega), fun b z c => ?_, fun k => ?_⟩
  · exact rd_up_ne (by rintro ⟨rfl, rfl⟩; omega)
  · refine rd_up_ne ?_
    rintro ⟨q1, q2⟩
    have y := lv_w (H := H) (Q := Q) (L := L) (k := k)
    rw [q1, q2] at y
    omega
theorem frX.upr {H Q L a lo hi v o : Int} {f : Int → Int} {h h1 : Hp} (fx : frX H Q L h h1) (hh : is_h H) (hq : is_k Q) (ka : 64 ≤ a ∧ a < 1400) (e : ∀ i : Int, lo ≤ i → i < hi → Lc H Q a i v (i + o)) : frX H Q L h (upr h1 a lo hi f) := by
  refine fx.tr ⟨(frS.rf h1).upr ka, fun b z c => ?_, fun k => ?_⟩
  · refine rd_upr_ne ?_
    rintro ⟨rfl, q1, q2⟩
    have ee := e z q1 q2
    have w := (at_lv (L := L) hh hq ee).1
    have w0 : 0 ≤ v := dm_nn ee.2.2.1 ee.2.2.2
    omega
  · refine rd_upr_ne ?_
    rintro ⟨rfl, q1, q2⟩
    have ee := e k q1 q2
    have w := (at_lv (L := L) hh hq ee).1
    have w0 : 0 ≤ v := dm_nn ee.2.2.1 ee.2.2.2
    have y := lv_w (H := H) (Q := Q) (L := L) (k := k)
    omega
theorem RK.sc {H Q L a : Int} {h h1 : Hp} {t : Ts} (r : RK H Q L h t) (o : onl a h h1) (k : 64 ≤ a ∧ a < 1400) (s : ∀ i : Int, 0 ≤ i → fp a i = -7 ∧ lv H Q L a i = -1) : RK H Q L h1 t := by
  refine r.upd o.1 (fun b i => ?_) (fun v j j0 j1 ka => ?_)
  · by_cases c : b = a ∧ 0 ≤ i
    · rw [c.1]
      exact Or.inr (Or.inr ⟨c.2, k.1, k.2, (s i c.2).1, (s i c.2).2⟩)
    · exact Or.inl (o.2 b i (by omega))
  · have w := at_of (L := L) r.2.1.1 r.2.1.2.1 j0 j1
    have w0 : 0 ≤ v := dm_nn j0 j1
    rw [o.2 _ _ (Or.inl (fun q => by
      have y := s (ci v j) w.2.2.2.1
      have z := w.1
      rw [q] at z
      omega))]
    exact r.2.2 v j j0 j1 ka
/-- out of the core and the frame: the whole relation -/
theorem RC.ofK {H Q L : Int} {h h1 : Hp} {t t1 : Ts} (r : RC H Q L h t) (k : RK H Q L h1 t1) (f : frX H Q L h h1) (sp : ∀ v k : Int, spv v k → t1 v k = t v k) (u : t1 137 0 = 0 → t 137 0 = 0) : RC H Q L h1 t1 :=
  ⟨k.1, k.2.1, k.2.2, fun q q0 q1 => (f.2.2 q).trans (r.2.2.2.1 q q0 q1), fun d => (r.2.2.2.2 (u d)).cg (Q := Q) r.2.1.1 r.2.1.2.2.1 f.2.1 (fun b z b0 _ => f.1.2 b z (by omega)) (by rw [f.1.nx]; omega) sp⟩
