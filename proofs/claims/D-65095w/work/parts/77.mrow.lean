/-! THE TWIN WRITES A ROW -/
/-- the twin's scratch arrays -/
def scA (a : Int) : Prop := a = 1500 ∨ a = 1501 ∨ a = 1508
theorem fp_scr {a i : Int} (s : scA a) : fp a i = -7 := by
  rcases s with rfl | rfl | rfl
  · exact (fp_of (show ck 1500 = 121 by decide +kernel) rfl rfl).trans ((if_neg (by decide)).trans ((if_neg (by decide)).trans ((if_neg (by decide)).trans ((if_neg (by decide)).trans ((if_neg (by decide)).trans ((if_neg (by decide)).trans ((if_neg (by decide)))))))))
  · exact (fp_of (show ck 1501 = 121 by decide +kernel) rfl rfl).trans ((if_neg (by decide)).trans ((if_neg (by decide)).trans ((if_neg (by decide)).trans ((if_neg (by decide)).trans ((if_neg (by decide)).trans ((if_neg (by decide)).trans ((if_neg (by decide)))))))))
  · exact (fp_of (show ck 1508 = 121 by decide +kernel) rfl rfl).trans ((if_neg (by decide)).trans ((if_neg (by decide)).trans ((if_neg (by decide)).trans ((if_neg (by decide)).trans ((if_neg (by decide)).trans ((if_neg (by decide)).trans ((if_neg (by decide)))))))))
theorem ess_scr {a u : Int} (s : scA a) (e : ess u) : ta u ≠ a := by
  intro q
  rcases ta_inv u with y | y
  · rcases s with rfl | rfl | rfl <;> omega
  · rw [q] at y
    unfold ess at e
    rcases s with rfl | rfl | rfl
    · have : tvi 1500 = 132 := by decide +kernel
      omega
    · have : tvi 1501 = 138 := by decide +kernel
      omega
    · have : tvi 1508 = 158 := by decide +kernel
      omega
theorem RT.on {h h1 : Hp} {t : Ts} {a : Int} (r : RT h t) (o : onl a h h1) (s : scA a) : RT h1 t := fun u k ku k0 k1 => by
  rw [o.2 _ _ (Or.inl (ess_scr s ku))]
  exact r u k ku k0 k1
theorem frT.on {h h1 : Hp} {a : Int} (o : onl a h h1) (s : scA a) : frT h h1 := ⟨o.1, fun p i k => by
  by_cases c : p = a
  · subst c
    rcases k with k | k | k | k
    · rcases s with rfl | rfl | rfl <;> omega
    · rcases s with rfl | rfl | rfl <;> omega
    · exact absurd (fp_scr s) k
    · exact o.2 p i (Or.inr k)
  · exact o.2 p i (Or.inl c)⟩
theorem rwb_b {kd ix la nu ge : Int} {b : Int → Int} (hb : ∀ i : Int, 0 ≤ i → i < 28 → -128 ≤ b i ∧ b i ≤ 127) {i : Int} (i0 : 0 ≤ i) (i1 : i < 48) : -128 ≤ rwb kd ix la nu ge b i ∧ rwb kd ix la nu ge b i ≤ 127 := by
  have w : ∀ x : Int, -128 ≤ w8 x ∧ w8 x ≤ 127 := fun x => by unfold w8; omega
  unfold rwb rb0 byt
  by_cases c : i < 44
  · rw [if_pos c]
    by_cases c0 : i = 0
    · rw [if_pos c0]; exact w _
    · rw [if_neg c0]
      by_cases c1 : i = 1
      · rw [if_pos c1]; exact w _
      · rw [if_neg c1]
        by_cases c2 : i = 2
        · rw [if_pos c2]; split <;> omega
        · rw [if_neg c2]
          by_cases c3 : i = 3
          · rw [if_pos c3]; omega
          · rw [if_neg c3]
            by_cases c4 : i < 8
            · rw [if_pos c4]; exact w _
            · rw [if_neg c4]
              by_cases c5 : i < 12
              · rw [if_pos c5]; exact w _
              · rw [if_neg c5]
                by_cases c6 : i < 40
                · rw [if_pos c6]; exact hb _ (by omega) (by omega)
                · rw [if_neg c6]; omega
  · rw [if_neg c]; exact w _
theorem tRow_nv {t : Ts} {a n : Int} {R : Int → Int} {v k : Int} (n1 : v ≠ 129) (n2 : v ≠ 136) (n3 : v ≠ 137) : tRow t a n R v k = t v k := by
  unfold tRow
  split
  · rw [tset_nv n3, tset_nv n1, tsr_nv n1]
  · rw [tset_nv n2, tset_nv n1, tsr_nv n1]
theorem m_writeRow {h : Hp} {t : Ts} {a n kd ix la ge : Int} {b : Int → Int} (sh : Sh h) (r : RT h t) (d : t 137 0 = 0) (b6 : -1 ≤ t 136 0 ∧ t 136 0 ≤ 1000) (a0 : 0 ≤ a) (a1 : a < 2) (n0 : 0 ≤ n) (n1 : n < 200)
    (mb : ∀ i : Int, 0 ≤ i → i < 28 → rd h 1500 i = b i) (hb : ∀ i : Int, 0 ≤ i → i < 28 → -128 ≤ b i ∧ b i ≤ 127) {K : Int → Hp → Prop}
    (kk : ∀ h1, RT h1 (tRow t a n (rwb kd ix la n ge b)) → frT h h1 → (∀ c i : Int, c ≠ 1508 → c ≠ 1497 → c ≠ 1400 → rd h1 c i = rd h c i) → (∀ i : Int, i ≠ 136 → i ≠ 137 → rd h1 1400 i = rd h 1400 i) → K (if t 136 0 = 0 then 0 else 1) h1) : wp_Mo_writeRow 1400 a n kd ix la ge h K := by
  have s8 : scA 1508 := Or.inr (Or.inr rfl)
  unfold wp_Mo_writeRow wp_Mo_writeRow_3
  intro P hP
  refine up_ind (P := P) 48 (fun k h' => 0 ≤ k ∧ h' = upr h 1508 0 k (fun i => if i < 12 then 0 else if i < 40 then b (i - 12) else 0)) (fun k h' k1 I next => ?_) (fun h' I => ?_) 0 h (by decide) ⟨by decide, (upr_nil (by omega)).symm⟩
  · obtain ⟨k0, e⟩ := I
    have o' : onl 1508 h h' := by rw [e]; exact (onl.rf 1508 h).upr (by decide)
    have s' := (frT.on o' s8).sh sh
    apply hP
    rw [tp_158 s', tl_158 s', tp_132 s', tl_132 s']
    refine ⟨fun q => absurd q (by omega), fun _ => ⟨fun q => ⟨by decide, by omega, ?_⟩, fun q => ⟨fun q1 => ⟨by decide, by omega, ?_⟩, fun q1 => ⟨by decide, ?_, by decide, by omega, ?_⟩⟩⟩⟩
    · rintro _ rfl _ rfl
      rw [w32_id (by omega) (by omega)]
      refine next _ ⟨by omega, ?_⟩
      rw [e, show w8 0 = 0 by decide, upr_up (f := fun i => if i < 12 then 0 else if i < 40 then b (i - 12) else 0) (by omega) (by show 0 = if k < 12 then 0 else if k < 40 then b (k - 12) else 0; rw [if_pos q])]
    · rintro _ rfl _ rfl
      rw [w32_id (by omega) (by omega)]
      refine next _ ⟨by omega, ?_⟩
      rw [e, show w8 0 = 0 by decide, upr_up (f := fun i => if i < 12 then 0 else if i < 40 then b (i - 12) else 0) (by omega) (by show 0 = if k < 12 then 0 else if k < 40 then b (k - 12) else 0; rw [if_neg q, if_neg (by omega)])]
    · rw [w32_id (x := k - 12) (by omega) (by omega)]
      omega
    · rintro _ rfl _ rfl
      have hbk := hb (k - 12) (by omega) (by omega)
      rw [w32_id (x := k + 1) (by omega) (by omega), w32_id (x := k - 12) (by omega) (by omega), o'.rd (show (1500 : Int) ≠ 1508 by decide), mb (k - 12) (by omega) (by omega), w8_id hbk.1 hbk.2]
      refine next _ ⟨by omega, ?_⟩
      rw [e, upr_up (f := fun i => if i < 12 then 0 else if i < 40 then b (i - 12) else 0) (by omega) (by show b (k - 12) = if k < 12 then 0 else if k < 40 then b (k - 12) else 0; rw [if_neg q, if_pos (by omega)])]
  · obtain ⟨_, e⟩ := I
    have oA : onl 1508 h h' := by rw [e]; exact (onl.rf 1508 h).upr (by decide)
    refine hP _ _ ⟨fun _ => ?_, fun q => absurd q (by omega)⟩
    rw [oA.rd (show (1400 : Int) ≠ 1508 by decide), tp_158 sh, oA.ln, tl_158 sh, w8_w8, w8_w8]
    refine ⟨by decide, by decide, ?_⟩
    intro hB eB
    have oB : onl 1508 h hB := by rw [eB]; exact oA.put (by decide)
    rw [oB.rd (show (1400 : Int) ≠ 1508 by decide), tp_158 sh, oB.ln, tl_158 sh]
    refine ⟨by decide, by decide, ?_⟩
    intro hC eC
    have oC : onl 1508 h hC := by rw [eC]; exact oB.put (by decide)
    rw [oC.rd (show (1400 : Int) ≠ 1508 by decide), tp_158 sh]
    have go : ∀ z : Int, z = (if la = 0 then 0 else 1) → wp_Mo_writeRow_83 K 1400 a n ge z 2 1508 hC := by
      intro z ez
      unfold wp_Mo_writeRow_83
      have zb : -128 ≤ z ∧ z ≤ 127 := by rw [ez]; split <;> omega
      rw [oC.ln, tl_158 sh, w8_id zb.1 zb.2]
      refine ⟨by decide, by decide, ?_⟩
      intro hD eD
      have oD : onl 1508 h hD := by rw [eD]; exact oC.put (by decide)
      rw [oD.rd (show (1400 : Int) ≠ 1508 by decide), tp_158 sh]
      refine z_setIn (by decide) (by decide) (by decide) (by decide) (by decide) (by rw [oD.ln, tl_158 sh]; decide) ?_
      generalize eE : upr hD 1508 4 (4 + 4) (fun i => byt n (i - 4)) = hE
      have oE : onl 1508 h hE := by rw [← eE]; exact oD.upr (by decide)
      rw [oE.rd (show (1400 : Int) ≠ 1508 by decide), tp_158 sh]
      refine z_setIn (by decide) (by decide) (by decide) (by decide) (by decide) (by rw [oE.ln, tl_158 sh]; decide) ?_
      generalize eF : upr hE 1508 8 (8 + 4) (fun i => byt ge (i - 8)) = hF
      have oF : onl 1508 h hF := by rw [← eF]; exact oE.upr (by decide)
      rw [oF.rd (show (1400 : Int) ≠ 1508 by decide), tp_158 sh]
      have lo3 : ∀ i : Int, 0 ≤ i → i < 48 → (i = 3 ∨ 12 ≤ i) → rd hF 1508 i = (if i < 12 then 0 else if i < 40 then b (i - 12) else 0) := by
        intro i i0 i1 c
        rw [← eF, rd_upr_ne (by omega), ← eE, rd_upr_ne (by omega), eD, rd_up_ne (by omega), eC, rd_up_ne (by omega), eB, rd_up_ne (by omega), e, rd_upr_in (by omega) (by omega)]
      have rF : ∀ i : Int, 0 ≤ i → i < 44 → rd hF 1508 i = rb0 kd ix la n ge b i := by
        intro i i0 i1
        unfold rb0
        rcases (show i = 0 ∨ i = 1 ∨ i = 2 ∨ i = 3 ∨ (4 ≤ i ∧ i < 8) ∨ (8 ≤ i ∧ i < 12) ∨ (12 ≤ i ∧ i < 40) ∨ (40 ≤ i ∧ i < 44) by omega) with c | c | c | c | c | c | c | c
        · subst c
          rw [← eF, rd_upr_ne (by omega), ← eE, rd_upr_ne (by omega), eD, rd_up_ne (by omega), eC, rd_up_ne (by omega), eB, rd_up_eq, if_pos rfl]
        · subst c
          rw [← eF, rd_upr_ne (by omega), ← eE, rd_upr_ne (by omega), eD, rd_up_ne (by omega), eC, rd_up_eq, if_neg (by decide), if_pos rfl]
        · subst c
          rw [← eF, rd_upr_ne (by omega), ← eE, rd_upr_ne (by omega), eD, rd_up_eq, if_neg (by decide), if_neg (by decide), if_pos rfl, ez]
        · subst c
          rw [if_neg (by decide), if_neg (by decide), if_neg (by decide), if_pos rfl, lo3 3 (by decide) (by decide) (Or.inl rfl), if_pos (by decide)]
        · rw [← eF, rd_upr_ne (by omega), ← eE, rd_upr_in (by omega) (by omega), if_neg (by omega), if_neg (by omega), if_neg (by omega), if_neg (by omega), if_pos (by omega)]
        · rw [← eF, rd_upr_in (by omega) (by omega), if_neg (by omega), if_neg (by omega), if_neg (by omega), if_neg (by omega), if_neg (by omega), if_pos (by omega)]
        · rw [if_neg (by omega), if_neg (by omega), if_neg (by omega), if_neg (by omega), if_neg (by omega), if_neg (by omega), if_pos (by omega), lo3 i i0 (by omega) (Or.inr (by omega)), if_neg (by omega), if_pos (by omega)]
        · rw [if_neg (by omega), if_neg (by omega), if_neg (by omega), if_neg (by omega), if_neg (by omega), if_neg (by omega), if_neg (by omega), lo3 i i0 (by omega) (Or.inr (by omega)), if_neg (by omega), if_neg (by omega)]
      refine z_crcOf (by decide) (by decide) (by decide) (by decide) (by decide) (by rw [oF.ln, tl_158 sh]; decide) ?_
      rw [crc_cg (g := rb0 kd ix la n ge b) (fun i i0 i1 => by rw [Int.zero_add]; exact rF i i0 i1)]
      refine z_setIn (by decide) (by decide) (by decide) (by decide) (by decide) (by rw [oF.ln, tl_158 sh]; decide) ?_
      generalize eG : upr hF 1508 44 (44 + 4) (fun i => byt (crc (rb0 kd ix la n ge b) 44) (i - 44)) = hG
      have oG : onl 1508 h hG := by rw [← eG]; exact oF.upr (by decide)
      have rG : ∀ i : Int, 0 ≤ i → i < 48 → rd hG 1508 i = rwb kd ix la n ge b i := by
        intro i i0 i1
        unfold rwb
        rw [← eG]
        by_cases c : i < 44
        · rw [rd_upr_ne (by omega), if_pos c]
          exact rF i i0 c
        · rw [rd_upr_in (by omega) (by omega), if_neg c]
      have rtG : RT hG t := r.on oG s8
      have ftG : frT h hG := frT.on oG s8
      have shG := ftG.sh sh
      have bb : ∀ i : Int, 0 ≤ i → i < 48 → w8 (rwb kd ix la n ge b i) = rwb kd ix la n ge b i := fun i i0 i1 => w8_id (rwb_b hb i0 i1).1 (rwb_b hb i0 i1).2
      clear eG eF eE rF oF oE
      rw [gt_136 rtG]
      have last : ∀ s : Int, s = (if t 136 0 = 0 then 0 else 1) → wp_Mo_writeRow_140 K 1400 a n s hG := by
        intro s es
        unfold wp_Mo_writeRow_140
        have eB9 : w32 (w32 (9600 * a) + w32 (48 * n)) = 9600 * a + 48 * n := by unfold w32; omega
        rw [eB9]
        rintro _ rfl
        have top : ∃ m : Int, m = (if s = 0 then 24 else 48) := ⟨_, rfl⟩
        obtain ⟨m, em⟩ := top
        have mr : m = 24 ∨ m = 48 := by rw [em]; split <;> omega
        unfold wp_Mo_writeRow_157
        intro P2 hP2
        have stp : ∀ (x : Int) (hh : Hp), wp_Mo_writeRow_171 P2 K 1400 s (9600 * a + 48 * n) x m x hh → P2 x hh := by
          intro x hh w
          apply hP2
          refine ⟨fun q => ?_, fun q => ?_⟩
          · rw [em, if_pos q] at w; exact w
          · rw [em, if_neg q] at w; exact w
        refine up_ind (P := P2) m (fun k h2 => 0 ≤ k ∧ h2 = upr hG 1497 (9600 * a + 48 * n) (9600 * a + 48 * n + k) (fun y => rwb kd ix la n ge b (y - (9600 * a + 48 * n)))) (fun k h2 k1 I next => ?_) (fun h2 I => ?_) 0 hG (by omega) ⟨by decide, (upr_nil (by omega)).symm⟩
        · obtain ⟨k0, e2⟩ := I
          have f2 : frT h h2 := by rw [e2]; exact ftG.upr (fun i i0 i1 => t_129 (by omega) (by omega))
          have s2 := f2.sh sh
          have o2 : ∀ i : Int, rd h2 1508 i = rd hG 1508 i := fun i => by rw [e2]; exact rd_upr_ne (by omega)
          apply stp
          unfold wp_Mo_writeRow_171
          rw [tp_158 s2, tl_158 s2, tp_129 s2, tl_129 s2, w32_id (x := 9600 * a + 48 * n + k) (by omega) (by omega), o2, rG k k0 (by omega), bb k k0 (by omega)]
          refine ⟨fun q => absurd q (by omega), fun _ => ⟨by decide, by omega, by decide, by omega, ?_⟩⟩
          rintro _ rfl _ rfl
          rw [w32_id (by omega) (by omega)]
          refine next _ ⟨by omega, ?_⟩
          rw [e2, upr_up (f := fun y => rwb kd ix la n ge b (y - (9600 * a + 48 * n))) (by omega) (by rw [show 9600 * a + 48 * n + k - (9600 * a + 48 * n) = k by omega]), show 9600 * a + 48 * n + k + 1 = 9600 * a + 48 * n + (k + 1) by omega]
        · obtain ⟨_, e2⟩ := I
          have f2 : frT h h2 := by rw [e2]; exact ftG.upr (fun i i0 i1 => t_129 (by omega) (by omega))
          have r2 : RT h2 (tsr t 129 (9600 * a + 48 * n) (9600 * a + 48 * n + m) (fun y => rwb kd ix la n ge b (y - (9600 * a + 48 * n)))) := by rw [e2]; exact rtG.putr (fun i i0 i1 => t_129 (by omega) (by omega))
          have s2 := f2.sh sh
          have o2 : ∀ c i : Int, c ≠ 1497 → rd h2 c i = rd hG c i := fun c i nc => by rw [e2]; exact rd_upr_ne (by omega)
          apply stp
          unfold wp_Mo_writeRow_171
          rw [tp_129 s2, w32_id (x := 9600 * a + 48 * n + 3) (by omega) (by omega)]
          have fin : ∀ y : Int, y = (if s = 0 then 1 else 0) → wp_Mo_writeRow_215 K 1400 s y (9600 * a + 48 * n + 3) 1497 h2 := by
            intro y ey
            have yb : -128 ≤ y ∧ y ≤ 127 := by rw [ey]; split <;> omega
            unfold wp_Mo_writeRow_215
            rw [tl_129 s2, w8_id yb.1 yb.2]
            refine ⟨by decide, by omega, ?_⟩
            intro h3 e3
            have r3 := r2.put (x := y) (t_129 (i := 9600 * a + 48 * n + 3) (by omega) (by omega))
            rw [← e3] at r3
            have f3 : frT h h3 := by rw [e3]; exact f2.put (t_129 (i := 9600 * a + 48 * n + 3) (by omega) (by omega))
            have o3 : ∀ c i : Int, c ≠ 1497 → rd h3 c i = rd hG c i := fun c i nc => by rw [e3]; exact (rd_up_ne (by omega)).trans (o2 c i nc)
            rw [gt_136 r3, tset_nv (by decide), tsr_nv (by decide)]
            have end' : ∀ z : Int, z = (if t 136 0 ≤ 0 then 0 else 1) → wp_Mo_writeRow_233 K 1400 s z (t 136 0) 1400 h3 := by
              intro z ez
              have zr : 0 ≤ z ∧ z ≤ 1 := by rw [ez]; split <;> omega
              unfold wp_Mo_writeRow_233
              rw [w32_id (by omega) (by omega)]
              refine ⟨by decide, ?_⟩
              intro h4 e4
              have r4 := r3.put (x := t 136 0 - z) t_136
              rw [← e4] at r4
              have f4 : frT h h4 := by rw [e4]; exact f3.put t_136
              have o4 : ∀ c i : Int, c ≠ 1497 → (c ≠ 1400 ∨ i ≠ 136) → rd h4 c i = rd hG c i := fun c i nc n4 => by rw [e4]; exact (rd_up_ne (by omega)).trans (o3 c i nc)
              have e7 : rd h4 1400 137 = 0 := by rw [gt_137 r4, tset_nv (by decide), tset_nv (by decide), tsr_nv (by decide), d]
              rw [e7]
              refine ⟨fun q => absurd rfl q, fun _ => ⟨fun q => ?_, fun q => ?_⟩⟩
              · intro h5 e5
                have s1 : s = 1 := by rw [es] at q ⊢; split at q <;> simp_all
                have n6 : t 136 0 ≠ 0 := fun y => by rw [es, if_pos y] at s1; omega
                rw [if_neg n6] at kk
                rw [s1]
                have r5 := r4.put (x := 0) t_137
                rw [← e5, tset_id (v := 137) (by rw [tset_nv (by decide), tset_nv (by decide), tsr_nv (by decide), d])] at r5
                refine ⟨Or.inr rfl, kk h5 ?_ ?_ ?_ ?_⟩
                · unfold tRow
                  rw [if_neg n6]
                  rw [em, if_neg (by omega), ey, if_neg (by omega), ez] at r5
                  exact r5
                · rw [e5]; exact f4.put t_137
                · intro c i c1 c2 c3
                  rw [e5, rd_up_ne (by omega), o4 c i c2 (Or.inl c3)]
                  exact oG.rd c1
                · intro i i1 i2
                  rw [e5, rd_up_ne (by omega), o4 1400 i (by decide) (Or.inr i1)]
                  exact oG.rd (by decide)
              · intro h5 e5
                have s1 : s = 0 := by omega
                have n6 : t 136 0 = 0 := by
                  rcases Int.lt_or_le (t 136 0) 0 with y | y
                  · rw [es, if_neg (by omega)] at s1; omega
                  · rcases Int.lt_or_le 0 (t 136 0) with x | x
                    · rw [es, if_neg (by omega)] at s1; omega
                    · omega
                rw [if_pos n6] at kk
                rw [s1]
                have r5 := r4.put (x := 1) t_137
                rw [← e5, tset_id (v := 136) (by rw [tset_nv (by decide), tsr_nv (by decide), ez, if_pos (by omega)]; omega)] at r5
                refine ⟨Or.inl rfl, kk h5 ?_ ?_ ?_ ?_⟩
                · unfold tRow
                  rw [if_pos n6]
                  rw [em, if_pos s1, ey, if_pos s1] at r5
                  exact r5
                · rw [e5]; exact f4.put t_137
                · intro c i c1 c2 c3
                  rw [e5, rd_up_ne (by omega), o4 c i c2 (Or.inl c3)]
                  exact oG.rd c1
                · intro i i1 i2
                  rw [e5, rd_up_ne (by omega), o4 1400 i (by decide) (Or.inr i1)]
                  exact oG.rd (by decide)
            exact ⟨fun q => end' 0 (by rw [if_pos q]), fun q => end' 1 (by rw [if_neg q])⟩
          exact ⟨fun _ => ⟨fun q => fin 1 (by rw [if_pos q]), fun q => fin 0 (by rw [if_neg q])⟩, fun q => absurd (Int.le_refl m) q⟩
      exact ⟨fun q => last 0 (by rw [if_pos q]), fun q => last 1 (by rw [if_neg q])⟩
    exact ⟨fun q => go 0 (by rw [if_pos q]), fun q => go 1 (by rw [if_neg q])⟩
