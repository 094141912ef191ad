/-! WHAT KEEPS THE RELATION -/
/-- variables that the special clauses look at -/
def spv (v k : Int) : Prop := (v = 3 ∧ k < 550) ∨ (5 ≤ v ∧ v ≤ 15) ∨ (28 ≤ v ∧ v ≤ 36) ∨ (80 ≤ v ∧ v ≤ 99) ∨ (v = 117 ∧ k = 10)
theorem SpC.cg {H Q L : Int} {h h2 : Hp} {t t2 : Ts} (hh : is_h H) (hl : is_l L) (s : SpC H L h t)
    (e1 : ∀ a i : Int, lv H Q L a i = -2 → h2.1 a i = h.1 a i) (e2 : ∀ a i : Int, 1510 ≤ a → a < nx h → h2.1 a i = h.1 a i) (e3 : nx h ≤ nx h2) (e4 : ∀ v k : Int, spv v k → t2 v k = t v k) : SpC H L h2 t2 := by
  obtain ⟨s1, s2, s3, s4, s5, s6⟩ := s
  have pp : ∀ k c : Int, pos t2 k c = pos t k c := fun k c => by
    unfold pos
    exact si_cg (fun d _ _ => by rw [e4 6 d (by unfold spv; omega)])
  have dd : ∀ p κ : Int, dyn h p κ → dyn h2 p κ := fun p κ q => ⟨q.1, Int.lt_of_lt_of_le q.2.1 e3, by
    show h2.1 p (-1) = κ
    rw [e2 p (-1) q.1 q.2.1]
    exact q.2.2⟩
  have ll : ∀ a : Int, rd h2 a 0 = rd h a 0 → rd h2 a 1 = rd h a 1 → LstC a h → LstC a h2 := fun a q0 q1 q => by
    unfold LstC at q ⊢
    rw [q0, q1]
    refine ⟨q.1, ?_⟩
    rcases q.2 with z | ⟨z1, z2, z3, z4, z5⟩
    · exact Or.inl z
    · have e : ln h2 (rd h a 0) = ln h (rd h a 0) := e2 _ _ z1.1 z1.2.1
      refine Or.inr ⟨dd _ _ z1, ?_, ?_, ?_, fun k k0 k1 => ?_⟩
      · rw [e]; exact z2
      · rw [e]; exact z3
      · rw [e]; exact z4
      · rw [e] at k1
        exact (e2 _ _ z1.1 z1.2.1).trans (z5 k k0 k1)
  refine ⟨?_, ?_, ?_, ?_, ?_, ?_⟩
  · obtain ⟨⟨⟨n6, n7⟩, nL⟩, l1, l2, l3, l4, l5, l6, l7⟩ := s1
    have w7 : t2 7 0 = t 7 0 := e4 7 0 (by unfold spv; omega)
    have r8 : rd h2 L 8 = rd h L 8 := e1 L 8 (sp_50 hl)
    refine ⟨⟨by rw [w7]; exact ⟨n6, n7⟩, fun c c0 c1 => by rw [w7, e4 6 c (by unfold spv; omega)]; exact nL c c0 c1⟩, ?_, ?_, ?_, ?_, ?_, ?_, ?_⟩
    · rw [w7, ← l1]
      exact e1 L 1 (sp_50 hl)
    · intro c c0 c1
      obtain ⟨n0, n1⟩ := nL c c0 c1
      rw [e4 6 c (by unfold spv; omega), pp]
      exact ⟨(e1 _ _ (sp_52 hl)).trans (l2 c c0 c1).1, (e1 _ _ (sp_61 hl n0 (by omega))).trans (l2 c c0 c1).2⟩
    · intro k k0 k1
      rw [w7] at k1
      obtain ⟨z1, z2, z3, z4, z5⟩ := l3 k k0 k1
      rw [e4 9 k (by unfold spv; omega), e4 8 k (by unfold spv; omega), e4 5 _ (by unfold spv; omega), e4 12 k (by unfold spv; omega)]
      refine ⟨(e1 _ _ (sp_60 hl k0 (by omega) (by omega))).trans z1, (e1 _ _ (sp_60 hl k0 (by omega) (by omega))).trans z2, (e1 _ _ (sp_60 hl k0 (by omega) (by omega))).trans z3, (e1 _ _ (sp_60 hl k0 (by omega) (by omega))).trans z4, fun q q0 q1 => ((e1 _ _ (sp_62 hl k0 (by omega))).trans (z5 q q0 q1)).trans (si_cg (fun e g0 g1 => ?_))⟩
      rw [e4 3 e (by unfold spv; omega), e4 6 _ (by unfold spv; omega)]
    · intro f f0 f1
      rw [e4 14 f (by unfold spv; omega), e4 15 f (by unfold spv; omega)]
      exact ⟨(e1 _ _ (sp_53 hl)).trans (l4 f f0 f1).1, (e1 _ _ (sp_54 hl)).trans (l4 f f0 f1).2⟩
    · rw [r8]; exact l5
    · intro a b a0 ab b1
      rw [w7] at b1
      have r7 : rd h2 (L + 7) (40 * a + b) = rd h (L + 7) (40 * a + b) := e1 _ _ (sp_57 hl)
      rw [r7, r8]
      rcases l6 a b a0 ab b1 with z | z
      · refine Or.inl ⟨z.1, fun q q0 q1 => ?_⟩
        rw [e4 11 _ (by unfold spv; omega)]
        exact z.2 q q0 q1
      · refine Or.inr ⟨z.1, z.2.1, (e1 _ _ (sp_55 hl)).trans z.2.2.1, fun q q0 q1 => ?_⟩
        rw [e4 11 _ (by unfold spv; omega)]
        exact (e1 _ _ (sp_56 hl)).trans (z.2.2.2 q q0 q1)
    · intro p p0 p1
      rw [r8] at p1
      obtain ⟨a, b, z1, z2, z3, z4, z5⟩ := l7 p p0 p1
      exact ⟨a, b, z1, z2, by rw [w7]; exact z3, (e1 _ _ (sp_55 hl)).trans z4, (e1 _ _ (sp_57 hl)).trans z5⟩
  · have r : ∀ k : Int, rd h2 (H + 37) k = rd h (H + 37) k := fun k => e1 _ _ (sp_37 hh)
    refine ⟨fun k k0 k1 => ?_, fun k l k0 kl l1 => ?_⟩
    · rw [r k, e4 80 k (by unfold spv; omega), e4 85 k (by unfold spv; omega), e4 81 k (by unfold spv; omega), e4 82 k (by unfold spv; omega), e4 83 k (by unfold spv; omega), e4 84 k (by unfold spv; omega), e4 86 k (by unfold spv; omega)]
      rcases s2.1 k k0 k1 with z | ⟨z1, z2, z3, z4, z5, z6, z7, z8⟩
      · exact Or.inl z
      · have y : ∀ i : Int, rd h2 (rd h (H + 37) k) i = rd h (rd h (H + 37) k) i := fun i => e2 _ _ z2.1 z2.2.1
        exact Or.inr ⟨z1, dd _ _ z2, (y _).trans z3, (y _).trans z4, (y _).trans z5, (y _).trans z6, (y _).trans z7, (y _).trans z8⟩
    · rw [r k, r l]
      exact s2.2 k l k0 kl l1
  · obtain ⟨o1, o2, o3⟩ := s3
    have r0 : rd h2 1336 0 = rd h 1336 0 := e1 _ _ sp_100
    have r1 : rd h2 1336 1 = rd h 1336 1 := e1 _ _ sp_100
    refine ⟨ll _ r0 r1 o1, ?_, fun k k0 k1 => ?_⟩
    · rw [r1, o2, e4 96 0 (by unfold spv; omega)]
    · rw [e4 96 0 (by unfold spv; omega)] at k1
      have z := o3 k k0 k1
      have dE : dyn h (rd h 1336 0) 82 := by
        rcases o1.2 with q | q
        · rw [o2] at q; omega
        · exact q.1
      have rE : rd h2 (rd h 1336 0) k = rd h (rd h 1336 0) k := e2 _ _ dE.1 dE.2.1
      rw [r0, rE, e4 97 k (by unfold spv; omega), e4 98 k (by unfold spv; omega), e4 99 k (by unfold spv; omega)]
      have y : ∀ i : Int, rd h2 (rd h (rd h 1336 0) k) i = rd h (rd h (rd h 1336 0) k) i := fun i => e2 _ _ z.1.1 z.1.2.1
      exact ⟨dd _ _ z.1, (y _).trans z.2.1, (y _).trans z.2.2.1, (y _).trans z.2.2.2⟩
  · intro w w0 w1
    obtain ⟨u1, u2⟩ := s4 w w0 w1
    have r0 : rd h2 (1333 + 2 * w) 0 = rd h (1333 + 2 * w) 0 := e1 _ _ (sp_99 w0 w1)
    have r1 : rd h2 (1333 + 2 * w) 1 = rd h (1333 + 2 * w) 1 := e1 _ _ (sp_99 w0 w1)
    refine ⟨ll _ r0 r1 u1, ?_⟩
    rw [e4 92 w (by unfold spv; omega), e4 90 w (by unfold spv; omega), e4 91 w (by unfold spv; omega), r0, r1]
    rcases u2 with z | ⟨z1, z2, z3, z4, z5, z6, z7, z8, z9, za, zb⟩
    · exact Or.inl z
    · have dE : dyn h (rd h (1333 + 2 * w) 0) 82 := by
        rcases u1.2 with q | q
        · omega
        · exact q.1
      have rE : ∀ k : Int, rd h2 (rd h (1333 + 2 * w) 0) k = rd h (rd h (1333 + 2 * w) 0) k := fun k => e2 _ _ dE.1 dE.2.1
      refine Or.inr ⟨z1, z2, z3, z4, z5, z6, (e1 _ _ (sp_98 w0 w1 (by omega))).trans z7, (e1 _ _ (sp_98 w0 w1 (by omega))).trans z8, fun q => ?_, fun k k0 k1 => ?_, fun k k0 k1 => ?_⟩
      · rw [e4 89 _ (by unfold spv; omega)]
        exact (e1 _ _ (sp_98 w0 w1 (by omega))).trans (z9 q)
      · rw [rE]
        exact dd _ _ (za k k0 k1)
      · rw [rE, e4 88 _ (by unfold spv; omega), e4 80 _ (by unfold spv; omega)]
        obtain ⟨y1, y2, y3, y4⟩ := zb k k0 k1
        exact ⟨y1, y2, y3, y4.trans (e1 _ _ (sp_37 hh)).symm⟩
  · obtain ⟨f1, f2, f3⟩ := s5
    unfold FltC
    rw [e4 36 0 (by unfold spv; omega), e4 34 0 (by unfold spv; omega), e4 35 0 (by unfold spv; omega), e4 117 10 (by unfold spv; omega)]
    exact ⟨(e1 _ _ (sp_80 (by omega))).trans f1, (e1 _ _ (sp_80 (by omega))).trans f2, (e1 _ _ (sp_20 hh (by omega))).trans f3⟩
  · obtain ⟨p1, p2, p3, p4, p5, p6⟩ := s6
    have w28 : t2 28 0 = t 28 0 := e4 28 0 (by unfold spv; omega)
    have q1 : rd h2 622 1 = rd h 622 1 := e1 _ _ sp_70
    have q4 : rd h2 622 4 = rd h 622 4 := e1 _ _ sp_70
    have q3 : rd h2 623 = rd h 623 := funext (fun i => e1 _ _ sp_71)
    have q5 : ∀ i : Int, rd h2 625 i = rd h 625 i := fun i => e1 _ _ sp_73
    have w29 : t2 29 = t 29 := funext (fun i => e4 29 i (by unfold spv; omega))
    have w30 : t2 30 = t 30 := funext (fun i => e4 30 i (by unfold spv; omega))
    have w32' : ∀ i : Int, t2 32 i = t 32 i := fun i => e4 32 i (by unfold spv; omega)
    unfold ProgC
    rw [w28, q1, q4, q3, w29, w30]
    refine ⟨p1, p2, p3, p4, p5, fun s s0 s1 => ?_⟩
    rw [q5, q5, w32', w32', e4 33 s (by unfold spv; omega)]
    obtain ⟨z1, z2⟩ := p6 s s0 s1
    exact ⟨(e1 _ _ sp_72).trans z1, z2⟩
