/-! THE PLAN: DRAFTS, CONFLICTS -/
theorem w8_id {x : Int} (a : -128 ≤ x) (b : x ≤ 127) : w8 x = x := by unfold w8; omega
theorem tset_comm {t : Ts} {v j x u k y : Int} (n : v ≠ u ∨ j ≠ k) : tset (tset t v j x) u k y = tset (tset t u k y) v j x := by
  funext a b
  unfold tset
  by_cases c : a = v ∧ b = j
  · rw [if_neg (show ¬ (a = u ∧ b = k) by omega), if_pos c, if_pos c]
  · rw [if_neg c, if_neg c]
theorem tset_id {t : Ts} {v j x : Int} (e : x = t v j) : tset t v j x = t := by
  funext a b
  unfold tset
  by_cases c : a = v ∧ b = j
  · rw [if_pos c, e, c.1, c.2]
  · rw [if_neg c]
theorem zn {A : Prop} [Decidable A] (W : Int → Prop) : ((A → W 0) ∧ (¬ A → W 1)) = W (bi (¬ A)) := by
  by_cases a : A
  · rw [bi_f (p := ¬ A) (fun q => q a)]; simp [a]
  · rw [bi_t (p := ¬ A) a]; simp [a]
theorem zan {A B : Prop} [Decidable A] [Decidable B] (W : Int → Prop) : ((A → W 0) ∧ (¬ A → W (bi B))) = W (bi (¬ A ∧ B)) := by
  by_cases a : A
  · rw [bi_f (p := ¬ A ∧ B) (fun q => q.1 a)]; simp [a]
  · by_cases b : B
    · rw [bi_t (p := ¬ A ∧ B) ⟨a, b⟩, bi_t b]; simp [a]
    · rw [bi_f (p := ¬ A ∧ B) (fun q => b q.2), bi_f b]; simp [a]
theorem ebi {A B : Prop} [Decidable A] [Decidable B] (e : A ↔ B) : bi A = bi B := by unfold bi; simp only [e]
theorem k_plancopy {H Q L : Int} {h : Hp} {t : Ts} {P O D B : Int} (r : RC H Q L h t) (d : t 137 0 = 0) (b0 : 550 ≤ B) (nO : O ≠ 0) (nD : 64 ≤ D ∧ D < 1390)
    (e : ∀ s i : Int, 0 ≤ s → s < 5 → 0 ≤ i → i < 110 → Lc H Q (D + s) i 3 (B + 110 * s + i))
    (p0 : ∀ h', Sh h' → rd h' P 0 = O) (p1 : ∀ h', Sh h' → ∀ s : Int, 0 ≤ s → s < 5 → rd h' O s = D + s) (l0 : ∀ h', Sh h' → ln h' O = 5) (l1 : ∀ h', Sh h' → ∀ s : Int, 0 ≤ s → s < 5 → ln h' (D + s) = 110)
    {K : Hp → Prop} (kk : ∀ h1, RC H Q L h1 (tsr t 3 B (B + 550) (fun k => t 3 (k - B))) → frS h h1 → K h1) : wp_Plan_copy P (H + 1) h K := by
  have sh := r.1; have hh := r.2.1.1; have hl := r.2.1.2.2.1; have hk := r.2.1.2.1; have sw := r.2.1.2.2.2.1; have sq := r.2.1.2.2.2.2.2.1; have sl := r.2.1.2.2.2.2.2.2.2.1
  have hH : H = 628 ∨ H = 768 := hh
  unfold wp_Plan_copy wp_Plan_copy_2
  intro P2 hP
  refine up_ind (P := P2) 5 (fun s h' => 0 ≤ s ∧ RC H Q L h' (tsr t 3 B (B + 110 * s) (fun k => t 3 (k - B))) ∧ frS h h') (fun s h' s5 I next => ?_) (fun h' I => ?_) 0 h (by decide) ⟨by decide, ?_, frS.rf h⟩
  · obtain ⟨s0, r', f'⟩ := I
    have sh' := r'.1
    have du : (tsr t 3 B (B + 110 * s) (fun k => t 3 (k - B))) 137 0 = 0 := by rw [tsr_nv (by decide)]; exact d
    apply hP
    refine ⟨fun q => absurd q (by omega), fun _ => ?_⟩
    rw [p_21_0 hh sh', p_22 hh s0 (by omega) sh', l_22 hh sh', p0 _ sh', p1 _ sh' s s0 (by omega), l0 _ sh']
    refine ⟨by omega, by omega, by omega, nO, by omega, by omega, by omega, ?_, ?_⟩
    · unfold cpR
      rw [l_23 hh s0 (by omega) sh', l1 _ sh' s s0 (by omega)]
      omega
    · rintro _ rfl _ rfl
      rw [w32_id (by omega) (by omega)]
      refine next _ ⟨by omega, ?_, ?_⟩
      · rw [cpy_upr]
        have w := r'.putr (a := D + s) (lo := 0) (hi := 0 + 110) (v := 3) (o := B + 110 * s) (f := fun y => h'.1 (H + (3 + s)) (0 + (y - 0))) (fun i i0 i1 => by
          have := e s i s0 (by omega) i0 (by omega)
          rwa [show B + 110 * s + i = i + (B + 110 * s) by omega] at this) (by unfold ctl; omega) (fun i i0 i1 => by unfold spv; omega)
        have E : tsr (tsr t 3 B (B + 110 * s) (fun k => t 3 (k - B))) 3 (0 + (B + 110 * s)) (0 + 110 + (B + 110 * s)) (fun k => h'.1 (H + (3 + s)) (0 + (k - (B + 110 * s) - 0))) = tsr t 3 B (B + 110 * (s + 1)) (fun k => t 3 (k - B)) := by
          funext u k
          by_cases c : u = 3 ∧ B + 110 * s ≤ k ∧ k < B + 110 * s + 110
          · obtain ⟨rfl, c1, c2⟩ := c
            rw [tsr_in (by omega) (by omega), tsr_in (by omega) (by omega)]
            rw [show (0 : Int) + (k - (B + 110 * s) - 0) = k - (B + 110 * s) by omega]
            refine (gc_23_3 r' du (x := s) (i := k - (B + 110 * s)) s0 (by omega) (by omega) (by omega)).trans ?_
            rw [tsr_out (by omega)]
            exact congrArg (t 3) (by omega)
          · unfold tsr
            rw [if_neg (by omega)]
            by_cases c2 : u = 3 ∧ B ≤ k ∧ k < B + 110 * s
            · rw [if_pos c2, if_pos (by omega)]
            · rw [if_neg c2, if_neg (by omega)]
        rw [← E]
        exact w
      · exact f'.upr (by omega)
  · exact hP _ _ ⟨fun _ => kk h' I.2.1 I.2.2, fun q => absurd q (by omega)⟩
  · have : tsr t 3 B (B + 110 * 0) (fun k => t 3 (k - B)) = t := by
      funext u k
      unfold tsr
      rw [if_neg (by omega)]
    rw [this]
    exact r
def t_copy (t : Ts) (b : Int) : Ts := tsr t 3 b (b + 550) (fun k => t 3 (k - b))
def t_take (t : Ts) (x : Int) : Ts := t_copy (t_copy t (550 * (1 + x))) (550 * (4 + x))
theorem k_desktake {H Q L : Int} {h : Hp} {t : Ts} {x : Int} (r : RC H Q L h t) (d : t 137 0 = 0) (x0 : 0 ≤ x) (x1 : x < 3) {K : Hp → Prop}
    (kk : ∀ h1, RC H Q L h1 (t_take t x) → frS h h1 → K h1) : wp_Desk_take (1343 + 15 * x) (H + 1) h K := by
  have sh := r.1; have hh := r.2.1.1; have hl := r.2.1.2.2.1; have hk := r.2.1.2.1; have sw := r.2.1.2.2.2.1; have sq := r.2.1.2.2.2.2.2.1; have sl := r.2.1.2.2.2.2.2.2.2.1
  unfold wp_Desk_take
  rw [p_107_0 x0 x1 sh]
  refine ⟨by omega, k_plancopy (B := 550 * (1 + x)) (O := 1345 + 15 * x) (D := 1346 + 15 * x) r d (by omega) (by omega) (by omega) (fun s i s0 s1 i0 i1 => ?_) (fun h' s' => p_108_0 x0 x1 s') (fun h' s' s s0 s1 => p_109 x0 x1 s0 s1 s') (fun h' s' => l_109 x0 x1 s') (fun h' s' s s0 s1 => l_110 x0 x1 s0 s1 s') (fun h1 r1 f1 => ?_)⟩
  · have w := e_110_3 (H := H) (Q := Q) x0 x1 s0 s1 i0 i1
    rwa [show 550 + 110 * (5 * x + s) + i = 550 * (1 + x) + 110 * s + i by omega] at w
  · have s1 := r1.1
    rw [p_107_1 x0 x1 s1]
    refine ⟨by omega, k_plancopy (B := 550 * (4 + x)) (O := 1352 + 15 * x) (D := 1353 + 15 * x) r1 (by rw [tsr_nv (by decide)]; exact d) (by omega) (by omega) (by omega) (fun s i s0 s1 i0 i1 => ?_) (fun h' s' => p_111_0 x0 x1 s') (fun h' s' s s0 s1 => p_112 x0 x1 s0 s1 s') (fun h' s' => l_112 x0 x1 s') (fun h' s' s s0 s1 => l_113 x0 x1 s0 s1 s') (fun h2 r2 f2 => kk h2 r2 (f1.tr f2))⟩
    have w := e_113_3 (H := H) (Q := Q) x0 x1 s0 s1 i0 i1
    rwa [show 2200 + 110 * (5 * x + s) + i = 550 * (4 + x) + 110 * s + i by omega] at w
theorem k_take {H Q L : Int} {h : Hp} {t : Ts} {i : Int} (r : RC H Q L h t) (x : xr h) {K E : Int → Hp → Prop}
    (kk : cd2 t (0 ≤ i ∧ i ≤ 2) = 0 → ∀ h1, RC H Q L h1 (t_take t i) → frC h h1 → K (t 4 0) h1) (ke : ErrC h (cd2 t (0 ≤ i ∧ i ≤ 2)) E) : wp_Kh_take 64 i h K E := by
  have sh := r.1; have hh := r.2.1.1; have hl := r.2.1.2.2.1; have hk := r.2.1.2.1; have sw := r.2.1.2.2.2.1; have sq := r.2.1.2.2.2.2.2.1; have sl := r.2.1.2.2.2.2.2.2.2.1
  have hH : H = 628 ∨ H = 768 := hh
  unfold wp_Kh_take
  rw [z_Kh_isUp sh, r.dn, z_Kh_deskOf sh]
  by_cases d : t 137 0 = 0
  · rw [if_pos d]
    by_cases c : 0 ≤ i ∧ i ≤ 2
    · rw [if_pos c, sw, p_20_0 hh sh]
      refine ⟨by omega, by omega, k_desktake r d c.1 (by omega) (fun h1 r1 f1 => ?_)⟩
      have e : (t_take t i) 4 0 = t 4 0 := by unfold t_take t_copy; rw [tsr_nv (by decide), tsr_nv (by decide)]
      have du : (t_take t i) 137 0 = 0 := by unfold t_take t_copy; rw [tsr_nv (by decide), tsr_nv (by decide)]; exact d
      rw [p_1_13 r1.1, gc_80_4 r1 du, e]
      exact ⟨by decide, kk (cd2_t d c) h1 r1 f1.fr⟩
    · rw [if_neg c]
      exact ⟨x, ke.1 (cd2_f d c)⟩
  · rw [if_neg d]
    exact ⟨x, ke.2 (cd2_d d)⟩
theorem m_copyPlan {h : Hp} {t : Ts} {p q : Int} (sh : Sh h) (r : RT h t) (p0 : 0 ≤ p) (p1 : p < 8) (q0 : 0 ≤ q) (q1 : q < 8) (n : p ≠ q) {K : Hp → Prop}
    (kk : ∀ h1, RT h1 (tsr t 3 (550 * q) (550 * q + 550) (fun k => t 3 (k - 550 * q + 550 * p))) → frT h h1 → K h1) : wp_Mo_copyPlan 1400 p q h K := by
  unfold wp_Mo_copyPlan wp_Mo_copyPlan_2
  intro P2 hP
  refine up_ind (P := P2) 550 (fun s h' => 0 ≤ s ∧ h' = upr h 1401 (550 * q) (550 * q + s) (fun k => t 3 (k - 550 * q + 550 * p))) (fun s h' s5 I next => ?_) (fun h' I => ?_) 0 h (by decide) ⟨by decide, (upr_nil (by omega)).symm⟩
  · obtain ⟨s0, e⟩ := I
    have r' : RT h' (tsr t 3 (550 * q) (550 * q + s) (fun k => t 3 (k - 550 * q + 550 * p))) := by rw [e]; exact r.putr (fun i i0 i1 => t_3 (by omega) (by omega))
    have f' : frT h h' := by rw [e]; exact (frT.rf h).upr (fun i i0 i1 => t_3 (by omega) (by omega))
    have sh' := f'.sh sh
    apply hP
    refine ⟨fun q => absurd q (by omega), fun _ => ?_⟩
    rw [w32_id (x := 550 * p) (by omega) (by omega), w32_id (x := 550 * q) (by omega) (by omega), w32_id (x := 550 * p + s) (by omega) (by omega), w32_id (x := 550 * q + s) (by omega) (by omega), tp_3 sh', tl_3 sh', gt_3 r' (by omega) (by omega), tsr_out (by omega)]
    refine ⟨by decide, by omega, by omega, ?_⟩
    rintro _ rfl _ rfl
    rw [w32_id (by omega) (by omega)]
    refine next _ ⟨by omega, ?_⟩
    rw [e, upr_up (f := fun k => t 3 (k - 550 * q + 550 * p)) (by omega) (congrArg (t 3) (show 550 * p + s = 550 * q + s - 550 * q + 550 * p by omega)), show 550 * q + s + 1 = 550 * q + (s + 1) by omega]
  · refine hP _ _ ⟨fun _ => kk h' ?_ ?_, fun q => absurd q (by omega)⟩
    · rw [I.2]; exact r.putr (fun i i0 i1 => t_3 (by omega) (by omega))
    · rw [I.2]; exact (frT.rf h).upr (fun i i0 i1 => t_3 (by omega) (by omega))
theorem m_take {h : Hp} {t : Ts} {i : Int} (sh : Sh h) (r : RT h t) {K : Int → Hp → Prop}
    (kk : cd2 t (0 ≤ i ∧ i ≤ 2) = 0 → ∀ h1, RT h1 (t_take (tset t 0 0 0) i) → frT h h1 → K (t 4 0) h1) (ke : cd2 t (0 ≤ i ∧ i ≤ 2) ≠ 0 → ∀ h1, RT h1 (tset t 0 0 (cd2 t (0 ≤ i ∧ i ≤ 2))) → frT h h1 → K 0 h1) : wp_Mo_take 1400 i h K := by
  unfold wp_Mo_take
  rw [z_Mo_isDesk]
  refine fl2 sh r (fun d c h1 r1 s1 f1 => ?_) ke
  rw [w32_id (by omega) (by omega), w32_id (by omega) (by omega)]
  refine m_copyPlan s1 r1 (by omega) (by omega) (by omega) (by omega) (by omega) (fun h2 r2 f2 => m_copyPlan (f2.sh s1) r2 (by omega) (by omega) (by omega) (by omega) (by omega) (fun h3 r3 f3 => ?_))
  have e : t_take (tset t 0 0 0) i = tsr (tsr (tset t 0 0 0) 3 (550 * (1 + i)) (550 * (1 + i) + 550) (fun k => tset t 0 0 0 3 (k - 550 * (1 + i) + 550 * 0))) 3 (550 * (4 + i)) (550 * (4 + i) + 550) (fun k => tsr (tset t 0 0 0) 3 (550 * (1 + i)) (550 * (1 + i) + 550) (fun k => tset t 0 0 0 3 (k - 550 * (1 + i) + 550 * 0)) 3 (k - 550 * (4 + i) + 550 * 0)) := by
    unfold t_take t_copy
    simp only [Int.mul_zero, Int.add_zero]
  rw [← e] at r3
  rw [gt_4 r3, show (t_take (tset t 0 0 0) i) 4 0 = t 4 0 by unfold t_take t_copy; rw [tsr_nv (by decide), tsr_nv (by decide), tset_nv (by decide)]]
  exact kk (cd2_t d c) h3 r3 (f1.tr (f2.tr f3))
/-- a conflict of desk x at a place -/
abbrev cf (t : Ts) (x k : Int) : Prop := t 3 (550 * (1 + x) + k) ≠ t 3 (550 * (4 + x) + k) ∧ t 3 k ≠ t 3 (550 * (4 + x) + k) ∧ t 3 k ≠ t 3 (550 * (1 + x) + k)
theorem z_isConflict {H Q L : Int} {h : Hp} {t : Ts} {x k : Int} (r : RC H Q L h t) (d : t 137 0 = 0) (x0 : 0 ≤ x) (x1 : x < 3) (k0 : 0 ≤ k) (k1 : k < 550) {K : Int → Prop} (kk : K (bi (cf t x k))) : wp_Desk_isConflict (1343 + 15 * x) (H + 1) (k / 110) (k % 110) h K := by
  have sh := r.1; have hh := r.2.1.1; have hl := r.2.1.2.2.1; have hk := r.2.1.2.1; have sw := r.2.1.2.2.2.1; have sq := r.2.1.2.2.2.2.2.1; have sl := r.2.1.2.2.2.2.2.2.2.1
  have hH : H = 628 ∨ H = 768 := hh
  have a0 : 0 ≤ k / 110 := by omega
  have a1 : k / 110 < 5 := by omega
  have b0 : 0 ≤ k % 110 := by omega
  have b1 : k % 110 < 110 := by omega
  have e1 : rd h (1346 + 15 * x + k / 110) (k % 110) = t 3 (550 * (1 + x) + k) := (gc_110_3 r d x0 x1 a0 a1 b0 b1).trans (congrArg (t 3) (by omega))
  have e2 : rd h (1353 + 15 * x + k / 110) (k % 110) = t 3 (550 * (4 + x) + k) := (gc_113_3 r d x0 x1 a0 a1 b0 b1).trans (congrArg (t 3) (by omega))
  have e3 : rd h (H + (3 + k / 110)) (k % 110) = t 3 k := (gc_23_3 r d a0 a1 b0 b1).trans (congrArg (t 3) (by omega))
  unfold wp_Desk_isConflict wp_Desk_isMine
  rw [p_107_0 x0 x1 sh, p_107_1 x0 x1 sh, p_108_0 x0 x1 sh, p_111_0 x0 x1 sh, p_109 x0 x1 a0 a1 sh, p_112 x0 x1 a0 a1 sh, l_109 x0 x1 sh, l_112 x0 x1 sh, l_110 x0 x1 a0 a1 sh, l_113 x0 x1 a0 a1 sh, p_21_0 hh sh, p_22 hh a0 a1 sh, l_22 hh sh, l_23 hh a0 a1 sh, e1, e2, e3]
  refine ⟨by omega, by omega, by omega, by omega, by omega, by omega, by omega, by omega, by omega, by omega, fun q => ⟨fun _ => ?_, fun n => absurd rfl n⟩, fun q => ⟨fun n => absurd n (by decide), fun _ => ?_⟩⟩
  · rw [bi_f (fun z => z.1 q)] at kk
    exact kk
  · refine ⟨by omega, by omega, by omega, by omega, by omega, by omega, by omega, by omega, by omega, by omega, fun q2 => ?_, fun q2 => ⟨by omega, by omega, by omega, by omega, by omega, by omega, by omega, fun q3 => ?_, fun q3 => ?_⟩⟩
    · rw [bi_f (fun z => z.2.1 q2)] at kk
      exact kk
    · rw [bi_f (fun z => z.2.2 q3)] at kk
      exact kk
    · rw [bi_t ⟨q, q2, q3⟩] at kk
      exact kk
theorem z_moConflict {h : Hp} {t : Ts} {x k : Int} (sh : Sh h) (r : RT h t) (x0 : 0 ≤ x) (x1 : x < 3) (k0 : 0 ≤ k) (k1 : k < 550) {K : Int → Prop} (kk : K (bi (cf t x k))) : wp_Mo_isConflict 1400 x k h K := by
  unfold wp_Mo_isConflict wp_Mo_isMine
  have q1 : w32 (w32 (550 * w32 (1 + x)) + k) = 550 * (1 + x) + k := by unfold w32; omega
  have q2 : w32 (w32 (550 * w32 (4 + x)) + k) = 550 * (4 + x) + k := by unfold w32; omega
  rw [q1, q2, tp_3 sh, tl_3 sh, gt_3 r (i := 550 * (1 + x) + k) (by omega) (by omega), gt_3 r (i := 550 * (4 + x) + k) (by omega) (by omega), gt_3 r (i := k) (by omega) (by omega)]
  refine ⟨by decide, by omega, by omega, fun q => ⟨fun _ => ?_, fun n => absurd rfl n⟩, fun q => ⟨fun n => absurd n (by decide), fun _ => ⟨by decide, by omega, by omega, fun q2 => ?_, fun q2 => ⟨by omega, by omega, fun q3 => ?_, fun q3 => ?_⟩⟩⟩⟩
  · rw [bi_f (fun z => z.1 q)] at kk
    exact kk
  · rw [bi_f (fun z => z.2.1 q2)] at kk
    exact kk
  · rw [bi_f (fun z => z.2.2 q3)] at kk
    exact kk
  · rw [bi_t ⟨q, q2, q3⟩] at kk
    exact kk
/-- the k-th place of a kind from a on, n of them being before; if there is none, - n - 1 -/
def srch (p : Int → Prop) [∀ k, Decidable (p k)] (k : Int) : Nat → Int → Int → Int
  | 0, _, n => -n - 1
  | f + 1, a, n => if p a then (if n = k then a else srch p k f (a + 1) (n + 1)) else srch p k f (a + 1) n
theorem srch_s (p : Int → Prop) [∀ k, Decidable (p k)] {k a n : Int} (h : a < 550) : srch p k (550 - a).toNat a n = if p a then (if n = k then a else srch p k (550 - (a + 1)).toNat (a + 1) (n + 1)) else srch p k (550 - (a + 1)).toNat (a + 1) n := by
  obtain ⟨m, e⟩ : ∃ m : Nat, (550 - a).toNat = m + 1 := ⟨(550 - a).toNat - 1, by omega⟩
  rw [e, show (550 - (a + 1)).toNat = m by omega]
  rfl
theorem srch_r (p : Int → Prop) [∀ k, Decidable (p k)] (k : Int) : ∀ (f : Nat) (a n : Int), 0 ≤ a → 0 ≤ n → (0 ≤ srch p k f a n → a ≤ srch p k f a n ∧ srch p k f a n < a + f) ∧ (srch p k f a n < 0 → -n - 1 - f ≤ srch p k f a n ∧ srch p k f a n ≤ -n - 1) := by
  intro f
  induction f with
  | zero => intro a n a0 n0; unfold srch; omega
  | succ f ih =>
    intro a n a0 n0
    unfold srch
    by_cases c : p a
    · rw [if_pos c]
      by_cases e : n = k
      · rw [if_pos e]; omega
      · rw [if_neg e]
        have := ih (a + 1) (n + 1) (by omega) (by omega)
        omega
    · rw [if_neg c]
      have := ih (a + 1) n (by omega) (by omega)
      omega
/-- all of them are counted -/
theorem srch_c (p : Int → Prop) [∀ k, Decidable (p k)] (k : Int) : ∀ (f : Nat) (a n : Int), n + f ≤ k → srch p k f a n = -(n + sm (fun j => bi (p (a + j))) f) - 1 := by
  intro f
  induction f with
  | zero => intro a n _; unfold srch sm; omega
  | succ f ih =>
    intro a n l
    have sp : sm (fun j => bi (p (a + j))) (f + 1) = bi (p a) + sm (fun j => bi (p (a + 1 + j))) f := by
      clear ih l
      induction f with
      | zero => show sm (fun j => bi (p (a + j))) 0 + bi (p (a + (0 : Nat))) = _; simp [sm]
      | succ f ih2 =>
        have e1 : sm (fun j => bi (p (a + j))) (f + 1 + 1) = sm (fun j => bi (p (a + j))) (f + 1) + bi (p (a + ((f + 1 : Nat) : Int))) := rfl
        have e2 : sm (fun j => bi (p (a + 1 + j))) (f + 1) = sm (fun j => bi (p (a + 1 + j))) f + bi (p (a + 1 + (f : Int))) := rfl
        rw [e1, ih2, e2, show a + ((f + 1 : Nat) : Int) = a + 1 + (f : Int) by omega]
        omega
    rw [sp]
    unfold srch
    by_cases c : p a
    · rw [if_pos c, if_neg (by omega), ih (a + 1) (n + 1) (by omega), bi_t c]
      omega
    · rw [if_neg c, ih (a + 1) n (by omega), bi_f c]
      omega
def cfN (t : Ts) (x : Int) : Int := sm (fun j => bi (cf t x j)) 550
def cfA (t : Ts) (x k : Int) : Int := srch (cf t x) k 550 0 0
theorem z_deskconflict {H Q L : Int} {h : Hp} {t : Ts} {x k : Int} (r : RC H Q L h t) (d : t 137 0 = 0) (x0 : 0 ≤ x) (x1 : x < 3) {K : Int → Prop} (kk : K (cfA t x k)) : wp_Desk_conflict (1343 + 15 * x) (H + 1) k h K := by
  unfold wp_Desk_conflict wp_Desk_conflict_5
  intro P hP
  refine up_ind (P := fun a n => P n a) 550 (fun a n => 0 ≤ a ∧ 0 ≤ n ∧ n ≤ a ∧ srch (cf t x) k (550 - a).toNat a n = cfA t x k) (fun a n a5 I next => ?_) (fun n I => ?_) 0 0 (by decide) ⟨by decide, by decide, by decide, rfl⟩
  · obtain ⟨a0, n0, na, e⟩ := I
    apply hP
    refine ⟨fun q => absurd q (by omega), fun _ => ?_⟩
    rw [tdiv_pos a0 (by decide), tmod_pos a0 (by decide), w32_id (x := a / 110) (by omega) (by omega)]
    refine z_isConflict r d x0 x1 a0 a5 ?_
    rw [srch_s _ a5] at e
    by_cases c : cf t x a
    · rw [bi_t c]
      rw [if_pos c] at e
      refine ⟨fun q => absurd q (by decide), fun _ => ⟨fun q => ?_, fun q => ?_⟩⟩
      · rw [if_neg q] at e
        rintro _ rfl _ rfl
        rw [w32_id (by omega) (by omega), w32_id (by omega) (by omega)]
        exact next _ ⟨by omega, by omega, by omega, e⟩
      · rw [if_pos (by omega)] at e
        rw [e]
        exact kk
    · rw [bi_f c]
      rw [if_neg c] at e
      refine ⟨fun _ => ?_, fun q => absurd rfl q⟩
      rintro _ rfl
      rw [w32_id (by omega) (by omega)]
      exact next _ ⟨by omega, by omega, by omega, e⟩
  · obtain ⟨a0, n0, na, e⟩ := I
    refine hP _ _ ⟨fun _ => ?_, fun q => absurd q (by omega)⟩
    have e2 : -n - 1 = cfA t x k := e
    rw [w32_id (x := -n) (by omega) (by omega), w32_id (by omega) (by omega), e2]
    exact kk
theorem z_conflictAt {h : Hp} {t : Ts} {x k : Int} (sh : Sh h) (r : RT h t) (x0 : 0 ≤ x) (x1 : x < 3) {K : Int → Prop} (kk : K (if 0 ≤ cfA t x k then cfA t x k else -1)) : wp_Mo_conflictAt 1400 x k h K := by
  unfold wp_Mo_conflictAt wp_Mo_conflictAt_5
  intro P hP
  refine up_ind (P := fun a n => P n a) 550 (fun a n => 0 ≤ a ∧ 0 ≤ n ∧ n ≤ a ∧ srch (cf t x) k (550 - a).toNat a n = cfA t x k) (fun a n a5 I next => ?_) (fun n I => ?_) 0 0 (by decide) ⟨by decide, by decide, by decide, rfl⟩
  · obtain ⟨a0, n0, na, e⟩ := I
    apply hP
    refine ⟨fun q => absurd q (by omega), fun _ => ?_⟩
    refine z_moConflict sh r x0 x1 a0 a5 ?_
    rw [srch_s _ a5] at e
    by_cases c : cf t x a
    · rw [bi_t c]
      rw [if_pos c] at e
      refine ⟨fun q => absurd q (by decide), fun _ => ⟨fun q => ?_, fun q => ?_⟩⟩
      · rw [if_neg q] at e
        rintro _ rfl _ rfl
        rw [w32_id (by omega) (by omega), w32_id (by omega) (by omega)]
        exact next _ ⟨by omega, by omega, by omega, e⟩
      · rw [if_pos (by omega)] at e
        rw [← e, if_pos a0] at kk
        exact kk
    · rw [bi_f c]
      rw [if_neg c] at e
      refine ⟨fun _ => ?_, fun q => absurd rfl q⟩
      rintro _ rfl
      rw [w32_id (by omega) (by omega)]
      exact next _ ⟨by omega, by omega, by omega, e⟩
  · obtain ⟨a0, n0, na, e⟩ := I
    refine hP _ _ ⟨fun _ => ?_, fun q => absurd q (by omega)⟩
    have e2 : -n - 1 = cfA t x k := e
    rw [← e2, if_neg (by omega)] at kk
    exact kk
theorem z_conflicts {h : Hp} {t : Ts} {x : Int} (sh : Sh h) (r : RT h t) (x0 : 0 ≤ x) (x1 : x < 3) {K : Int → Prop} (kk : K (cfN t x)) : wp_Mo_conflicts 1400 x h K := by
  unfold wp_Mo_conflicts wp_Mo_conflicts_4
  intro P hP
  refine up_ind (P := fun a n => P n a) 550 (fun a n => 0 ≤ a ∧ 0 ≤ n ∧ n ≤ a ∧ n = si (fun j => bi (cf t x j)) a) (fun a n a5 I next => ?_) (fun n I => ?_) 0 0 (by decide) ⟨by decide, by decide, by decide, rfl⟩
  · obtain ⟨a0, n0, na, e⟩ := I
    have e3 := si_s (f := fun j => bi (cf t x j)) a0
    apply hP
    refine ⟨fun q => absurd q (by omega), fun _ => z_moConflict sh r x0 x1 a0 a5 ?_⟩
    by_cases c : cf t x a
    · rw [bi_t c]
      refine ⟨fun q => absurd q (by decide), fun _ => ?_⟩
      rintro _ rfl
      rw [w32_id (by omega) (by omega), w32_id (by omega) (by omega)]
      refine next _ ⟨by omega, by omega, by omega, ?_⟩
      rw [e3, ← e, bi_t c]
    · rw [bi_f c]
      refine ⟨fun _ => ?_, fun q => absurd rfl q⟩
      rintro _ rfl
      rw [w32_id (by omega) (by omega), w32_id (by omega) (by omega)]
      refine next _ ⟨by omega, by omega, by omega, ?_⟩
      rw [e3, ← e, bi_f c]
  · obtain ⟨a0, n0, na, e⟩ := I
    refine hP _ _ ⟨fun _ => ?_, fun q => absurd q (by omega)⟩
    have e2 : n = cfN t x := e
    rw [e2]
    exact kk
theorem cfA_r {t : Ts} {x k : Int} : (0 ≤ cfA t x k → cfA t x k < 550) ∧ -551 ≤ cfA t x k := by
  have := srch_r (cf t x) k 550 0 0 (by decide) (by decide)
  unfold cfA
  omega
theorem cfA_N {t : Ts} {x : Int} : cfA t x 550 = -cfN t x - 1 := by
  have := srch_c (cf t x) 550 550 0 0 (by decide)
  unfold cfA cfN
  rw [this]
  have e : sm (fun j => bi (cf t x (0 + j))) 550 = sm (fun j => bi (cf t x j)) 550 := sm_cg (fun k _ _ => by rw [Int.zero_add])
  rw [e]
  omega
theorem cfN_r {t : Ts} {x : Int} : 0 ≤ cfN t x ∧ cfN t x ≤ 550 := by
  have := cfA_r (t := t) (x := x) (k := 550)
  rw [cfA_N] at this
  have h0 : 0 ≤ cfN t x := sm_nn (fun k _ _ => by unfold bi; split <;> decide)
  omega
def v_conflict (t : Ts) (x k : Int) : Int := if 0 ≤ cfA t x k then 128 * (cfA t x k / 110) + cfA t x k % 110 else -1
theorem k_conflict {H Q L : Int} {h : Hp} {t : Ts} {i k : Int} (r : RC H Q L h t) (x : xr h) {K : Int → Prop} {E : Int → Hp → Prop}
    (kk : cd2 t ((0 ≤ i ∧ i ≤ 2) ∧ ¬ (k < 0)) = 0 → K (v_conflict t i k)) (ke : ErrC h (cd2 t ((0 ≤ i ∧ i ≤ 2) ∧ ¬ (k < 0))) E) : wp_Kh_conflict 64 i k h K E := by
  have sh := r.1; have hh := r.2.1.1; have hl := r.2.1.2.2.1; have hk := r.2.1.2.1; have sw := r.2.1.2.2.2.1; have sq := r.2.1.2.2.2.2.2.1; have sl := r.2.1.2.2.2.2.2.2.2.1
  have hH : H = 628 ∨ H = 768 := hh
  unfold wp_Kh_conflict
  rw [z_Kh_isUp sh, r.dn, z_Kh_deskOf sh]
  by_cases d : t 137 0 = 0
  · rw [if_pos d]
    by_cases c : 0 ≤ i ∧ i ≤ 2
    · rw [if_pos c]
      unfold wp_Kh_conflict_19
      simp only [z_Kh_need]
      refine ⟨fun q => ?_, fun q => ?_⟩
      · rw [if_neg (by decide)]
        exact ⟨x, ke.1 (cd2_f d (fun z => z.2 q))⟩
      · rw [if_pos (by decide), sw, p_20_0 hh sh]
        refine ⟨by omega, by omega, z_deskconflict r d c.1 (by omega) ?_⟩
        have k2 := kk (cd2_t d ⟨c, q⟩)
        have b := cfA_r (t := t) (x := i) (k := k)
        unfold v_conflict at k2
        refine ⟨fun q2 => ?_, fun q2 => ?_⟩
        · rw [if_pos (by omega)] at k2
          rw [tdiv_pos (by omega) (by decide), tmod_pos (by omega) (by decide), w32_id (x := cfA t i k / 110) (by omega) (by omega), w32_id (x := 128 * (cfA t i k / 110)) (by omega) (by omega), w32_id (by omega) (by omega)]
          exact k2
        · rw [if_neg (by omega)] at k2
          exact k2
    · rw [if_neg c]
      exact ⟨x, ke.1 (cd2_f d (fun z => c z.1))⟩
  · rw [if_neg d]
    exact ⟨x, ke.2 (cd2_d d)⟩
theorem cf_0 {t : Ts} {x k c : Int} : cf (tset t 0 0 c) x k ↔ cf t x k := by
  unfold cf
  rw [tset_nv (by decide), tset_nv (by decide), tset_nv (by decide)]
theorem srch_cg {p q : Int → Prop} [∀ k, Decidable (p k)] [∀ k, Decidable (q k)] (e : ∀ k, p k ↔ q k) (k : Int) : ∀ (f : Nat) (a n : Int), srch p k f a n = srch q k f a n := by
  intro f
  induction f with
  | zero => intro a n; rfl
  | succ f ih =>
    intro a n
    unfold srch
    simp only [e, ih]
theorem cfA_0 {t : Ts} {x k c : Int} : cfA (tset t 0 0 c) x k = cfA t x k := srch_cg (fun _ => cf_0) k 550 0 0
theorem m_conflict {h : Hp} {t : Ts} {i k : Int} (sh : Sh h) (r : RT h t) {K : Int → Hp → Prop}
    (kk : cd2 t ((0 ≤ i ∧ i ≤ 2) ∧ ¬ (k < 0)) = 0 → ∀ h1, RT h1 (tset t 0 0 0) → frT h h1 → K (v_conflict t i k) h1) (ke : cd2 t ((0 ≤ i ∧ i ≤ 2) ∧ ¬ (k < 0)) ≠ 0 → ∀ h1, RT h1 (tset t 0 0 (cd2 t ((0 ≤ i ∧ i ≤ 2) ∧ ¬ (k < 0)))) → frT h h1 → K 0 h1) : wp_Mo_conflict 1400 i k h K := by
  unfold wp_Mo_conflict
  rw [z_Mo_isDesk]
  simp only [zn (fun s => wp_Mo_conflict_17 K 1400 i k s 1400 h), za (fun s => wp_Mo_conflict_17 K 1400 i k s 1400 h)]
  unfold wp_Mo_conflict_17
  refine ⟨by decide, fl2 sh r (fun d c h1 r1 s1 f1 => z_conflictAt s1 r1 c.1.1 (by omega) ?_) ke⟩
  have k2 := kk (cd2_t d c) h1 r1 f1
  have b := cfA_r (t := t) (x := i) (k := k)
  unfold v_conflict at k2
  rw [cfA_0]
  by_cases z : 0 ≤ cfA t i k
  · rw [if_pos z] at k2
    rw [if_pos z, tdiv_pos (by omega) (by decide), tmod_pos (by omega) (by decide), w32_id (x := cfA t i k / 110) (by omega) (by omega), w32_id (x := 128 * (cfA t i k / 110)) (by omega) (by omega), w32_id (by omega) (by omega)]
    exact ⟨fun _ => k2, fun q => absurd z q⟩
  · rw [if_neg z] at k2
    rw [if_neg z]
    exact ⟨fun q => absurd q (by decide), fun _ => k2⟩
