/-! A GROUP IS WRITTEN: THE TWIN -/
def wl (l : List Int) (k : Int) : Int := if k ∈ l then 1 else 0
/-- the twin's group is a list -/
def grpL (h : Hp) (l : List Int) : Prop := rd h 1400 139 = l.length ∧ ∀ g : Nat, g < l.length → rd h 1501 g = l.getD g 0
theorem m_begin {h : Hp} {t : Ts} (sh : Sh h) (r : RT h t) {K : Hp → Prop} (kk : ∀ h1, RT h1 t → frT h h1 → grpL h1 [] → K h1) : wp_Mo_beginGroup 1400 h K := by
  unfold wp_Mo_beginGroup
  rintro _ rfl
  exact kk _ (r.sc t_139 (by unfold ess; omega)) ((frT.rf h).put t_139) ⟨rd_up_eq _ _ _ _, fun g hg => absurd hg (by simp)⟩
theorem m_addKey {h : Hp} {t : Ts} {kd ix : Int} {l : List Int} (sh : Sh h) (r : RT h t) (i0 : 0 ≤ ix) (i1 : ix ≤ 1000) (gl : grpL h l) (b : l.length < 160) {K : Hp → Prop} (kk : ∀ h1, RT h1 t → frT h h1 → grpL h1 (l ++ [slF kd ix]) → K h1) : wp_Mo_addKey 1400 kd ix h K := by
  unfold wp_Mo_addKey
  refine z_keyOf i0 i1 ?_
  rw [tp_138 sh, tl_138 sh, gl.1]
  refine ⟨by decide, by omega, ?_⟩
  intro h4 e4
  have r4 : RT h4 t := by rw [e4]; exact r.sc (t_138 (by omega) (by omega)) (by unfold ess; omega)
  have f4 : frT h h4 := by rw [e4]; exact (frT.rf h).put (t_138 (i := (l.length : Int)) (by omega) (by omega))
  have e9 : rd h4 1400 139 = l.length := by rw [e4, rd_up_ne (by omega)]; exact gl.1
  rw [e9, w32_id (by omega) (by omega)]
  intro h5 e5
  refine kk h5 (by rw [e5]; exact r4.sc t_139 (by unfold ess; omega)) (by rw [e5]; exact f4.put t_139) ⟨?_, fun g hg => ?_⟩
  · rw [e5, rd_up_eq]
    simp
  · rw [e5, rd_up_ne (by omega), e4]
    simp only [List.length_append, List.length_singleton] at hg
    by_cases c : g = l.length
    · rw [c, rd_up_eq]
      simp
    · rw [rd_up_ne (by omega), gl.2 g (by omega)]
      simp [List.getD_eq_getElem?_getD, List.getElem?_append_left (show g < l.length by omega)]
theorem wl_b (l : List Int) (k : Int) : on1 (wl l k) = wl l k := by unfold wl on1; split <;> simp
theorem sm_up {f : Int → Int} {a : Int} : ∀ n : Nat, 0 ≤ a → sm (fun k => if k = a then 1 else f k) n = sm f n + (if a < n then 1 - f a else 0) := by
  intro n a0
  induction n with
  | zero => show (0 : Int) = 0 + (if a < ((0 : Nat) : Int) then 1 - f a else 0); rw [if_neg (by omega)]; rfl
  | succ n ih =>
    show sm (fun k => if k = a then 1 else f k) n + (if (n : Int) = a then 1 else f n) = sm f n + f n + (if a < ((n + 1 : Nat) : Int) then 1 - f a else 0)
    rw [ih]
    by_cases c : (n : Int) = a
    · rw [if_pos c, if_neg (by omega), if_pos (by omega), c]
      omega
    · rw [if_neg c]
      by_cases d : a < n
      · rw [if_pos d, if_pos (by omega)]
        omega
      · rw [if_neg d, if_neg (by omega)]
        omega
theorem wN_wl : ∀ l : List Int, l.Pairwise (· < ·) → (∀ k ∈ l, 0 ≤ k ∧ k < 135) → wN (wl l) = l.length := by
  have aux : ∀ l : List Int, l.Pairwise (· < ·) → (∀ k ∈ l, 0 ≤ k ∧ k < 135) → sm (wl l) 135 = l.length := by
    intro l
    induction l with
    | nil =>
      intro _ _
      have z := sm_zero (f := wl []) 0 135 (fun j _ _ => by simp [wl])
      have z' : sm (wl []) 135 = sm (wl []) 0 := by simpa using z
      rw [z']
      rfl
    | cons a l ih =>
      intro p b
      have p' := List.pairwise_cons.mp p
      have i := ih p'.2 (fun k hk => b k (List.mem_cons_of_mem _ hk))
      have ba := b a List.mem_cons_self
      have e : sm (wl (a :: l)) 135 = sm (fun k => if k = a then 1 else wl l k) 135 := sm_cg (fun k _ _ => by
        unfold wl
        by_cases c : k = a
        · simp [c]
        · simp [c])
      have na : wl l a = 0 := by
        unfold wl
        rw [if_neg (fun q => by have := p'.1 a q; omega)]
      rw [e, sm_up 135 ba.1, i, if_pos (by omega), na]
      simp
  intro l p b
  show sm (fun k => on1 (wl l k)) 135 = l.length
  rw [sm_cg (g := wl l) (fun k _ _ => wl_b l k)]
  exact aux l p b
theorem m_writeGroup {h : Hp} {t : Ts} {n : Int} {l : List Int} (sh : Sh h) (r : RT h t) (d : t 137 0 = 0) (g : Bd n t) (gb : frF t ≤ 1 + 20 * n) (gl : grpL h l) (ps : l.Pairwise (· < ·)) (bl : ∀ k ∈ l, 0 ≤ k ∧ k < 135) (m1 : (l.length : Int) ≤ 60) {K : Int → Hp → Prop}
    (kk : ∀ h1, RT h1 (tKeep (wl l) t).1 → frT h h1 → K (tKeep (wl l) t).2 h1) : wp_Mo_writeGroup 1400 h K := by
  have s5 : scA 1500 := Or.inl rfl
  have b3 := b_133 g
  have b4 := b_134 g
  have b5 := b_135 g
  have gn := g.1
  obtain ⟨s1, s2, s3⟩ := kpS_r (m := l.length) g gb d m1
  have eK : tKeep (wl l) t = kpE (wl l) (wN (wl l)) (kpS (wN (wl l)) t) := rfl
  rw [wN_wl l ps bl] at eK
  generalize tKeep (wl l) t = TK at *
  have grp : ∀ h3, RT h3 (kpS l.length t).1 → frT h h3 → grpL h3 l → (kpS l.length t).2 = 1 → wp_Mo_writeGroup_34 K 1400 0 h3 := by
    intro h3 r3 f3 gl3 ok
    have z : (kpS l.length t).1 137 0 = 0 ∧ (kpS l.length t).1 135 0 + l.length ≤ 200 := by
      rcases s3 with y | y
      · omega
      · exact y.2
    unfold kpE at eK
    rw [if_pos ok] at eK
    generalize eS : (kpS l.length t).1 = S at *
    have B6 := b_136 s1
    have B3 := b_133 s1
    have B4 := b_134 s1
    have B5 := b_135 s1
    have sr := tGr_r (w := wl l) (m := (l.length : Int)) B6 z.1
    unfold wp_Mo_writeGroup_34
    intro P hP
    refine up_ind (P := P) (l.length : Int) (fun g h' => ∃ (l1 l2 : List Int) (c : Nat), l = l1 ++ l2 ∧ g = l1.length ∧ c ≤ 135 ∧ (∀ b ∈ l1, b < c) ∧ (∀ b ∈ l2, (c : Int) ≤ b) ∧ (tGr (wl l) l.length S c).2.2 = 1 ∧ (tGr (wl l) l.length S c).2.1 = g ∧ RT h' (tGr (wl l) l.length S c).1 ∧ frT h h' ∧ grpL h' l) (fun g h' g1 I next => ?_) (fun h' I => ?_) 0 h3 (by omega) ⟨[], l, 0, rfl, rfl, by decide, fun b hb => absurd hb (by simp), fun b hb => (bl b hb).1, rfl, rfl, r3, f3, gl3⟩
    · obtain ⟨l1, l2, c, el, eg, c1, lo, hi, ok1, cn1, r', f', gl'⟩ := I
      have sh' := f'.sh sh
      cases l2 with
      | nil => exfalso; rw [el] at g1; simp at g1; omega
      | cons a l3 =>
        have am : a ∈ l := by rw [el]; simp
        have ba := bl a am
        have ca := hi a List.mem_cons_self
        have pz := ps
        rw [el] at pz
        have p3 := (List.pairwise_append.mp pz)
        have p4 := List.pairwise_cons.mp p3.2.1
        have wz : ∀ i : Int, (c : Int) ≤ i → i < (c : Int) + ((a.toNat - c : Nat) : Int) → wl l i = 0 := by
          intro i i0 i1
          unfold wl
          rw [if_neg]
          intro q
          rw [el] at q
          rcases List.mem_append.mp q with y | y
          · have := lo i y; omega
          · rcases List.mem_cons.mp y with x | x
            · omega
            · have := p4.1 i x; omega
        have sk0 := tGr_skip (w := wl l) (m := (l.length : Int)) (t := S) c (a.toNat - c) wz
        rw [show c + (a.toNat - c) = a.toNat by omega] at sk0
        rw [← sk0] at ok1 cn1 r'
        have ts := tGr_s (w := wl l) (m := (l.length : Int)) (t := S) (k := a) ba.1
        have wa : wl l a ≠ 0 := by unfold wl; rw [if_pos am]; decide
        rw [if_pos ⟨ok1, wa⟩] at ts
        have sk := sr a.toNat
        have gT := tGr_b (w := wl l) (m := (l.length : Int)) s1 a.toNat (by omega)
        have tnv := fun v j (x : v ≠ 129 ∧ v ≠ 130 ∧ v ≠ 131 ∧ v ≠ 136 ∧ v ≠ 137) => tGr_nv (w := wl l) (m := (l.length : Int)) (t := S) (v := v) (j := j) x a.toNat
        generalize tGr (wl l) l.length S a.toNat = T at *
        have dT := (sk.2.1 ok1).1
        have ll : l.length = l1.length + (l3.length + 1) := by rw [el]; simp
        have ga : rd h' 1501 g = a := by
          rw [eg, gl'.2 l1.length (by omega), el]
          simp
        apply hP
        rw [gl'.1, tp_138 sh', tl_138 sh', ga]
        refine ⟨fun q => absurd q (by omega), fun _ => ⟨by decide, by omega, ?_⟩⟩
        intro y2 ey2
        rw [ey2]
        clear ey2 y2
        refine m_make sh' r' gT ba.1 ba.2 (fun h6 o6 c6 => z_moKindOf ba.1 ba.2 (z_moKindOf ba.1 ba.2 ?_))
        have hr := kd_r ba.1 ba.2
        have hx := ix_r ba.1 ba.2
        have hs := bs_s hr.1.1 hr.1.2
        rw [kb_cg (t := S) (fun v j hv => tnv v j (by omega)) a] at c6
        have f6 := frT.on o6 s5
        have r6 := r'.on o6 s5
        have sh6 := f6.sh sh'
        have e139 : rd h6 1400 139 = l.length := (o6.rd (by decide)).trans gl'.1
        rw [z_baseOf, w32_id (x := a - bsF (kdF a)) (by omega) (by omega), e139, gt_135 r6, gt_133 r6, tnv 135 0 (by omega), tnv 133 0 (by omega), w32_id (x := (l.length : Int) - 1) (by omega) (by omega), w32_id (x := S 135 0 + g) (by omega) (by omega)]
        have go : ∀ la : Int, la = bi (g + 1 = l.length) → wp_Mo_writeGroup_93 P K 1400 g a la (ixF a) (kdF a) (S 135 0 + g) (S 133 0) 1400 h6 := by
          intro la ela
          unfold wp_Mo_writeGroup_93
          rw [gt_134 r6, tnv 134 0 (by omega)]
          refine ⟨by decide, m_writeRow sh6 r6 dT sk.1 (by omega) (by omega) (by omega) (by omega) c6 (kb_b s1 ba.1 ba.2) (fun h7 r7 f7 o7 q7 => ?_)⟩
          have eR : rwb (kdF a) (ixF a) la (S 135 0 + g) (S 134 0) (kb S a) = grR l.length S a T.2.1 := by
            unfold grR
            rw [ela, cn1]
          rw [eR, ← cn1] at r7
          have fx := (f'.tr f6).tr f7
          have gl7 : grpL h7 l := ⟨((q7 139 (by decide) (by decide)).trans (o6.rd (by decide))).trans gl'.1, fun j hj => ((o7 1501 j (by decide) (by decide) (by decide)).trans (o6.rd (by decide))).trans (gl'.2 j hj)⟩
          have c7 : cel 1500 h7 (kb S a) := fun i i0 i1 => (o7 1500 i (by decide) (by decide) (by decide)).trans (c6 i i0 i1)
          by_cases z6 : T.1 136 0 = 0
          · rw [if_pos z6]
            rw [if_pos z6] at ts
            refine ⟨fun y => absurd rfl y, fun _ => ?_⟩
            have cut := tGr_cut (w := wl l) (m := (l.length : Int)) (t := S) (134 - a).toNat (a + 1).toNat (by rw [ts]; show (0 : Int) ≠ 1; decide)
            rw [show (a + 1).toNat + (134 - a).toNat = 135 by omega, ts] at cut
            rw [cut, if_neg (show ¬ (0 : Int) = 1 by decide)] at eK
            rw [eK] at kk
            exact kk h7 r7 fx
          · rw [if_neg z6]
            rw [if_neg z6] at ts
            refine ⟨fun _ => ?_, fun y => absurd (by decide) y⟩
            have sh7 := fx.sh sh
            rw [tp_130 sh7, tl_130 sh7]
            refine ⟨by decide, by omega, ?_⟩
            intro h8 e8
            have r8 := r7.put (x := 1) (t_130 ba.1 ba.2)
            rw [← e8] at r8
            have f8 : frT h h8 := by rw [e8]; exact fx.put (t_130 ba.1 ba.2)
            have o8 : ∀ cc i : Int, cc ≠ 1498 → rd h8 cc i = rd h7 cc i := fun cc i nc => by rw [e8]; exact rd_up_ne (by omega)
            unfold wp_Mo_writeGroup_114
            intro P2 hP2
            refine up_ind (P := P2) 28 (fun j h9 => 0 ≤ j ∧ h9 = upr h8 1499 (28 * a) (28 * a + j) (fun y => kb S a (y - 28 * a))) (fun j h9 j1 J nxt => ?_) (fun h9 J => ?_) 0 h8 (by decide) ⟨by decide, (upr_nil (by omega)).symm⟩
            · obtain ⟨j0, e9⟩ := J
              have f9 : frT h h9 := by rw [e9]; exact f8.upr (fun i i0 i1 => t_131 (by omega) (by omega))
              have sh9 := f9.sh sh
              have v9 : rd h9 1500 j = kb S a j := by rw [e9, rd_upr_ne (by omega), o8 1500 j (by decide)]; exact c7 j j0 j1
              have bb := kb_b s1 ba.1 ba.2 j j0 j1
              apply hP2
              rw [tp_132 sh9, tl_132 sh9, tp_131 sh9, tl_131 sh9, v9, w8_id bb.1 bb.2, w32_id (x := 28 * a) (by omega) (by omega), w32_id (x := 28 * a + j) (by omega) (by omega)]
              refine ⟨fun q => absurd q (by omega), fun _ => ⟨by decide, by omega, by decide, by omega, ?_⟩⟩
              rintro _ rfl _ rfl
              rw [w32_id (by omega) (by omega)]
              refine nxt _ ⟨by omega, ?_⟩
              rw [e9, upr_up (f := fun y => kb S a (y - 28 * a)) (by omega) (by rw [show 28 * a + j - 28 * a = j by omega]), show 28 * a + j + 1 = 28 * a + (j + 1) by omega]
            · obtain ⟨_, e9⟩ := J
              have f9 : frT h h9 := by rw [e9]; exact f8.upr (fun i i0 i1 => t_131 (by omega) (by omega))
              have r9 : RT h9 (tKey (tRow T.1 (S 133 0) (S 135 0 + T.2.1) (grR l.length S a T.2.1)) a (kb S a)) := by rw [e9]; exact r8.putr (fun i i0 i1 => t_131 (by omega) (by omega))
              have gl9 : grpL h9 l := ⟨by rw [e9, rd_upr_ne (by omega), o8 1400 139 (by decide)]; exact gl7.1, fun j hj => by rw [e9, rd_upr_ne (by omega), o8 1501 j (by decide)]; exact gl7.2 j hj⟩
              refine hP2 _ _ ⟨fun _ => ?_, fun q => absurd (by decide) q⟩
              rintro _ rfl
              rw [w32_id (by omega) (by omega)]
              refine next _ ⟨l1 ++ [a], l3, (a + 1).toNat, by rw [el]; simp, by simp; omega, by omega, fun b hb => ?_, fun b hb => ?_, by rw [ts], by rw [ts]; show T.2.1 + 1 = g + 1; omega, by rw [ts]; exact r9, f9, gl9⟩
              · rcases List.mem_append.mp hb with y | y
                · have := lo b y; omega
                · rw [List.mem_singleton.mp y]; omega
              · have := p4.1 b hb; omega
        exact ⟨fun q2 => go 0 (bi_f (by omega)).symm, fun q2 => go 1 (bi_t (by omega)).symm⟩
    · obtain ⟨l1, l2, c, el, eg, c1, lo, hi, ok1, cn1, r', f', gl'⟩ := I
      have l2n : l2 = [] := by
        cases l2 with
        | nil => rfl
        | cons a l3 => exfalso; rw [el] at eg; simp at eg; omega
      have wz : ∀ i : Int, (c : Int) ≤ i → i < (c : Int) + ((135 - c : Nat) : Int) → wl l i = 0 := by
        intro i i0 i1
        unfold wl
        rw [if_neg]
        intro q
        rw [el, l2n, List.append_nil] at q
        have := lo i q
        omega
      have sk0 := tGr_skip (w := wl l) (m := (l.length : Int)) (t := S) c (135 - c) wz
      rw [show c + (135 - c) = 135 by omega] at sk0
      rw [← sk0] at ok1 cn1 r'
      have tnv := fun v j (x : v ≠ 129 ∧ v ≠ 130 ∧ v ≠ 131 ∧ v ≠ 136 ∧ v ≠ 137) => tGr_nv (w := wl l) (m := (l.length : Int)) (t := S) (v := v) (j := j) x 135
      clear sr sk0
      generalize tGr (wl l) l.length S 135 = T at *
      rw [if_pos ok1, ok1] at eK
      rw [eK] at kk
      apply hP
      rw [gl'.1, gt_135 r', tnv 135 0 (by omega), w32_id (by omega) (by omega)]
      refine ⟨fun _ => ?_, fun q => absurd (Int.le_refl _) q⟩
      rintro _ rfl
      exact kk _ (r'.put t_135) (f'.put t_135)
  unfold wp_Mo_writeGroup
  rw [gl.1, gt_135 r, w32_id (by omega) (by omega)]
  refine ⟨fun q => ?_, fun q => ?_⟩
  · have eS : kpS l.length t = (t, 1) := if_pos q
    exact grp h (by rw [eS]; exact r) (frT.rf h) gl (by rw [eS])
  · have eS' : kpS l.length t = tSnE (t 130) (fun k i => t 131 (28 * k + i)) (si (fun k => on1 (t 130 k)) 135) (1 - t 133 0) (frF t) t := if_neg q
    rw [tp_130 sh, tp_131 sh]
    refine m_snap (n := n) (th := t 130) (bs := fun k i => t 131 (28 * k + i)) sh r d g (by omega) (by omega) (by omega) (tl_130 sh) (tl_131 sh) (fun k k0 k1 => gt_130 r k0 k1) (fun k i k0 k1 _ i0 i1 => ⟨gt_131 r (by omega) (by omega), b_131 g (by omega) (by omega)⟩) (fun h3 r3 f3 o3 q3 => ?_)
    rw [← eS'] at r3 ⊢
    refine ⟨fun q2 => grp h3 r3 f3 ⟨(q3 139 (by decide) (by decide) (by decide) (by decide) (by decide)).trans gl.1, fun j hj => (o3 1501 j (by decide) (by decide) (by decide) (by decide)).trans (gl.2 j hj)⟩ (by omega), fun q2 => ?_⟩
    have ok : (kpS l.length t).2 = 0 := by omega
    unfold kpE at eK
    rw [if_neg (by omega)] at eK
    rw [eK] at kk
    exact kk h3 r3 f3
