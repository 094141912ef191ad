/-! A GROUP IS WRITTEN: THE COMPONENT -/
theorem k_keyput {H Q L : Int} {h : Hp} {t : Ts} {k : Int} {f : Int → Int} (r : RK H Q L h t) (k0 : 0 ≤ k) (k1 : k < 135) (c : cel 614 h f) {K : Hp → Prop}
    (kk : ∀ h1, RK H Q L h1 (tKey t k f) → frX H Q L h h1 → K h1) : wp_Keys_put Q k 614 0 h K := by
  have hh := r.2.1.1
  have hk := r.2.1.2.1
  have hQ : Q = 474 ∨ Q = 1168 := hk
  have sh := r.1
  unfold wp_Keys_put
  rw [p_65_0 hk sh, l_66 hk sh]
  refine ⟨by omega, by omega, ?_⟩
  intro h2 e2
  have o2 : onl (Q + 1) h h2 := by rw [e2]; exact (onl.rf _ h).put k0
  have q1 : rd h2 Q 1 = Q + 2 := (o2.rd (by omega)).trans (p_65_1 hk sh)
  have q2 : rd h2 (Q + 2) k = Q + (3 + k) := (o2.rd (by omega)).trans (p_67 hk k0 k1 sh)
  rw [q1, q2, o2.ln, l_67 hk sh]
  refine ⟨by omega, by omega, by decide, by omega, ?_, ?_⟩
  · unfold cpR
    rw [o2.ln, o2.ln, l_12 sh, l_68 hk k0 k1 sh]
    omega
  · intro h7 e7
    rw [cpy_upr] at e7
    have ee : h7 = upr (up h (Q + 1) k 1) (Q + (3 + k)) 0 28 f := by
      rw [e7, ← e2]
      unfold upr
      congr 1
      funext x y
      by_cases z : x = Q + (3 + k) ∧ 0 ≤ y ∧ y < 28
      · rw [if_pos (by omega), if_pos z]
        show rd h2 614 (0 + (y - 0)) = f y
        rw [o2.rd (by omega), show (0 : Int) + (y - 0) = y by omega]
        exact c y z.2.1 z.2.2
      · rw [if_neg (by omega), if_neg z]
    rw [ee]
    refine kk _ (r.key k0 k1) (((frX.rf h).put hh hk (e_66_130 k0 k1)).upr (v := 131) (o := 28 * k) hh hk (by omega) (fun i i0 i1 => ?_))
    have w := e_68_131 (H := H) (Q := Q) k0 k1 i0 i1
    rwa [show 28 * k + i = i + 28 * k by omega] at w
theorem tset_eq' {t : Ts} {v j x : Int} : tset t v j x v j = x := tset_eq t v j x
theorem k_group {H Q L : Int} {h : Hp} {t : Ts} {n m : Int} {w : Int → Int} (r : RK H Q L h t) (d : t 137 0 = 0) (g : Bd n t) (tk : TickC H h t) (fl : rd h H 11 = w32 (t 117 10))
    (hw : ∀ k : Int, 0 ≤ k → k < 135 → rd h 69 k = w k) (em : si (fun k => on1 (w k)) 135 = m) (fit : t 135 0 + m ≤ 200) (tl : ∀ k : Int, 0 ≤ k → k < 135 → w k ≠ 0 → tldK t k) {K : Int → Hp → Prop}
    (kk : ∀ h1, RK H Q L h1 (if (tGr w m t 135).2.2 = 1 then tset (tGr w m t 135).1 135 0 (t 135 0 + m) else (tGr w m t 135).1) → frX H Q L h h1 → K (tGr w m t 135).2.2 h1) : wp_Store_group_77 K 70 H 69 m 0 0 h := by
  have hh := r.2.1.1
  have hk := r.2.1.2.1
  have hH : H = 628 ∨ H = 768 := hh
  have hQ : Q = 474 ∨ Q = 1168 := hk
  have b3 := b_133 g
  have b4 := b_134 g
  have b5 := b_135 g
  have b6 := b_136 g
  have gn := g.1
  have sr := tGr_r (w := w) (m := m) (t := t) b6 d
  have mr : 0 ≤ m ∧ m ≤ 135 := by rw [← em]; exact si_b (fun _ => on1_r _) 135
  have c28 : sc28 614 := ⟨by decide, by decide, fun i => (sc_614 (H := 0) (Q := 0) (L := 0)).1⟩
  unfold wp_Store_group_77
  intro P hP
  refine up_ind (P := fun k (p : Int × Hp) => P p.1 k p.2) 135 (fun k p => 0 ≤ k ∧ (tGr w m t k.toNat).2.2 = 1 ∧ p.1 = (tGr w m t k.toNat).2.1 ∧ RK H Q L p.2 (tset (tGr w m t k.toNat).1 135 0 (t 135 0 + (tGr w m t k.toNat).2.1)) ∧ frX H Q L h p.2) (fun k p k1 I next => ?_) (fun p I => ?_) 0 (0, h) (by decide) ⟨by decide, rfl, rfl, by
      show RK H Q L h (tset t 135 0 (t 135 0 + 0))
      rw [tset_id (by omega)]
      exact r, frX.rf h⟩
  · obtain ⟨n', h'⟩ := p
    obtain ⟨k0, i1, i2, r', f'⟩ := I
    simp only at i1 i2 r' f' ⊢
    have sh' := r'.1
    have ts := tGr_s (w := w) (m := m) (t := t) k0
    have sk := sr k.toNat
    have tnv := fun v j (x : v ≠ 129 ∧ v ≠ 130 ∧ v ≠ 131 ∧ v ≠ 136 ∧ v ≠ 137) => tGr_nv (w := w) (m := m) (t := t) (v := v) (j := j) x k.toNat
    have mono := sm_mono (f := fun k => on1 (w k)) (fun k => (on1_r _).1) (k.toNat + 1) (134 - k.toNat)
    rw [show k.toNat + 1 + (134 - k.toNat) = 135 by omega] at mono
    have gT := tGr_b (w := w) (m := m) g k.toNat (by omega)
    generalize tGr w m t k.toNat = T at *
    have dT := (sk.2.1 i1).1
    have sT : ∀ v j : Int, v ≤ 125 → tset T.1 135 0 (t 135 0 + T.2.1) v j = t v j := fun v j hv => by
      rw [tset_nv (by omega)]
      exact tnv v j (by omega)
    apply hP
    rw [f'.2.2 k, hw k k0 k1, l_6 sh']
    refine ⟨fun q => absurd q (by omega), fun _ => ⟨by decide, by omega, fun q => ?_, fun q => ?_⟩⟩
    · rintro _ rfl
      rw [w32_id (by omega) (by omega)]
      rw [if_neg (fun z => z.2 q)] at ts
      exact next (n', h') ⟨by omega, by rw [ts]; exact i1, by rw [ts]; exact i2, by rw [ts]; exact r', f'⟩
    · rw [if_pos ⟨i1, q⟩] at ts
      have lim : T.2.1 + 1 ≤ m := by
        have e1 : sm (fun k => on1 (w k)) (k.toNat + 1) = sm (fun k => on1 (w k)) k.toNat + 1 := by
          show sm (fun k => on1 (w k)) k.toNat + on1 (w ((k.toNat : Nat) : Int)) = _
          rw [show ((k.toNat : Nat) : Int) = k by omega]
          unfold on1
          rw [if_neg q]
        have e2 := (sk.2.1 i1).2
        have e3 : sm (fun k => on1 (w k)) 135 = m := em
        omega
      rintro _ rfl
      rw [w32_id (x := n' + 1) (by omega) (by omega), p_7_8 sh']
      have tk' := tk.fx hh f' sT
      have fl' : rd h' H 11 = w32 (tset T.1 135 0 (t 135 0 + T.2.1) 117 10) := by
        rw [sT 117 10 (by decide), ← fl]
        exact f'.2.1 _ _ (sp_20 hh (by omega))
      have d' : tset T.1 135 0 (t 135 0 + T.2.1) 137 0 = 0 := by rw [tset_nv (by decide)]; exact dT
      have hd' := r'.hd d' tk' fl'
      have tl' : tldK (tset T.1 135 0 (t 135 0 + T.2.1)) k := by
        have z := tl k k0 k1 q
        unfold tldK at z ⊢
        rw [sT 103 _ (by decide), sT 106 _ (by decide), sT 75 _ (by decide)]
        exact z
      have g' : Bd n (tset T.1 135 0 (t 135 0 + T.2.1)) := bp_135 gT (by omega) (by omega)
      refine ⟨by omega, k_hwrite sh' hh hd' g' k0 k1 tl' c28 (l_12 sh') (fun h3 o3 c3 => ?_)⟩
      rw [kb_cg sT k] at c3
      have sh3 := o3.sh sh' c28
      have r3 := r'.sc o3 (by decide) (fun i _ => sc_614)
      have f3 : frX H Q L h h3 := f'.tr (frX.sc o3 (by decide) (by decide) (fun i _ => by rw [(sc_614 (H := H) (Q := Q) (L := L) (i := i)).2]; decide))
      refine z_kindOf sh3 k0 k1 (z_indexOf sh3 k0 k1 ?_)
      have e4 : rd h3 70 4 = t 135 0 + T.2.1 := (r3.2.2.get (e_7_135 (H := H) (Q := Q)) (act_up d' (by unfold pln; omega))).trans (tset_eq _ _ _ _)
      have e3 : rd h3 70 3 = t 134 0 := (r3.2.2.get (e_7_134 (H := H) (Q := Q)) (act_al (by unfold alw; omega) (by unfold pln; omega))).trans ((tset_nv (by decide)).trans (tnv 134 0 (by omega)))
      have go : ∀ la : Int, la = bi (n' + 1 = m) → wp_Store_group_127 P K 70 H 69 m (n' + 1) k la (ixF k) (kdF k) 70 h3 := by
        intro la el
        unfold wp_Store_group_127
        rw [e4, e3, p_7_8 sh3]
        refine ⟨by decide, k_make sh3 (by decide) (by decide) (l_12 sh3) (fun h5 o5 c5 => ?_)⟩
        have r5 := r3.sc o5 (by decide) (fun i _ => sc_613)
        have f5 : frX H Q L h h5 := f3.tr (frX.sc o5 (by decide) (by decide) (fun i _ => by rw [(sc_613 (H := H) (Q := Q) (L := L) (i := i)).2]; decide))
        have e2' : rd h5 70 2 = t 133 0 := (r5.2.2.get (e_7_133 (H := H) (Q := Q)) (act_al (by unfold alw; omega) (by unfold pln; omega))).trans ((tset_nv (by decide)).trans (tnv 133 0 (by omega)))
        have e4' : rd h5 70 4 = t 135 0 + T.2.1 := (o5.rd (by decide)).trans e4
        rw [e2', e4']
        have f136 : tset T.1 135 0 (t 135 0 + T.2.1) 136 0 = T.1 136 0 := tset_nv (by decide)
        refine k_write (R := grR m t k T.2.1) r5 d' (by rw [f136]; exact sk.1) (by omega) (by omega) (by omega) (by omega) (fun i i0 i1 => ?_) (fun h6 r6 f6 o6 => ?_)
        · rw [c5 i i0 i1]
          unfold grR
          rw [el, i2]
          exact rwb_cg c3 i0 i1
        · have c6 : cel 614 h6 (kb t k) := fun i i0 i1 => ((o6 614 i (by omega) (by decide)).trans (o5.rd (by decide))).trans (c3 i i0 i1)
          have fx := f5.tr f6
          rw [tRow_set] at r6
          rw [f136]
          by_cases z : T.1 136 0 = 0
          · rw [if_pos z]
            rw [if_pos z] at ts
            refine ⟨fun y => absurd rfl y, fun _ => ?_⟩
            have cut := tGr_cut (w := w) (m := m) (t := t) (134 - k).toNat (k + 1).toNat (by rw [ts]; show (0 : Int) ≠ 1; decide)
            rw [show (k + 1).toNat + (134 - k).toNat = 135 by omega, ts] at cut
            rw [cut] at kk
            refine kk h6 ?_ fx
            rw [if_neg (show ¬ (0 : Int) = 1 by decide)]
            refine r6.dn135 ?_
            rw [tRow_137, if_pos z]
            decide
          · rw [if_neg z]
            rw [if_neg z] at ts
            refine ⟨fun _ => ?_, fun y => absurd (by decide) y⟩
            have s6 := r6.1
            rw [r6.2.1.2.2.2.2.2.1, p_7_8 s6]
            refine ⟨by omega, k_keyput r6 k0 k1 c6 (fun h7 r7 f7 => ?_)⟩
            rw [tKey_set] at r7
            have d7 : tset (tKey (tRow T.1 (t 133 0) (t 135 0 + T.2.1) (grR m t k T.2.1)) k (kb t k)) 135 0 (t 135 0 + T.2.1) 137 0 = 0 := by
              rw [tset_nv (by decide), tKey_nv (by decide) (by decide), tRow_137, if_neg z]
              exact dT
            have e7 : rd h7 70 4 = t 135 0 + T.2.1 := (r7.2.2.get (e_7_135 (H := H) (Q := Q)) (act_up d7 (by unfold pln; omega))).trans (tset_eq _ _ _ _)
            rw [e7, w32_id (by omega) (by omega)]
            intro h8 e8
            rintro _ rfl
            rw [w32_id (by omega) (by omega)]
            have r8 := r7.put (x := t 135 0 + T.2.1 + 1) (e_7_135 (H := H) (Q := Q)) (by unfold ctl; omega)
            rw [← e8] at r8
            have st2 : ∀ (u : Ts) (x y : Int), tset (tset u 135 0 x) 135 0 y = tset u 135 0 y := by
              intro u x y
              funext a b
              unfold tset
              by_cases c : a = 135 ∧ b = 0
              · rw [if_pos c, if_pos c]
              · rw [if_neg c, if_neg c, if_neg c]
            rw [st2] at r8
            refine next (n' + 1, h8) ⟨by omega, by rw [ts], by rw [ts, i2], ?_, ?_⟩
            · rw [ts, show t 135 0 + (T.2.1 + 1) = t 135 0 + T.2.1 + 1 by omega]
              exact r8
            · rw [e8]
              exact (fx.tr f7).put hh hk (e_7_135 (H := H) (Q := Q))
      exact ⟨fun q2 => go 0 (bi_f q2).symm, fun q2 => go 1 (bi_t (by omega)).symm⟩
  · obtain ⟨n', h'⟩ := p
    obtain ⟨k0, i1, i2, r', f'⟩ := I
    have e135 : (135 : Int).toNat = 135 := rfl
    rw [e135] at i1 i2 r'
    have sk := (sr 135).2.1
    have em' : sm (fun k => on1 (w k)) 135 = m := em
    clear sr
    generalize tGr w m t 135 = T at *
    have i1' : T.2.2 = 1 := i1
    rw [if_pos i1', i1'] at kk
    have e2 := (sk i1').2
    rw [em'] at e2
    rw [e2] at r'
    apply hP
    exact ⟨fun _ => kk h' r' f', fun q => absurd (by decide) q⟩
