/-! A GROUP IS KEPT, ON BOTH SIDES -/
def snK (t : Ts) : Ts × Int := tSnE (t 130) (fun k i => t 131 (28 * k + i)) (keyN t) (1 - t 133 0) (frF t) t
/-- how many keys are wanted -/
def wN (w : Int → Int) : Int := si (fun k => on1 (w k)) 135
def kpS (m : Int) (t : Ts) : Ts × Int := if t 135 0 + m ≤ 200 then (t, 1) else snK t
def kpE (w : Int → Int) (m : Int) (s : Ts × Int) : Ts × Int :=
  if s.2 = 1 then (if (tGr w m s.1 135).2.2 = 1 then tset (tGr w m s.1 135).1 135 0 (s.1 135 0 + m) else (tGr w m s.1 135).1, (tGr w m s.1 135).2.2) else (s.1, 0)
def tKeep (w : Int → Int) (t : Ts) : Ts × Int := kpE w (wN w) (kpS (wN w) t)
theorem tSnE_nv {th : Int → Int} {bs : Int → Int → Int} {m a g : Int} {t : Ts} {v j : Int} (n : v ≠ 129 ∧ v ≠ 133 ∧ v ≠ 134 ∧ v ≠ 135 ∧ v ≠ 136 ∧ v ≠ 137) : (tSnE th bs m a g t).1 v j = t v j := by
  have e := tSn_nv (th := th) (bs := bs) (m := m) (a := a) (g := g) (t := t) (v := v) (j := j) n.1 n.2.2.2.2.1 n.2.2.2.2.2 135
  unfold tSnE
  generalize tSn th bs m a g t 135 = T at *
  split
  · split
    · exact (tRow_nv n.1 n.2.2.2.2.1 n.2.2.2.2.2).trans e
    · show tset (tset (tset (tRow T.1 a 0 (hdR m g)) 133 0 a) 134 0 g) 135 0 (m + 1) v j = t v j
      rw [tset_nv n.2.2.2.1, tset_nv n.2.2.1, tset_nv n.2.1, tRow_nv n.1 n.2.2.2.2.1 n.2.2.2.2.2, e]
  · exact e
theorem tSnE_1 {th : Int → Int} {bs : Int → Int → Int} {m a g : Int} {t : Ts} (b : -1 ≤ t 136 0 ∧ t 136 0 ≤ 1000) (d : t 137 0 = 0) : ((tSnE th bs m a g t).2 = 0 ∧ (tSnE th bs m a g t).1 137 0 = 1) ∨ ((tSnE th bs m a g t).2 = 1 ∧ (tSnE th bs m a g t).1 137 0 = 0 ∧ (tSnE th bs m a g t).1 133 0 = a ∧ (tSnE th bs m a g t).1 134 0 = g ∧ (tSnE th bs m a g t).1 135 0 = m + 1) := by
  have e := tSn_r (th := th) (bs := bs) (m := m) (a := a) (g := g) (t := t) b d 135
  unfold tSnE
  generalize tSn th bs m a g t 135 = T at *
  obtain ⟨e1, e2, e3, e4, e5⟩ := e
  by_cases c : T.2.2 = 1
  · rw [if_pos c]
    by_cases z : T.1 136 0 = 0
    · rw [if_pos z]
      refine Or.inl ⟨rfl, ?_⟩
      show tRow T.1 a 0 (hdR m g) 137 0 = 1
      rw [tRow_137, if_pos z]
    · rw [if_neg z]
      refine Or.inr ⟨rfl, ?_, ?_, ?_, ?_⟩
      · show tset (tset (tset (tRow T.1 a 0 (hdR m g)) 133 0 a) 134 0 g) 135 0 (m + 1) 137 0 = 0
        rw [tset_nv (by decide), tset_nv (by decide), tset_nv (by decide), tRow_137, if_neg z]
        exact (e2 c).1
      · show tset (tset (tset (tRow T.1 a 0 (hdR m g)) 133 0 a) 134 0 g) 135 0 (m + 1) 133 0 = a
        rw [tset_nv (by decide), tset_nv (by decide), tset_eq]
      · show tset (tset (tset (tRow T.1 a 0 (hdR m g)) 133 0 a) 134 0 g) 135 0 (m + 1) 134 0 = g
        rw [tset_nv (by decide), tset_eq]
      · show tset (tset (tset (tRow T.1 a 0 (hdR m g)) 133 0 a) 134 0 g) 135 0 (m + 1) 135 0 = m + 1
        rw [tset_eq]
  · rw [if_neg c]
    exact Or.inl ⟨rfl, e5 (by omega)⟩
theorem tSnE_b {n : Int} {th : Int → Int} {bs : Int → Int → Int} {m a gg : Int} {t : Ts} (g : Bd n t) (hb : ∀ k i : Int, 0 ≤ k → k < 135 → th k ≠ 0 → 0 ≤ i → i < 28 → -128 ≤ bs k i ∧ bs k i ≤ 127) (a0 : 0 ≤ a) (a1 : a < 2) (g0 : 1 ≤ gg) (g1 : gg ≤ 1 + 20 * n) (m0 : 0 ≤ m) (m1 : m ≤ 135) : Bd n (tSnE th bs m a gg t).1 := by
  have e := tSn_b (m := m) (a := a) (gg := gg) g hb 135 (by decide)
  unfold tSnE
  generalize tSn th bs m a gg t 135 = T at *
  have hR : ∀ i : Int, 0 ≤ i → i < 48 → -128 ≤ hdR m gg i ∧ hdR m gg i ≤ 127 := fun i i0 i1 => rwb_b (pcs_b z0_b) i0 i1
  split
  · split
    · exact e.row hR
    · exact bp_135 (bp_134 (bp_133 (e.row hR) a0 (by omega)) g0 g1) (by omega) (by omega)
  · exact e
theorem keyN_r (t : Ts) : 0 ≤ keyN t ∧ keyN t ≤ 135 := si_b (fun _ => on1_r _) 135
theorem frF_r {t : Ts} (b : 1 ≤ t 134 0) : 1 ≤ frF t := by
  have : t 134 0 ≤ mx (mx (t 134 0) (gF t (1 - t 133 0) 0)) (gF t (1 - t 133 0) 1) := by
    unfold mx
    repeat' split
    all_goals omega
  unfold frF
  omega
/-- what is known behind the snapshot -/
theorem kpS_r {n m : Int} {t : Ts} (g : Bd n t) (gb : frF t ≤ 1 + 20 * n) (d : t 137 0 = 0) (m1 : m ≤ 60) :
    Bd n (kpS m t).1 ∧ (∀ v j : Int, v ≤ 125 → (kpS m t).1 v j = t v j) ∧ (((kpS m t).2 = 0 ∧ (kpS m t).1 137 0 = 1) ∨ ((kpS m t).2 = 1 ∧ (kpS m t).1 137 0 = 0 ∧ (kpS m t).1 135 0 + m ≤ 200)) := by
  have b3 := b_133 g
  have b4 := b_134 g
  have b6 := b_136 g
  have kr := keyN_r t
  have f0 := frF_r b4.1
  unfold kpS
  by_cases c : t 135 0 + m ≤ 200
  · rw [if_pos c]
    exact ⟨g, fun _ _ _ => rfl, Or.inr ⟨rfl, d, c⟩⟩
  · rw [if_neg c]
    unfold snK
    generalize keyN t = M at *
    generalize frF t = G at *
    have z1 := tSnE_b (th := t 130) (bs := fun k i => t 131 (28 * k + i)) (m := M) (a := 1 - t 133 0) (gg := G) g (fun k i k0 k1 _ i0 i1 => b_131 g (by omega) (by omega)) (by omega) (by omega) f0 gb kr.1 kr.2
    have z2 := fun v j (hv : v ≤ 125) => tSnE_nv (th := t 130) (bs := fun k i => t 131 (28 * k + i)) (m := M) (a := 1 - t 133 0) (g := G) (t := t) (v := v) (j := j) (by omega)
    have z3 := tSnE_1 (th := t 130) (bs := fun k i => t 131 (28 * k + i)) (m := M) (a := 1 - t 133 0) (g := G) b6 d
    generalize tSnE (t 130) (fun k i => t 131 (28 * k + i)) M (1 - t 133 0) G t = E at *
    refine ⟨z1, z2, ?_⟩
    rcases z3 with z | z
    · exact Or.inl z
    · exact Or.inr ⟨z.1, z.2.1, by omega⟩
theorem sc_69 {H Q L i : Int} : fp 69 i = -7 ∧ lv H Q L 69 i = -1 := ⟨(fp_of (ck_6) (cx_6) (cb_6)).trans (by simp [fpc]), lv_w⟩
theorem z_keysX {h : Hp} {X : Int} {th : Int → Int} (sh : Sh h) (hk : is_k X) (ht : ∀ k : Int, 0 ≤ k → k < 135 → rd h (X + 1) k = th k) {K : Int → Prop} (k : K (si (fun k => on1 (th k)) 135)) : wp_Keys_many X h K := by
  have hX : X = 474 ∨ X = 1168 := hk
  unfold wp_Keys_many
  rw [p_65_0 hk sh]
  rintro _ rfl
  rw [l_66 hk sh]
  refine ⟨by omega, ?_⟩
  rintro _ rfl
  unfold wp_Keys_many_13
  intro P hP
  refine up_ind (P := fun a n => P n a) 135 (fun a n => 0 ≤ a ∧ 0 ≤ n ∧ n ≤ a ∧ n = si (fun j => on1 (th j)) a) (fun a n a5 I next => ?_) (fun n I => ?_) 0 0 (by decide) ⟨by decide, by decide, by decide, rfl⟩
  · obtain ⟨a0, n0, na, e⟩ := I
    have e3 := si_s (f := fun j => on1 (th j)) a0
    apply hP
    refine ⟨fun q => absurd q (by omega), fun _ => ?_⟩
    rw [l_66 hk sh, ht a a0 a5]
    refine ⟨by omega, by omega, ?_⟩
    rintro _ rfl
    refine ⟨fun q => ?_, fun q => ?_⟩
    · rintro _ rfl
      rw [w32_id (by omega) (by omega), w32_id (by omega) (by omega)]
      refine next _ ⟨by omega, by omega, by omega, ?_⟩
      rw [e3, ← e]
      show n + 0 = n + on1 (th a)
      rw [q]
      rfl
    · rintro _ rfl
      rw [w32_id (by omega) (by omega), w32_id (by omega) (by omega)]
      refine next _ ⟨by omega, by omega, by omega, ?_⟩
      rw [e3, ← e]
      show n + 1 = n + on1 (th a)
      unfold on1
      rw [if_neg q]
  · obtain ⟨a0, n0, na, e⟩ := I
    refine hP _ _ ⟨fun _ => ?_, fun q => absurd q (by omega)⟩
    rw [e]
    exact k
theorem z_keysK {H Q L : Int} {h : Hp} {t : Ts} (r : RK H Q L h t) {K : Int → Prop} (k : K (si (fun k => on1 (t 130 k)) 135)) : wp_Keys_many Q h K := by
  have hk := r.2.1.2.1
  have hQ : Q = 474 ∨ Q = 1168 := hk
  exact z_keysX r.1 hk (fun k k0 k1 => r.2.2.get (e_66_130 (H := H) (Q := Q) k0 k1) (act_al (by unfold alw; omega) (by unfold pln; omega))) k
theorem k_keep {H Q L : Int} {h : Hp} {t : Ts} {n : Int} {w : Int → Int} (r : RK H Q L h t) (d : t 137 0 = 0) (g : Bd n t) (gb : frF t ≤ 1 + 20 * n) (tk : TickC H h t) (fl : rd h H 11 = w32 (t 117 10))
    (hw : ∀ k : Int, 0 ≤ k → k < 135 → rd h 69 k = w k) (m1 : wN w ≤ 60) (tl : ∀ k : Int, 0 ≤ k → k < 135 → w k ≠ 0 → tldK t k) {K : Int → Hp → Prop}
    (kk : ∀ h1, RK H Q L h1 (tKeep w t).1 → frS h h1 → (∀ a i : Int, lv H Q L a i = -2 → h1.1 a i = h.1 a i) → (∀ k : Int, 0 ≤ k → k < 135 → rd h1 69 k = 0) → K (tKeep w t).2 h1) : wp_Group_keep 68 h K := by
  have hh := r.2.1.1
  have hk := r.2.1.2.1
  have hH : H = 628 ∨ H = 768 := hh
  have hQ : Q = 474 ∨ Q = 1168 := hk
  have sh := r.1
  have b4 := b_134 g
  have b5 := b_135 g
  have gn := g.1
  have e135 : rd h 70 4 = t 135 0 := r.2.2.get e_7_135 (act_up d (by unfold pln; omega))
  have M0 : 0 ≤ wN w := (si_b (fun _ => on1_r _) 135).1
  obtain ⟨s1, s2, s3⟩ := kpS_r g gb d m1
  unfold wp_Group_keep
  rw [p_5_0 sh, p_5_1 sh, p_1_3 sh, r.2.1.2.2.2.1]
  refine ⟨by decide, by decide, ?_⟩
  have clr : ∀ (x : Int) (h4 : Hp), (x = 0 ∨ x = 1) → RK H Q L h4 (tKeep w t).1 → frX H Q L h h4 → x = (tKeep w t).2 → wp_Group_keep_24 K 68 x 0 h4 := by
    intro x h4 xb r4 f4 ex
    have sh4 := r4.1
    unfold wp_Group_keep_24
    intro P hP
    refine up_ind (P := P) 135 (fun k h' => 0 ≤ k ∧ h' = upr h4 69 0 k (fun _ => 0)) (fun k h' k1 I next => ?_) (fun h' I => ?_) 0 h4 (by decide) ⟨by decide, (upr_nil (by omega)).symm⟩
    · obtain ⟨k0, e⟩ := I
      have o' : onl 69 h4 h' := by rw [e]; exact (onl.rf 69 h4).upr (by decide)
      apply hP
      rw [o'.rd (show (68 : Int) ≠ 69 by decide), p_5_0 sh4, o'.ln, l_6 sh4]
      refine ⟨fun q => absurd q (by omega), fun _ => ⟨by decide, by omega, ?_⟩⟩
      rintro _ rfl _ rfl
      rw [w32_id (by omega) (by omega)]
      exact next _ ⟨by omega, by rw [e, upr_up (f := fun _ => 0) (by omega) rfl]⟩
    · obtain ⟨_, e⟩ := I
      have o' : onl 69 h4 h' := by rw [e]; exact (onl.rf 69 h4).upr (by decide)
      refine hP _ _ ⟨fun _ => ⟨xb, ?_⟩, fun q => absurd (by decide) q⟩
      rw [ex]
      refine kk h' (r4.sc o' (by decide) (fun i _ => sc_69)) (f4.1.tr ⟨o'.1, fun b i c => o'.2 b i (Or.inl (by omega))⟩) (fun a i c => ?_) (fun k k0 k1 => by rw [e, rd_upr_in k0 k1])
      have na : a ≠ 69 := fun q => by
        have y := (sc_69 (H := H) (Q := Q) (L := L) (i := i)).2
        rw [q] at c
        omega
      exact (o'.2 a i (Or.inl na)).trans (f4.2.1 a i c)
  have eK : tKeep w t = kpE w (wN w) (kpS (wN w) t) := rfl
  have eM : si (fun k => on1 (w k)) 135 = wN w := rfl
  have eN : ∀ k : Int, 0 ≤ k → k ≤ 135 → si (fun k => on1 (w k)) k ≤ 135 := fun k k0 k1 => by
    have := (si_b (f := fun k => on1 (w k)) (fun _ => on1_r _) k.toNat).2
    show sm (fun k => on1 (w k)) k.toNat ≤ 135
    omega
  generalize tKeep w t = TK at *
  generalize wN w = M at *
  have grp : ∀ h3, RK H Q L h3 (kpS M t).1 → frX H Q L h h3 → (kpS M t).2 = 1 → wp_Store_group_77 (fun r3 h4 => wp_Group_keep_24 K 68 r3 0 h4) 70 H 69 M 0 0 h3 := by
    intro h3 r3 f3 ok
    have z : (kpS M t).1 137 0 = 0 ∧ (kpS M t).1 135 0 + M ≤ 200 := by
      rcases s3 with y | y
      · omega
      · exact y.2
    have tk3 := tk.fx hh f3 s2
    have fl3 : rd h3 H 11 = w32 ((kpS M t).1 117 10) := by
      rw [s2 117 10 (by decide), ← fl]
      exact f3.2.1 _ _ (sp_20 hh (by omega))
    have sr := (tGr_r (w := w) (m := M) (b_136 s1) z.1 135).2.2.2.1
    unfold kpE at eK
    rw [if_pos ok] at eK
    refine k_group r3 z.1 s1 tk3 fl3 (fun k k0 k1 => (f3.2.2 k).trans (hw k k0 k1)) eM z.2 (fun k k0 k1 q => ?_) (fun h4 r4 f4 => ?_)
    · have y := tl k k0 k1 q
      unfold tldK at y ⊢
      rw [s2 103 _ (by decide), s2 106 _ (by decide), s2 75 _ (by decide)]
      exact y
    · generalize tGr w M (kpS M t).1 135 = T at *
      refine clr _ h4 sr ?_ (f3.tr f4) ?_
      · rw [eK]; exact r4
      · rw [eK]
  unfold wp_Store_group
  refine ⟨by decide, ?_⟩
  rintro _ rfl
  rw [l_6 sh]
  unfold wp_Store_group_13
  intro P hP
  refine up_ind (P := fun k c => P c k) 135 (fun k c => 0 ≤ k ∧ 0 ≤ c ∧ c ≤ k ∧ c = si (fun k => on1 (w k)) k) (fun k c k1 I next => ?_) (fun c I => ?_) 0 0 (by decide) ⟨by decide, by decide, by decide, rfl⟩
  · obtain ⟨k0, c0, c1, e⟩ := I
    have es := si_s (f := fun k => on1 (w k)) k0
    apply hP
    rw [l_6 sh, hw k k0 k1]
    refine ⟨fun q => absurd q (by omega), fun _ => ⟨by decide, by omega, ?_⟩⟩
    rintro _ rfl
    refine ⟨fun q => ?_, fun q => ?_⟩
    · rintro _ rfl
      rw [w32_id (by omega) (by omega), w32_id (by omega) (by omega)]
      refine next _ ⟨by omega, by omega, by omega, ?_⟩
      rw [es, ← e, q]
      rfl
    · rintro _ rfl
      rw [w32_id (by omega) (by omega), w32_id (by omega) (by omega)]
      refine next _ ⟨by omega, by omega, by omega, ?_⟩
      rw [es, ← e]
      unfold on1
      rw [if_neg q]
  · obtain ⟨_, c0, c1, e⟩ := I
    rw [eM] at e
    rw [e]
    clear e
    apply hP
    refine ⟨fun _ => ?_, fun q => absurd (by decide) q⟩
    rw [e135, w32_id (by omega) (by omega)]
    refine ⟨fun q => ?_, fun q => ?_⟩
    · have eS : kpS M t = (t, 1) := if_pos q
      exact grp h (by rw [eS]; exact r) (frX.rf h) (by rw [eS])
    · have eS : kpS M t = snK t := if_neg q
      rw [r.2.1.2.2.2.2.2.1]
      have eS' : kpS M t = tSnE (t 130) (fun k i => t 131 (28 * k + i)) (si (fun k => on1 (t 130 k)) 135) (1 - t 133 0) (frF t) t := eS
      refine k_snap (n := n) (th := t 130) (bs := fun k i => t 131 (28 * k + i)) r d g (by omega) hk (fun K2 k2 => z_keysK r k2) (fun k k0 k1 => r.2.2.get (e_66_130 (H := H) (Q := Q) k0 k1) (act_al (by unfold alw; omega) (by unfold pln; omega))) (fun k i k0 k1 q2 i0 i1 => ?_) (fun h3 r3 f3 _ => ?_)
      · refine r.2.2.get (e_68_131 (H := H) (Q := Q) k0 k1 i0 i1) ⟨Or.inl (by unfold alw; omega), by omega, by omega, by omega, by omega, fun _ => ?_, by omega, by omega⟩
        have b := b_130 g k0 k1
        rw [show (28 * k + i) / 28 = k by omega]
        omega
      · rw [← eS'] at r3 ⊢
        refine ⟨fun q2 => grp h3 r3 f3 (by omega), fun q2 => ?_⟩
        have ok : (kpS M t).2 = 0 := by omega
        unfold kpE at eK
        rw [if_neg (by omega)] at eK
        exact clr 0 h3 (Or.inl rfl) (by rw [eK]; exact r3) f3 (by rw [eK])
