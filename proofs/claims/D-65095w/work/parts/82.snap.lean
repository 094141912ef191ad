/-! SNAPSHOTS -/
def gF (t : Ts) (a n : Int) : Int := g4 (fun i => t 129 (9600 * a + 48 * n + 8 + i))
/-- the generation of a new snapshot -/
def frF (t : Ts) : Int := 1 + mx (mx (t 134 0) (gF t (1 - t 133 0) 0)) (gF t (1 - t 133 0) 1)
def tSn (th : Int → Int) (bs : Int → Int → Int) (m a g : Int) (t : Ts) : Nat → Ts × Int × Int
  | 0 => (t, 0, 1)
  | k + 1 =>
    if (tSn th bs m a g t k).2.2 = 1 ∧ th k ≠ 0 then
      (tRow (tSn th bs m a g t k).1 a ((tSn th bs m a g t k).2.1 + 1) (rwb (kdF k) (ixF k) (bi ((tSn th bs m a g t k).2.1 + 1 = m)) ((tSn th bs m a g t k).2.1 + 1) g (bs k)), (tSn th bs m a g t k).2.1 + 1, if (tSn th bs m a g t k).1 136 0 = 0 then 0 else 1)
    else tSn th bs m a g t k
theorem tSn_s {th : Int → Int} {bs : Int → Int → Int} {m a g : Int} {t : Ts} {k : Int} (k0 : 0 ≤ k) : tSn th bs m a g t (k + 1).toNat = if (tSn th bs m a g t k.toNat).2.2 = 1 ∧ th k ≠ 0 then (tRow (tSn th bs m a g t k.toNat).1 a ((tSn th bs m a g t k.toNat).2.1 + 1) (rwb (kdF k) (ixF k) (bi ((tSn th bs m a g t k.toNat).2.1 + 1 = m)) ((tSn th bs m a g t k.toNat).2.1 + 1) g (bs k)), (tSn th bs m a g t k.toNat).2.1 + 1, if (tSn th bs m a g t k.toNat).1 136 0 = 0 then 0 else 1) else tSn th bs m a g t k.toNat := by
  have e2 : ((k.toNat : Nat) : Int) = k := by omega
  rw [show (k + 1).toNat = k.toNat + 1 by omega]
  show (if (tSn th bs m a g t k.toNat).2.2 = 1 ∧ th ((k.toNat : Nat) : Int) ≠ 0 then (tRow (tSn th bs m a g t k.toNat).1 a ((tSn th bs m a g t k.toNat).2.1 + 1) (rwb (kdF ((k.toNat : Nat) : Int)) (ixF ((k.toNat : Nat) : Int)) (bi ((tSn th bs m a g t k.toNat).2.1 + 1 = m)) ((tSn th bs m a g t k.toNat).2.1 + 1) g (bs ((k.toNat : Nat) : Int))), (tSn th bs m a g t k.toNat).2.1 + 1, if (tSn th bs m a g t k.toNat).1 136 0 = 0 then 0 else 1) else tSn th bs m a g t k.toNat) = _
  rw [e2]
/-- once it is cut it stays so -/
theorem tSn_cut {th : Int → Int} {bs : Int → Int → Int} {m a g : Int} {t : Ts} : ∀ (j k : Nat), (tSn th bs m a g t k).2.2 ≠ 1 → tSn th bs m a g t (k + j) = tSn th bs m a g t k := by
  intro j
  induction j with
  | zero => intro k _; rfl
  | succ j ih =>
    intro k n
    have e := ih k n
    show (if (tSn th bs m a g t (k + j)).2.2 = 1 ∧ _ then _ else tSn th bs m a g t (k + j)) = _
    rw [if_neg (fun z => by rw [e] at z; exact n z.1), e]
/-- the head of a snapshot -/
def hdR (m g : Int) : Int → Int := rwb 0 0 1 0 g (pcs z0 0 4 m)
def tSnE (th : Int → Int) (bs : Int → Int → Int) (m a g : Int) (t : Ts) : Ts × Int :=
  if (tSn th bs m a g t 135).2.2 = 1 then
    (if (tSn th bs m a g t 135).1 136 0 = 0 then (tRow (tSn th bs m a g t 135).1 a 0 (hdR m g), 0)
     else (tset (tset (tset (tRow (tSn th bs m a g t 135).1 a 0 (hdR m g)) 133 0 a) 134 0 g) 135 0 (m + 1), 1))
  else ((tSn th bs m a g t 135).1, 0)
theorem tRow_136 {t : Ts} {a n : Int} {R : Int → Int} : tRow t a n R 136 0 = if t 136 0 = 0 then 0 else t 136 0 - (if t 136 0 ≤ 0 then 0 else 1) := by
  unfold tRow
  by_cases c : t 136 0 = 0
  · rw [if_pos c, if_pos c, tset_nv (by decide), tset_nv (by decide), tsr_nv (by decide), c]
  · rw [if_neg c, if_neg c, tset_eq]
theorem tRow_137 {t : Ts} {a n : Int} {R : Int → Int} : tRow t a n R 137 0 = if t 136 0 = 0 then 1 else t 137 0 := by
  unfold tRow
  by_cases c : t 136 0 = 0
  · rw [if_pos c, if_pos c, tset_eq]
  · rw [if_neg c, if_neg c, tset_nv (by decide), tset_nv (by decide), tsr_nv (by decide)]
theorem tRow_fb {t : Ts} {a n : Int} {R : Int → Int} (b : -1 ≤ t 136 0 ∧ t 136 0 ≤ 1000) : -1 ≤ tRow t a n R 136 0 ∧ tRow t a n R 136 0 ≤ 1000 := by
  rw [tRow_136]
  split
  · omega
  · split <;> omega
/-- what stays in a snapshot -/
theorem tSn_nv {th : Int → Int} {bs : Int → Int → Int} {m a g : Int} {t : Ts} {v j : Int} (n1 : v ≠ 129) (n2 : v ≠ 136) (n3 : v ≠ 137) : ∀ k : Nat, (tSn th bs m a g t k).1 v j = t v j := by
  intro k
  induction k with
  | zero => rfl
  | succ k ih =>
    unfold tSn
    split
    · show tRow _ _ _ _ v j = t v j
      rw [tRow_nv n1 n2 n3, ih]
    · exact ih
theorem tSn_r {th : Int → Int} {bs : Int → Int → Int} {m a g : Int} {t : Ts} (b : -1 ≤ t 136 0 ∧ t 136 0 ≤ 1000) (d : t 137 0 = 0) : ∀ k : Nat, (-1 ≤ (tSn th bs m a g t k).1 136 0 ∧ (tSn th bs m a g t k).1 136 0 ≤ 1000) ∧ ((tSn th bs m a g t k).2.2 = 1 → (tSn th bs m a g t k).1 137 0 = 0 ∧ (tSn th bs m a g t k).2.1 = sm (fun k => on1 (th k)) k) ∧ (0 ≤ (tSn th bs m a g t k).2.1 ∧ (tSn th bs m a g t k).2.1 ≤ k) ∧ ((tSn th bs m a g t k).2.2 = 0 ∨ (tSn th bs m a g t k).2.2 = 1) ∧ ((tSn th bs m a g t k).2.2 = 0 → (tSn th bs m a g t k).1 137 0 = 1) := by
  intro k
  induction k with
  | zero => exact ⟨b, fun _ => ⟨d, rfl⟩, ⟨Int.le_refl _, Int.le_refl _⟩, Or.inr rfl, fun q => absurd q (by show (1 : Int) ≠ 0; decide)⟩
  | succ k ih =>
    obtain ⟨i1, i2, i3, i4, i5⟩ := ih
    have es : sm (fun k => on1 (th k)) (k + 1) = sm (fun k => on1 (th k)) k + on1 (th k) := rfl
    unfold tSn
    by_cases c : (tSn th bs m a g t k).2.2 = 1 ∧ th k ≠ 0
    · rw [if_pos c]
      have j := i2 c.1
      refine ⟨tRow_fb i1, fun q => ?_, ?_, ?_, fun q => ?_⟩
      · show tRow _ _ _ _ 137 0 = 0 ∧ _
        have q' : (if (tSn th bs m a g t k).1 136 0 = 0 then (0 : Int) else 1) = 1 := q
        by_cases z : (tSn th bs m a g t k).1 136 0 = 0
        · rw [if_pos z] at q'; omega
        · rw [tRow_137, if_neg z, es]
          refine ⟨j.1, ?_⟩
          show (tSn th bs m a g t k).2.1 + 1 = _
          rw [j.2]
          unfold on1
          rw [if_neg c.2]
      · show 0 ≤ (tSn th bs m a g t k).2.1 + 1 ∧ (tSn th bs m a g t k).2.1 + 1 ≤ ((k + 1 : Nat) : Int)
        omega
      · show (if (tSn th bs m a g t k).1 136 0 = 0 then (0 : Int) else 1) = 0 ∨ (if (tSn th bs m a g t k).1 136 0 = 0 then (0 : Int) else 1) = 1
        split
        · exact Or.inl rfl
        · exact Or.inr rfl
      · have q' : (if (tSn th bs m a g t k).1 136 0 = 0 then (0 : Int) else 1) = 0 := q
        show tRow _ _ _ _ 137 0 = 1
        by_cases z : (tSn th bs m a g t k).1 136 0 = 0
        · rw [tRow_137, if_pos z]
        · rw [if_neg z] at q'; omega
    · rw [if_neg c]
      refine ⟨i1, fun q => ?_, ⟨i3.1, by omega⟩, i4, i5⟩
      have z : th k = 0 := by
        rcases Decidable.em (th k = 0) with y | y
        · exact y
        · exact absurd ⟨q, y⟩ c
      refine ⟨(i2 q).1, ?_⟩
      rw [es, (i2 q).2, z]
      show _ = _ + 0
      omega
theorem z_max2 (a b : Int) (K : Int → Prop) : wp_Math_max2 a b K = K (mx a b) := by
  unfold wp_Math_max2 mx
  rw [ia]
  by_cases c : a < b
  · rw [if_pos (lcmp_l.mpr c), if_pos c]
  · rw [if_neg (fun q => c (lcmp_l.mp q)), if_neg c]
/-- the head is made -/
theorem k_head {h : Hp} {g m : Int} (sh : Sh h) {K : Hp → Prop} (kk : ∀ h2 h1, onl 614 h h2 → onl 613 h2 h1 → (∀ i : Int, 0 ≤ i → i < 48 → rd h1 613 i = hdR m g i) → K h1) : wp_Store_head 70 g m h K := by
  have c28 : sc28 614 := ⟨by decide, by decide, fun i => (sc_614 (H := 0) (Q := 0) (L := 0)).1⟩
  unfold wp_Store_head wp_Store_head_2
  intro P hP
  refine up_ind (P := P) 28 (fun j h' => 0 ≤ j ∧ h' = upr h 614 0 j (fun _ => 0)) (fun j h' j1 I next => ?_) (fun h' I => ?_) 0 h (by decide) ⟨by decide, (upr_nil (by omega)).symm⟩
  · obtain ⟨j0, e⟩ := I
    have o' : onl 614 h h' := by rw [e]; exact (onl.rf 614 h).upr (by decide)
    apply hP
    rw [o'.rd (show (70 : Int) ≠ 614 by decide), p_7_8 sh, o'.ln, l_12 sh]
    refine ⟨fun q => absurd q (by omega), fun _ => ⟨by decide, by omega, ?_⟩⟩
    rintro _ rfl _ rfl
    rw [w32_id (by omega) (by omega)]
    refine next _ ⟨by omega, ?_⟩
    rw [e, show w8 0 = 0 by decide, upr_up (f := fun _ => 0) (by omega) rfl]
  · obtain ⟨_, e⟩ := I
    have o' : onl 614 h h' := by rw [e]; exact (onl.rf 614 h).upr (by decide)
    have c' : cel 614 h' z0 := fun i i0 i1 => by rw [e, rd_upr_in i0 i1]; rfl
    refine hP _ _ ⟨fun _ => ?_, fun q => absurd (by decide) q⟩
    rw [o'.rd (show (70 : Int) ≠ 614 by decide), p_7_8 sh]
    refine cs_set o' c' (by decide) (l_12 sh) (by decide) (by decide) (by decide) (by decide) (fun h2 o2 c2 => ?_)
    have s2 := o2.sh sh c28
    rw [p_7_8 s2]
    refine k_make s2 (by decide) (by decide) (l_12 s2) (fun h3 o3 c3 => kk h2 h3 o2 o3 (fun i i0 i1 => ?_))
    rw [c3 i i0 i1]
    unfold hdR rwb
    have eq0 : ∀ j : Int, 0 ≤ j → j < 44 → rb0 0 0 1 0 g (rd h2 614) j = rb0 0 0 1 0 g (pcs z0 0 4 m) j := by
      intro j j0 j1
      unfold rb0
      by_cases q : 12 ≤ j ∧ j < 40
      · rw [c2 (j - 12) (by omega) (by omega)]
      · repeat' split
        all_goals first | rfl | omega
    rw [crc_cg eq0]
    by_cases q : i < 44
    · rw [if_pos q, if_pos q]
      exact eq0 i i0 q
    · rw [if_neg q, if_neg q]
theorem rwb_cg {kd ix la nu ge : Int} {f f2 : Int → Int} (e : ∀ i : Int, 0 ≤ i → i < 28 → f i = f2 i) {i : Int} (i0 : 0 ≤ i) (i1 : i < 48) : rwb kd ix la nu ge f i = rwb kd ix la nu ge f2 i := by
  have eq0 : ∀ j : Int, 0 ≤ j → j < 44 → rb0 kd ix la nu ge f j = rb0 kd ix la nu ge f2 j := by
    intro j j0 j1
    unfold rb0
    by_cases q : 12 ≤ j ∧ j < 40
    · rw [e (j - 12) (by omega) (by omega)]
    · repeat' split
      all_goals first | rfl | omega
  unfold rwb
  rw [crc_cg eq0]
  by_cases q : i < 44
  · rw [if_pos q, if_pos q]
    exact eq0 i i0 q
  · rw [if_neg q, if_neg q]
theorem tRow_cg {t : Ts} {a n : Int} {R R2 : Int → Int} (e : ∀ i : Int, 0 ≤ i → i < 48 → R i = R2 i) : tRow t a n R = tRow t a n R2 := by
  unfold tRow
  have k : ∀ m : Int, m ≤ 48 → tsr t 129 (9600 * a + 48 * n) (9600 * a + 48 * n + m) (fun k => R (k - (9600 * a + 48 * n))) = tsr t 129 (9600 * a + 48 * n) (9600 * a + 48 * n + m) (fun k => R2 (k - (9600 * a + 48 * n))) := by
    intro m hm
    funext u j
    unfold tsr
    by_cases c : u = 129 ∧ 9600 * a + 48 * n ≤ j ∧ j < 9600 * a + 48 * n + m
    · rw [if_pos c, if_pos c]
      exact e _ (by omega) (by omega)
    · rw [if_neg c, if_neg c]
  rw [k 24 (by decide), k 48 (by decide)]
/-- a snapshot of keys X, in use or spare -/
theorem k_snap {H Q L : Int} {h : Hp} {t : Ts} {n X : Int} {th : Int → Int} {bs : Int → Int → Int} (r : RK H Q L h t) (d : t 137 0 = 0) (g : Bd n t) (gf : frF t < 2147483648) (hX : is_k X)
    (cn' : ∀ K : Int → Prop, K (si (fun k => on1 (th k)) 135) → wp_Keys_many X h K)
    (ht : ∀ k : Int, 0 ≤ k → k < 135 → rd h (X + 1) k = th k) (hb : ∀ k i : Int, 0 ≤ k → k < 135 → th k ≠ 0 → 0 ≤ i → i < 28 → rd h (X + (3 + k)) i = bs k i) {K : Int → Hp → Prop}
    (kk : ∀ h1, RK H Q L h1 (tSnE th bs (si (fun k => on1 (th k)) 135) (1 - t 133 0) (frF t) t).1 → frX H Q L h h1 → (∀ c i : Int, X ≤ c → c < X + 139 → rd h1 c i = rd h c i) → K (tSnE th bs (si (fun k => on1 (th k)) 135) (1 - t 133 0) (frF t) t).2 h1) : wp_Store_snapshot 70 X h K := by
  have sh := r.1
  have hh := r.2.1.1
  have hq := r.2.1.2.1
  have hXn : X = 474 ∨ X = 1168 := hX
  have b3 := b_133 g
  have b4 := b_134 g
  have b6 := b_136 g
  have gn := g.1
  have e133 : rd h 70 2 = t 133 0 := r.2.2.get e_7_133 (act_al (by unfold alw; omega) (by unfold pln; omega))
  have e134 : rd h 70 3 = t 134 0 := r.2.2.get e_7_134 (act_al (by unfold alw; omega) (by unfold pln; omega))
  have dk : ∀ a x i : Int, 0 ≤ a → a < 2 → 0 ≤ x → x < 200 → 0 ≤ i → i < 48 → rd h (73 + 201 * a + x) i = t 129 (9600 * a + 48 * x + i) := fun a x i a0 a1 x0 x1 i0 i1 => by
    have w := r.2.2.get (e_10_129 (H := H) (Q := Q) a0 a1 x0 x1 i0 i1) (act_al (by unfold alw; omega) (by unfold pln; omega))
    rw [w]
    exact congrArg (t 129) (by omega)
  unfold wp_Store_snapshot
  refine ⟨by omega, cn' _ ?_⟩
  generalize eM : si (fun k => on1 (th k)) 135 = M at *
  have Mr : 0 ≤ M ∧ M ≤ 135 := by rw [← eM]; exact si_b (fun _ => on1_r _) 135
  rw [e133, w32_id (x := 1 - t 133 0) (by omega) (by omega), e134]
  rintro _ rfl
  generalize eA : 1 - t 133 0 = A at *
  have A0 : 0 ≤ A := by omega
  have A1 : A < 2 := by omega
  rw [p_7_0 sh, l_8 sh, p_8 A0 A1 sh, l_9 A0 A1 sh, p_9 A0 A1 (by decide) (by decide) sh, p_9 A0 A1 (by decide) (by decide) sh]
  have bv : ∀ x i : Int, 0 ≤ x → x < 2 → 0 ≤ i → i < 4 → -128 ≤ rd h (73 + 201 * A + x) (8 + i) ∧ rd h (73 + 201 * A + x) (8 + i) ≤ 127 := fun x i x0 x1 i0 i1 => by
    rw [dk A x (8 + i) A0 A1 x0 (by omega) (by omega) (by omega)]
    exact b_129 g (by omega) (by omega)
  have gg : ∀ x : Int, 0 ≤ x → x < 2 → hn (fun i => rd h (73 + 201 * A + x) (8 + i)) 3 (rd h (73 + 201 * A + x) (8 + 3)) = gF t A x := fun x x0 x1 => by
    have w := (hn_4 (f := fun i => rd h (73 + 201 * A + x) (8 + i)) (bv x 3 x0 x1 (by decide) (by decide))).1
    refine w.trans ?_
    unfold gF g4
    show rd h (73 + 201 * A + x) (8 + 3) * 16777216 + rd h (73 + 201 * A + x) (8 + 2) % 256 * 65536 + rd h (73 + 201 * A + x) (8 + 1) % 256 * 256 + rd h (73 + 201 * A + x) (8 + 0) % 256 = _
    rw [dk A x (8 + 3) A0 A1 x0 (by omega) (by omega) (by omega), dk A x (8 + 2) A0 A1 x0 (by omega) (by omega) (by omega), dk A x (8 + 1) A0 A1 x0 (by omega) (by omega) (by omega), dk A x (8 + 0) A0 A1 x0 (by omega) (by omega) (by omega)]
    simp only [← Int.add_assoc]
  have gr : ∀ x : Int, 0 ≤ x → x < 2 → r32 (gF t A x) := fun x x0 x1 => g4_r (b_129 g (by omega) (by omega))
  refine ⟨by decide, by omega, by omega, by decide, z_get (by omega) (by decide) (by decide) (by decide) (by decide) (by rw [l_10 A0 A1 (by decide) (by decide) sh]; decide) (fun i i0 i1 => bv 0 i (by decide) (by decide) i0 i1) ?_⟩
  show _ ∧ _
  refine ⟨by omega, by decide, z_get (by omega) (by decide) (by decide) (by decide) (by decide) (by rw [l_10 A0 A1 (by decide) (by decide) sh]; decide) (fun i i0 i1 => bv 1 i (by decide) (by decide) i0 i1) ?_⟩
  rw [z_max2, z_max2]
  have g0 := gr 0 (by decide) (by decide)
  have g1 := gr 1 (by decide) (by decide)
  unfold r32 at g0 g1
  have eg : w32 (1 + w32 (mx (t 134 0) (mx (hn (fun i => rd h (73 + 201 * A + 0) (8 + i)) (4 - 1 : Int).toNat (rd h (73 + 201 * A + 0) (8 + (4 - 1)))) (hn (fun i => rd h (73 + 201 * A + 1) (8 + i)) (4 - 1 : Int).toNat (rd h (73 + 201 * A + 1) (8 + (4 - 1))))))) = w32 (frF t) := by
    have q0 := gg 0 (by decide) (by decide)
    have q1 := gg 1 (by decide) (by decide)
    show w32 (1 + w32 (mx (t 134 0) (mx (hn (fun i => rd h (73 + 201 * A + 0) (8 + i)) 3 (rd h (73 + 201 * A + 0) (8 + 3))) (hn (fun i => rd h (73 + 201 * A + 1) (8 + i)) 3 (rd h (73 + 201 * A + 1) (8 + 3)))))) = _
    rw [q0, q1]
    unfold frF
    rw [eA]
    have em : mx (t 134 0) (mx (gF t A 0) (gF t A 1)) = mx (mx (t 134 0) (gF t A 0)) (gF t A 1) := by
      unfold mx
      repeat' split
      all_goals omega
    rw [em]
    have rr : r32 (mx (mx (t 134 0) (gF t A 0)) (gF t A 1)) := by
      unfold mx r32
      repeat' split
      all_goals omega
    rw [w32_of rr]
  rw [eg]
  have f0 : 1 ≤ frF t := by
    have : t 134 0 ≤ mx (mx (t 134 0) (gF t (1 - t 133 0) 0)) (gF t (1 - t 133 0) 1) := by
      unfold mx
      repeat' split
      all_goals omega
    unfold frF
    omega
  rintro _ rfl
  rw [w32_id (x := frF t) (by omega) (by omega)]
  generalize frF t = G at *
  clear eg gg gr g0 g1
  unfold wp_Store_snapshot_62
  intro P hP
  have sr := tSn_r (th := th) (bs := bs) (m := M) (a := A) (g := G) (t := t) b6 d
  refine up_ind (P := fun k (p : Int × Hp) => P p.1 k p.2) 135 (fun k p => 0 ≤ k ∧ (tSn th bs M A G t k.toNat).2.2 = 1 ∧ p.1 = (tSn th bs M A G t k.toNat).2.1 ∧ RK H Q L p.2 (tSn th bs M A G t k.toNat).1 ∧ frX H Q L h p.2 ∧ ∀ c i : Int, X ≤ c → c < X + 139 → rd p.2 c i = rd h c i) (fun k p k1 I next => ?_) (fun p I => ?_) 0 (0, h) (by decide) ⟨by decide, rfl, rfl, r, frX.rf h, fun _ _ _ _ => rfl⟩
  · obtain ⟨n', h'⟩ := p
    obtain ⟨k0, i1, i2, r', f', x'⟩ := I
    simp only at i1 i2 r' f' x' ⊢
    have sh' := r'.1
    have ts := tSn_s (th := th) (bs := bs) (m := M) (a := A) (g := G) (t := t) k0
    have sk := sr k.toNat
    apply hP
    rw [p_65_0 hX sh', l_66 hX sh', x' (X + 1) k (by omega) (by omega), ht k k0 k1]
    refine ⟨fun q => absurd q (by omega), fun _ => ⟨by omega, by omega, by omega, fun q => ?_, fun q => ?_⟩⟩
    · rintro _ rfl
      rw [w32_id (by omega) (by omega)]
      rw [if_neg (fun z => z.2 q)] at ts
      exact next (n', h') ⟨by omega, by rw [ts]; exact i1, by rw [ts]; exact i2, by rw [ts]; exact r', f', x'⟩
    · rw [if_pos ⟨i1, q⟩] at ts
      rintro _ rfl
      rw [w32_id (x := n' + 1) (by omega) (by omega)]
      refine z_kindOf sh' k0 k1 (z_indexOf sh' k0 k1 ?_)
      have go : ∀ la : Int, la = bi (n' + 1 = M) → wp_Store_snapshot_105 P K 70 X M A (n' + 1) G k la (ixF k) (kdF k) 70 h' := by
        intro la el
        unfold wp_Store_snapshot_105
        rw [p_65_1 hX sh', l_67 hX sh', p_67 hX k0 k1 sh']
        refine ⟨by omega, by omega, by omega, by decide, k_make sh' (by omega) (by omega) (l_68 hX k0 k1 sh') (fun h4 o4 c4 => ?_)⟩
        have r4 := r'.sc o4 (by decide) (fun i _ => sc_613)
        have f4 : frX H Q L h h4 := f'.tr (frX.sc o4 (by decide) (by decide) (fun i _ => by rw [(sc_613 (H := H) (Q := Q) (L := L) (i := i)).2]; decide))
        have x4 : ∀ c i : Int, X ≤ c → c < X + 139 → rd h4 c i = rd h c i := fun c i c0 c1 => (o4.rd (by omega)).trans (x' c i c0 c1)
        refine k_write (R := rwb (kdF k) (ixF k) la (n' + 1) G (bs k)) r4 (sk.2.1 i1).1 sk.1 A0 A1 (by omega) (by omega) (fun i i0 i1 => ?_) (fun h5 r5 f5 o5 => ?_)
        · rw [c4 i i0 i1]
          exact rwb_cg (fun j j0 j1 => (x' _ j (by omega) (by omega)).trans (hb k j k0 k1 q j0 j1)) i0 i1
        · have x5 : ∀ c i : Int, X ≤ c → c < X + 139 → rd h5 c i = rd h c i := fun c i c0 c1 => (o5 c i (by omega) (by omega)).trans (x4 c i c0 c1)
          rw [el, i2] at r5
          have fx := f4.tr f5
          by_cases z : (tSn th bs M A G t k.toNat).1 136 0 = 0
          · rw [if_pos z]
            rw [if_pos z] at ts
            refine ⟨fun y => absurd rfl y, fun _ => ?_⟩
            have cut := tSn_cut (th := th) (bs := bs) (m := M) (a := A) (g := G) (t := t) (134 - k).toNat (k + 1).toNat (by rw [ts]; show (0 : Int) ≠ 1; decide)
            rw [show (k + 1).toNat + (134 - k).toNat = 135 by omega, ts] at cut
            have eE : tSnE th bs M A G t = (tRow (tSn th bs M A G t k.toNat).1 A ((tSn th bs M A G t k.toNat).2.1 + 1) (rwb (kdF k) (ixF k) (bi ((tSn th bs M A G t k.toNat).2.1 + 1 = M)) ((tSn th bs M A G t k.toNat).2.1 + 1) G (bs k)), 0) := by
              unfold tSnE
              rw [cut]
              exact if_neg (show ¬ (0 : Int) = 1 by decide)
            rw [eE] at kk
            exact kk h5 r5 fx x5
          · rw [if_neg z]
            rw [if_neg z] at ts
            refine ⟨fun _ => ?_, fun y => absurd (by decide) y⟩
            rintro _ rfl
            rw [w32_id (by omega) (by omega)]
            exact next (n' + 1, h5) ⟨by omega, by rw [ts], by rw [ts, i2], by rw [ts]; exact r5, fx, x5⟩
      refine ⟨fun q2 => go 0 (bi_f q2).symm, fun q2 => go 1 (bi_t (by omega)).symm⟩
  · obtain ⟨n', h'⟩ := p
    obtain ⟨k0, i1, i2, r', f', x'⟩ := I
    have e135 : (135 : Int).toNat = 135 := rfl
    rw [e135] at i1 i2 r'
    have sk := sr 135
    unfold tSnE at kk
    clear sr
    generalize tSn th bs M A G t 135 = T at *
    have i1' : T.2.2 = 1 := i1
    have r1' : RK H Q L h' T.1 := r'
    apply hP
    refine ⟨fun _ => ?_, fun q => absurd (by decide) q⟩
    show wp_Store_head 70 G M h' _
    refine k_head r1'.1 (fun h2 h3 o2 o3 c3 => ?_)
    have r2 := r1'.sc o2 (by decide) (fun i _ => sc_614)
    have r3 := r2.sc o3 (by decide) (fun i _ => sc_613)
    have f3 : frX H Q L h h3 := (f'.tr (frX.sc o2 (by decide) (by decide) (fun i _ => by rw [(sc_614 (H := H) (Q := Q) (L := L) (i := i)).2]; decide))).tr (frX.sc o3 (by decide) (by decide) (fun i _ => by rw [(sc_613 (H := H) (Q := Q) (L := L) (i := i)).2]; decide))
    have x3 : ∀ c i : Int, X ≤ c → c < X + 139 → rd h3 c i = rd h c i := fun c i c0 c1 => ((o3.rd (by omega)).trans (o2.rd (by omega))).trans (x' c i c0 c1)
    refine k_write (R := hdR M G) r3 (sk.2.1 i1').1 sk.1 A0 A1 (by decide) (by decide) c3 (fun h5 r5 f5 o5 => ?_)
    have x5 : ∀ c i : Int, X ≤ c → c < X + 139 → rd h5 c i = rd h c i := fun c i c0 c1 => (o5 c i (by omega) (by omega)).trans (x3 c i c0 c1)
    have fx := f3.tr f5
    rw [if_pos i1'] at kk
    by_cases z : T.1 136 0 = 0
    · rw [if_pos z] at kk ⊢
      exact ⟨fun y => absurd rfl y, fun _ => kk h5 r5 fx x5⟩
    · rw [if_neg z] at kk ⊢
      refine ⟨fun _ => ?_, fun y => absurd (by decide) y⟩
      rintro _ rfl _ rfl _ rfl
      rw [w32_id (by omega) (by omega)]
      refine kk _ (((r5.put e_7_133 (by unfold ctl; omega)).put e_7_134 (by unfold ctl; omega)).put e_7_135 (by unfold ctl; omega)) (((fx.put hh hq e_7_133).put hh hq e_7_134).put hh hq e_7_135) (fun c i c0 c1 => ?_)
      rw [rd_up_ne (by omega), rd_up_ne (by omega), rd_up_ne (by omega)]
      exact x5 c i c0 c1
