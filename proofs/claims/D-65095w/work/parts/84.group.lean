/-! GROUPS OF KEYS -/
def tKey (t : Ts) (k : Int) (f : Int → Int) : Ts := tsr (tset t 130 k 1) 131 (28 * k) (28 * k + 28) (fun j => f (j - 28 * k))
def grR (m : Int) (t : Ts) (k c : Int) : Int → Int := rwb (kdF k) (ixF k) (bi (c + 1 = m)) (t 135 0 + c) (t 134 0) (kb t k)
def tGr (w : Int → Int) (m : Int) (t : Ts) : Nat → Ts × Int × Int
  | 0 => (t, 0, 1)
  | k + 1 =>
    if (tGr w m t k).2.2 = 1 ∧ w k ≠ 0 then
      (if (tGr w m t k).1 136 0 = 0 then (tRow (tGr w m t k).1 (t 133 0) (t 135 0 + (tGr w m t k).2.1) (grR m t k (tGr w m t k).2.1), (tGr w m t k).2.1 + 1, 0)
       else (tKey (tRow (tGr w m t k).1 (t 133 0) (t 135 0 + (tGr w m t k).2.1) (grR m t k (tGr w m t k).2.1)) k (kb t k), (tGr w m t k).2.1 + 1, 1))
    else tGr w m t k
theorem tGr_s {w : Int → Int} {m : Int} {t : Ts} {k : Int} (k0 : 0 ≤ k) : tGr w m t (k + 1).toNat = if (tGr w m t k.toNat).2.2 = 1 ∧ w k ≠ 0 then (if (tGr w m t k.toNat).1 136 0 = 0 then (tRow (tGr w m t k.toNat).1 (t 133 0) (t 135 0 + (tGr w m t k.toNat).2.1) (grR m t k (tGr w m t k.toNat).2.1), (tGr w m t k.toNat).2.1 + 1, 0) else (tKey (tRow (tGr w m t k.toNat).1 (t 133 0) (t 135 0 + (tGr w m t k.toNat).2.1) (grR m t k (tGr w m t k.toNat).2.1)) k (kb t k), (tGr w m t k.toNat).2.1 + 1, 1)) else tGr w m t k.toNat := by
  have e2 : ((k.toNat : Nat) : Int) = k := by omega
  rw [show (k + 1).toNat = k.toNat + 1 by omega]
  show (if (tGr w m t k.toNat).2.2 = 1 ∧ w ((k.toNat : Nat) : Int) ≠ 0 then (if (tGr w m t k.toNat).1 136 0 = 0 then (tRow (tGr w m t k.toNat).1 (t 133 0) (t 135 0 + (tGr w m t k.toNat).2.1) (grR m t ((k.toNat : Nat) : Int) (tGr w m t k.toNat).2.1), (tGr w m t k.toNat).2.1 + 1, 0) else (tKey (tRow (tGr w m t k.toNat).1 (t 133 0) (t 135 0 + (tGr w m t k.toNat).2.1) (grR m t ((k.toNat : Nat) : Int) (tGr w m t k.toNat).2.1)) ((k.toNat : Nat) : Int) (kb t ((k.toNat : Nat) : Int)), (tGr w m t k.toNat).2.1 + 1, 1)) else tGr w m t k.toNat) = _
  rw [e2]
theorem tGr_cut {w : Int → Int} {m : Int} {t : Ts} : ∀ (j k : Nat), (tGr w m t k).2.2 ≠ 1 → tGr w m t (k + j) = tGr w m t k := by
  intro j
  induction j with
  | zero => intro k _; rfl
  | succ j ih =>
    intro k n
    have e := ih k n
    show (if (tGr w m t (k + j)).2.2 = 1 ∧ _ then _ else tGr w m t (k + j)) = _
    rw [if_neg (fun z => by rw [e] at z; exact n z.1), e]
theorem tGr_skip {w : Int → Int} {m : Int} {t : Ts} (k : Nat) : ∀ j : Nat, (∀ i : Int, k ≤ i → i < k + j → w i = 0) → tGr w m t (k + j) = tGr w m t k := by
  intro j
  induction j with
  | zero => intro _; rfl
  | succ j ih =>
    intro e
    have h1 := ih (fun i a b => e i a (by omega))
    have h2 := e ((k + j : Nat) : Int) (by omega) (by omega)
    show (if (tGr w m t (k + j)).2.2 = 1 ∧ w ((k + j : Nat) : Int) ≠ 0 then _ else tGr w m t (k + j)) = _
    rw [if_neg (fun z => z.2 h2), h1]
theorem tKey_nv {t : Ts} {k v j : Int} {f : Int → Int} (n1 : v ≠ 130) (n2 : v ≠ 131) : tKey t k f v j = t v j := by unfold tKey; rw [tsr_nv n2, tset_nv n1]
theorem tGr_nv {w : Int → Int} {m : Int} {t : Ts} {v j : Int} (n : v ≠ 129 ∧ v ≠ 130 ∧ v ≠ 131 ∧ v ≠ 136 ∧ v ≠ 137) : ∀ k : Nat, (tGr w m t k).1 v j = t v j := by
  intro k
  induction k with
  | zero => rfl
  | succ k ih =>
    unfold tGr
    split
    · split
      · show tRow _ _ _ _ v j = t v j
        rw [tRow_nv n.1 n.2.2.2.1 n.2.2.2.2, ih]
      · show tKey _ _ _ v j = t v j
        rw [tKey_nv n.2.1 n.2.2.1, tRow_nv n.1 n.2.2.2.1 n.2.2.2.2, ih]
    · exact ih
theorem tGr_r {w : Int → Int} {m : Int} {t : Ts} (b : -1 ≤ t 136 0 ∧ t 136 0 ≤ 1000) (d : t 137 0 = 0) : ∀ k : Nat, (-1 ≤ (tGr w m t k).1 136 0 ∧ (tGr w m t k).1 136 0 ≤ 1000) ∧ ((tGr w m t k).2.2 = 1 → (tGr w m t k).1 137 0 = 0 ∧ (tGr w m t k).2.1 = sm (fun k => on1 (w k)) k) ∧ (0 ≤ (tGr w m t k).2.1 ∧ (tGr w m t k).2.1 ≤ k) ∧ ((tGr w m t k).2.2 = 0 ∨ (tGr w m t k).2.2 = 1) ∧ ((tGr w m t k).2.2 = 0 → (tGr w m t k).1 137 0 = 1) := by
  intro k
  induction k with
  | zero => exact ⟨b, fun _ => ⟨d, rfl⟩, ⟨Int.le_refl _, Int.le_refl _⟩, Or.inr rfl, fun q => absurd q (by show (1 : Int) ≠ 0; decide)⟩
  | succ k ih =>
    obtain ⟨i1, i2, i3, i4, i5⟩ := ih
    have es : sm (fun k => on1 (w k)) (k + 1) = sm (fun k => on1 (w k)) k + on1 (w k) := rfl
    unfold tGr
    by_cases c : (tGr w m t k).2.2 = 1 ∧ w k ≠ 0
    · rw [if_pos c]
      have j := i2 c.1
      have i3' : 0 ≤ (tGr w m t k).2.1 + 1 ∧ (tGr w m t k).2.1 + 1 ≤ ((k + 1 : Nat) : Int) := by omega
      by_cases z : (tGr w m t k).1 136 0 = 0
      · rw [if_pos z]
        exact ⟨tRow_fb i1, fun q => absurd q (by show (0 : Int) ≠ 1; decide), i3', Or.inl rfl, fun _ => by show tRow _ _ _ _ 137 0 = 1; rw [tRow_137, if_pos z]⟩
      · rw [if_neg z]
        refine ⟨?_, fun q => ⟨?_, ?_⟩, i3', Or.inr rfl, fun q => absurd q (by show (1 : Int) ≠ 0; decide)⟩
        · have e : tKey (tRow (tGr w m t k).1 (t 133 0) (t 135 0 + (tGr w m t k).2.1) (grR m t k (tGr w m t k).2.1)) k (kb t k) 136 0 = tRow (tGr w m t k).1 (t 133 0) (t 135 0 + (tGr w m t k).2.1) (grR m t k (tGr w m t k).2.1) 136 0 := tKey_nv (by decide) (by decide)
          simp only [e]
          exact tRow_fb i1
        · have e : tKey (tRow (tGr w m t k).1 (t 133 0) (t 135 0 + (tGr w m t k).2.1) (grR m t k (tGr w m t k).2.1)) k (kb t k) 137 0 = tRow (tGr w m t k).1 (t 133 0) (t 135 0 + (tGr w m t k).2.1) (grR m t k (tGr w m t k).2.1) 137 0 := tKey_nv (by decide) (by decide)
          simp only [e]
          rw [tRow_137, if_neg z]
          exact j.1
        · show (tGr w m t k).2.1 + 1 = _
          rw [es, j.2]
          unfold on1
          rw [if_neg c.2]
    · rw [if_neg c]
      refine ⟨i1, fun q => ?_, ⟨i3.1, by omega⟩, i4, i5⟩
      have z : w k = 0 := by
        rcases Decidable.em (w k = 0) with y | y
        · exact y
        · exact absurd ⟨q, y⟩ c
      refine ⟨(i2 q).1, ?_⟩
      rw [es, (i2 q).2, z]
      show _ = _ + 0
      omega
theorem kb_cg {t t2 : Ts} (e : ∀ v j : Int, v ≤ 125 → t2 v j = t v j) (k : Int) : kb t2 k = kb t k := by
  have f : ∀ v : Int, v ≤ 125 → t2 v = t v := fun v h => funext (fun j => e v j h)
  unfold kb kbx kb8 kb9 kb10 kb11 kb12 kb13 kb14 kb15
  simp only [f 3 (by decide), f 5 (by decide), f 16 (by decide), f 17 (by decide), f 18 (by decide), f 19 (by decide), f 20 (by decide), f 21 (by decide), f 22 (by decide), f 23 (by decide), f 26 (by decide), f 27 (by decide), f 2 (by decide), f 75 (by decide), f 76 (by decide), f 77 (by decide), f 80 (by decide), f 81 (by decide), f 82 (by decide), f 83 (by decide), f 84 (by decide), f 85 (by decide), f 100 (by decide), f 101 (by decide), f 102 (by decide), f 104 (by decide), f 105 (by decide), f 107 (by decide), f 108 (by decide), f 109 (by decide), f 110 (by decide), f 117 (by decide), f 118 (by decide), f 119 (by decide), f 120 (by decide), f 121 (by decide), f 122 (by decide), f 123 (by decide), f 124 (by decide), f 125 (by decide)]
theorem pcs_b {f : Int → Int} {a n v : Int} (b : ∀ i : Int, 0 ≤ i → i < 28 → -128 ≤ f i ∧ f i ≤ 127) : ∀ i : Int, 0 ≤ i → i < 28 → -128 ≤ pcs f a n v i ∧ pcs f a n v i ≤ 127 := by
  intro i i0 i1
  unfold pcs
  split
  · unfold byt w8; omega
  · exact b i i0 i1
theorem z0_b : ∀ i : Int, 0 ≤ i → i < 28 → -128 ≤ z0 i ∧ z0 i ≤ 127 := fun i _ _ => by show -128 ≤ (0 : Int) ∧ (0 : Int) ≤ 127; decide
theorem pN_b {st w : Int} {g : Int → Int} : ∀ n : Nat, ∀ i : Int, 0 ≤ i → i < 28 → -128 ≤ pN st w g n i ∧ pN st w g n i ≤ 127 := by
  intro n
  induction n with
  | zero => exact z0_b
  | succ n ih => exact pcs_b ih
theorem oA_b {p s : Int} {f : Int → Int} : ∀ (n : Nat) (i : Int), -128 ≤ oA p s f n i ∧ oA p s f n i ≤ 127 := by
  intro n
  induction n with
  | zero => intro i; show -128 ≤ (0 : Int) ∧ (0 : Int) ≤ 127; decide
  | succ n ih =>
    intro i
    unfold oA
    split
    · unfold w8; omega
    · exact ih i
theorem kb_b {n : Int} {t : Ts} {k : Int} (g : Bd n t) (k0 : 0 ≤ k) (k1 : k < 135) : ∀ i : Int, 0 ≤ i → i < 28 → -128 ≤ kb t k i ∧ kb t k i ≤ 127 := by
  have hr := kd_r k0 k1
  have hi := ix_r k0 k1
  unfold kb kbx
  generalize kdF k = kd at *
  generalize ixF k = x at *
  rcases n15 hr.1.1 hr.1.2 with rfl | rfl | rfl | rfl | rfl | rfl | rfl | rfl | rfl | rfl | rfl | rfl | rfl | rfl | rfl
  · intro i _ _; exact oA_b 110 i
  · intro i _ _; exact oA_b 48 i
  · intro i i0 i1
    have cx : cnt 3 = 10 := by decide
    show -128 ≤ (if i < 24 then t 16 (24 * x + i) else 0) ∧ (if i < 24 then t 16 (24 * x + i) else 0) ≤ 127
    by_cases c : i < 24
    · have b := b_16 g (i := 24 * x + i) (by omega) (by omega)
      rw [if_pos c]; omega
    · rw [if_neg c]; omega
  · intro i i0 i1; exact pN_b 12 i i0 i1
  · intro i i0 i1
    show -128 ≤ (if i < 24 then w8 (t 18 (24 * x + i)) else 0) ∧ (if i < 24 then w8 (t 18 (24 * x + i)) else 0) ≤ 127
    split
    · unfold w8; omega
    · omega
  · intro i i0 i1
    have cx : cnt 6 = 8 := by decide
    show -128 ≤ (if x < 7 then (fun i => t 26 (28 * x + i)) else (fun i => if i = 0 then w8 (t 27 0) else 0)) i ∧ (if x < 7 then (fun i => t 26 (28 * x + i)) else (fun i => if i = 0 then w8 (t 27 0) else 0)) i ≤ 127
    by_cases c : x < 7
    · rw [if_pos c]
      have b := b_26 g (i := 28 * x + i) (by omega) (by omega)
      show -128 ≤ t 26 (28 * x + i) ∧ t 26 (28 * x + i) ≤ 127
      omega
    · rw [if_neg c]
      show -128 ≤ (if i = 0 then w8 (t 27 0) else 0) ∧ (if i = 0 then w8 (t 27 0) else 0) ≤ 127
      split
      · unfold w8; omega
      · omega
  · intro i i0 i1
    show -128 ≤ (if x = 0 then pN 2 2 (t 19) 11 else pN 1 1 (t 20) 11) i ∧ (if x = 0 then pN 2 2 (t 19) 11 else pN 1 1 (t 20) 11) i ≤ 127
    by_cases c : x = 0
    · rw [if_pos c]; exact pN_b 11 i i0 i1
    · rw [if_neg c]; exact pN_b 11 i i0 i1
  · exact pcs_b (pcs_b (pcs_b (pcs_b (pcs_b z0_b))))
  · exact pcs_b (pcs_b (pcs_b (pcs_b (pcs_b z0_b))))
  · exact pcs_b (pcs_b (pcs_b (pcs_b (pcs_b (pcs_b z0_b)))))
  · exact pcs_b (pcs_b (pcs_b (pcs_b z0_b)))
  · show ∀ i : Int, 0 ≤ i → i < 28 → -128 ≤ kb12 t x i ∧ kb12 t x i ≤ 127
    unfold kb12
    by_cases c : t 80 x = 0
    · rw [if_pos c]; exact z0_b
    · rw [if_neg c]; exact pcs_b (pcs_b (pcs_b (pcs_b (pcs_b (pcs_b z0_b)))))
  · exact pcs_b (pcs_b (pcs_b z0_b))
  · exact pcs_b (pcs_b (pcs_b (pcs_b (pcs_b z0_b))))
  · exact pcs_b (pcs_b (pcs_b z0_b))
theorem TickC.fx {H Q L : Int} {h h1 : Hp} {t t1 : Ts} (hh : is_h H) (s2 : TickC H h t) (f : frX H Q L h h1) (e : ∀ v j : Int, v ≤ 125 → t1 v j = t v j) : TickC H h1 t1 := by
  have r : ∀ k : Int, rd h1 (H + 37) k = rd h (H + 37) k := fun k => f.2.1 _ _ (sp_37 hh)
  have nn := f.1.nx
  refine ⟨fun k k0 k1 => ?_, fun k l k0 kl l1 => ?_⟩
  · rw [r k, e 80 k (by decide), e 85 k (by decide), e 81 k (by decide), e 82 k (by decide), e 83 k (by decide), e 84 k (by decide), e 86 k (by decide)]
    rcases s2.1 k k0 k1 with z | ⟨z1, z2, z3, z4, z5, z6, z7, z8⟩
    · exact Or.inl z
    · have d1 := z2.1
      have y : ∀ i : Int, rd h1 (rd h (H + 37) k) i = rd h (rd h (H + 37) k) i := fun i => f.1.2 _ _ (by omega)
      exact Or.inr ⟨z1, ⟨z2.1, by rw [nn]; exact z2.2.1, (f.1.2 _ (-1) (by omega)).trans z2.2.2⟩, (y _).trans z3, (y _).trans z4, (y _).trans z5, (y _).trans z6, (y _).trans z7, (y _).trans z8⟩
  · rw [r k, r l]
    exact s2.2 k l k0 kl l1
/-- when it is down the count is nothing -/
theorem RK.dn135 {H Q L : Int} {h : Hp} {t : Ts} {x : Int} (r : RK H Q L h (tset t 135 0 x)) (d : t 137 0 ≠ 0) : RK H Q L h t := by
  refine ⟨r.1, r.2.1, fun v j j0 j1 ka => ?_⟩
  by_cases c : v = 135
  · exfalso
    rcases ka.1 with y | y
    · rw [c] at y; unfold alw at y; omega
    · exact d y
  · have w := r.2.2 v j j0 j1 ((act_cg (t := t) (t2 := tset t 135 0 x) (fun u k hu => tset_nv (fun q => by rw [q] at hu; unfold ctl at hu; omega))).mpr ka)
    rw [w, tset_nv c]
theorem tRow_set {t : Ts} {a n x : Int} {R : Int → Int} : tRow (tset t 135 0 x) a n R = tset (tRow t a n R) 135 0 x := by
  have c1 : ∀ (b m : Int), tsr (tset t 135 0 x) 129 b m (fun k => R (k - b)) = tset (tsr t 129 b m (fun k => R (k - b))) 135 0 x := by
    intro b m
    funext u k
    unfold tsr tset
    by_cases c : u = 135 ∧ k = 0
    · rw [if_neg (by omega), if_pos c, if_pos c]
    · rw [if_neg c, if_neg c]
  unfold tRow
  rw [tset_nv (show (136 : Int) ≠ 135 by decide), c1, c1]
  by_cases c : t 136 0 = 0
  · rw [if_pos c, if_pos c, tset_comm (t := tsr t 129 _ _ _) (v := 135) (by omega), tset_comm (v := 135) (by omega)]
  · rw [if_neg c, if_neg c, tset_comm (t := tsr t 129 _ _ _) (v := 135) (by omega), tset_comm (v := 135) (by omega)]
theorem tKey_set {t : Ts} {k x : Int} {f : Int → Int} : tKey (tset t 135 0 x) k f = tset (tKey t k f) 135 0 x := by
  unfold tKey
  rw [tset_comm (by omega)]
  funext u j
  unfold tsr tset
  by_cases c : u = 135 ∧ j = 0
  · rw [if_neg (by omega), if_pos c, if_pos c]
  · rw [if_neg c, if_neg c]
/-- a key comes to the keys in use -/
theorem RK.key {H Q L : Int} {h : Hp} {t : Ts} {k : Int} {f : Int → Int} (r : RK H Q L h t) (k0 : 0 ≤ k) (k1 : k < 135) : RK H Q L (upr (up h (Q + 1) k 1) (Q + (3 + k)) 0 28 f) (tKey t k f) := by
  have hh := r.2.1.1
  have hq := r.2.1.2.1
  have hQ : Q = 474 ∨ Q = 1168 := hq
  have e1 : Lc H Q (Q + 1) k 130 k := e_66_130 k0 k1
  have e2 : ∀ i : Int, 0 ≤ i → i < 28 → Lc H Q (Q + (3 + k)) i 131 (28 * k + i) := fun i i0 i1 => e_68_131 k0 k1 i0 i1
  refine r.upd rfl (fun a i => ?_) (fun v j j0 j1 ka => ?_)
  · by_cases c : a = Q + (3 + k) ∧ 0 ≤ i ∧ i < 28
    · exact Or.inr (Or.inl ⟨131, 28 * k + i, by rw [c.1]; exact e2 i c.2.1 c.2.2⟩)
    · by_cases c2 : a = Q + 1 ∧ i = k
      · exact Or.inr (Or.inl ⟨130, k, by rw [c2.1, c2.2]; exact e1⟩)
      · exact Or.inl ((if_neg c).trans (if_neg c2))
  · show (if ca H Q v j = Q + (3 + k) ∧ 0 ≤ ci v j ∧ ci v j < 28 then f (ci v j) else (if ca H Q v j = Q + 1 ∧ ci v j = k then 1 else h.1 (ca H Q v j) (ci v j))) = tKey t k f v j
    by_cases c : v = 131 ∧ 28 * k ≤ j ∧ j < 28 * k + 28
    · obtain ⟨rfl, c1, c2⟩ := c
      have w := e2 (j - 28 * k) (by omega) (by omega)
      rw [show 28 * k + (j - 28 * k) = j by omega] at w
      rw [w.1, w.2.1, if_pos ⟨rfl, by omega, by omega⟩]
      unfold tKey
      rw [tsr_in c1 c2]
    · have n1 : ¬ (ca H Q v j = Q + (3 + k) ∧ 0 ≤ ci v j ∧ ci v j < 28) := by
        rintro ⟨q1, q2, q3⟩
        have w := e2 (ci v j) q2 q3
        have x := ca_inj hh hq j0 j1 w.2.2.1 w.2.2.2 (q1.trans w.1.symm) w.2.1.symm
        exact c ⟨x.1, by omega, by omega⟩
      rw [if_neg n1]
      have ek : tKey t k f v j = tset t 130 k 1 v j := by
        unfold tKey tsr
        rw [if_neg c]
      rw [ek]
      by_cases c2 : v = 130 ∧ j = k
      · obtain ⟨rfl, rfl⟩ := c2
        rw [e1.1, e1.2.1, if_pos ⟨rfl, rfl⟩, tset_eq]
      · rw [tset_ne c2, if_neg (fun q => c2 (ca_inj hh hq j0 j1 e1.2.2.1 e1.2.2.2 (q.1.trans e1.1.symm) (q.2.trans e1.2.1.symm)))]
        refine r.2.2 v j j0 j1 ?_
        have nv : ∀ u z : Int, u ≠ 130 → u ≠ 131 → tKey t k f u z = t u z := fun u z a b => tKey_nv a b
        unfold act at ka ⊢
        rw [nv 137 _ (by decide) (by decide), nv 103 _ (by decide) (by decide), nv 106 _ (by decide) (by decide), nv 75 _ (by decide) (by decide), nv 75 _ (by decide) (by decide), nv 78 _ (by decide) (by decide), nv 200 _ (by decide) (by decide)] at ka
        refine ⟨ka.1, ka.2.1, ka.2.2.1, ka.2.2.2.1, ka.2.2.2.2.1, fun q => ?_, ka.2.2.2.2.2.2⟩
        have y := ka.2.2.2.2.2.1 q
        have y2 : tKey t k f 130 (j / 28) = tset t 130 k 1 130 (j / 28) := by unfold tKey; exact tsr_nv (by decide)
        rw [y2, tset_ne (by omega)] at y
        exact y
theorem Bd.row {n : Int} {t : Ts} {a x : Int} {R : Int → Int} (g : Bd n t) (hR : ∀ i : Int, 0 ≤ i → i < 48 → -128 ≤ R i ∧ R i ≤ 127) : Bd n (tRow t a x R) := by
  have b6 := b_136 g
  unfold tRow
  split
  · exact bp_137 (bp_129 (br_129 g (fun k p q _ _ => hR _ (by omega) (by omega))) (by decide) (by decide)) (by decide) (by decide)
  · refine bp_136 (bp_129 (br_129 g (fun k p q _ _ => hR _ (by omega) (by omega))) (by decide) (by decide)) ?_ ?_ <;> split <;> omega
theorem Bd.key {n : Int} {t : Ts} {k : Int} {f : Int → Int} (g : Bd n t) (hf : ∀ i : Int, 0 ≤ i → i < 28 → -128 ≤ f i ∧ f i ≤ 127) : Bd n (tKey t k f) := by
  unfold tKey
  exact br_131 (bp_130 g (by decide) (by decide)) (fun j p q _ _ => hf _ (by omega) (by omega))
theorem tGr_b {n : Int} {w : Int → Int} {m : Int} {t : Ts} (g : Bd n t) : ∀ k : Nat, k ≤ 135 → Bd n (tGr w m t k).1 := by
  intro k
  induction k with
  | zero => intro _; exact g
  | succ k ih =>
    intro l
    have i := ih (by omega)
    have kbb := kb_b (k := k) g (by omega) (by omega)
    unfold tGr
    split
    · split
      · exact i.row (fun j j0 j1 => rwb_b kbb j0 j1)
      · exact (i.row (fun j j0 j1 => rwb_b kbb j0 j1)).key kbb
    · exact i
theorem tSn_b {n : Int} {th : Int → Int} {bs : Int → Int → Int} {m a gg : Int} {t : Ts} (g : Bd n t) (hb : ∀ k i : Int, 0 ≤ k → k < 135 → th k ≠ 0 → 0 ≤ i → i < 28 → -128 ≤ bs k i ∧ bs k i ≤ 127) : ∀ k : Nat, k ≤ 135 → Bd n (tSn th bs m a gg t k).1 := by
  intro k
  induction k with
  | zero => intro _; exact g
  | succ k ih =>
    intro l
    have i := ih (by omega)
    unfold tSn
    by_cases c : (tSn th bs m a gg t k).2.2 = 1 ∧ th k ≠ 0
    · rw [if_pos c]
      exact i.row (fun j j0 j1 => rwb_b (fun x x0 x1 => hb k x (by omega) (by omega) c.2 x0 x1) j0 j1)
    · rw [if_neg c]
      exact i
