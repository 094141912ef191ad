/-! LEAVES: what needs no heap -/
def bi (p : Prop) [Decidable p] : Int := if p then 1 else 0
theorem ia (c a b : Prop) [Decidable c] : ((c → a) ∧ (¬ c → b)) = (if c then a else b) := by
  by_cases k : c
  · rw [if_pos k]
    exact propext ⟨fun z => z.1 k, fun z => ⟨fun _ => z, fun n => absurd k n⟩⟩
  · rw [if_neg k]
    exact propext ⟨fun z => z.2 k, fun z => ⟨fun n => absurd n k, fun _ => z⟩⟩
theorem bi_t {p : Prop} [Decidable p] (k : p) : bi p = 1 := if_pos k
theorem bi_f {p : Prop} [Decidable p] (k : ¬ p) : bi p = 0 := if_neg k
theorem bi_nz {p : Prop} [Decidable p] : bi p ≠ 0 ↔ p := by
  by_cases k : p
  · simp [bi, k]
  · simp [bi, k]
theorem lcmp_l {x y : Int} : lcmp x y < 0 ↔ x < y := by unfold lcmp; split <;> (try split) <;> omega
theorem lcmp_g {x y : Int} : lcmp x y > 0 ↔ y < x := by unfold lcmp; split <;> (try split) <;> omega
theorem lcmp_e {x y : Int} : lcmp x y = 0 ↔ x = y := by unfold lcmp; split <;> (try split) <;> omega
theorem lcmp_ge {x y : Int} : lcmp x y ≥ 0 ↔ y ≤ x := by unfold lcmp; split <;> (try split) <;> omega
theorem lcmp_le {x y : Int} : lcmp x y ≤ 0 ↔ x ≤ y := by unfold lcmp; split <;> (try split) <;> omega
theorem z_Kh_isIn (x a b : Int) (K : Int → Prop) : wp_Kh_isIn x a b K = K (bi (a ≤ x ∧ x ≤ b)) := by
  unfold wp_Kh_isIn
  rw [ia, ia]
  simp only [lcmp_l, lcmp_g]
  by_cases c : x < a
  · rw [if_pos c, bi_f (by omega)]
  · rw [if_neg c]
    by_cases d : b < x
    · rw [if_pos d, bi_f (by omega)]
    · rw [if_neg d, bi_t (by omega)]
theorem z_Mo_in (x a b : Int) (K : Int → Prop) : wp_Mo_in x a b K = K (bi (a ≤ x ∧ x ≤ b)) := z_Kh_isIn x a b K
/-- the lesser cell of an edge, the greater one; -1 -/
def gOne (e : Int) : Int := if e < 54 then (if e % 9 = 0 then -1 else e / 9 * 8 + e % 9 - 1) else if e < 62 then -1 else e - 62
def gTwo (e : Int) : Int := if e < 54 then (if e % 9 = 8 then -1 else e / 9 * 8 + e % 9) else if e < 102 then e - 54 else -1
abbrev gBd (e : Int) : Prop := gOne e = -1 ∨ gTwo e = -1
def gEdge (c k : Int) : Int := if k < 2 then 9 * (c / 8) + c % 8 + k else 54 + 8 * (c / 8 + k - 2) + c % 8
theorem gBd_iff {e : Int} (h0 : 0 ≤ e) (h1 : e < 110) : gBd e ↔ (if e < 54 then e % 9 = 0 ∨ e % 9 = 8 else e < 62 ∨ 101 < e) := by
  unfold gBd gOne gTwo
  split <;> (try split) <;> (try split) <;> (try split) <;> omega
theorem z_Grid_one {e : Int} (h0 : 0 ≤ e) (h1 : e < 110) (K : Int → Prop) : wp_Grid_one e K = K (gOne e) := by
  unfold wp_Grid_one gOne
  simp only [forall_eq, ia, tmod_pos h0 (show (0 : Int) ≤ 9 by decide), tdiv_pos h0 (show (0 : Int) ≤ 9 by decide)]
  by_cases c : e < 54
  · rw [if_neg (by omega), if_pos c]
    by_cases d : e % 9 = 0
    · rw [if_neg (by omega), if_pos d]
    · rw [if_pos d, if_neg d]
      congr 1
      unfold w32
      omega
  · rw [if_pos (by omega), if_neg c]
    by_cases d : e < 62
    · rw [if_neg (by unfold w32; omega), if_pos d]
    · rw [if_pos (by unfold w32; omega), if_neg d]
      congr 1
      unfold w32
      omega
theorem z_Grid_two {e : Int} (h0 : 0 ≤ e) (h1 : e < 110) (K : Int → Prop) : wp_Grid_two e K = K (gTwo e) := by
  unfold wp_Grid_two gTwo
  simp only [forall_eq, ia, tmod_pos h0 (show (0 : Int) ≤ 9 by decide), tdiv_pos h0 (show (0 : Int) ≤ 9 by decide)]
  by_cases c : e < 54
  · rw [if_neg (by omega), if_pos c]
    by_cases d : e % 9 = 8
    · rw [if_neg (by omega), if_pos d]
    · rw [if_pos d, if_neg d]
      congr 1
      unfold w32
      omega
  · rw [if_pos (by omega), if_neg c]
    by_cases d : e < 102
    · rw [if_neg (by unfold w32; omega), if_pos d]
      congr 1
      unfold w32
      omega
    · rw [if_pos (by unfold w32; omega), if_neg d]
theorem z_Grid_isBorder {e : Int} (h0 : 0 ≤ e) (h1 : e < 110) (K : Int → Prop) : wp_Grid_isBorder e K = K (bi (gBd e)) := by
  unfold wp_Grid_isBorder
  rw [z_Grid_one h0 h1, z_Grid_two h0 h1, ia, ia]
  by_cases c : gOne e = -1
  · rw [if_pos c, bi_t (Or.inl c)]
  · rw [if_neg c]
    by_cases d : gTwo e = -1
    · rw [if_neg (by omega), bi_t (Or.inr d)]
    · rw [if_pos d, bi_f (by unfold gBd; omega)]
theorem z_Grid_edgeOf {c k : Int} (h0 : 0 ≤ c) (h1 : c < 48) (k0 : 0 ≤ k) (k1 : k < 4) (K : Int → Prop) : wp_Grid_edgeOf c k K = K (gEdge c k) := by
  unfold wp_Grid_edgeOf gEdge
  simp only [forall_eq, ia, tmod_pos h0 (show (0 : Int) ≤ 8 by decide), tdiv_pos h0 (show (0 : Int) ≤ 8 by decide)]
  by_cases d : k < 2
  · rw [if_neg (by omega), if_pos d]
    congr 1
    unfold w32
    omega
  · rw [if_pos (by omega), if_neg d]
    congr 1
    unfold w32
    omega
theorem z_Mo_isBorder {e : Int} (h0 : 0 ≤ e) (h1 : e < 110) (K : Int → Prop) : wp_Mo_isBorder e K = K (bi (gBd e)) := by
  unfold wp_Mo_isBorder
  simp only [ia, tmod_pos h0 (show (0 : Int) ≤ 9 by decide)]
  have b := gBd_iff h0 h1
  by_cases c : e < 54
  · rw [if_pos c] at b
    rw [if_neg (by omega)]
    by_cases d : e % 9 = 0
    · rw [if_pos d, bi_t (b.mpr (Or.inl d))]
    · rw [if_neg d]
      by_cases d2 : e % 9 = 8
      · rw [if_neg (by omega), bi_t (b.mpr (Or.inr d2))]
      · rw [if_pos d2, bi_f (fun z => by have := b.mp z; omega)]
  · rw [if_neg c] at b
    rw [if_pos (by omega)]
    by_cases d : e < 62
    · rw [if_pos d, bi_t (b.mpr (Or.inl d))]
    · rw [if_neg d]
      by_cases d2 : 101 < e
      · rw [if_neg (by omega), bi_t (b.mpr (Or.inr d2))]
      · rw [if_pos (by omega), bi_f (fun z => by have := b.mp z; omega)]
theorem z_Mo_cellBefore {e : Int} (h0 : 0 ≤ e) (h1 : e < 110) (K : Int → Prop) : wp_Mo_cellBefore e K = K (gOne e) := by
  unfold wp_Mo_cellBefore gOne
  simp only [ia, tmod_pos h0 (show (0 : Int) ≤ 9 by decide), tdiv_pos h0 (show (0 : Int) ≤ 9 by decide)]
  by_cases c : e < 54
  · rw [if_neg (by omega), if_pos c]
    by_cases d : e % 9 = 0
    · rw [if_neg (by omega), if_pos d]
    · rw [if_pos d, if_neg d]
      congr 1
      unfold w32
      omega
  · rw [if_pos (by omega), if_neg c]
    by_cases d : e < 62
    · rw [if_neg (by omega), if_pos d]
    · rw [if_pos (by omega), if_neg d]
      congr 1
      unfold w32
      omega
theorem z_Mo_cellBehind {e : Int} (h0 : 0 ≤ e) (h1 : e < 110) (K : Int → Prop) : wp_Mo_cellBehind e K = K (gTwo e) := by
  unfold wp_Mo_cellBehind gTwo
  simp only [ia, tmod_pos h0 (show (0 : Int) ≤ 9 by decide), tdiv_pos h0 (show (0 : Int) ≤ 9 by decide)]
  by_cases c : e < 54
  · rw [if_neg (by omega), if_pos c]
    by_cases d : e % 9 = 8
    · rw [if_neg (by omega), if_pos d]
    · rw [if_pos d, if_neg d]
      congr 1
      unfold w32
      omega
  · rw [if_pos (by omega), if_neg c]
    by_cases d : e < 102
    · rw [if_pos (by omega), if_pos d]
      congr 1
      unfold w32
      omega
    · rw [if_neg (by omega), if_neg d]
theorem z_Mo_edgeOf {c k : Int} (h0 : 0 ≤ c) (h1 : c < 48) (k0 : 0 ≤ k) (k1 : k < 4) (K : Int → Prop) : wp_Mo_edgeOf c k K = K (gEdge c k) := by
  unfold wp_Mo_edgeOf gEdge
  simp only [forall_eq, ia, tmod_pos h0 (show (0 : Int) ≤ 8 by decide), tdiv_pos h0 (show (0 : Int) ≤ 8 by decide)]
  by_cases d0 : k = 0
  · rw [if_neg (by omega), if_pos (by omega)]
    congr 1
    unfold w32
    omega
  rw [if_pos d0]
  by_cases d1 : k = 1
  · rw [if_neg (by omega), if_pos (by omega)]
    congr 1
    unfold w32
    omega
  rw [if_pos d1]
  by_cases d2 : k = 2
  · rw [if_neg (by omega), if_neg (by omega)]
    congr 1
    unfold w32
    omega
  · rw [if_pos d2, if_neg (by omega)]
    congr 1
    unfold w32
    omega
theorem gEdge_r {c k : Int} (h0 : 0 ≤ c) (h1 : c < 48) (k0 : 0 ≤ k) (k1 : k < 4) : 0 ≤ gEdge c k ∧ gEdge c k < 110 := by unfold gEdge; split <;> omega
/-- the cell beyond an edge of a cell; -1 -/
def gNext (c k : Int) : Int := if k % 2 = 0 then gOne (gEdge c k) else gTwo (gEdge c k)
theorem z_Mo_beyond {c k : Int} (h0 : 0 ≤ c) (h1 : c < 48) (k0 : 0 ≤ k) (k1 : k < 4) (K : Int → Prop) : wp_Mo_beyond c k K = K (gNext c k) := by
  obtain ⟨q0, q1⟩ := gEdge_r h0 h1 k0 k1
  unfold wp_Mo_beyond gNext
  rw [z_Mo_edgeOf h0 h1 k0 k1, z_Mo_cellBehind q0 q1, z_Mo_cellBefore q0 q1, ia, tmod_pos k0 (by decide)]
  by_cases d : k % 2 = 0
  · rw [if_neg (by omega), if_pos d]
  · rw [if_pos d, if_neg d]
/-- of an edge of a cell the one cell is that cell, the other one is beyond -/
theorem gNext_or {c k : Int} (h0 : 0 ≤ c) (h1 : c < 48) (k0 : 0 ≤ k) (k1 : k < 4) : (if gOne (gEdge c k) = c then gTwo (gEdge c k) else gOne (gEdge c k)) = gNext c k := by
  unfold gNext gOne gTwo gEdge
  rcases (show k = 0 ∨ k = 1 ∨ k = 2 ∨ k = 3 by omega) with rfl | rfl | rfl | rfl <;> simp <;> (repeat' split) <;> omega
