/-! SUMS, COUNTS; THE CALLS THAT LOOK AT ARGUMENTS -/
/-- sums over 0 .. n-1 -/
def sm (f : Int → Int) : Nat → Int
  | 0 => 0
  | n + 1 => sm f n + f (n : Int)
theorem sm_cg {f g : Int → Int} : ∀ {n : Nat}, (∀ k : Int, 0 ≤ k → k < (n : Int) → f k = g k) → sm f n = sm g n
  | 0, _ => rfl
  | n + 1, e => by
    show sm f n + f (n : Int) = sm g n + g (n : Int)
    rw [sm_cg (n := n) (fun k k0 k1 => e k k0 (by omega)), e (n : Int) (by omega) (by omega)]
theorem sm_nn {f : Int → Int} : ∀ {n : Nat}, (∀ k : Int, 0 ≤ k → k < (n : Int) → 0 ≤ f k) → 0 ≤ sm f n
  | 0, _ => Int.le_refl _
  | n + 1, e => by
    have h1 := sm_nn (n := n) (fun k k0 k1 => e k k0 (by omega))
    have h2 := e (n : Int) (by omega) (by omega)
    show 0 ≤ sm f n + f (n : Int)
    omega
theorem sm_le {f : Int → Int} {b : Int} : ∀ {n : Nat}, (∀ k : Int, 0 ≤ k → k < (n : Int) → f k ≤ b) → sm f n ≤ b * (n : Int)
  | 0, _ => by show (0 : Int) ≤ b * 0; omega
  | n + 1, e => by
    have h1 := sm_le (n := n) (fun k k0 k1 => e k k0 (by omega))
    have h2 := e (n : Int) (by omega) (by omega)
    show sm f n + f (n : Int) ≤ b * ((n + 1 : Nat) : Int)
    have : b * ((n + 1 : Nat) : Int) = b * (n : Int) + b := by rw [Int.natCast_add, Int.mul_add]; omega
    omega
/-- sums over a whole number of places -/
abbrev si (f : Int → Int) (n : Int) : Int := sm f n.toNat
theorem si_0 (f : Int → Int) : si f 0 = 0 := rfl
theorem si_s {f : Int → Int} {n : Int} (k : 0 ≤ n) : si f (n + 1) = si f n + f n := by
  obtain ⟨m, rfl⟩ := Int.eq_ofNat_of_zero_le k
  rfl
theorem si_cg {f g : Int → Int} {n : Int} (e : ∀ k : Int, 0 ≤ k → k < n → f k = g k) : si f n = si g n := sm_cg (fun k k0 k1 => e k k0 (by omega))
/-- how many of 0 .. n-1 have a property -/
def cn (p : Int → Prop) [∀ k, Decidable (p k)] (n : Int) : Int := si (fun k => bi (p k)) n
/-- the room for an exception -/
def xr (h : Hp) : Prop := nx h + 1 ≤ NM ∧ us h + 6 ≤ UM
theorem z_Kh_need (x : Int) (h : Hp) (K : Prop) (E : Int → Hp → Prop) : wp_Kh_need x h K E = if x ≠ 0 then K else (xr h ∧ E (nx h) (mk h 26 6)) := by
  unfold wp_Kh_need
  rw [ia]
  simp only [forall_eq, xr, rd_mk_new (Int.le_refl 0), true_and]
theorem z_Kh_may (x : Int) (h : Hp) (K : Prop) (E : Int → Hp → Prop) : wp_Kh_may x h K E = if x ≠ 0 then K else (xr h ∧ E (nx h) (mk h 25 6)) := by
  unfold wp_Kh_may
  rw [ia]
  simp only [forall_eq, xr, rd_mk_new (Int.le_refl 0), true_and]
theorem z_Kh_isUp {h : Hp} (s : Sh h) (K : Prop) (E : Int → Hp → Prop) : wp_Kh_isUp 64 h K E = if rd h 70 6 = 0 then K else (xr h ∧ E (nx h) (mk h 25 6)) := by
  unfold wp_Kh_isUp wp_Kh_isUp_15
  rw [ia, p_1_3 s, z_Kh_may, z_Kh_may]
  by_cases c : rd h 70 6 = 0
  · simp [c]
  · simp [c]
theorem z_Kh_isStorey (x : Int) (h : Hp) (K : Prop) (E : Int → Hp → Prop) : wp_Kh_isStorey x h K E = if 0 ≤ x ∧ x ≤ 4 then K else (xr h ∧ E (nx h) (mk h 26 6)) := by
  unfold wp_Kh_isStorey
  rw [z_Kh_isIn, z_Kh_need]
  simp only [bi_nz]
theorem z_Mo_fails {h : Hp} (x y : Int) (K : Int → Hp → Prop) : wp_Mo_fails 1400 x y h K = (if rd h 1400 137 = 0 then (if x ≠ 0 then (if y ≠ 0 then K 0 (up h 1400 0 0) else K 1 (up h 1400 0 2)) else K 1 (up h 1400 0 1)) else K 1 (up h 1400 0 2)) := by
  unfold wp_Mo_fails wp_Mo_fails_29
  simp only [ia, forall_eq, rd_up_eq]
  simp
theorem z_Mo_closed {h : Hp} (K : Int → Hp → Prop) : wp_Mo_closed 1400 h K = (if rd h 1400 137 = 0 then K (rd h 1400 137) (up h 1400 0 0) else K (rd h 1400 137) (up h 1400 0 1)) := by
  unfold wp_Mo_closed
  simp only [ia, forall_eq]
  simp [rd_up]
