/-! DIVISION DOWN; SUMS OVER SPACES; GETTERS OF SPACES -/
theorem lxor_sg {a b : Int} (ha : r64 a) (hb : r64 b) (p : 0 ≤ b) : 0 ≤ lxor' a b ↔ 0 ≤ a := by
  unfold lxor'
  have k : ∀ x : Int64, x.toBitVec.msb = decide (x.toInt < 0) := fun x => BitVec.msb_eq_toInt
  have e : ((I64 a ^^^ I64 b).toBitVec).msb = ((I64 a).toBitVec.msb ^^ (I64 b).toBitVec.msb) := by rw [Int64.toBitVec_xor, BitVec.msb_xor]
  rw [k, k, k, I64_at ha, I64_at hb, decide_eq_false (show ¬ b < 0 by omega), Bool.xor_false] at e
  by_cases c : a < 0
  · rw [decide_eq_true c] at e
    have := of_decide_eq_true e
    omega
  · rw [decide_eq_false c] at e
    have := of_decide_eq_false e
    omega
theorem tdiv_neg {x y : Int} (a : x < 0) : x.tdiv y = -((-x).tdiv y) := by rw [← Int.neg_tdiv, Int.neg_neg]
/-- division down, by a positive number -/
theorem fdv {x y : Int} (b : 0 < y) (a : x < 0) : x / y = if (-x) % y = 0 then -((-x) / y) else -((-x) / y) - 1 := by
  have h1 := Int.mul_ediv_add_emod (-x) y
  have h2 := Int.emod_nonneg (-x) (show y ≠ 0 by omega)
  have h3 := Int.emod_lt_of_pos (-x) b
  generalize (-x) / y = m at *
  generalize (-x) % y = s at *
  by_cases c : s = 0
  · rw [if_pos c]
    have e : x = y * (-m) := by rw [Int.mul_neg]; omega
    rw [e, Int.mul_ediv_cancel_left _ (by omega)]
  · rw [if_neg c]
    have e : x = (y - s) + y * (-m - 1) := by rw [Int.mul_sub, Int.mul_neg]; omega
    rw [e, Int.add_mul_ediv_left _ _ (by omega), Int.ediv_eq_zero_of_lt (by omega) (by omega)]
    omega
theorem ediv_le_self' {x y : Int} (a : 0 ≤ x) (b : 0 < y) : 0 ≤ x / y ∧ x / y ≤ x := ⟨Int.ediv_nonneg a (by omega), Int.ediv_le_self y a⟩
theorem z_floorDiv {x y : Int} (hx : r64 x) (hy : r64 y) (n : x ≠ -9223372036854775808) (b : 0 < y) (K : Int → Prop) : wp_Math_floorDiv x y K = K (x / y) := by
  unfold wp_Math_floorDiv
  have hx' := hx
  unfold r64 at hx'
  simp only [forall_eq]
  rw [propext (and_iff_right (show y ≠ 0 by omega)), ia, ia]
  by_cases c : 0 ≤ x
  · rw [if_pos (by rw [lcmp_ge]; exact (lxor_sg hx hy (by omega)).mpr c), tdiv_pos c (by omega)]
    have := ediv_le_self' c b
    rw [w64_id (by omega) (by omega)]
  · rw [if_neg (by rw [lcmp_ge]; exact fun z => c ((lxor_sg hx hy (by omega)).mp z)), tdiv_neg (by omega), tdiv_pos (by omega) (by omega)]
    have h0 := ediv_le_self' (show 0 ≤ -x by omega) b
    have h1 := Int.mul_ediv_add_emod (-x) y
    have h2 := Int.emod_nonneg (-x) (show y ≠ 0 by omega)
    have h3 := Int.emod_lt_of_pos (-x) b
    rw [fdv (x := x) (y := y) b (by omega)]
    generalize (-x) / y = m at *
    generalize (-x) % y = s at *
    have e : -m * y = -(y * m) := by rw [Int.neg_mul, Int.mul_comm]
    rw [w64_id (x := -m) (by omega) (by omega), e]
    have hz : 0 ≤ y * m := Int.mul_nonneg (by omega) h0.1
    generalize y * m = z at *
    rw [w64_id (x := -z) (by omega) (by omega)]
    by_cases d : s = 0
    · rw [if_pos (lcmp_e.mpr (show -z = x by omega)), if_pos d]
    · rw [if_neg (fun q => absurd (lcmp_e.mp q) (show ¬ -z = x by omega)), if_neg d, w64_id (by omega) (by omega)]
theorem z_by {x y : Int} (hx : r64 x) (n : x ≠ -9223372036854775808) (b : 0 < y) (K : Int → Prop) : wp_Mo_by x y K = K (x / y) := by
  unfold wp_Mo_by
  have hx' := hx
  unfold r64 at hx'
  simp only [forall_eq]
  rw [propext (and_iff_right (show y ≠ 0 by omega)), propext (and_iff_right (show y ≠ 0 by omega)), ia]
  by_cases c : 0 ≤ x
  · rw [if_pos (by rw [lcmp_ge, tmod_pos c (by omega)]; exact Int.emod_nonneg _ (by omega)), tdiv_pos c (by omega)]
    have := ediv_le_self' c b
    rw [w64_id (by omega) (by omega)]
  · have e0 : Int.tmod x y = -((-x) % y) := by
      have := Int.neg_tmod (-x) y
      rw [Int.neg_neg] at this
      rw [this, tmod_pos (by omega) (by omega)]
    rw [e0, tdiv_neg (by omega), tdiv_pos (by omega) (by omega)]
    have h0 := ediv_le_self' (show 0 ≤ -x by omega) b
    have h2 := Int.emod_nonneg (-x) (show y ≠ 0 by omega)
    rw [fdv (x := x) (y := y) b (by omega)]
    generalize (-x) / y = m at *
    generalize (-x) % y = s at *
    rw [w64_id (x := -m) (by omega) (by omega)]
    by_cases d : s = 0
    · rw [if_pos (lcmp_ge.mpr (show (0 : Int) ≤ -s by omega)), if_pos d]
    · rw [if_neg (fun q => absurd (lcmp_ge.mp q) (show ¬ (0 : Int) ≤ -s by omega)), if_neg d, w64_id (by omega) (by omega)]
theorem w64_add (a b : Int) : w64 (w64 a + b) = w64 (a + b) := by unfold w64; omega
theorem w32_add (a b : Int) : w32 (w32 a + b) = w32 (a + b) := by unfold w32; omega
/-- what the layout of the state says -/
def LayT (t : Ts) : Prop :=
  (∀ c : Int, 0 ≤ c → c < 240 → t 8 (t 6 c) / 48 = c / 48) ∧
  (∀ k : Int, 0 ≤ k → k < t 7 0 → t 9 k = pos t k 240 ∧ 0 ≤ t 8 k ∧ t 8 k < 240 ∧ t 6 (t 8 k) = k ∧ ∀ c : Int, 0 ≤ c → c < t 8 k → t 6 c ≠ k) ∧
  (∀ k : Int, 0 ≤ k → k < t 7 0 → t 12 k = si (fun e => bi (gBd (e % 110) ∧ t 3 e = 2 ∧ t 6 (48 * (e / 110) + (if gOne (e % 110) = -1 then gTwo (e % 110) else gOne (e % 110))) = k)) 550 ∧
    t 13 k = si (fun e => bi (gBd (e % 110) ∧ t 3 e = 3 ∧ t 6 (48 * (e / 110) + (if gOne (e % 110) = -1 then gTwo (e % 110) else gOne (e % 110))) = k)) 550) ∧
  (∀ a b q : Int, 0 ≤ a → a < t 7 0 → 0 ≤ b → b < t 7 0 → 0 ≤ q → q < 4 → t 11 (4 * (40 * a + b) + q) = t 11 (4 * (40 * b + a) + q) ∧ (a = b → t 11 (4 * (40 * a + b) + q) = 0) ∧ 0 ≤ t 11 (4 * (40 * a + b) + q) ∧ t 11 (4 * (40 * a + b) + q) ≤ 742) ∧
  (∀ f : Int, 0 ≤ f → f < 10 → t 14 f < t 7 0 ∧ -1 ≤ t 14 f ∧ 0 ≤ t 15 f ∧ t 15 f ≤ 240)
/-- sum of a row over a space -/
def sO (t : Ts) (v k : Int) : Int := si (fun c => if t 6 c = k then t v c else 0) 240
theorem pos_s {t : Ts} {k c : Int} (c0 : 0 ≤ c) : pos t k (c + 1) = pos t k c + bi (t 6 c = k) := si_s c0
theorem bi_r (p : Prop) [Decidable p] : 0 ≤ bi p ∧ bi p ≤ 1 := by unfold bi; split <;> omega
theorem pos_m {t : Ts} {k : Int} : ∀ n : Nat, 0 ≤ sm (fun d => bi (t 6 d = k)) n ∧ sm (fun d => bi (t 6 d = k)) n ≤ n := si_b (fun _ => bi_r _)
theorem pos_r {t : Ts} {k c : Int} (c0 : 0 ≤ c) : 0 ≤ pos t k c ∧ pos t k c ≤ c := by
  have := pos_m (t := t) (k := k) c.toNat
  show 0 ≤ sm (fun d => bi (t 6 d = k)) c.toNat ∧ sm (fun d => bi (t 6 d = k)) c.toNat ≤ c
  omega
theorem pos_z {t : Ts} {k : Int} : ∀ n : Nat, (∀ d : Int, 0 ≤ d → d < n → t 6 d ≠ k) → pos t k n = 0 := by
  intro n
  induction n with
  | zero => intro _; rfl
  | succ n ih =>
    intro e
    have e1 : ((n + 1 : Nat) : Int) = (n : Int) + 1 := by omega
    rw [e1, pos_s (by omega), ih (fun d d0 d1 => e d d0 (by omega)), bi_f (e n (by omega) (by omega))]
    rfl
theorem pos_lip {t : Ts} {k a : Int} (a0 : 0 ≤ a) : ∀ n : Nat, pos t k (a + n) ≤ pos t k a + n := by
  intro n
  induction n with
  | zero => simp
  | succ n ih =>
    have e1 : a + ((n + 1 : Nat) : Int) = a + (n : Int) + 1 := by omega
    rw [e1, pos_s (by omega)]
    have := bi_r (t 6 (a + n) = k)
    omega
theorem pos_st {t : Ts} {k c : Int} (lt : ∀ c : Int, 0 ≤ c → c < 240 → t 8 (t 6 c) / 48 = c / 48) (c0 : 0 ≤ c) (c1 : c < 240) (e : t 6 c = k) : pos t k c ≤ c % 48 := by
  have h1 := lt c c0 c1
  rw [e] at h1
  have z := pos_z (t := t) (k := k) (48 * (c / 48)).toNat (fun d d0 d1 q => by
    have h2 := lt d d0 (by omega)
    rw [q] at h2
    omega)
  have l := pos_lip (t := t) (k := k) (a := 48 * (c / 48)) (by omega) (c % 48).toNat
  rw [show (((48 * (c / 48)).toNat : Nat) : Int) = 48 * (c / 48) by omega] at z
  rw [show 48 * (c / 48) + (((c % 48).toNat : Nat) : Int) = c by omega, z] at l
  omega
/-- the sum over a space's own cells is the sum over all cells -/
theorem sp_sum {t : Ts} {k n : Int} {g f : Int → Int} (n0 : 0 ≤ n) (e : ∀ c : Int, 0 ≤ c → c < n → t 6 c = k → f (pos t k c) = g c) : si f (pos t k n) = si (fun c => if t 6 c = k then g c else 0) n := by
  have aux : ∀ m : Nat, (m : Int) ≤ n → si f (pos t k m) = si (fun c => if t 6 c = k then g c else 0) m := by
    intro m
    induction m with
    | zero => intro _; rfl
    | succ m ih =>
      intro l
      have i1 := ih (by omega)
      have m0 : (0 : Int) ≤ m := by omega
      have e1 : ((m + 1 : Nat) : Int) = (m : Int) + 1 := by omega
      rw [e1, pos_s m0, si_s (f := fun c => if t 6 c = k then g c else 0) m0]
      by_cases c : t 6 m = k
      · rw [bi_t c, si_s (pos_r m0).1, i1, e m m0 (by omega) c, if_pos c]
      · rw [bi_f c, Int.add_zero, i1, if_neg c, Int.add_zero]
  have := aux n.toNat (by omega)
  rwa [show ((n.toNat : Nat) : Int) = n by omega] at this
/-- a cell of a space by its rank -/
theorem cell_ex {t : Ts} {k : Int} : ∀ (n : Nat) (j : Int), 0 ≤ j → j < sm (fun d => bi (t 6 d = k)) n → ∃ c : Int, 0 ≤ c ∧ c < n ∧ t 6 c = k ∧ pos t k c = j := by
  intro n
  induction n with
  | zero => intro j j0 j1; exact absurd j1 (by show ¬ j < 0; omega)
  | succ n ih =>
    intro j j0 j1
    have e : sm (fun d => bi (t 6 d = k)) (n + 1) = sm (fun d => bi (t 6 d = k)) n + bi (t 6 n = k) := rfl
    by_cases c : t 6 n = k
    · rw [e, bi_t c] at j1
      by_cases d : j < sm (fun d => bi (t 6 d = k)) n
      · obtain ⟨x, x0, x1, x2, x3⟩ := ih j j0 d
        exact ⟨x, x0, by omega, x2, x3⟩
      · refine ⟨n, by omega, by omega, c, ?_⟩
        unfold pos
        show sm _ (n : Int).toNat = j
        rw [show ((n : Int).toNat) = n by omega]
        omega
    · rw [e, bi_f c, Int.add_zero] at j1
      obtain ⟨x, x0, x1, x2, x3⟩ := ih j j0 j1
      exact ⟨x, x0, by omega, x2, x3⟩
/-- an array of the component that holds a row by cells -/
def rowC (h : Hp) (t : Ts) (a v : Int) : Prop := a ≠ 0 ∧ ln h a = 240 ∧ ∀ c : Int, 0 ≤ c → c < 240 → rd h a c = t v c
theorem z_spacesum {H Q L : Int} {h : Hp} {t : Ts} {k a v : Int} (r : RC H Q L h t) (d : t 137 0 = 0) (lt : LayT t) (k0 : 0 ≤ k) (k1 : k < t 7 0) (w : rowC h t a v) {K : Int → Prop} (kk : K (w64 (sO t v k))) : wp_Space_sum (L + (10 + 3 * k)) a h K := by
  have sh := r.1; have hh := r.2.1.1; have hl := r.2.1.2.2.1; have hk := r.2.1.2.1; have sw := r.2.1.2.2.2.1; have sq := r.2.1.2.2.2.2.2.1; have sl := r.2.1.2.2.2.2.2.2.2.1
  have hL : L = 908 ∨ L = 1038 := hl
  have lc := (r.2.2.2.2 d).1
  obtain ⟨⟨n0, n1⟩, l0⟩ := lc.1
  have l3 := lc.2.2.2.1 k k0 k1
  have t9 := (lt.2.1 k k0 k1).1
  have pr := pos_r (t := t) (k := k) (c := 240) (by decide)
  unfold wp_Space_sum wp_Space_sum_5
  rw [l3.1, l3.2.1, p_60_1 hl k0 (by omega) sh, l_61 hl k0 (by omega) sh]
  intro P hP
  have cel : ∀ j : Int, 0 ≤ j → j < t 9 k → ∃ c : Int, 0 ≤ c ∧ c < 240 ∧ t 6 c = k ∧ pos t k c = j ∧ rd h (L + (11 + 3 * k)) j = c % 48 ∧ 48 * (t 8 k / 48) + c % 48 = c := by
    intro j j0 j1
    obtain ⟨c, c0, c1, c2, c3⟩ := cell_ex (t := t) (k := k) 240 j j0 (by rw [t9] at j1; exact j1)
    have z := (lc.2.2.1 c c0 c1).2
    have z2 := lt.1 c c0 c1
    rw [c2, c3] at z
    rw [c2] at z2
    exact ⟨c, c0, c1, c2, c3, z, by omega⟩
  have kk2 : K (w64 (si (fun j => rd h a (48 * (t 8 k / 48) + rd h (L + (11 + 3 * k)) j)) (t 9 k))) := by
    rw [t9, sp_sum (g := t v) (by decide) (fun c c0 c1 c2 => ?_)]
    · exact kk
    · have z := (lc.2.2.1 c c0 c1).2
      have z2 := lt.1 c c0 c1
      rw [c2] at z z2
      show rd h a (48 * (t 8 k / 48) + rd h (L + (11 + 3 * k)) (pos t k c)) = t v c
      rw [z, show 48 * (t 8 k / 48) + c % 48 = c by omega]
      exact w.2.2 c c0 c1
  refine up_ind (P := fun j s => P s j) (t 9 k) (fun j s => 0 ≤ j ∧ s = w64 (si (fun j => rd h a (48 * (t 8 k / 48) + rd h (L + (11 + 3 * k)) j)) j)) (fun j s j5 I next => ?_) (fun s I => ?_) 0 0 (by omega) ⟨by decide, rfl⟩
  · obtain ⟨j0, e⟩ := I
    obtain ⟨c, c0, c1, c2, c3, c4, c5⟩ := cel j j0 j5
    apply hP
    have bb := (lt.2.1 k k0 k1).2.1
    have bb2 := (lt.2.1 k k0 k1).2.2.1
    have bb3 := pos_st lt.1 c0 c1 c2
    refine ⟨fun q => absurd q (by omega), fun _ => ?_⟩
    have e2 : w32 (w32 (48 * (t 8 k / 48)) + rd h (L + (11 + 3 * k)) j) = 48 * (t 8 k / 48) + rd h (L + (11 + 3 * k)) j := by
      rw [c4]
      unfold w32
      omega
    rw [e2, w.2.1]
    refine ⟨by omega, by omega, w.1, by rw [c4]; omega, ?_⟩
    rintro _ rfl _ rfl
    rw [w32_id (by omega) (by omega)]
    refine next _ ⟨by omega, ?_⟩
    rw [si_s j0, e, w64_add]
  · exact hP _ _ ⟨fun _ => by rw [I.2]; exact kk2, fun q => absurd q (by omega)⟩
/-- the twin's row by cells -/
def rowT (h : Hp) (t : Ts) (a v : Int) : Prop := a ≠ 0 ∧ ln h a = 240 ∧ ∀ c : Int, 0 ≤ c → c < 240 → rd h a c = t v c
theorem z_sumOf {h : Hp} {t : Ts} {k a v : Int} (sh : Sh h) (r : RT h t) (w : rowT h t a v) {K : Int → Prop} (kk : K (w64 (sO t v k))) : wp_Mo_sumOf 1400 a k h K := by
  unfold wp_Mo_sumOf wp_Mo_sumOf_5
  intro P hP
  refine up_ind (P := fun j s => P s j) 240 (fun j s => 0 ≤ j ∧ s = w64 (si (fun c => if t 6 c = k then t v c else 0) j)) (fun j s j5 I next => ?_) (fun s I => ?_) 0 0 (by decide) ⟨by decide, rfl⟩
  · obtain ⟨j0, e⟩ := I
    apply hP
    rw [tp_6 sh, tl_6 sh, gt_6 r j0 j5, w.2.1, w.2.2 j j0 j5]
    refine ⟨fun q => absurd q (by omega), fun _ => ⟨by decide, by omega, fun q => ?_, fun q => ⟨w.1, by omega, ?_⟩⟩⟩
    · rintro _ rfl _ rfl
      rw [w32_id (by omega) (by omega)]
      refine next _ ⟨by omega, ?_⟩
      rw [si_s (f := fun c => if t 6 c = k then t v c else 0) j0, if_neg q, e, w64_add]
    · rintro _ rfl _ rfl
      rw [w32_id (by omega) (by omega)]
      refine next _ ⟨by omega, ?_⟩
      rw [si_s (f := fun c => if t 6 c = k then t v c else 0) j0, if_pos (by omega), e, w64_add]
  · exact hP _ _ ⟨fun _ => by rw [I.2]; exact kk, fun q => absurd q (by omega)⟩
