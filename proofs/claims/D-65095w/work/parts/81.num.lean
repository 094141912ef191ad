/-! NUMBERS OUT OF BYTES -/
theorem iand_255 {x : Int} (b : r32 x) : iand x 255 = x % 256 := by
  unfold iand
  show (I32 x &&& I32 255).toBitVec.toInt = x % 256
  have h1 : (I32 x &&& I32 255).toBitVec = (I32 x).toBitVec &&& 255#32 := by
    rw [Int32.toBitVec_and]
    rfl
  have h2 : ((I32 x).toBitVec &&& 255#32).toNat = (I32 x).toBitVec.toNat % 256 := by
    rw [BitVec.toNat_and]
    exact Nat.and_two_pow_sub_one_eq_mod _ 8
  have h3 : (I32 x).toBitVec.toInt = x := I32_at b
  have h4 := BitVec.toInt_eq_toNat_cond (I32 x).toBitVec
  have h5 := BitVec.toInt_eq_toNat_cond ((I32 x).toBitVec &&& 255#32)
  rw [h1, h5, h2]
  rw [h3] at h4
  have h6 := (I32 x).toBitVec.isLt
  generalize (I32 x).toBitVec.toNat = m at *
  have e1 : (2 : Nat) ^ 32 = 4294967296 := by decide
  rw [e1] at h4 h6 ⊢
  rw [if_pos (by omega)]
  split at h4 <;> omega
theorem land_255 {x : Int} (b : r64 x) : land' x 255 = x % 256 := by
  unfold land'
  show (I64 x &&& I64 255).toBitVec.toInt = x % 256
  have h1 : (I64 x &&& I64 255).toBitVec = (I64 x).toBitVec &&& 255#64 := by
    rw [Int64.toBitVec_and]
    rfl
  have h2 : ((I64 x).toBitVec &&& 255#64).toNat = (I64 x).toBitVec.toNat % 256 := by
    rw [BitVec.toNat_and]
    exact Nat.and_two_pow_sub_one_eq_mod _ 8
  have h3 : (I64 x).toBitVec.toInt = x := I64_at b
  have h4 := BitVec.toInt_eq_toNat_cond (I64 x).toBitVec
  have h5 := BitVec.toInt_eq_toNat_cond ((I64 x).toBitVec &&& 255#64)
  rw [h1, h5, h2]
  rw [h3] at h4
  have h6 := (I64 x).toBitVec.isLt
  generalize (I64 x).toBitVec.toNat = m at *
  have e1 : (2 : Nat) ^ 64 = 18446744073709551616 := by decide
  rw [e1] at h4 h6 ⊢
  rw [if_pos (by omega)]
  split at h4 <;> omega
/-- eight more bits -/
theorem lor_8 {v u : Int} (u0 : 0 ≤ u) (u1 : u < 256) : lor' (lshl' v 8) u = w64 (v * 256 + u) := by
  have e8 : ((I32 8).toInt64 &&& 63) = 8 := by decide
  have h1 : (I64 (lshl' v 8)) = I64 v <<< 8 := by
    unfold lshl'
    rw [e8, I64_of]
  have h2 : (I64 v <<< 8 ||| I64 u).toBitVec = (I64 v).toBitVec <<< 8 ||| (I64 u).toBitVec := by
    rw [Int64.toBitVec_or, Int64.toBitVec_shiftLeft]
    rfl
  have hu : (I64 u).toBitVec.toNat = u.toNat := by
    have h3 : (I64 u).toBitVec.toInt = u := I64_at (by unfold r64; omega)
    have h4 := BitVec.toInt_eq_toNat_cond (I64 u).toBitVec
    rw [h3] at h4
    have h6 := (I64 u).toBitVec.isLt
    generalize (I64 u).toBitVec.toNat = m at *
    have e1 : (2 : Nat) ^ 64 = 18446744073709551616 := by decide
    rw [e1] at h4 h6
    split at h4 <;> omega
  have h3 : (I64 v).toBitVec <<< 8 ||| (I64 u).toBitVec = (I64 v).toBitVec <<< 8 + (I64 u).toBitVec := by
    refine (BitVec.add_eq_or_of_and_eq_zero _ _ (BitVec.eq_of_getLsbD_eq (fun i hi => ?_))).symm
    rw [BitVec.getLsbD_and, BitVec.getLsbD_shiftLeft, BitVec.getLsbD_zero]
    by_cases c : i < 8
    · simp [c]
    · have : (I64 u).toBitVec.getLsbD i = false := by
        show (I64 u).toBitVec.toNat.testBit i = false
        rw [hu]
        exact Nat.testBit_lt_two_pow (Nat.lt_of_lt_of_le (show u.toNat < 2 ^ 8 by omega) (Nat.pow_le_pow_right (by decide) (by omega)))
      rw [this, Bool.and_false]
  have h4 : (I64 v).toBitVec <<< 8 = (I64 v * 256).toBitVec := by
    rw [BitVec.shiftLeft_eq_mul_twoPow, Int64.toBitVec_mul]
    rfl
  have h5 : (I64 v <<< 8 ||| I64 u) = I64 v * I64 256 + I64 u := by
    apply Int64.toBitVec_inj.mp
    rw [h2, h3, h4, Int64.toBitVec_add]
    rfl
  unfold lor'
  rw [h1, h5, I64_mul, I64_add, I64_toInt]
  unfold w64
  omega
/-- bytes from the upper ones down -/
def hn (u : Int → Int) : Nat → Int → Int
  | 0, v => v
  | m + 1, v => hn u m (w64 (v * 256 + u m % 256))
theorem hn_s {u : Int → Int} {m v : Int} (m0 : 0 ≤ m) : hn u (m + 1).toNat v = hn u m.toNat (w64 (v * 256 + u m % 256)) := by
  rw [show (m + 1).toNat = m.toNat + 1 by omega]
  show hn u m.toNat (w64 (v * 256 + u ((m.toNat : Nat) : Int) % 256)) = _
  rw [show ((m.toNat : Nat) : Int) = m by omega]
/-- loops that count down -/
theorem dn_ind {α : Type} {P : Int → α → Prop} (I : Int → α → Prop) (step : ∀ x s, 0 ≤ x → I x s → (∀ s2, I (x - 1) s2 → P (x - 1) s2) → P x s) (fin : ∀ s, I (-1) s → P (-1) s) : ∀ x s, -1 ≤ x → I x s → P x s := by
  have aux : ∀ (m : Nat) (x : Int) (s : α), x = (m : Int) - 1 → I x s → P x s := by
    intro m
    induction m with
    | zero => intro x s e i
              obtain rfl : x = -1 := by omega
              exact fin s i
    | succ m ih => intro x s e i; exact step x s (by omega) i (fun s2 i2 => ih (x - 1) s2 (by omega) i2)
  intro x s l i
  exact aux (x + 1).toNat x s (by omega) i
def byv (f : Int → Int) : Prop := ∀ i : Int, -128 ≤ f i ∧ f i ≤ 127
theorem z_get {h : Hp} {b a n : Int} (nb : b ≠ 0) (a0 : 0 ≤ a) (a1 : a ≤ 5000) (n0 : 1 ≤ n) (n1 : n ≤ 8) (l : a + n ≤ ln h b) (bv : ∀ i : Int, 0 ≤ i → i < n → -128 ≤ rd h b (a + i) ∧ rd h b (a + i) ≤ 127) {K : Int → Prop}
    (kk : K (hn (fun i => rd h b (a + i)) (n - 1).toNat (rd h b (a + (n - 1))))) : wp_Kh_get b a n h K := by
  unfold wp_Kh_get
  rw [w32_id (x := a + n) (by omega) (by omega), w32_id (x := a + n - 1) (by omega) (by omega), w32_id (x := n - 2) (by omega) (by omega)]
  refine ⟨nb, by omega, ?_⟩
  rintro _ rfl
  unfold wp_Kh_get_14
  intro P hP
  refine dn_ind (P := fun x v => P v x) (fun x v => x < n - 1 ∧ hn (fun i => rd h b (a + i)) (x + 1).toNat v = hn (fun i => rd h b (a + i)) (n - 1).toNat (rd h b (a + (n - 1)))) (fun x v x0 I next => ?_) (fun v I => ?_) (n - 2) (rd h b (a + n - 1)) (by omega) ⟨by omega, by rw [show n - 2 + 1 = n - 1 by omega, show a + n - 1 = a + (n - 1) by omega]⟩
  · obtain ⟨x1, e⟩ := I
    rw [hn_s x0] at e
    have bx := bv x x0 (by omega)
    apply hP
    rw [w32_id (x := a + x) (by omega) (by omega), iand_255 (by unfold r32; omega), lor_8 (by omega) (by omega)]
    refine ⟨fun q => absurd q (by omega), fun _ => ⟨nb, by omega, ?_⟩⟩
    rintro _ rfl _ rfl
    rw [w32_id (by omega) (by omega)]
    exact next _ ⟨by omega, by rw [show x - 1 + 1 = x by omega]; exact e⟩
  · obtain ⟨x1, e⟩ := I
    refine hP _ _ ⟨fun _ => ?_, fun q => absurd (by decide) q⟩
    have e2 : v = hn (fun i => rd h b (a + i)) (n - 1).toNat (rd h b (a + (n - 1))) := e
    rw [e2]
    exact kk
theorem z_number {h : Hp} {b a n : Int} (nb : b ≠ 0) (a0 : 0 ≤ a) (a1 : a ≤ 20000) (n0 : 1 ≤ n) (n1 : n ≤ 8) (l : a + n ≤ ln h b) (bv : ∀ i : Int, 0 ≤ i → i < n → -128 ≤ rd h b (a + i) ∧ rd h b (a + i) ≤ 127) {K : Int → Prop}
    (kk : K (hn (fun i => rd h b (a + i)) n.toNat 0)) : wp_Mo_number b a n h K := by
  unfold wp_Mo_number wp_Mo_number_7
  rw [w32_id (x := n - 1) (by omega) (by omega)]
  intro P hP
  refine dn_ind (P := fun x v => P v x) (fun x v => x < n ∧ hn (fun i => rd h b (a + i)) (x + 1).toNat v = hn (fun i => rd h b (a + i)) n.toNat 0) (fun x v x0 I next => ?_) (fun v I => ?_) (n - 1) 0 (by omega) ⟨by omega, by rw [show n - 1 + 1 = n by omega]⟩
  · obtain ⟨x1, e⟩ := I
    rw [hn_s x0] at e
    have bx := bv x x0 (by omega)
    apply hP
    rw [w32_id (x := a + x) (by omega) (by omega), land_255 (by unfold r64; omega), lor_8 (by omega) (by omega)]
    refine ⟨fun q => absurd q (by omega), fun _ => ⟨nb, by omega, ?_⟩⟩
    rintro _ rfl _ rfl
    rw [w32_id (by omega) (by omega)]
    exact next _ ⟨by omega, by rw [show x - 1 + 1 = x by omega]; exact e⟩
  · obtain ⟨x1, e⟩ := I
    refine hP _ _ ⟨fun _ => ?_, fun q => absurd (by decide) q⟩
    have e2 : v = hn (fun i => rd h b (a + i)) n.toNat 0 := e
    rw [e2]
    exact kk
/-- four bytes with a sign -/
def g4 (f : Int → Int) : Int := f 3 * 16777216 + f 2 % 256 * 65536 + f 1 % 256 * 256 + f 0 % 256
theorem hn_4 {f : Int → Int} (b : -128 ≤ f 3 ∧ f 3 ≤ 127) : hn f 3 (f 3) = g4 f ∧ hn f 4 0 = f 3 % 256 * 16777216 + f 2 % 256 * 65536 + f 1 % 256 * 256 + f 0 % 256 := by
  have s3 : ∀ v : Int, hn f 3 v = w64 (w64 (w64 (v * 256 + f 2 % 256) * 256 + f 1 % 256) * 256 + f 0 % 256) := fun _ => rfl
  have s4 : hn f 4 0 = hn f 3 (w64 (0 * 256 + f 3 % 256)) := rfl
  rw [s4, s3, s3]
  unfold g4
  have m0 := Int.emod_nonneg (f 0) (show (256 : Int) ≠ 0 by decide)
  have m1 := Int.emod_nonneg (f 1) (show (256 : Int) ≠ 0 by decide)
  have m2 := Int.emod_nonneg (f 2) (show (256 : Int) ≠ 0 by decide)
  have m3 := Int.emod_nonneg (f 3) (show (256 : Int) ≠ 0 by decide)
  have n0 := Int.emod_lt_of_pos (f 0) (show (0 : Int) < 256 by decide)
  have n1 := Int.emod_lt_of_pos (f 1) (show (0 : Int) < 256 by decide)
  have n2 := Int.emod_lt_of_pos (f 2) (show (0 : Int) < 256 by decide)
  have n3 := Int.emod_lt_of_pos (f 3) (show (0 : Int) < 256 by decide)
  generalize f 0 % 256 = a0 at *
  generalize f 1 % 256 = a1 at *
  generalize f 2 % 256 = a2 at *
  generalize f 3 % 256 = a3 at *
  generalize f 3 = a at *
  constructor
  · rw [w64_id (x := a * 256 + a2) (by omega) (by omega), w64_id (x := (a * 256 + a2) * 256 + a1) (by omega) (by omega), w64_id (by omega) (by omega)]
    omega
  · rw [w64_id (x := 0 * 256 + a3) (by omega) (by omega), w64_id (x := (0 * 256 + a3) * 256 + a2) (by omega) (by omega), w64_id (x := ((0 * 256 + a3) * 256 + a2) * 256 + a1) (by omega) (by omega), w64_id (by omega) (by omega)]
    omega
theorem g4_r {f : Int → Int} (b : -128 ≤ f 3 ∧ f 3 ≤ 127) : r32 (g4 f) := by unfold g4 r32; omega
theorem w32_4 {f : Int → Int} (b : -128 ≤ f 3 ∧ f 3 ≤ 127) : w32 (f 3 % 256 * 16777216 + f 2 % 256 * 65536 + f 1 % 256 * 256 + f 0 % 256) = g4 f := by unfold g4 w32; omega
