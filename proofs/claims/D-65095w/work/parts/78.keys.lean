/-! KEYS: KINDS, INDICES, PLACES -/
def bsF (x : Int) : Int := if x < 1 then 135 else if x < 2 then 0 else if x < 3 then 5 else if x < 4 then 10 else if x < 5 then 20 else if x < 6 then 22 else if x < 7 then 26 else if x < 8 then 34 else if x < 9 then 36 else if x < 10 then 46 else if x < 11 then 47 else if x < 12 then 48 else if x < 13 then 51 else if x < 14 then 67 else if x < 15 then 87 else if x < 16 then 127 else 135
def kdF (k : Int) : Int := if k < 5 then 1 else if k < 10 then 2 else if k < 20 then 3 else if k < 22 then 4 else if k < 26 then 5 else if k < 34 then 6 else if k < 36 then 7 else if k < 46 then 8 else if k < 47 then 9 else if k < 48 then 10 else if k < 51 then 11 else if k < 67 then 12 else if k < 87 then 13 else if k < 127 then 14 else 15
def ixF (k : Int) : Int := k - bsF (kdF k)
theorem n15 {x : Int} (a : 1 ≤ x) (b : x ≤ 15) : x = 1 ∨ x = 2 ∨ x = 3 ∨ x = 4 ∨ x = 5 ∨ x = 6 ∨ x = 7 ∨ x = 8 ∨ x = 9 ∨ x = 10 ∨ x = 11 ∨ x = 12 ∨ x = 13 ∨ x = 14 ∨ x = 15 := by omega
theorem bs_s {x : Int} (a : 1 ≤ x) (b : x ≤ 15) : bsF (x + 1) = bsF x + cnt x ∧ 0 < cnt x ∧ 0 ≤ bsF x ∧ bsF x + cnt x ≤ 135 := by
  rcases n15 a b with rfl | rfl | rfl | rfl | rfl | rfl | rfl | rfl | rfl | rfl | rfl | rfl | rfl | rfl | rfl <;> decide
theorem kd_r {k : Int} (k0 : 0 ≤ k) (k1 : k < 135) : (1 ≤ kdF k ∧ kdF k ≤ 15) ∧ bsF (kdF k) ≤ k ∧ k < bsF (kdF k + 1) := by
  unfold kdF
  repeat' split
  all_goals (first | (simp [bsF]; omega) | (simp [bsF]) | omega)
theorem bs_m : ∀ (n : Nat) (x : Int), 1 ≤ x → x + n ≤ 16 → bsF x ≤ bsF (x + n) := by
  intro n
  induction n with
  | zero => intro x _ _; simp
  | succ n ih =>
    intro x a b
    have h1 := ih x a (by omega)
    have h2 := bs_s (x := x + n) (by omega) (by omega)
    rw [show x + ((n + 1 : Nat) : Int) = x + (n : Int) + 1 by omega]
    omega
theorem kd_lt {k x : Int} (k0 : 0 ≤ k) (k1 : k < 135) (a : 1 ≤ x) (b : x < kdF k) : bsF (x + 1) ≤ k := by
  have h := kd_r k0 k1
  have m := bs_m (kdF k - (x + 1)).toNat (x + 1) (by omega) (by omega)
  rw [show x + 1 + (((kdF k - (x + 1)).toNat : Nat) : Int) = kdF k by omega] at m
  omega
theorem ix_r {k : Int} (k0 : 0 ≤ k) (k1 : k < 135) : 0 ≤ ixF k ∧ ixF k < cnt (kdF k) ∧ bsF (kdF k) + ixF k = k := by
  have h := kd_r k0 k1
  have s := bs_s h.1.1 h.1.2
  unfold ixF
  omega
theorem z_kindOf {h : Hp} {k : Int} (sh : Sh h) (k0 : 0 ≤ k) (k1 : k < 135) {K : Int → Prop} (kk : K (kdF k)) : wp_Kh_kindOf k h K := by
  have hr := kd_r k0 k1
  unfold wp_Kh_kindOf wp_Kh_kindOf_4
  intro P hP
  refine up_ind (P := P) (kdF k) (fun x l => 1 ≤ x ∧ l = k - bsF x) (fun x l x1 I next => ?_) (fun l I => ?_) 1 k hr.1.1 ⟨by decide, by show k = k - 0; omega⟩
  · obtain ⟨x0, e⟩ := I
    have s := bs_s x0 (show x ≤ 15 by omega)
    have lt := kd_lt k0 k1 x0 x1
    apply hP
    rw [sh.2.2.2.2.1, sh.2.2.2.1 x (by omega) (by omega)]
    refine ⟨by omega, fun q => absurd q (by omega), fun _ => ⟨by omega, ?_⟩⟩
    rintro _ rfl _ rfl
    rw [w32_id (x := x + 1) (by omega) (by omega), w32_id (x := l - cnt x) (by omega) (by omega)]
    exact next _ ⟨by omega, by omega⟩
  · obtain ⟨x0, e⟩ := I
    have s := bs_s hr.1.1 hr.1.2
    apply hP
    rw [sh.2.2.2.2.1, sh.2.2.2.1 (kdF k) (by omega) (by omega)]
    exact ⟨by omega, fun _ => kk, fun q => absurd (by omega) q⟩
def slF (kd ix : Int) : Int := if (1 ≤ kd ∧ kd ≤ 15) ∧ 0 ≤ ix ∧ ix < cnt kd then bsF kd + ix else -1
theorem z_slot {h : Hp} {kd ix : Int} (sh : Sh h) (b : ix ≤ 1000) {K : Int → Prop} (kk : K (slF kd ix)) : wp_Kh_slot kd ix h K := by
  unfold wp_Kh_slot
  unfold slF at kk
  refine ⟨fun q => ?_, fun q => ⟨fun q1 => ?_, fun q1 => ⟨fun q2 => ?_, fun q2 => ?_⟩⟩⟩
  · rw [if_neg (by omega)] at kk; exact kk
  · rw [if_neg (by omega)] at kk; exact kk
  · rw [if_neg (by omega)] at kk; exact kk
  · rw [sh.2.2.2.2.1, sh.2.2.2.1 kd (by omega) (by omega)]
    refine ⟨by omega, fun q3 => ?_, fun q3 => ?_⟩
    · rw [if_pos (by omega)] at kk
      unfold wp_Kh_slot_30
      intro P hP
      refine up_ind (P := fun x l => P l x) kd (fun x l => 1 ≤ x ∧ l = ix + bsF x) (fun x l x1 I next => ?_) (fun l I => ?_) 1 ix (by omega) ⟨by decide, by show ix = ix + 0; omega⟩
      · obtain ⟨x0, e⟩ := I
        have s := bs_s x0 (show x ≤ 15 by omega)
        apply hP
        rw [sh.2.2.2.2.1, sh.2.2.2.1 x (by omega) (by omega)]
        refine ⟨fun q => absurd q (by omega), fun _ => ⟨by omega, ?_⟩⟩
        rintro _ rfl _ rfl
        rw [w32_id (x := x + 1) (by omega) (by omega), w32_id (x := l + cnt x) (by omega) (by omega)]
        exact next _ ⟨by omega, by omega⟩
      · obtain ⟨x0, e⟩ := I
        refine hP _ _ ⟨fun _ => ?_, fun q => absurd (Int.le_refl kd) q⟩
        rw [e, Int.add_comm]
        exact kk
    · rw [if_neg (by omega)] at kk; exact kk
theorem sl_k {k : Int} (k0 : 0 ≤ k) (k1 : k < 135) : slF (kdF k) (ixF k) = k := by
  have h := kd_r k0 k1
  have i := ix_r k0 k1
  unfold slF
  rw [if_pos (by omega)]
  omega
theorem z_indexOf {h : Hp} {k : Int} (sh : Sh h) (k0 : 0 ≤ k) (k1 : k < 135) {K : Int → Prop} (kk : K (ixF k)) : wp_Kh_indexOf k h K := by
  have hr := kd_r k0 k1
  have s := bs_s hr.1.1 hr.1.2
  unfold wp_Kh_indexOf
  refine z_kindOf sh k0 k1 (z_slot sh (by decide) ?_)
  have e : slF (kdF k) 0 = bsF (kdF k) := by
    unfold slF
    rw [if_pos (by omega), Int.add_zero]
  rw [e, w32_id (by omega) (by omega)]
  exact kk
theorem z_baseOf (x : Int) (K : Int → Prop) : wp_Mo_baseOf x K = K (bsF x) := by
  unfold wp_Mo_baseOf
  rcases Int.lt_or_le x 1 with c | c
  · have e : bsF x = 135 := if_pos c
    rw [e]
    exact propext ⟨fun z => z.1 (Or.inl c), fun z => ⟨fun _ => z, fun q => absurd q (by omega), fun q => absurd q (by omega), fun q => absurd q (by omega), fun q => absurd q (by omega), fun q => absurd q (by omega), fun q => absurd q (by omega), fun q => absurd q (by omega), fun q => absurd q (by omega), fun q => absurd q (by omega), fun q => absurd q (by omega), fun q => absurd q (by omega), fun q => absurd q (by omega), fun q => absurd q (by omega), fun q => absurd q (by omega), fun q => absurd q (by omega), trivial⟩⟩
  · rcases Int.lt_or_le 15 x with d | d
    · have e : bsF x = 135 := by unfold bsF; repeat' split
                                 all_goals omega
      rw [e]
      exact propext ⟨fun z => z.1 (Or.inr d), fun z => ⟨fun _ => z, fun q => absurd q (by omega), fun q => absurd q (by omega), fun q => absurd q (by omega), fun q => absurd q (by omega), fun q => absurd q (by omega), fun q => absurd q (by omega), fun q => absurd q (by omega), fun q => absurd q (by omega), fun q => absurd q (by omega), fun q => absurd q (by omega), fun q => absurd q (by omega), fun q => absurd q (by omega), fun q => absurd q (by omega), fun q => absurd q (by omega), fun q => absurd q (by omega), trivial⟩⟩
    · rcases n15 c d with rfl | rfl | rfl | rfl | rfl | rfl | rfl | rfl | rfl | rfl | rfl | rfl | rfl | rfl | rfl <;> simp [bsF]
theorem z_moKindOf {k : Int} (k0 : 0 ≤ k) (k1 : k < 135) {K : Int → Prop} (kk : K (kdF k)) : wp_Mo_kindOf k K := by
  have hr := kd_r k0 k1
  unfold wp_Mo_kindOf wp_Mo_kindOf_2
  intro P hP
  refine up_ind (P := fun x (_ : Unit) => P x) (kdF k) (fun x _ => 1 ≤ x) (fun x l x1 I next => ?_) (fun l I => ?_) 1 () hr.1.1 (by decide)
  · have lt := kd_lt k0 k1 I x1
    apply hP
    rw [w32_id (x := x + 1) (by omega) (by omega), z_baseOf]
    refine ⟨fun q => absurd q (by omega), fun _ => ?_⟩
    rintro _ rfl
    exact next () (by show 1 ≤ x + 1; omega)
  · apply hP
    rw [w32_id (x := kdF k + 1) (by omega) (by omega), z_baseOf]
    exact ⟨fun _ => kk, fun q => absurd hr.2.2 q⟩
theorem z_keyOf {kd ix : Int} (i0 : 0 ≤ ix) (i1 : ix ≤ 1000) {K : Int → Prop} (kk : K (slF kd ix)) : wp_Mo_keyOf kd ix K := by
  unfold wp_Mo_keyOf
  unfold slF at kk
  refine ⟨fun q => ?_, fun q => ⟨fun q1 => ?_, fun q1 => ?_⟩⟩
  · rw [if_neg (by omega)] at kk; exact kk
  · have s := bs_s (x := kd) (by omega) q1
    rw [z_baseOf]
    rintro _ rfl
    rw [w32_id (x := kd + 1) (by omega) (by omega), z_baseOf, w32_id (x := bsF kd + ix) (by omega) (by omega)]
    refine ⟨fun q2 => ?_, fun q2 => ?_⟩
    · rw [if_neg (by omega)] at kk; exact kk
    · rw [if_pos (by omega)] at kk; exact kk
  · rw [if_neg (by omega)] at kk; exact kk
