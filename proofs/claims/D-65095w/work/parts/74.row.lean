/-! ROWS OF THE DISK: BYTES, CHECKS -/
def byt (v k : Int) : Int := w8 (w32 (lshr' v (8 * k)))
theorem z_set {h : Hp} {b at' n v : Int} (nb : b ≠ 0) (a0 : 0 ≤ at') (a1 : at' ≤ 5000) (n0 : 0 ≤ n) (n1 : n ≤ 8) (l : at' + n ≤ ln h b) {K : Hp → Prop} (kk : K (upr h b at' (at' + n) (fun i => byt v (i - at')))) : wp_Kh_set b at' n v h K := by
  unfold wp_Kh_set wp_Kh_set_3
  intro P hP
  refine up_ind (P := P) n (fun k h' => 0 ≤ k ∧ h' = upr h b at' (at' + k) (fun i => byt v (i - at'))) (fun k h' k1 I next => ?_) (fun h' I => ?_) 0 h n0 ⟨by decide, (upr_nil (by omega)).symm⟩
  · obtain ⟨k0, e⟩ := I
    have el : ln h' b = ln h b := by rw [e]; exact if_neg (by omega)
    apply hP
    rw [el, w32_id (x := at' + k) (by omega) (by omega), w32_id (x := 8 * k) (by omega) (by omega), w8_w8]
    refine ⟨fun q => absurd q (by omega), fun _ => ⟨nb, by omega, ?_⟩⟩
    rintro _ rfl _ rfl
    rw [w32_id (by omega) (by omega)]
    refine next _ ⟨by omega, ?_⟩
    rw [e, upr_up (f := fun i => byt v (i - at')) (by omega) (show w8 (w32 (lshr' v (8 * k))) = byt v (at' + k - at') by rw [show at' + k - at' = k by omega]; rfl), show at' + k + 1 = at' + (k + 1) by omega]
  · exact hP _ _ ⟨fun _ => by rw [I.2]; exact kk, fun q => absurd q (by omega)⟩
theorem z_setIn {h : Hp} {b at' n v : Int} (nb : b ≠ 0) (a0 : 0 ≤ at') (a1 : at' ≤ 5000) (n0 : 0 ≤ n) (n1 : n ≤ 8) (l : at' + n ≤ ln h b) {K : Hp → Prop} (kk : K (upr h b at' (at' + n) (fun i => byt v (i - at')))) : wp_Mo_setIn b at' n v h K := z_set nb a0 a1 n0 n1 l kk
def crb (x : Int) : Int := if iand x 1 = 0 then iushr x 1 else ixor (iushr x 1) (-306674912)
def bits : Nat → Int → Int
  | 0, x => x
  | n + 1, x => bits n (crb x)
def crl (f : Int → Int) : Nat → Int
  | 0 => -1
  | n + 1 => bits 8 (ixor (crl f n) (iand (f n) 255))
def crc (f : Int → Int) (n : Int) : Int := ixor (crl f n.toNat) (-1)
theorem crl_cg {f g : Int → Int} : ∀ {n : Nat}, (∀ k : Int, 0 ≤ k → k < n → f k = g k) → crl f n = crl g n
  | 0, _ => rfl
  | n + 1, e => by
    show bits 8 (ixor (crl f n) (iand (f n) 255)) = bits 8 (ixor (crl g n) (iand (g n) 255))
    rw [crl_cg (fun k k0 k1 => e k k0 (by omega)), e n (by omega) (by omega)]
theorem crc_cg {f g : Int → Int} {n : Int} (e : ∀ k : Int, 0 ≤ k → k < n → f k = g k) : crc f n = crc g n := by
  unfold crc
  rw [crl_cg (fun k k0 k1 => e k k0 (by omega))]
theorem bits_s {x k : Int} (k1 : k < 8) : bits (8 - k).toNat x = bits (8 - (k + 1)).toNat (crb x) := by
  obtain ⟨m, e⟩ : ∃ m : Nat, (8 - k).toNat = m + 1 := ⟨(8 - k).toNat - 1, by omega⟩
  rw [e, show (8 - (k + 1)).toNat = m by omega]
  rfl
theorem z_check {h : Hp} {b n : Int} (nb : b ≠ 0) (n0 : 0 ≤ n) (n1 : n ≤ 5000) (l : n ≤ ln h b) {K : Int → Prop} (kk : K (crc (rd h b) n)) : wp_Kh_check b n h K := by
  unfold wp_Kh_check wp_Kh_check_4
  intro P hP
  refine up_ind (P := fun k x => P x k) n (fun k x => 0 ≤ k ∧ x = crl (rd h b) k.toNat) (fun k x k1 I next => ?_) (fun x I => ?_) 0 (-1) n0 ⟨by decide, rfl⟩
  · obtain ⟨k0, e⟩ := I
    apply hP
    refine ⟨fun q => absurd q (by omega), fun _ => ⟨nb, by omega, ?_⟩⟩
    rintro _ rfl
    unfold wp_Kh_check_22
    intro P2 hP2
    refine up_ind (P := fun j y => P2 y j) 8 (fun j y => 0 ≤ j ∧ bits (8 - j).toNat y = bits 8 (ixor x (iand (rd h b k) 255))) (fun j y j1 J nxt => ?_) (fun y J => ?_) 0 _ (by decide) ⟨by decide, rfl⟩
    · obtain ⟨j0, f⟩ := J
      rw [bits_s j1] at f
      apply hP2
      refine ⟨fun q => absurd q (by omega), fun _ => ⟨fun q => ?_, fun q => ?_⟩⟩
      · rintro _ rfl _ rfl
        rw [w32_id (by omega) (by omega)]
        refine nxt _ ⟨by omega, ?_⟩
        rw [← f]
        unfold crb
        rw [if_neg q]
      · rintro _ rfl _ rfl
        rw [w32_id (by omega) (by omega)]
        refine nxt _ ⟨by omega, ?_⟩
        rw [← f]
        unfold crb
        rw [if_pos (by omega)]
    · obtain ⟨j0, f⟩ := J
      refine hP2 _ _ ⟨fun _ => ?_, fun q => absurd q (by omega)⟩
      rintro _ rfl
      rw [w32_id (by omega) (by omega)]
      refine next _ ⟨by omega, ?_⟩
      have f2 : y = bits 8 (ixor x (iand (rd h b k) 255)) := f
      rw [f2, e, show (k + 1).toNat = k.toNat + 1 by omega]
      show _ = bits 8 (ixor (crl (rd h b) k.toNat) (iand (rd h b (k.toNat : Nat)) 255))
      rw [show ((k.toNat : Nat) : Int) = k by omega]
  · refine hP _ _ ⟨fun _ => ?_, fun q => absurd q (by omega)⟩
    rw [I.2]
    exact kk
theorem iand_1 (x : Int) : iand x 1 = 0 ∨ iand x 1 = 1 := by
  unfold iand
  have h1 : (I32 x &&& I32 1).toBitVec = (I32 x).toBitVec &&& 1#32 := by
    rw [Int32.toBitVec_and]
    rfl
  have h2 : ∀ y : BitVec 32, y &&& 1#32 = 0#32 ∨ y &&& 1#32 = 1#32 := by
    intro y
    have e : (y &&& 1#32).toNat = y.toNat % 2 := by
      rw [BitVec.toNat_and]
      exact Nat.and_one_is_mod _
    rcases Nat.mod_two_eq_zero_or_one y.toNat with c | c
    · exact Or.inl (BitVec.eq_of_toNat_eq (by rw [e, c]; rfl))
    · exact Or.inr (BitVec.eq_of_toNat_eq (by rw [e, c]; rfl))
  rcases h2 (I32 x).toBitVec with e | e
  · left
    show (I32 x &&& I32 1).toBitVec.toInt = 0
    rw [h1, e]
    decide
  · right
    show (I32 x &&& I32 1).toBitVec.toInt = 1
    rw [h1, e]
    decide
theorem z_crcOf {h : Hp} {b s n : Int} (nb : b ≠ 0) (s0 : 0 ≤ s) (s1 : s ≤ 20000) (n0 : 0 ≤ n) (n1 : n ≤ 5000) (l : s + n ≤ ln h b) {K : Int → Prop} (kk : K (crc (fun i => rd h b (s + i)) n)) : wp_Mo_crcOf b s n h K := by
  unfold wp_Mo_crcOf wp_Mo_crcOf_5
  intro P hP
  refine up_ind (P := fun k x => P x k) n (fun k x => 0 ≤ k ∧ x = crl (fun i => rd h b (s + i)) k.toNat) (fun k x k1 I next => ?_) (fun x I => ?_) 0 (-1) n0 ⟨by decide, rfl⟩
  · obtain ⟨k0, e⟩ := I
    apply hP
    rw [w32_id (x := s + k) (by omega) (by omega)]
    refine ⟨fun q => absurd q (by omega), fun _ => ⟨nb, by omega, ?_⟩⟩
    rintro _ rfl
    unfold wp_Mo_crcOf_27
    intro P2 hP2
    refine up_ind (P := fun j y => P2 y j) 8 (fun j y => 0 ≤ j ∧ bits (8 - j).toNat y = bits 8 (ixor x (iand (rd h b (s + k)) 255))) (fun j y j1 J nxt => ?_) (fun y J => ?_) 0 _ (by decide) ⟨by decide, rfl⟩
    · obtain ⟨j0, f⟩ := J
      rw [bits_s j1] at f
      have i1 := iand_1 y
      apply hP2
      refine ⟨fun q => absurd q (by omega), fun _ => ⟨fun q => ?_, fun q => ?_⟩⟩
      · rintro _ rfl _ rfl
        rw [w32_id (by omega) (by omega)]
        refine nxt _ ⟨by omega, ?_⟩
        rw [← f]
        unfold crb
        rw [if_pos (by omega)]
      · rintro _ rfl _ rfl
        rw [w32_id (by omega) (by omega)]
        refine nxt _ ⟨by omega, ?_⟩
        rw [← f]
        unfold crb
        rw [if_neg (by omega)]
    · obtain ⟨j0, f⟩ := J
      refine hP2 _ _ ⟨fun _ => ?_, fun q => absurd q (by omega)⟩
      rintro _ rfl
      rw [w32_id (by omega) (by omega)]
      refine next _ ⟨by omega, ?_⟩
      have f2 : y = bits 8 (ixor x (iand (rd h b (s + k)) 255)) := f
      rw [f2, e, show (k + 1).toNat = k.toNat + 1 by omega]
      show _ = bits 8 (ixor (crl (fun i => rd h b (s + i)) k.toNat) (iand (rd h b (s + (k.toNat : Nat))) 255))
      rw [show ((k.toNat : Nat) : Int) = k by omega]
  · refine hP _ _ ⟨fun _ => ?_, fun q => absurd q (by omega)⟩
    rw [I.2]
    exact kk
/-- the first bytes of a row -/
def rb0 (kd ix la nu ge : Int) (b : Int → Int) (i : Int) : Int := if i = 0 then w8 kd else if i = 1 then w8 ix else if i = 2 then (if la = 0 then 0 else 1) else if i = 3 then 0 else if i < 8 then byt nu (i - 4) else if i < 12 then byt ge (i - 8) else if i < 40 then b (i - 12) else 0
/-- a row -/
def rwb (kd ix la nu ge : Int) (b : Int → Int) (i : Int) : Int := if i < 44 then rb0 kd ix la nu ge b i else byt (crc (rb0 kd ix la nu ge b) 44) (i - 44)
theorem rd_upr_in {h : Hp} {a lo hi j : Int} {f : Int → Int} (x : lo ≤ j) (y : j < hi) : rd (upr h a lo hi f) a j = f j := by rw [rd_upr, if_pos ⟨rfl, x, y⟩]
theorem rd_upr_ne {h : Hp} {a lo hi b j : Int} {f : Int → Int} (x : ¬ (b = a ∧ lo ≤ j ∧ j < hi)) : rd (upr h a lo hi f) b j = rd h b j := by rw [rd_upr, if_neg x]
theorem ln_upr {h : Hp} {a lo hi b : Int} {f : Int → Int} (x : 0 ≤ lo) : ln (upr h a lo hi f) b = ln h b := if_neg (by omega)
/-- a heap that differs in the slots of one cell alone -/
def onl (a : Int) (h h1 : Hp) : Prop := h1.2 = h.2 ∧ ∀ b i : Int, b ≠ a ∨ i < 0 → h1.1 b i = h.1 b i
theorem onl.rf (a : Int) (h : Hp) : onl a h h := ⟨rfl, fun _ _ _ => rfl⟩
theorem onl.put {a i x : Int} {h h1 : Hp} (o : onl a h h1) (k : 0 ≤ i) : onl a h (up h1 a i x) := ⟨o.1, fun b j n => (rd_up_ne (by omega)).trans (o.2 b j n)⟩
theorem onl.upr {a lo hi : Int} {f : Int → Int} {h h1 : Hp} (o : onl a h h1) (k : 0 ≤ lo) : onl a h (upr h1 a lo hi f) := ⟨o.1, fun b j n => (rd_upr_ne (by omega)).trans (o.2 b j n)⟩
theorem onl.rd {a b i : Int} {h h1 : Hp} (o : onl a h h1) (k : b ≠ a) : rd h1 b i = rd h b i := o.2 b i (Or.inl k)
theorem onl.ln {a b : Int} {h h1 : Hp} (o : onl a h h1) : ln h1 b = ln h b := o.2 b (-2) (Or.inr (by decide))
theorem byt_w8 (v k : Int) : w8 (byt v k) = byt v k := w8_w8 _
