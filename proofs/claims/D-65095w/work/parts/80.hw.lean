/-! THE HOUSE'S DATA AT A BASE; THE COMPONENT MAKES A KEY'S BYTES -/
/-- variables of a house -/
def hv (v : Int) : Prop := v = 2 ∨ v = 3 ∨ v = 5 ∨ (16 ≤ v ∧ v ≤ 23) ∨ v = 26 ∨ v = 27 ∨ (75 ≤ v ∧ v ≤ 79) ∨ (100 ≤ v ∧ v ≤ 111) ∨ (117 ≤ v ∧ v ≤ 125)
def hact (t : Ts) (v j : Int) : Prop := (v = 3 → j < 550) ∧ ((v = 104 ∨ v = 105) → t 103 j = 1) ∧ ((107 ≤ v ∧ v ≤ 110) → t 106 j = 1) ∧ ((v = 76 ∨ v = 77) → t 75 j = 1) ∧ (v = 79 → t 75 (j / 48) = 1 ∧ j % 48 < t 78 (j / 48))
/-- the house at base B holds t -/
def HD (B Q : Int) (h : Hp) (t : Ts) : Prop := (∀ v j : Int, hv v → 0 ≤ j → j < dm v → hact t v j → h.1 (ca B Q v j) (ci v j) = t v j) ∧ TickC B h t ∧ rd h B 11 = w32 (t 117 10)
theorem HD.get {B Q : Int} {h : Hp} {t : Ts} {a i v j : Int} (r : HD B Q h t) (e : Lc B Q a i v j) (k : hv v) (c : hact t v j) : rd h a i = t v j := by
  have := r.1 v j k e.2.2.1 e.2.2.2 c
  rw [e.1, e.2.1] at this
  exact this
theorem hact_p {t : Ts} {v j : Int} (p : pln v) (n : v ≠ 3) : hact t v j := by unfold pln at p; unfold hact; omega
theorem RK.hd {H Q L : Int} {h : Hp} {t : Ts} (r : RK H Q L h t) (d : t 137 0 = 0) (tk : TickC H h t) (fl : rd h H 11 = w32 (t 117 10)) : HD H Q h t := by
  refine ⟨fun v j k j0 j1 c => r.2.2 v j j0 j1 ?_, tk, fl⟩
  unfold hv at k
  unfold hact at c
  unfold act
  exact ⟨Or.inr d, c.2.1, c.2.2.1, c.2.2.2.1, c.2.2.2.2, by omega, by omega, by omega⟩
/-- what must be told so that a key can be written -/
def tldK (t : Ts) (k : Int) : Prop := (kdF k = 13 → t 103 (ixF k) = 1) ∧ (kdF k = 14 → t 106 (ixF k) = 1) ∧ (kdF k = 15 → t 75 (ixF k) = 1)
/-- a scratch row of 28 bytes -/
def sc28 (b : Int) : Prop := (64 ≤ b ∧ b < 1400) ∧ (b < 628 ∨ 908 ≤ b) ∧ ∀ i : Int, fp b i = -7
theorem onl.sh {b : Int} {h h1 : Hp} (o : onl b h h1) (s : Sh h) (c : sc28 b) : Sh h1 := by
  have e : nx h1 = nx h := by unfold nx; rw [o.1]
  refine s.cg (fun a i n => ?_) (fun a _ => o.ln) (by omega) (fun k _ => o.rd (by have := c.1; omega))
  by_cases q : a = b
  · rw [q] at n
    exact absurd (c.2.2 i) n
  · exact o.2 a i (Or.inl q)
theorem sh64 (a b : Int64) : (a >>> b).toInt = a.toInt >>> (b.toBitVec.smod 64).toNat := by
  show (a >>> b).toBitVec.toInt = a.toBitVec.toInt >>> (b.toBitVec.smod 64).toNat
  rw [Int64.toBitVec_shiftRight, BitVec.sshiftRight_eq', BitVec.toInt_sshiftRight]
theorem lshr_d {v : Int} (b : r64 v) : lshr' v 0 = v ∧ lshr' v 8 = v / 256 ∧ lshr' v 16 = v / 65536 ∧ lshr' v 24 = v / 16777216 := by
  refine ⟨lshr_0 b, ?_, ?_, ?_⟩
  · unfold lshr'
    rw [show ((I32 8).toInt64 &&& 63) = 8 by decide, sh64, I64_at b, show ((8 : Int64).toBitVec.smod 64).toNat = 8 by decide, Int.shiftRight_eq_div_pow]
    rfl
  · unfold lshr'
    rw [show ((I32 16).toInt64 &&& 63) = 16 by decide, sh64, I64_at b, show ((16 : Int64).toBitVec.smod 64).toNat = 16 by decide, Int.shiftRight_eq_div_pow]
    rfl
  · unfold lshr'
    rw [show ((I32 24).toInt64 &&& 63) = 24 by decide, sh64, I64_at b, show ((24 : Int64).toBitVec.smod 64).toNat = 24 by decide, Int.shiftRight_eq_div_pow]
    rfl
theorem w8_w32 (x : Int) : w8 (w32 x) = w8 x := by unfold w8 w32; omega
theorem w32_byt {v k : Int} (b : r64 v) (k0 : 0 ≤ k) (k1 : k < 4) : byt (w32 v) k = byt v k := by
  have b2 : r64 (w32 v) := r32_r64 (w32_r v)
  obtain ⟨a0, a1, a2, a3⟩ := lshr_d b
  obtain ⟨c0, c1, c2, c3⟩ := lshr_d b2
  unfold byt
  rcases (show k = 0 ∨ k = 1 ∨ k = 2 ∨ k = 3 by omega) with rfl | rfl | rfl | rfl
  · rw [show 8 * (0 : Int) = 0 by decide, a0, c0, w8_w32, w8_w32]
  · rw [show 8 * (1 : Int) = 8 by decide, a1, c1, w8_w32, w8_w32]
    unfold w8 w32
    omega
  · rw [show 8 * (2 : Int) = 16 by decide, a2, c2, w8_w32, w8_w32]
    unfold w8 w32
    omega
  · rw [show 8 * (3 : Int) = 24 by decide, a3, c3, w8_w32, w8_w32]
    unfold w8 w32
    omega
theorem k_clear1 {h : Hp} {b : Int} (nb : b ≠ 0) (l : ln h b = 28) {K : Hp → Prop} (kk : ∀ h1, onl b h h1 → cel b h1 z0 → K h1) : wp_House_clear1 b 0 h K := by
  unfold wp_House_clear1 wp_House_clear1_2
  intro P hP
  refine up_ind (P := P) 28 (fun j h' => 0 ≤ j ∧ h' = upr h b 0 j (fun _ => 0)) (fun j h' j1 I next => ?_) (fun h' I => ?_) 0 h (by decide) ⟨by decide, (upr_nil (by omega)).symm⟩
  · obtain ⟨j0, e⟩ := I
    have o' : onl b h h' := by rw [e]; exact (onl.rf b h).upr (by decide)
    apply hP
    rw [o'.ln, l]
    refine ⟨nb, fun q => absurd q (by omega), fun _ => ⟨by omega, ?_⟩⟩
    rintro _ rfl _ rfl
    rw [w32_id (by omega) (by omega)]
    refine next _ ⟨by omega, ?_⟩
    rw [e, show w8 (w8 0) = 0 by decide, upr_up (f := fun _ => 0) (by omega) rfl]
  · obtain ⟨_, e⟩ := I
    have o' : onl b h h' := by rw [e]; exact (onl.rf b h).upr (by decide)
    apply hP
    rw [o'.ln, l]
    exact ⟨nb, fun _ => kk h' o' (fun i i0 i1 => by rw [e, rd_upr_in i0 i1]; rfl), fun q => absurd (by decide) q⟩
theorem k_hwrite {B Q : Int} {h : Hp} {t : Ts} {n k b : Int} (sh : Sh h) (hb : is_h B) (hd : HD B Q h t) (g : Bd n t) (k0 : 0 ≤ k) (k1 : k < 135) (tl : tldK t k) (c28 : sc28 b) (l : ln h b = 28) {K : Hp → Prop}
    (kk : ∀ h1, onl b h h1 → cel b h1 (kb t k) → K h1) : wp_House_write B k b h K := by
  have hB : B = 628 ∨ B = 768 := hb
  have hr := kd_r k0 k1
  have hi := ix_r k0 k1
  have hs := bs_s hr.1.1 hr.1.2
  have cb := c28.1
  have cb2 := c28.2.1
  have nb : b ≠ 0 := by omega
  unfold wp_House_write
  refine k_clear1 nb l (fun h' o' c' => ?_)
  have sh' := o'.sh sh c28
  refine z_indexOf sh' k0 k1 (z_kindOf sh' k0 k1 ?_)
  have ek : ∀ h1, onl b h h1 → cel b h1 (kbx t (kdF k) (ixF k)) → K h1 := kk
  unfold tldK at tl
  generalize kdF k = kd at *
  generalize ixF k = x at *
  clear kk
  have st : ∀ {h2 : Hp}, onl b h h2 → Sh h2 := fun o => o.sh sh c28
  have ge : ∀ {h2 : Hp} {a i v j : Int}, onl b h h2 → a ≠ b → Lc B Q a i v j → hv v → hact t v j → rd h2 a i = t v j := fun o n e p q => (o.rd n).trans (hd.get e p q)
  have hp : ∀ {v j : Int}, pln v → v ≠ 3 → hact t v j := fun p q => hact_p p q
  refine ⟨fun q => ?_, fun q => ?_, fun q => ?_, fun q => ?_, fun q => ?_, fun q => ?_, fun q => ?_, fun q => ?_, fun q => ?_, fun q => ?_, fun q => ?_, fun q => ?_, fun q => ?_, fun q => ?_, fun q => ?_, trivial⟩
  · obtain rfl : kd = 15 := by omega
    have cx : cnt 15 = 8 := by decide
    have ca' : hact t 76 x := by unfold hact; refine ⟨by omega, by omega, by omega, fun _ => tl.2.2 rfl, by omega⟩
    have cb' : hact t 77 x := by unfold hact; refine ⟨by omega, by omega, by omega, fun _ => tl.2.2 rfl, by omega⟩
    refine cs_set o' c' nb l (by decide) (by decide) (by decide) (by decide) (fun h2 o2 c2 => ?_)
    rw [p_20_23 hb (st o2), l_40 hb (st o2), p_40 hb hi.1 (by omega) (st o2), ge o2 (by omega) (e_46_76 hi.1 (by omega)) (by unfold hv; omega) ca']
    refine ⟨by omega, by omega, by omega, cs_set o2 c2 nb l (by decide) (by decide) (by decide) (by decide) (fun h3 o3 c3 => ?_)⟩
    rw [p_20_23 hb (st o3), l_40 hb (st o3), p_40 hb hi.1 (by omega) (st o3), ge o3 (by omega) (e_46_77 hi.1 (by omega)) (by unfold hv; omega) cb']
    exact ⟨by omega, by omega, by omega, cs_set o3 c3 nb l (by decide) (by decide) (by decide) (by decide) (fun h4 o4 c4 => ek h4 o4 c4)⟩
  all_goals subst q
  · have cx : cnt 1 = 5 := by decide
    unfold wp_House_write_87
    intro P2 hP2
    refine up_ind (P := P2) 110 (fun j h2 => 0 ≤ j ∧ onl b h h2 ∧ cel b h2 (oA 4 2 (fun e => t 3 (110 * x + e)) j.toNat)) (fun j h2 j1 I next => ?_) (fun h2 I => ?_) 0 h' (by decide) ⟨by decide, o', c'⟩
    · obtain ⟨j0, o2, c2⟩ := I
      apply hP2
      rw [tdiv_pos j0 (by decide), tmod_pos j0 (by decide), w32_id (x := j / 4) (by omega) (by omega), w32_id (x := 2 * (j % 4)) (by omega) (by omega), o2.ln, l, p_20_0 hb (st o2), p_21_0 hb (st o2), l_22 hb (st o2), p_22 hb hi.1 (by omega) (st o2), l_23 hb hi.1 (by omega) (st o2), ge o2 (by omega) (e_23_3 hi.1 (by omega) j0 j1) (by unfold hv; omega) (by unfold hact; omega), c2 (j / 4) (by omega) (by omega), w8_w8]
      refine ⟨fun q => absurd q (by omega), fun _ => ⟨nb, by omega, by omega, by omega, by omega, by omega, by omega, by omega, ?_⟩⟩
      rintro _ rfl _ rfl
      rw [w32_id (by omega) (by omega)]
      refine next _ ⟨by omega, o2.put (by omega), ?_⟩
      rw [oA_s j0]
      refine cel_cg (cel_put c2) (fun i i0 i1 => ?_)
      by_cases q : i = j / 4
      · rw [if_pos q, if_pos q, q]
      · rw [if_neg q, if_neg q]
    · exact hP2 _ _ ⟨fun _ => ek h2 I.2.1 I.2.2, fun q => absurd q (by omega)⟩
  · have cx : cnt 2 = 5 := by decide
    unfold wp_House_write_136
    intro P2 hP2
    refine up_ind (P := P2) 48 (fun j h2 => 0 ≤ j ∧ onl b h h2 ∧ cel b h2 (oA 2 4 (fun e => t 5 (48 * x + e)) j.toNat)) (fun j h2 j1 I next => ?_) (fun h2 I => ?_) 0 h' (by decide) ⟨by decide, o', c'⟩
    · obtain ⟨j0, o2, c2⟩ := I
      apply hP2
      rw [tdiv_pos j0 (by decide), tmod_pos j0 (by decide), w32_id (x := j / 2) (by omega) (by omega), w32_id (x := 4 * (j % 2)) (by omega) (by omega), o2.ln, l, p_20_1 hb (st o2), l_24 hb (st o2), p_24 hb hi.1 (by omega) (st o2), l_25 hb hi.1 (by omega) (st o2), ge o2 (by omega) (e_25_5 hi.1 (by omega) j0 j1) (by unfold hv; omega) (by unfold hact; omega), c2 (j / 2) (by omega) (by omega), w8_w8]
      refine ⟨fun q => absurd q (by omega), fun _ => ⟨nb, by omega, by omega, by omega, by omega, by omega, by omega, ?_⟩⟩
      rintro _ rfl _ rfl
      rw [w32_id (by omega) (by omega)]
      refine next _ ⟨by omega, o2.put (by omega), ?_⟩
      rw [oA_s j0]
      refine cel_cg (cel_put c2) (fun i i0 i1 => ?_)
      by_cases q : i = j / 2
      · rw [if_pos q, if_pos q, q]
      · rw [if_neg q, if_neg q]
    · exact hP2 _ _ ⟨fun _ => ek h2 I.2.1 I.2.2, fun q => absurd q (by omega)⟩
  · have cx : cnt 3 = 10 := by decide
    unfold wp_House_write_179
    rw [p_20_2 hb sh', l_26 hb sh', p_26 hb hi.1 (by omega) sh']
    refine ⟨by omega, by omega, by omega, nb, ?_, ?_⟩
    · unfold cpR
      rw [l_27 hb hi.1 (by omega) sh', o'.ln, l]
      omega
    · rintro _ rfl
      rw [cpy_upr]
      refine ek _ (o'.upr (by decide)) (fun i i0 i1 => ?_)
      show _ = if i < 24 then t 16 (24 * x + i) else 0
      by_cases q : i < 24
      · rw [rd_upr_in i0 (by omega), if_pos q]
        show rd h' (B + (15 + x)) (0 + (i - 0)) = _
        rw [show (0 : Int) + (i - 0) = i by omega]
        exact ge o' (by omega) (e_27_16 hi.1 (by omega) i0 q) (by unfold hv; omega) (hp (by unfold pln; omega) (by decide))
      · rw [rd_upr_ne (by omega), if_neg q]
        exact c' i i0 i1
  · have cx : cnt 4 = 2 := by decide
    unfold wp_House_write_199
    intro P2 hP2
    refine up_ind (P := P2) 12 (fun j h2 => 0 ≤ j ∧ onl b h h2 ∧ cel b h2 (pN 2 2 (fun e => t 17 (12 * x + e)) j.toNat)) (fun j h2 j1 I next => ?_) (fun h2 I => ?_) 0 h' (by decide) ⟨by decide, o', c'⟩
    · obtain ⟨j0, o2, c2⟩ := I
      apply hP2
      have e1 : w32 (w32 (12 * x) + j) = 12 * x + j := by unfold w32; omega
      rw [e1, p_20_3 hb (st o2), l_28 hb (st o2), ge o2 (by omega) (e_28_17 (i := 12 * x + j) (by omega) (by omega)) (by unfold hv; omega) (hp (by unfold pln; omega) (by decide)), w32_id (x := 2 * j) (by omega) (by omega)]
      refine ⟨fun q => absurd q (by omega), fun _ => ⟨by omega, by omega, cs_set o2 c2 nb l (by omega) (by decide) (by decide) (by omega) (fun h3 o3 c3 => ?_)⟩⟩
      rintro _ rfl
      rw [w32_id (by omega) (by omega)]
      exact next _ ⟨by omega, o3, by rw [pN_s j0]; exact c3⟩
    · exact hP2 _ _ ⟨fun _ => ek h2 I.2.1 I.2.2, fun q => absurd q (by omega)⟩
  · have cx : cnt 5 = 4 := by decide
    unfold wp_House_write_240
    intro P2 hP2
    refine up_ind (P := P2) 24 (fun j h2 => 0 ≤ j ∧ onl b h h2 ∧ cel b h2 (fun i => if i < j then w8 (t 18 (24 * x + i)) else 0)) (fun j h2 j1 I next => ?_) (fun h2 I => ?_) 0 h' (by decide) ⟨by decide, o', cel_cg c' (fun i i0 i1 => by rw [if_neg (by omega)]; rfl)⟩
    · obtain ⟨j0, o2, c2⟩ := I
      apply hP2
      have b18 := b_18 g (i := 24 * x + j) (by omega) (by omega)
      rw [p_20_4 hb (st o2), l_29 hb (st o2), p_29 hb hi.1 (by omega) (st o2), l_30 hb hi.1 (by omega) (st o2), ge o2 (by omega) (e_30_18 hi.1 (by omega) j0 j1) (by unfold hv; omega) (hp (by unfold pln; omega) (by decide))]
      refine ⟨fun q => absurd q (by omega), fun _ => ⟨by omega, by omega, by omega, by omega, cs_set o2 c2 nb l j0 (by decide) (by decide) (by omega) (fun h3 o3 c3 => ?_)⟩⟩
      rintro _ rfl
      rw [w32_id (by omega) (by omega)]
      refine next _ ⟨by omega, o3, cel_cg c3 (fun i i0 i1 => ?_)⟩
      unfold pcs
      by_cases q : i = j
      · rw [if_pos (by omega), if_pos (by omega), q, Int.sub_self, byt_0 (by unfold r32; omega)]
      · rw [if_neg (by omega)]
        show (if i < j then w8 (t 18 (24 * x + i)) else 0) = if i < j + 1 then w8 (t 18 (24 * x + i)) else 0
        by_cases q2 : i < j
        · rw [if_pos q2, if_pos (by omega)]
        · rw [if_neg q2, if_neg (by omega)]
    · exact hP2 _ _ ⟨fun _ => ek h2 I.2.1 I.2.2, fun q => absurd q (by omega)⟩
  · have cx : cnt 6 = 8 := by decide
    have e6 : kbx t 6 x = (if x < 7 then (fun i => t 26 (28 * x + i)) else (fun i => if i = 0 then w8 (t 27 0) else 0)) := rfl
    rw [e6] at ek
    unfold wp_House_write_273
    refine ⟨fun q => ?_, fun q => ?_⟩
    · rw [if_pos (by omega)] at ek
      rw [p_20_5 hb sh', w32_id (x := 28 * x) (by omega) (by omega)]
      refine ⟨by omega, nb, ?_, ?_⟩
      · unfold cpR
        rw [l_31 hb sh', o'.ln, l]
        omega
      · rintro _ rfl
        rw [cpy_upr]
        refine ek _ (o'.upr (by decide)) (fun i i0 i1 => ?_)
        rw [rd_upr_in i0 (by omega)]
        show rd h' (B + 31) (28 * x + (i - 0)) = t 26 (28 * x + i)
        rw [show 28 * x + (i - 0) = 28 * x + i by omega]
        exact ge o' (by omega) (e_31_26 (by omega) (by omega)) (by unfold hv; omega) (hp (by unfold pln; omega) (by decide))
    · obtain rfl : x = 7 := by omega
      rw [if_neg (by decide)] at ek
      have b27 := b_27 g
      rw [ge o' (by omega) e_20_27 (by unfold hv; omega) (hp (by unfold pln; omega) (by decide))]
      refine cs_set o' c' nb l (by decide) (by decide) (by decide) (by decide) (fun h3 o3 c3 => ek h3 o3 (cel_cg c3 (fun i i0 i1 => ?_)))
      unfold pcs
      by_cases q : i = 0
      · rw [if_pos (by omega), if_pos q, q, Int.sub_self, byt_0 (by unfold r32; omega)]
      · rw [if_neg (by omega), if_neg q]
        rfl
  · have cx : cnt 7 = 2 := by decide
    have e7 : kbx t 7 x = (if x = 0 then pN 2 2 (t 19) 11 else pN 1 1 (t 20) 11) := rfl
    rw [e7] at ek
    unfold wp_House_write_314
    intro P2 hP2
    by_cases s7 : x = 0
    · rw [if_pos s7] at ek
      refine up_ind (P := P2) 11 (fun j h2 => 0 ≤ j ∧ onl b h h2 ∧ cel b h2 (pN 2 2 (t 19) j.toNat)) (fun j h2 j1 I next => ?_) (fun h2 I => ?_) 0 h' (by decide) ⟨by decide, o', c'⟩
      · obtain ⟨j0, o2, c2⟩ := I
        apply hP2
        refine ⟨fun q => absurd q (by omega), fun _ => ⟨fun q => absurd s7 q, fun _ => ⟨fun q => absurd s7 q, fun _ => ?_⟩⟩⟩
        unfold wp_House_write_344 wp_House_write_367
        rw [p_20_7 hb (st o2), l_32 hb (st o2), ge o2 (by omega) (e_32_19 j0 j1) (by unfold hv; omega) (hp (by unfold pln; omega) (by decide)), w32_id (x := 2 * j) (by omega) (by omega)]
        refine ⟨fun q => absurd s7 q, fun _ => ⟨by omega, by omega, cs_set o2 c2 nb l (by omega) (by decide) (by decide) (by omega) (fun h3 o3 c3 => ?_)⟩⟩
        rintro _ rfl
        rw [w32_id (by omega) (by omega)]
        exact next _ ⟨by omega, o3, by rw [pN_s j0]; exact c3⟩
      · exact hP2 _ _ ⟨fun _ => ek h2 I.2.1 I.2.2, fun q => absurd q (by omega)⟩
    · rw [if_neg s7] at ek
      refine up_ind (P := P2) 11 (fun j h2 => 0 ≤ j ∧ onl b h h2 ∧ cel b h2 (pN 1 1 (t 20) j.toNat)) (fun j h2 j1 I next => ?_) (fun h2 I => ?_) 0 h' (by decide) ⟨by decide, o', c'⟩
      · obtain ⟨j0, o2, c2⟩ := I
        apply hP2
        refine ⟨fun q => absurd q (by omega), fun _ => ⟨fun _ => ⟨fun _ => ?_, fun q => absurd s7 q⟩, fun q => absurd s7 q⟩⟩
        unfold wp_House_write_344 wp_House_write_367
        rw [p_20_8 hb (st o2), l_33 hb (st o2), ge o2 (by omega) (e_33_20 j0 j1) (by unfold hv; omega) (hp (by unfold pln; omega) (by decide))]
        refine ⟨fun _ => ⟨by omega, by omega, cs_set o2 c2 nb l (by omega) (by decide) (by decide) (by omega) (fun h3 o3 c3 => ?_)⟩, fun q => absurd s7 q⟩
        rintro _ rfl
        rw [w32_id (by omega) (by omega)]
        refine next _ ⟨by omega, o3, ?_⟩
        rw [pN_s j0, Int.one_mul]
        exact c3
      · exact hP2 _ _ ⟨fun _ => ek h2 I.2.1 I.2.2, fun q => absurd q (by omega)⟩
  · have cx : cnt 8 = 10 := by decide
    unfold wp_House_write_379
    rw [p_20_9 hb sh', l_34 hb sh', p_34 hb hi.1 (by omega) sh', ge o' (by omega) (e_41_120 hi.1 (by omega)) (by unfold hv; omega) (hp (by unfold pln; omega) (by decide))]
    refine ⟨by omega, by omega, by omega, cs_set o' c' nb l (by decide) (by decide) (by decide) (by decide) (fun h2 o2 c2 => ?_)⟩
    rw [p_20_9 hb (st o2), l_34 hb (st o2), p_34 hb hi.1 (by omega) (st o2), ge o2 (by omega) (e_41_121 hi.1 (by omega)) (by unfold hv; omega) (hp (by unfold pln; omega) (by decide))]
    refine ⟨by omega, by omega, by omega, cs_set o2 c2 nb l (by decide) (by decide) (by decide) (by decide) (fun h3 o3 c3 => ?_)⟩
    unfold wp_House_write_415
    intro P2 hP2
    apply hP2
    rw [p_20_9 hb (st o3), l_34 hb (st o3), p_34 hb hi.1 (by omega) (st o3), p_41_2 hb hi.1 (by omega) (st o3), l_42 hb hi.1 (by omega) (st o3), ge o3 (by omega) (e_42_117 hi.1 (by omega)) (by unfold hv; omega) (hp (by unfold pln; omega) (by decide)), show w32 (16 + w32 (4 * 0)) = 16 by decide]
    refine ⟨fun q => absurd q (by decide), fun _ => ⟨by omega, by omega, by omega, by omega, by decide, cs_set o3 c3 nb l (by decide) (by decide) (by decide) (by decide) (fun h4 o4 c4 => ?_)⟩⟩
    rintro _ rfl
    apply hP2
    rw [show w32 (0 + 1) = 1 by decide, p_20_9 hb (st o4), l_34 hb (st o4), p_34 hb hi.1 (by omega) (st o4), p_41_2 hb hi.1 (by omega) (st o4), l_42 hb hi.1 (by omega) (st o4), ge o4 (by omega) (e_42_118 hi.1 (by omega)) (by unfold hv; omega) (hp (by unfold pln; omega) (by decide)), show w32 (16 + w32 (4 * 1)) = 20 by decide]
    refine ⟨fun q => absurd q (by decide), fun _ => ⟨by omega, by omega, by omega, by omega, by decide, cs_set o4 c4 nb l (by decide) (by decide) (by decide) (by decide) (fun h5 o5 c5 => ?_)⟩⟩
    rintro _ rfl
    apply hP2
    rw [show w32 (1 + 1) = 2 by decide, p_20_9 hb (st o5), l_34 hb (st o5), p_34 hb hi.1 (by omega) (st o5), p_41_2 hb hi.1 (by omega) (st o5), l_42 hb hi.1 (by omega) (st o5), ge o5 (by omega) (e_42_119 hi.1 (by omega)) (by unfold hv; omega) (hp (by unfold pln; omega) (by decide)), show w32 (16 + w32 (4 * 2)) = 24 by decide]
    refine ⟨fun q => absurd q (by decide), fun _ => ⟨by omega, by omega, by omega, by omega, by decide, cs_set o5 c5 nb l (by decide) (by decide) (by decide) (by decide) (fun h6 o6 c6 => ?_)⟩⟩
    rintro _ rfl
    apply hP2
    exact ⟨fun _ => ek h6 o6 c6, fun q => absurd (by decide) q⟩
  · unfold wp_House_write_455
    rw [ge o' (by omega) e_20_2 (by unfold hv; omega) (hp (by unfold pln; omega) (by decide))]
    refine cs_set o' c' nb l (by decide) (by decide) (by decide) (by decide) (fun h2 o2 c2 => ?_)
    rw [ge o2 (by omega) e_20_122 (by unfold hv; omega) (hp (by unfold pln; omega) (by decide))]
    refine cs_set o2 c2 nb l (by decide) (by decide) (by decide) (by decide) (fun h3 o3 c3 => ?_)
    rw [ge o3 (by omega) e_20_123 (by unfold hv; omega) (hp (by unfold pln; omega) (by decide))]
    refine cs_set o3 c3 nb l (by decide) (by decide) (by decide) (by decide) (fun h4 o4 c4 => ?_)
    rw [ge o4 (by omega) e_20_124 (by unfold hv; omega) (hp (by unfold pln; omega) (by decide))]
    refine cs_set o4 c4 nb l (by decide) (by decide) (by decide) (by decide) (fun h5 o5 c5 => ?_)
    rw [ge o5 (by omega) e_20_125 (by unfold hv; omega) (hp (by unfold pln; omega) (by decide))]
    exact cs_set o5 c5 nb l (by decide) (by decide) (by decide) (by decide) (fun h6 o6 c6 => ek h6 o6 c6)
  · unfold wp_House_write_516
    have b117 := b_117 g (i := 10) (by decide) (by decide)
    have gn := g.1
    rw [ge o' (by omega) e_20_118 (by unfold hv; omega) (hp (by unfold pln; omega) (by decide))]
    refine cs_set o' c' nb l (by decide) (by decide) (by decide) (by decide) (fun h2 o2 c2 => ?_)
    rw [o2.rd (show B ≠ b by omega), hd.2.2]
    refine cs_set o2 c2 nb l (by decide) (by decide) (by decide) (by decide) (fun h3 o3 c3' => ?_)
    have c3 : cel b h3 (pcs (pcs z0 0 4 (t 118 10)) 4 4 (t 117 10)) := cel_cg c3' (fun i i0 i1 => by
      unfold pcs
      by_cases q : 4 ≤ i ∧ i < 4 + 4
      · rw [if_pos q, if_pos q, w32_byt (by unfold r64; omega) (by omega) (by omega)]
      · rw [if_neg q, if_neg q])
    rw [ge o3 (by omega) e_20_21 (by unfold hv; omega) (hp (by unfold pln; omega) (by decide))]
    refine cs_set o3 c3 nb l (by decide) (by decide) (by decide) (by decide) (fun h4 o4 c4 => ?_)
    unfold wp_House_write_553
    intro P2 hP2
    apply hP2
    rw [p_20_18 hb (st o4), l_35 hb (st o4), ge o4 (by omega) (e_35_22 (by decide) (by decide)) (by unfold hv; omega) (hp (by unfold pln; omega) (by decide)), show w32 (12 + w32 (4 * 0)) = 12 by decide]
    refine ⟨fun q => absurd q (by decide), fun _ => ⟨by omega, by decide, cs_set o4 c4 nb l (by decide) (by decide) (by decide) (by decide) (fun h5 o5 c5 => ?_)⟩⟩
    rintro _ rfl
    apply hP2
    rw [show w32 (0 + 1) = 1 by decide, p_20_18 hb (st o5), l_35 hb (st o5), ge o5 (by omega) (e_35_22 (by decide) (by decide)) (by unfold hv; omega) (hp (by unfold pln; omega) (by decide)), show w32 (12 + w32 (4 * 1)) = 16 by decide]
    refine ⟨fun q => absurd q (by decide), fun _ => ⟨by omega, by decide, cs_set o5 c5 nb l (by decide) (by decide) (by decide) (by decide) (fun h6 o6 c6 => ?_)⟩⟩
    rintro _ rfl
    apply hP2
    rw [show w32 (1 + 1) = 2 by decide, p_20_18 hb (st o6), l_35 hb (st o6), ge o6 (by omega) (e_35_22 (by decide) (by decide)) (by unfold hv; omega) (hp (by unfold pln; omega) (by decide)), show w32 (12 + w32 (4 * 2)) = 20 by decide]
    refine ⟨fun q => absurd q (by decide), fun _ => ⟨by omega, by decide, cs_set o6 c6 nb l (by decide) (by decide) (by decide) (by decide) (fun h7 o7 c7 => ?_)⟩⟩
    rintro _ rfl
    apply hP2
    exact ⟨fun _ => ek h7 o7 c7, fun q => absurd (by decide) q⟩
  · have cx : cnt 11 = 3 := by decide
    unfold wp_House_write_588
    rw [p_20_19 hb sh', l_36 hb sh', p_36 hb hi.1 (by omega) sh', ge o' (by omega) (e_43_23 hi.1 (by omega)) (by unfold hv; omega) (hp (by unfold pln; omega) (by decide))]
    refine ⟨by omega, by omega, by omega, cs_set o' c' nb l (by decide) (by decide) (by decide) (by decide) (fun h2 o2 c2 => ?_)⟩
    rw [p_20_19 hb (st o2), l_36 hb (st o2), p_36 hb hi.1 (by omega) (st o2), ge o2 (by omega) (e_43_100 hi.1 (by omega)) (by unfold hv; omega) (hp (by unfold pln; omega) (by decide))]
    refine ⟨by omega, by omega, by omega, cs_set o2 c2 nb l (by decide) (by decide) (by decide) (by decide) (fun h3 o3 c3 => ?_)⟩
    rw [p_20_19 hb (st o3), l_36 hb (st o3), p_36 hb hi.1 (by omega) (st o3), ge o3 (by omega) (e_43_101 hi.1 (by omega)) (by unfold hv; omega) (hp (by unfold pln; omega) (by decide))]
    refine ⟨by omega, by omega, by omega, cs_set o3 c3 nb l (by decide) (by decide) (by decide) (by decide) (fun h4 o4 c4 => ?_)⟩
    rw [p_20_19 hb (st o4), l_36 hb (st o4), p_36 hb hi.1 (by omega) (st o4), ge o4 (by omega) (e_43_102 hi.1 (by omega)) (by unfold hv; omega) (hp (by unfold pln; omega) (by decide))]
    have fin : ∀ y : Int, y = on1 (t 102 x) → wp_House_write_658 K y 1 12 b h4 := by
      intro y ey
      unfold wp_House_write_658
      refine cs_set o4 c4 nb l (by decide) (by decide) (by decide) (by decide) (fun h5 o5 c5 => ek h5 o5 ?_)
      rw [ey] at c5
      exact c5
    exact ⟨by omega, by omega, by omega, fun z => fin 0 (by rw [z]; rfl), fun z => fin 1 (by unfold on1; rw [if_neg z])⟩
  · have cx : cnt 12 = 16 := by decide
    have e12 : kbx t 12 x = kb12 t x := rfl
    rw [e12] at ek
    unfold kb12 at ek
    unfold wp_House_write_664
    have tk : ∀ {h2 : Hp}, onl b h h2 → rd h2 (B + 37) x = rd h (B + 37) x := fun o => o.rd (by omega)
    rw [p_20_20 hb sh', l_37 hb sh', tk o']
    rcases hd.2.1.1 x hi.1 (by omega) with ⟨y1, y2⟩ | ⟨y1, y2, y3, y4, y5, y6, y7, y8⟩
    · rw [if_pos y1] at ek
      rw [y2]
      exact ⟨by omega, by omega, fun _ => ek h' o' c', fun z => absurd rfl z⟩
    · rw [if_neg (by omega)] at ek
      have d1 := y2.1
      generalize rd h (B + 37) x = p at *
      have tp : ∀ {h2 : Hp} {i : Int}, onl b h h2 → rd h2 p i = rd h p i := fun o => o.rd (by omega)
      refine ⟨by omega, by omega, fun z => absurd z (by omega), fun _ => cs_set o' c' nb l (by decide) (by decide) (by decide) (by decide) (fun h2 o2 c2 => ?_)⟩
      rw [p_20_20 hb (st o2), l_37 hb (st o2), tk o2, tp o2, y4]
      refine ⟨by omega, by omega, by omega, cs_set o2 c2 nb l (by decide) (by decide) (by decide) (by decide) (fun h3 o3 c3 => ?_)⟩
      rw [p_20_20 hb (st o3), l_37 hb (st o3), tk o3, tp o3, y5]
      refine ⟨by omega, by omega, by omega, cs_set o3 c3 nb l (by decide) (by decide) (by decide) (by decide) (fun h4 o4 c4 => ?_)⟩
      rw [p_20_20 hb (st o4), l_37 hb (st o4), tk o4, tp o4, y6]
      refine ⟨by omega, by omega, by omega, cs_set o4 c4 nb l (by decide) (by decide) (by decide) (by decide) (fun h5 o5 c5 => ?_)⟩
      rw [p_20_20 hb (st o5), l_37 hb (st o5), tk o5, tp o5, y7]
      refine ⟨by omega, by omega, by omega, cs_set o5 c5 nb l (by decide) (by decide) (by decide) (by decide) (fun h6 o6 c6 => ?_)⟩
      rw [p_20_20 hb (st o6), l_37 hb (st o6), tk o6, tp o6, y3]
      exact ⟨by omega, by omega, by omega, cs_set o6 c6 nb l (by decide) (by decide) (by decide) (by decide) (fun h7 o7 c7 => ek h7 o7 c7)⟩
  · have cx : cnt 13 = 20 := by decide
    have ca' : ∀ v : Int, v = 104 ∨ v = 105 → hact t v x := by intro v e; unfold hact; refine ⟨by omega, fun _ => tl.1 rfl, by omega, by omega, by omega⟩
    unfold wp_House_write_764
    refine cs_set o' c' nb l (by decide) (by decide) (by decide) (by decide) (fun h2 o2 c2 => ?_)
    rw [p_20_21 hb (st o2), l_38 hb (st o2), p_38 hb hi.1 (by omega) (st o2), ge o2 (by omega) (e_44_104 hi.1 (by omega)) (by unfold hv; omega) (ca' 104 (Or.inl rfl))]
    refine ⟨by omega, by omega, by omega, cs_set o2 c2 nb l (by decide) (by decide) (by decide) (by decide) (fun h3 o3 c3 => ?_)⟩
    rw [p_20_21 hb (st o3), l_38 hb (st o3), p_38 hb hi.1 (by omega) (st o3), ge o3 (by omega) (e_44_105 hi.1 (by omega)) (by unfold hv; omega) (ca' 105 (Or.inr rfl))]
    exact ⟨by omega, by omega, by omega, cs_set o3 c3 nb l (by decide) (by decide) (by decide) (by decide) (fun h4 o4 c4 => ek h4 o4 c4)⟩
  · have cx : cnt 14 = 40 := by decide
    have ca' : ∀ v : Int, 107 ≤ v ∧ v ≤ 110 → hact t v x := by intro v e; unfold hact; refine ⟨by omega, by omega, fun _ => tl.2.1 rfl, by omega, by omega⟩
    unfold wp_House_write_806
    refine cs_set o' c' nb l (by decide) (by decide) (by decide) (by decide) (fun h2 o2 c2 => ?_)
    rw [p_20_22 hb (st o2), l_39 hb (st o2), p_39 hb hi.1 (by omega) (st o2), ge o2 (by omega) (e_45_108 hi.1 (by omega)) (by unfold hv; omega) (ca' 108 (by omega))]
    refine ⟨by omega, by omega, by omega, cs_set o2 c2 nb l (by decide) (by decide) (by decide) (by decide) (fun h3 o3 c3 => ?_)⟩
    rw [p_20_22 hb (st o3), l_39 hb (st o3), p_39 hb hi.1 (by omega) (st o3), ge o3 (by omega) (e_45_109 hi.1 (by omega)) (by unfold hv; omega) (ca' 109 (by omega))]
    refine ⟨by omega, by omega, by omega, cs_set o3 c3 nb l (by decide) (by decide) (by decide) (by decide) (fun h4 o4 c4 => ?_)⟩
    rw [p_20_22 hb (st o4), l_39 hb (st o4), p_39 hb hi.1 (by omega) (st o4), ge o4 (by omega) (e_45_110 hi.1 (by omega)) (by unfold hv; omega) (ca' 110 (by omega))]
    have fin : ∀ y : Int, y = on1 (t 110 x) → wp_House_write_865 K B b x y 1 3 b h4 := by
      intro y ey
      unfold wp_House_write_865
      refine cs_set o4 c4 nb l (by decide) (by decide) (by decide) (by decide) (fun h5 o5 c5 => ?_)
      rw [ey] at c5
      rw [p_20_22 hb (st o5), l_39 hb (st o5), p_39 hb hi.1 (by omega) (st o5), ge o5 (by omega) (e_45_107 hi.1 (by omega)) (by unfold hv; omega) (ca' 107 (by omega))]
      exact ⟨by omega, by omega, by omega, cs_set o5 c5 nb l (by decide) (by decide) (by decide) (by decide) (fun h6 o6 c6 => ek h6 o6 c6)⟩
    exact ⟨by omega, by omega, by omega, fun z => fin 0 (by rw [z]; rfl), fun z => fin 1 (by unfold on1; rw [if_neg z])⟩
