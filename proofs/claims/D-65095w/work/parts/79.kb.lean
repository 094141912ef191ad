/-! WHAT A KEY TELLS, AS BYTES; THE TWIN MAKES THEM -/
def z0 : Int → Int := fun _ => 0
def pcs (f : Int → Int) (a n v : Int) : Int → Int := fun i => if a ≤ i ∧ i < a + n then byt v (i - a) else f i
def pN (st w : Int) (g : Int → Int) : Nat → Int → Int
  | 0 => z0
  | n + 1 => pcs (pN st w g n) (st * (n : Int)) w (g n)
def oA (p s : Int) (f : Int → Int) : Nat → Int → Int
  | 0, _ => 0
  | n + 1, i => if i = (n : Int) / p then w8 (ior (oA p s f n i) (w8 (ishl (f n) (s * ((n : Int) % p))))) else oA p s f n i
def kb8 (t : Ts) (x : Int) : Int → Int := pcs (pcs (pcs (pcs (pcs z0 0 8 (t 120 x)) 8 8 (t 121 x)) 16 4 (t 117 x)) 20 4 (t 118 x)) 24 4 (t 119 x)
def kb9 (t : Ts) : Int → Int := pcs (pcs (pcs (pcs (pcs z0 0 4 (t 2 0)) 4 8 (t 122 0)) 12 8 (t 123 0)) 20 4 (t 124 0)) 24 4 (t 125 0)
def kb10 (t : Ts) : Int → Int := pcs (pcs (pcs (pcs (pcs (pcs z0 0 4 (t 118 10)) 4 4 (t 117 10)) 8 4 (t 21 0)) 12 4 (t 22 0)) 16 4 (t 22 1)) 20 4 (t 22 2)
def kb11 (t : Ts) (x : Int) : Int → Int := pcs (pcs (pcs (pcs z0 0 4 (t 23 x)) 4 4 (t 100 x)) 8 4 (t 101 x)) 12 1 (on1 (t 102 x))
def kb12 (t : Ts) (x : Int) : Int → Int := if t 80 x = 0 then z0 else pcs (pcs (pcs (pcs (pcs (pcs z0 0 1 1) 1 1 (t 81 x)) 2 1 (t 82 x)) 3 1 (t 83 x)) 4 4 (t 84 x)) 8 4 (t 85 x)
def kb13 (t : Ts) (x : Int) : Int → Int := pcs (pcs (pcs z0 0 1 1) 1 1 (t 104 x)) 2 1 (t 105 x)
def kb14 (t : Ts) (x : Int) : Int → Int := pcs (pcs (pcs (pcs (pcs z0 0 1 1) 1 1 (t 108 x)) 2 1 (t 109 x)) 3 1 (on1 (t 110 x))) 4 4 (t 107 x)
def kb15 (t : Ts) (x : Int) : Int → Int := pcs (pcs (pcs z0 0 1 1) 1 1 (t 76 x)) 2 1 (t 77 x)
def kbx (t : Ts) (kd x : Int) : Int → Int :=
  if kd = 1 then oA 4 2 (fun e => t 3 (110 * x + e)) 110
  else if kd = 2 then oA 2 4 (fun e => t 5 (48 * x + e)) 48
  else if kd = 3 then (fun i => if i < 24 then t 16 (24 * x + i) else 0)
  else if kd = 4 then pN 2 2 (fun e => t 17 (12 * x + e)) 12
  else if kd = 5 then (fun i => if i < 24 then w8 (t 18 (24 * x + i)) else 0)
  else if kd = 6 then (if x < 7 then (fun i => t 26 (28 * x + i)) else (fun i => if i = 0 then w8 (t 27 0) else 0))
  else if kd = 7 then (if x = 0 then pN 2 2 (t 19) 11 else pN 1 1 (t 20) 11)
  else if kd = 8 then kb8 t x else if kd = 9 then kb9 t else if kd = 10 then kb10 t else if kd = 11 then kb11 t x else if kd = 12 then kb12 t x else if kd = 13 then kb13 t x else if kd = 14 then kb14 t x else kb15 t x
def kb (t : Ts) (k : Int) : Int → Int := kbx t (kdF k) (ixF k)
def cel (b : Int) (h : Hp) (f : Int → Int) : Prop := ∀ i : Int, 0 ≤ i → i < 28 → rd h b i = f i
theorem cel_upr {b at' n v : Int} {h' : Hp} {f : Int → Int} (c : cel b h' f) : cel b (upr h' b at' (at' + n) (fun i => byt v (i - at'))) (pcs f at' n v) := by
  intro i i0 i1
  unfold pcs
  by_cases q : at' ≤ i ∧ i < at' + n
  · rw [rd_upr_in q.1 q.2, if_pos q]
  · rw [rd_upr_ne (fun z => q z.2), if_neg q]
    exact c i i0 i1
theorem cs_set {h h' : Hp} {b at' n v : Int} {f : Int → Int} (o : onl b h h') (c : cel b h' f) (nb : b ≠ 0) (l : ln h b = 28) (a0 : 0 ≤ at') (n0 : 0 ≤ n) (n1 : n ≤ 8) (a1 : at' + n ≤ 28) {K : Hp → Prop}
    (kk : ∀ h2, onl b h h2 → cel b h2 (pcs f at' n v) → K h2) : wp_Kh_set b at' n v h' K :=
  z_set nb a0 (by omega) n0 n1 (by rw [o.ln, l]; omega) (kk _ (o.upr a0) (cel_upr c))
theorem z_moSet {h h' : Hp} {at' n v : Int} {f : Int → Int} (sh : Sh h) (o : onl 1500 h h') (c : cel 1500 h' f) (a0 : 0 ≤ at') (n0 : 0 ≤ n) (n1 : n ≤ 8) (a1 : at' + n ≤ 28) {K : Hp → Prop}
    (kk : ∀ h2, onl 1500 h h2 → cel 1500 h2 (pcs f at' n v) → K h2) : wp_Mo_set 1400 at' n v h' K := by
  unfold wp_Mo_set wp_Mo_set_3
  intro P hP
  refine up_ind (P := P) n (fun k h2 => 0 ≤ k ∧ h2 = upr h' 1500 at' (at' + k) (fun i => byt v (i - at'))) (fun k h2 k1 I next => ?_) (fun h2 I => ?_) 0 h' n0 ⟨by decide, (upr_nil (by omega)).symm⟩
  · obtain ⟨k0, e⟩ := I
    have o2 : onl 1500 h h2 := by rw [e]; exact o.upr a0
    apply hP
    rw [o2.rd (show (1400 : Int) ≠ 1500 by decide), tp_132 sh, o2.ln, tl_132 sh, w32_id (x := at' + k) (by omega) (by omega), w32_id (x := 8 * k) (by omega) (by omega), w8_w8]
    refine ⟨fun q => absurd q (by omega), fun _ => ⟨by decide, by omega, ?_⟩⟩
    rintro _ rfl _ rfl
    rw [w32_id (by omega) (by omega)]
    refine next _ ⟨by omega, ?_⟩
    rw [e, upr_up (f := fun i => byt v (i - at')) (by omega) (show w8 (w32 (lshr' v (8 * k))) = byt v (at' + k - at') by rw [show at' + k - at' = k by omega]; rfl), show at' + k + 1 = at' + (k + 1) by omega]
  · obtain ⟨_, e⟩ := I
    refine hP _ _ ⟨fun _ => ?_, fun q => absurd q (by omega)⟩
    rw [e]
    exact kk _ (o.upr a0) (cel_upr c)
theorem lshr_0 {v : Int} (b : r64 v) : lshr' v 0 = v := by
  unfold lshr'
  have e : (I64 v >>> ((I32 0).toInt64 &&& 63)) = I64 v := by
    have h1 : ((I32 0).toInt64 &&& 63) = 0 := by decide
    rw [h1, Int64.shiftRight_zero]
  rw [e, I64_at b]
theorem byt_0 {v : Int} (b : r32 v) : byt v 0 = w8 v := by
  unfold byt
  rw [show 8 * (0 : Int) = 0 by decide, lshr_0 (r32_r64 b), w32_of b]
/-- one place of the cell -/
theorem cel_put {b j x : Int} {h' : Hp} {f : Int → Int} (c : cel b h' f) : cel b (up h' b j x) (fun i => if i = j then x else f i) := by
  intro i i0 i1
  show rd (up h' b j x) b i = if i = j then x else f i
  by_cases q : i = j
  · rw [if_pos q, q, rd_up_eq]
  · rw [if_neg q, rd_up_ne (fun z => q z.2)]
    exact c i i0 i1
theorem oA_s {p s : Int} {f : Int → Int} {n : Int} (n0 : 0 ≤ n) : oA p s f (n + 1).toNat = fun i => if i = n / p then w8 (ior (oA p s f n.toNat i) (w8 (ishl (f n) (s * (n % p))))) else oA p s f n.toNat i := by
  funext i
  rw [show (n + 1).toNat = n.toNat + 1 by omega]
  show (if i = ((n.toNat : Nat) : Int) / p then w8 (ior (oA p s f n.toNat i) (w8 (ishl (f ((n.toNat : Nat) : Int)) (s * (((n.toNat : Nat) : Int) % p))))) else oA p s f n.toNat i) = _
  rw [show ((n.toNat : Nat) : Int) = n by omega]
theorem pN_s {st w : Int} {g : Int → Int} {n : Int} (n0 : 0 ≤ n) : pN st w g (n + 1).toNat = pcs (pN st w g n.toNat) (st * n) w (g n) := by
  rw [show (n + 1).toNat = n.toNat + 1 by omega]
  show pcs (pN st w g n.toNat) (st * ((n.toNat : Nat) : Int)) w (g ((n.toNat : Nat) : Int)) = _
  rw [show ((n.toNat : Nat) : Int) = n by omega]
/-- a loop of the twin that sets places one by one -/
theorem cel_cg {b : Int} {h : Hp} {f g : Int → Int} (c : cel b h f) (e : ∀ i : Int, 0 ≤ i → i < 28 → f i = g i) : cel b h g := fun i i0 i1 => (c i i0 i1).trans (e i i0 i1)
theorem m_make {h : Hp} {t : Ts} {n k : Int} (sh : Sh h) (r : RT h t) (g : Bd n t) (k0 : 0 ≤ k) (k1 : k < 135) {K : Hp → Prop} (kk : ∀ h1, onl 1500 h h1 → cel 1500 h1 (kb t k) → K h1) : wp_Mo_make 1400 k h K := by
  have s5 : scA 1500 := Or.inl rfl
  have hr := kd_r k0 k1
  have hi := ix_r k0 k1
  have hs := bs_s hr.1.1 hr.1.2
  unfold wp_Mo_make wp_Mo_make_2
  intro P hP
  refine up_ind (P := P) 28 (fun j h' => 0 ≤ j ∧ h' = upr h 1500 0 j (fun _ => 0)) (fun j h' j1 I next => ?_) (fun h' I => ?_) 0 h (by decide) ⟨by decide, (upr_nil (by omega)).symm⟩
  · obtain ⟨j0, e⟩ := I
    have o' : onl 1500 h h' := by rw [e]; exact (onl.rf 1500 h).upr (by decide)
    apply hP
    rw [o'.rd (show (1400 : Int) ≠ 1500 by decide), tp_132 sh, o'.ln, tl_132 sh]
    refine ⟨fun q => absurd q (by omega), fun _ => ⟨by decide, by omega, ?_⟩⟩
    rintro _ rfl _ rfl
    rw [w32_id (by omega) (by omega)]
    refine next _ ⟨by omega, ?_⟩
    rw [e, show w8 0 = 0 by decide, upr_up (f := fun _ => 0) (by omega) rfl]
  · obtain ⟨_, e⟩ := I
    have o' : onl 1500 h h' := by rw [e]; exact (onl.rf 1500 h).upr (by decide)
    have c' : cel 1500 h' z0 := fun i i0 i1 => by rw [e, rd_upr_in i0 i1]; rfl
    clear e
    refine hP _ _ ⟨fun _ => z_moKindOf k0 k1 ?_, fun q => absurd q (by omega)⟩
    rw [z_baseOf]
    rintro _ rfl
    rw [w32_id (by omega) (by omega)]
    show _ ∧ _
    have ek : ∀ h1, onl 1500 h h1 → cel 1500 h1 (kbx t (kdF k) (ixF k)) → K h1 := kk
    change (kdF k < 1 ∨ 7 < kdF k → wp_Mo_makeMore 1400 (kdF k) (ixF k) h' (fun h8 => K h8)) ∧ (kdF k = 1 → wp_Mo_make_79 K 1400 (ixF k) 0 h') ∧ (kdF k = 2 → wp_Mo_make_131 K 1400 (ixF k) 0 h') ∧ (kdF k = 3 → wp_Mo_make_183 K 1400 (ixF k) 0 h') ∧ (kdF k = 4 → wp_Mo_make_222 K 1400 (ixF k) 0 h') ∧ (kdF k = 5 → wp_Mo_make_263 K 1400 (ixF k) 0 h') ∧ (kdF k = 6 → wp_Mo_make_302 K 1400 (ixF k) 0 h') ∧ (kdF k = 7 → wp_Mo_make_373 K 1400 (ixF k) 0 h') ∧ True
    generalize kdF k = kd at *
    generalize ixF k = x at *
    clear kk hP P
    have rt : ∀ {h2 : Hp}, onl 1500 h h2 → RT h2 t := fun o => r.on o s5
    have st : ∀ {h2 : Hp}, onl 1500 h h2 → Sh h2 := fun o => (frT.on o s5).sh sh
    refine ⟨fun q => ?_, fun q => ?_, fun q => ?_, fun q => ?_, fun q => ?_, fun q => ?_, fun q => ?_, fun q => ?_, trivial⟩
    · unfold wp_Mo_makeMore
      refine ⟨fun q1 => ?_, fun q1 => ?_, fun q1 => ?_, fun q1 => ?_, fun q1 => ?_, fun q1 => ?_, fun q1 => ?_, fun q1 => ?_, trivial⟩
      · obtain rfl : kd = 15 := by omega
        have cx : cnt 15 = 8 := by decide
        refine z_moSet sh o' c' (by decide) (by decide) (by decide) (by decide) (fun h2 o2 c2 => ?_)
        rw [tp_76 (st o2), tl_76 (st o2), gt_76 (rt o2) hi.1 (by omega)]
        refine ⟨by decide, by omega, z_moSet sh o2 c2 (by decide) (by decide) (by decide) (by decide) (fun h3 o3 c3 => ?_)⟩
        rw [tp_77 (st o3), tl_77 (st o3), gt_77 (rt o3) hi.1 (by omega)]
        exact ⟨by decide, by omega, z_moSet sh o3 c3 (by decide) (by decide) (by decide) (by decide) (fun h4 o4 c4 => ek h4 o4 c4)⟩
      · subst q1
        have cx : cnt 8 = 10 := by decide
        rw [tp_120 (st o'), tl_120 (st o'), gt_120 (rt o') hi.1 (by omega)]
        refine ⟨by decide, by omega, z_moSet sh o' c' (by decide) (by decide) (by decide) (by decide) (fun h2 o2 c2 => ?_)⟩
        rw [tp_121 (st o2), tl_121 (st o2), gt_121 (rt o2) hi.1 (by omega)]
        refine ⟨by decide, by omega, z_moSet sh o2 c2 (by decide) (by decide) (by decide) (by decide) (fun h3 o3 c3 => ?_)⟩
        rw [tp_117 (st o3), tl_117 (st o3), gt_117 (rt o3) hi.1 (by omega)]
        refine ⟨by decide, by omega, z_moSet sh o3 c3 (by decide) (by decide) (by decide) (by decide) (fun h4 o4 c4 => ?_)⟩
        rw [tp_118 (st o4), tl_118 (st o4), gt_118 (rt o4) hi.1 (by omega)]
        refine ⟨by decide, by omega, z_moSet sh o4 c4 (by decide) (by decide) (by decide) (by decide) (fun h5 o5 c5 => ?_)⟩
        rw [tp_119 (st o5), tl_119 (st o5), gt_119 (rt o5) hi.1 (by omega)]
        exact ⟨by decide, by omega, z_moSet sh o5 c5 (by decide) (by decide) (by decide) (by decide) (fun h6 o6 c6 => ek h6 o6 c6)⟩
      · subst q1
        rw [gt_2 (rt o')]
        refine z_moSet sh o' c' (by decide) (by decide) (by decide) (by decide) (fun h2 o2 c2 => ?_)
        rw [gt_122 (rt o2)]
        refine z_moSet sh o2 c2 (by decide) (by decide) (by decide) (by decide) (fun h3 o3 c3 => ?_)
        rw [gt_123 (rt o3)]
        refine z_moSet sh o3 c3 (by decide) (by decide) (by decide) (by decide) (fun h4 o4 c4 => ?_)
        rw [gt_124 (rt o4)]
        refine z_moSet sh o4 c4 (by decide) (by decide) (by decide) (by decide) (fun h5 o5 c5 => ?_)
        rw [gt_125 (rt o5)]
        exact z_moSet sh o5 c5 (by decide) (by decide) (by decide) (by decide) (fun h6 o6 c6 => ek h6 o6 c6)
      · subst q1
        rw [tp_118 (st o'), tl_118 (st o'), gt_118 (rt o') (by decide) (by decide)]
        refine ⟨by decide, by decide, z_moSet sh o' c' (by decide) (by decide) (by decide) (by decide) (fun h2 o2 c2 => ?_)⟩
        rw [tp_117 (st o2), tl_117 (st o2), gt_117 (rt o2) (by decide) (by decide)]
        refine ⟨by decide, by decide, z_moSet sh o2 c2 (by decide) (by decide) (by decide) (by decide) (fun h3 o3 c3 => ?_)⟩
        rw [gt_21 (rt o3)]
        refine z_moSet sh o3 c3 (by decide) (by decide) (by decide) (by decide) (fun h4 o4 c4 => ?_)
        unfold wp_Mo_makeMore_211
        intro P2 hP2
        apply hP2
        rw [tp_22 (st o4), tl_22 (st o4), gt_22 (rt o4) (by decide) (by decide), show w32 (12 + w32 (4 * 0)) = 12 by decide]
        refine ⟨fun q => absurd q (by decide), fun _ => ⟨by decide, by decide, z_moSet sh o4 c4 (by decide) (by decide) (by decide) (by decide) (fun h5 o5 c5 => ?_)⟩⟩
        rintro _ rfl
        apply hP2
        rw [show w32 (0 + 1) = 1 by decide, tp_22 (st o5), tl_22 (st o5), gt_22 (rt o5) (by decide) (by decide), show w32 (12 + w32 (4 * 1)) = 16 by decide]
        refine ⟨fun q => absurd q (by decide), fun _ => ⟨by decide, by decide, z_moSet sh o5 c5 (by decide) (by decide) (by decide) (by decide) (fun h6 o6 c6 => ?_)⟩⟩
        rintro _ rfl
        apply hP2
        rw [show w32 (1 + 1) = 2 by decide, tp_22 (st o6), tl_22 (st o6), gt_22 (rt o6) (by decide) (by decide), show w32 (12 + w32 (4 * 2)) = 20 by decide]
        refine ⟨fun q => absurd q (by decide), fun _ => ⟨by decide, by decide, z_moSet sh o6 c6 (by decide) (by decide) (by decide) (by decide) (fun h7 o7 c7 => ?_)⟩⟩
        rintro _ rfl
        apply hP2
        exact ⟨fun _ => ek h7 o7 c7, fun q => absurd (by decide) q⟩
      · subst q1
        have cx : cnt 11 = 3 := by decide
        rw [tp_23 (st o'), tl_23 (st o'), gt_23 (rt o') hi.1 (by omega)]
        refine ⟨by decide, by omega, z_moSet sh o' c' (by decide) (by decide) (by decide) (by decide) (fun h2 o2 c2 => ?_)⟩
        rw [tp_100 (st o2), tl_100 (st o2), gt_100 (rt o2) hi.1 (by omega)]
        refine ⟨by decide, by omega, z_moSet sh o2 c2 (by decide) (by decide) (by decide) (by decide) (fun h3 o3 c3 => ?_)⟩
        rw [tp_101 (st o3), tl_101 (st o3), gt_101 (rt o3) hi.1 (by omega)]
        refine ⟨by decide, by omega, z_moSet sh o3 c3 (by decide) (by decide) (by decide) (by decide) (fun h4 o4 c4 => ?_)⟩
        rw [tp_102 (st o4), tl_102 (st o4), gt_102 (rt o4) hi.1 (by omega)]
        have fin : ∀ y : Int, y = on1 (t 102 x) → wp_Mo_makeMore_300 K y 1 12 1400 h4 := by
          intro y ey
          unfold wp_Mo_makeMore_300
          refine ⟨by decide, z_moSet sh o4 c4 (by decide) (by decide) (by decide) (by decide) (fun h5 o5 c5 => ek h5 o5 ?_)⟩
          rw [ey] at c5
          exact c5
        exact ⟨by decide, by omega, fun z => fin 0 (by rw [z]; rfl), fun z => fin 1 (by unfold on1; rw [if_neg z])⟩
      · subst q1
        have cx : cnt 12 = 16 := by decide
        have e12 : kbx t 12 x = kb12 t x := rfl
        rw [e12] at ek
        unfold kb12 at ek
        rw [tp_80 (st o'), tl_80 (st o'), gt_80 (rt o') hi.1 (by omega)]
        refine ⟨by decide, by omega, fun z => ?_, fun z => ?_⟩
        · rw [if_pos z] at ek
          exact ek h' o' c'
        · rw [if_neg z] at ek
          refine z_moSet sh o' c' (by decide) (by decide) (by decide) (by decide) (fun h2 o2 c2 => ?_)
          rw [tp_81 (st o2), tl_81 (st o2), gt_81 (rt o2) hi.1 (by omega)]
          refine ⟨by decide, by omega, z_moSet sh o2 c2 (by decide) (by decide) (by decide) (by decide) (fun h3 o3 c3 => ?_)⟩
          rw [tp_82 (st o3), tl_82 (st o3), gt_82 (rt o3) hi.1 (by omega)]
          refine ⟨by decide, by omega, z_moSet sh o3 c3 (by decide) (by decide) (by decide) (by decide) (fun h4 o4 c4 => ?_)⟩
          rw [tp_83 (st o4), tl_83 (st o4), gt_83 (rt o4) hi.1 (by omega)]
          refine ⟨by decide, by omega, z_moSet sh o4 c4 (by decide) (by decide) (by decide) (by decide) (fun h5 o5 c5 => ?_)⟩
          rw [tp_84 (st o5), tl_84 (st o5), gt_84 (rt o5) hi.1 (by omega)]
          refine ⟨by decide, by omega, z_moSet sh o5 c5 (by decide) (by decide) (by decide) (by decide) (fun h6 o6 c6 => ?_)⟩
          rw [tp_85 (st o6), tl_85 (st o6), gt_85 (rt o6) hi.1 (by omega)]
          exact ⟨by decide, by omega, z_moSet sh o6 c6 (by decide) (by decide) (by decide) (by decide) (fun h7 o7 c7 => ek h7 o7 c7)⟩
      · subst q1
        have cx : cnt 13 = 20 := by decide
        refine z_moSet sh o' c' (by decide) (by decide) (by decide) (by decide) (fun h2 o2 c2 => ?_)
        rw [tp_104 (st o2), tl_104 (st o2), gt_104 (rt o2) hi.1 (by omega)]
        refine ⟨by decide, by omega, z_moSet sh o2 c2 (by decide) (by decide) (by decide) (by decide) (fun h3 o3 c3 => ?_)⟩
        rw [tp_105 (st o3), tl_105 (st o3), gt_105 (rt o3) hi.1 (by omega)]
        exact ⟨by decide, by omega, z_moSet sh o3 c3 (by decide) (by decide) (by decide) (by decide) (fun h4 o4 c4 => ek h4 o4 c4)⟩
      · subst q1
        have cx : cnt 14 = 40 := by decide
        refine z_moSet sh o' c' (by decide) (by decide) (by decide) (by decide) (fun h2 o2 c2 => ?_)
        rw [tp_108 (st o2), tl_108 (st o2), gt_108 (rt o2) hi.1 (by omega)]
        refine ⟨by decide, by omega, z_moSet sh o2 c2 (by decide) (by decide) (by decide) (by decide) (fun h3 o3 c3 => ?_)⟩
        rw [tp_109 (st o3), tl_109 (st o3), gt_109 (rt o3) hi.1 (by omega)]
        refine ⟨by decide, by omega, z_moSet sh o3 c3 (by decide) (by decide) (by decide) (by decide) (fun h4 o4 c4 => ?_)⟩
        rw [tp_110 (st o4), tl_110 (st o4), gt_110 (rt o4) hi.1 (by omega)]
        have fin : ∀ y : Int, y = on1 (t 110 x) → wp_Mo_makeMore_475 K 1400 x y 1 3 1400 h4 := by
          intro y ey
          unfold wp_Mo_makeMore_475
          refine ⟨by decide, z_moSet sh o4 c4 (by decide) (by decide) (by decide) (by decide) (fun h5 o5 c5 => ?_)⟩
          rw [ey] at c5
          rw [tp_107 (st o5), tl_107 (st o5), gt_107 (rt o5) hi.1 (by omega)]
          exact ⟨by decide, by omega, z_moSet sh o5 c5 (by decide) (by decide) (by decide) (by decide) (fun h6 o6 c6 => ek h6 o6 c6)⟩
        exact ⟨by decide, by omega, fun z => fin 0 (by rw [z]; rfl), fun z => fin 1 (by unfold on1; rw [if_neg z])⟩
    all_goals subst q
    · have cx : cnt 1 = 5 := by decide
      unfold wp_Mo_make_79
      intro P2 hP2
      refine up_ind (P := P2) 110 (fun j h2 => 0 ≤ j ∧ onl 1500 h h2 ∧ cel 1500 h2 (oA 4 2 (fun e => t 3 (110 * x + e)) j.toNat)) (fun j h2 j1 I next => ?_) (fun h2 I => ?_) 0 h' (by decide) ⟨by decide, o', c'⟩
      · obtain ⟨j0, o2, c2⟩ := I
        apply hP2
        have e1 : w32 (w32 (110 * x) + j) = 110 * x + j := by unfold w32; omega
        rw [e1, tdiv_pos j0 (by decide), tmod_pos j0 (by decide), w32_id (x := j / 4) (by omega) (by omega), w32_id (x := 2 * (j % 4)) (by omega) (by omega), tp_132 (st o2), tl_132 (st o2), tp_3 (st o2), tl_3 (st o2), gt_3 (rt o2) (by omega) (by omega), c2 (j / 4) (by omega) (by omega), w8_w8]
        refine ⟨fun q => absurd q (by omega), fun _ => ⟨by decide, by omega, by decide, by omega, by omega, ?_⟩⟩
        rintro _ rfl _ rfl
        rw [w32_id (by omega) (by omega)]
        refine next _ ⟨by omega, o2.put (by omega), ?_⟩
        rw [oA_s j0]
        refine cel_cg (cel_put c2) (fun i i0 i1 => ?_)
        by_cases q : i = j / 4
        · rw [if_pos q, if_pos q, q]
        · rw [if_neg q, if_neg q]
      · exact hP2 _ _ ⟨fun _ => ek h2 I.2.1 I.2.2, fun q => absurd q (by omega)⟩
    · have cx : cnt 2 = 5 := by decide
      unfold wp_Mo_make_131
      intro P2 hP2
      refine up_ind (P := P2) 48 (fun j h2 => 0 ≤ j ∧ onl 1500 h h2 ∧ cel 1500 h2 (oA 2 4 (fun e => t 5 (48 * x + e)) j.toNat)) (fun j h2 j1 I next => ?_) (fun h2 I => ?_) 0 h' (by decide) ⟨by decide, o', c'⟩
      · obtain ⟨j0, o2, c2⟩ := I
        apply hP2
        have e1 : w32 (w32 (48 * x) + j) = 48 * x + j := by unfold w32; omega
        rw [e1, tdiv_pos j0 (by decide), tmod_pos j0 (by decide), w32_id (x := j / 2) (by omega) (by omega), w32_id (x := 4 * (j % 2)) (by omega) (by omega), tp_132 (st o2), tl_132 (st o2), tp_5 (st o2), tl_5 (st o2), gt_5 (rt o2) (by omega) (by omega), c2 (j / 2) (by omega) (by omega), w8_w8]
        refine ⟨fun q => absurd q (by omega), fun _ => ⟨by decide, by omega, by decide, by omega, by omega, ?_⟩⟩
        rintro _ rfl _ rfl
        rw [w32_id (by omega) (by omega)]
        refine next _ ⟨by omega, o2.put (by omega), ?_⟩
        rw [oA_s j0]
        refine cel_cg (cel_put c2) (fun i i0 i1 => ?_)
        by_cases q : i = j / 2
        · rw [if_pos q, if_pos q, q]
        · rw [if_neg q, if_neg q]
      · exact hP2 _ _ ⟨fun _ => ek h2 I.2.1 I.2.2, fun q => absurd q (by omega)⟩
    · have cx : cnt 3 = 10 := by decide
      unfold wp_Mo_make_183
      intro P2 hP2
      refine up_ind (P := P2) 24 (fun j h2 => 0 ≤ j ∧ onl 1500 h h2 ∧ cel 1500 h2 (fun i => if i < j then t 16 (24 * x + i) else 0)) (fun j h2 j1 I next => ?_) (fun h2 I => ?_) 0 h' (by decide) ⟨by decide, o', cel_cg c' (fun i i0 i1 => by rw [if_neg (by omega)]; rfl)⟩
      · obtain ⟨j0, o2, c2⟩ := I
        apply hP2
        have e1 : w32 (w32 (24 * x) + j) = 24 * x + j := by unfold w32; omega
        have b16 := b_16 g (i := 24 * x + j) (by omega) (by omega)
        rw [e1, tp_132 (st o2), tl_132 (st o2), tp_16 (st o2), tl_16 (st o2), gt_16 (rt o2) (by omega) (by omega), w8_w8, w8_id (by omega) (by omega)]
        refine ⟨fun q => absurd q (by omega), fun _ => ⟨by decide, by omega, by decide, by omega, ?_⟩⟩
        rintro _ rfl _ rfl
        rw [w32_id (by omega) (by omega)]
        refine next _ ⟨by omega, o2.put (by omega), cel_cg (cel_put c2) (fun i i0 i1 => ?_)⟩
        by_cases q : i = j
        · rw [if_pos q, if_pos (by omega), q]
        · rw [if_neg q]
          by_cases q2 : i < j
          · rw [if_pos q2, if_pos (by omega)]
          · rw [if_neg q2, if_neg (by omega)]
      · exact hP2 _ _ ⟨fun _ => ek h2 I.2.1 I.2.2, fun q => absurd q (by omega)⟩
    · have cx : cnt 4 = 2 := by decide
      unfold wp_Mo_make_222
      intro P2 hP2
      refine up_ind (P := P2) 12 (fun j h2 => 0 ≤ j ∧ onl 1500 h h2 ∧ cel 1500 h2 (pN 2 2 (fun e => t 17 (12 * x + e)) j.toNat)) (fun j h2 j1 I next => ?_) (fun h2 I => ?_) 0 h' (by decide) ⟨by decide, o', c'⟩
      · obtain ⟨j0, o2, c2⟩ := I
        apply hP2
        have e1 : w32 (w32 (12 * x) + j) = 12 * x + j := by unfold w32; omega
        rw [e1, tp_17 (st o2), tl_17 (st o2), gt_17 (rt o2) (by omega) (by omega), w32_id (x := 2 * j) (by omega) (by omega)]
        refine ⟨fun q => absurd q (by omega), fun _ => ⟨by decide, by omega, z_moSet sh o2 c2 (by omega) (by decide) (by decide) (by omega) (fun h3 o3 c3 => ?_)⟩⟩
        rintro _ rfl
        rw [w32_id (by omega) (by omega)]
        exact next _ ⟨by omega, o3, by rw [pN_s j0]; exact c3⟩
      · exact hP2 _ _ ⟨fun _ => ek h2 I.2.1 I.2.2, fun q => absurd q (by omega)⟩
    · have cx : cnt 5 = 4 := by decide
      unfold wp_Mo_make_263
      intro P2 hP2
      refine up_ind (P := P2) 24 (fun j h2 => 0 ≤ j ∧ onl 1500 h h2 ∧ cel 1500 h2 (fun i => if i < j then w8 (t 18 (24 * x + i)) else 0)) (fun j h2 j1 I next => ?_) (fun h2 I => ?_) 0 h' (by decide) ⟨by decide, o', cel_cg c' (fun i i0 i1 => by rw [if_neg (by omega)]; rfl)⟩
      · obtain ⟨j0, o2, c2⟩ := I
        apply hP2
        have e1 : w32 (w32 (24 * x) + j) = 24 * x + j := by unfold w32; omega
        rw [e1, tp_132 (st o2), tl_132 (st o2), tp_18 (st o2), tl_18 (st o2), gt_18 (rt o2) (by omega) (by omega), w8_w8]
        refine ⟨fun q => absurd q (by omega), fun _ => ⟨by decide, by omega, by decide, by omega, ?_⟩⟩
        rintro _ rfl _ rfl
        rw [w32_id (by omega) (by omega)]
        refine next _ ⟨by omega, o2.put (by omega), cel_cg (cel_put c2) (fun i i0 i1 => ?_)⟩
        by_cases q : i = j
        · rw [if_pos q, if_pos (by omega), q]
        · rw [if_neg q]
          by_cases q2 : i < j
          · rw [if_pos q2, if_pos (by omega)]
          · rw [if_neg q2, if_neg (by omega)]
      · exact hP2 _ _ ⟨fun _ => ek h2 I.2.1 I.2.2, fun q => absurd q (by omega)⟩
    · have cx : cnt 6 = 8 := by decide
      have e6 : kbx t 6 x = (if x < 7 then (fun i => t 26 (28 * x + i)) else (fun i => if i = 0 then w8 (t 27 0) else 0)) := rfl
      rw [e6] at ek
      unfold wp_Mo_make_302
      intro P2 hP2
      by_cases s7 : x < 7
      · rw [if_pos s7] at ek
        refine up_ind (P := P2) 28 (fun j h2 => 0 ≤ j ∧ onl 1500 h h2 ∧ cel 1500 h2 (fun i => if i < j then t 26 (28 * x + i) else 0)) (fun j h2 j1 I next => ?_) (fun h2 I => ?_) 0 h' (by decide) ⟨by decide, o', cel_cg c' (fun i i0 i1 => by rw [if_neg (by omega)]; rfl)⟩
        · obtain ⟨j0, o2, c2⟩ := I
          apply hP2
          have e1 : w32 (w32 (28 * x) + j) = 28 * x + j := by unfold w32; omega
          have b26 := b_26 g (i := 28 * x + j) (by omega) (by omega)
          rw [e1, tp_132 (st o2), tl_132 (st o2), tp_26 (st o2), tl_26 (st o2), gt_26 (rt o2) (by omega) (by omega), w8_w8, w8_id (by omega) (by omega)]
          refine ⟨fun q => absurd q (by omega), fun _ => ⟨fun q => absurd q (by omega), fun _ => ⟨by decide, by omega, by decide, by omega, ?_⟩⟩⟩
          rintro _ rfl _ rfl
          rw [w32_id (by omega) (by omega)]
          refine next _ ⟨by omega, o2.put (by omega), cel_cg (cel_put c2) (fun i i0 i1 => ?_)⟩
          by_cases q : i = j
          · rw [if_pos q, if_pos (by omega), q]
          · rw [if_neg q]
            by_cases q2 : i < j
            · rw [if_pos q2, if_pos (by omega)]
            · rw [if_neg q2, if_neg (by omega)]
        · obtain ⟨j0, o2, c2⟩ := I
          have b26 := b_26 g (i := 28 * x + 0) (by omega) (by omega)
          refine hP2 _ _ ⟨fun _ => ?_, fun q => absurd q (by omega)⟩
          unfold wp_Mo_make_341
          have e0 : rd h2 1500 0 = t 26 (28 * x + 0) := (c2 0 (by decide) (by decide)).trans (if_pos (by decide))
          rw [tp_132 (st o2), tl_132 (st o2), e0, w8_id (by omega) (by omega)]
          refine ⟨fun _ => ⟨by decide, by decide, by decide, ?_⟩, fun q => absurd (by omega) q⟩
          rintro _ rfl
          refine ek _ (o2.put (by decide)) (cel_cg (cel_put c2) (fun i i0 i1 => ?_))
          by_cases q : i = 0
          · rw [if_pos q, q]
          · rw [if_neg q, if_pos i1]
      · rw [if_neg s7] at ek
        apply hP2
        refine ⟨fun q => absurd q (by decide), fun _ => ⟨fun _ => ?_, fun q => absurd (by omega) q⟩⟩
        unfold wp_Mo_make_341
        rw [tp_132 (st o'), tl_132 (st o'), gt_27 (rt o'), w8_w8]
        refine ⟨fun q => absurd (by omega) q, fun _ => ⟨by decide, by decide, ?_⟩⟩
        rintro _ rfl
        exact ek _ (o'.put (by decide)) (cel_put c')
    · have cx : cnt 7 = 2 := by decide
      have e7 : kbx t 7 x = (if x = 0 then pN 2 2 (t 19) 11 else pN 1 1 (t 20) 11) := rfl
      rw [e7] at ek
      unfold wp_Mo_make_373
      intro P2 hP2
      by_cases s7 : x = 0
      · rw [if_pos s7] at ek
        refine up_ind (P := P2) 11 (fun j h2 => 0 ≤ j ∧ onl 1500 h h2 ∧ cel 1500 h2 (pN 2 2 (t 19) j.toNat)) (fun j h2 j1 I next => ?_) (fun h2 I => ?_) 0 h' (by decide) ⟨by decide, o', c'⟩
        · obtain ⟨j0, o2, c2⟩ := I
          apply hP2
          refine ⟨fun q => absurd q (by omega), fun _ => ⟨fun q => absurd s7 q, fun _ => ⟨fun q => absurd s7 q, fun _ => ?_⟩⟩⟩
          unfold wp_Mo_make_403 wp_Mo_make_426
          rw [tp_19 (st o2), tl_19 (st o2), gt_19 (rt o2) (by omega) (by omega), w32_id (x := 2 * j) (by omega) (by omega)]
          refine ⟨fun q => absurd s7 q, fun _ => ⟨by decide, by omega, by decide, z_moSet sh o2 c2 (by omega) (by decide) (by decide) (by omega) (fun h3 o3 c3 => ?_)⟩⟩
          rintro _ rfl
          rw [w32_id (by omega) (by omega)]
          exact next _ ⟨by omega, o3, by rw [pN_s j0]; exact c3⟩
        · exact hP2 _ _ ⟨fun _ => ek h2 I.2.1 I.2.2, fun q => absurd q (by omega)⟩
      · rw [if_neg s7] at ek
        refine up_ind (P := P2) 11 (fun j h2 => 0 ≤ j ∧ onl 1500 h h2 ∧ cel 1500 h2 (pN 1 1 (t 20) j.toNat)) (fun j h2 j1 I next => ?_) (fun h2 I => ?_) 0 h' (by decide) ⟨by decide, o', c'⟩
        · obtain ⟨j0, o2, c2⟩ := I
          apply hP2
          refine ⟨fun q => absurd q (by omega), fun _ => ⟨fun _ => ⟨fun _ => ?_, fun q => absurd s7 q⟩, fun q => absurd s7 q⟩⟩
          unfold wp_Mo_make_403 wp_Mo_make_426
          rw [tp_20 (st o2), tl_20 (st o2), gt_20 (rt o2) (by omega) (by omega)]
          refine ⟨fun _ => ⟨by decide, by omega, by decide, z_moSet sh o2 c2 (by omega) (by decide) (by decide) (by omega) (fun h3 o3 c3 => ?_)⟩, fun q => absurd s7 q⟩
          rintro _ rfl
          rw [w32_id (by omega) (by omega)]
          refine next _ ⟨by omega, o3, ?_⟩
          rw [pN_s j0, Int.one_mul]
          exact c3
        · exact hP2 _ _ ⟨fun _ => ek h2 I.2.1 I.2.2, fun q => absurd q (by omega)⟩
