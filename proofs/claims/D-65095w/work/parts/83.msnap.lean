/-! THE TWIN'S SNAPSHOT -/
def lsF (th : Int → Int) : Nat → Int
  | 0 => -1
  | k + 1 => if th k = 0 then lsF th k else k
theorem ls_aux (th : Int → Int) : ∀ n : Nat, -1 ≤ lsF th n ∧ lsF th n < n ∧ (0 ≤ lsF th n → th (lsF th n) ≠ 0) ∧ (∀ j : Int, lsF th n < j → j < n → 0 ≤ j → th j = 0) := by
  intro n
  induction n with
  | zero => exact ⟨Int.le_refl _, by show (-1 : Int) < 0; decide, fun q => absurd q (by show ¬ (0 : Int) ≤ -1; decide), fun j a b c => absurd b (by show ¬ j < 0; omega)⟩
  | succ n ih =>
    unfold lsF
    by_cases c : th n = 0
    · rw [if_pos c]
      refine ⟨ih.1, by omega, ih.2.2.1, fun j a b j0 => ?_⟩
      by_cases e : j = n
      · rw [e]; exact c
      · exact ih.2.2.2 j a (by omega) j0
    · rw [if_neg c]
      exact ⟨by omega, by omega, fun _ => c, fun j a b _ => by omega⟩
theorem sm_mono {f : Int → Int} (e : ∀ k, 0 ≤ f k) (a : Nat) : ∀ b : Nat, sm f a ≤ sm f (a + b) := by
  intro b
  induction b with
  | zero => exact Int.le_refl _
  | succ b ih =>
    have := e ((a + b : Nat) : Int)
    show sm f a ≤ sm f (a + b) + f ((a + b : Nat) : Int)
    omega
theorem sm_zero {f : Int → Int} (a : Nat) : ∀ b : Nat, (∀ j : Int, a ≤ j → j < a + b → f j = 0) → sm f (a + b) = sm f a := by
  intro b
  induction b with
  | zero => intro _; rfl
  | succ b ih =>
    intro e
    have h1 := ih (fun j j0 j1 => e j j0 (by omega))
    have h2 := e ((a + b : Nat) : Int) (by omega) (by omega)
    show sm f (a + b) + f ((a + b : Nat) : Int) = sm f a
    omega
theorem ls_M {th : Int → Int} {k : Nat} (k1 : k < 135) (n : th k ≠ 0) : (k : Int) = lsF th 135 ↔ sm (fun k => on1 (th k)) k + 1 = sm (fun k => on1 (th k)) 135 := by
  obtain ⟨a1, a2, a3, a4⟩ := ls_aux th 135
  have e1 : sm (fun k => on1 (th k)) (k + 1) = sm (fun k => on1 (th k)) k + 1 := by
    show sm (fun k => on1 (th k)) k + on1 (th k) = _
    unfold on1
    rw [if_neg n]
  rw [← e1]
  have kl : (k : Int) ≤ lsF th 135 := by
    rcases Int.lt_or_le (lsF th 135) k with c | c
    · exact absurd (a4 k c (by omega) (by omega)) n
    · exact c
  constructor
  · intro e
    have z := sm_zero (f := fun k => on1 (th k)) (k + 1) (134 - k) (fun j j0 j1 => by
      show on1 (th j) = 0
      rw [a4 j (by omega) (by omega) (by omega)]
      rfl)
    rw [show k + 1 + (134 - k) = 135 by omega] at z
    exact z.symm
  · intro e
    rcases Int.lt_or_le k (lsF th 135) with c | c
    · exfalso
      obtain ⟨m, em⟩ : ∃ m : Nat, lsF th 135 = (m : Int) := ⟨(lsF th 135).toNat, by omega⟩
      have t1 := a3 (by omega)
      rw [em] at t1 c a2
      have m1 := sm_mono (f := fun k => on1 (th k)) (fun k => (on1_r _).1) (k + 1) (m - (k + 1))
      rw [show k + 1 + (m - (k + 1)) = m by omega] at m1
      have m2 := sm_mono (f := fun k => on1 (th k)) (fun k => (on1_r _).1) (m + 1) (134 - m)
      rw [show m + 1 + (134 - m) = 135 by omega] at m2
      have m3 : sm (fun k => on1 (th k)) (m + 1) = sm (fun k => on1 (th k)) m + 1 := by
        show sm (fun k => on1 (th k)) m + on1 (th m) = _
        unfold on1
        rw [if_neg t1]
      omega
    · omega
theorem m_head {h : Hp} {t : Ts} {a m g : Int} (sh : Sh h) (r : RT h t) (d : t 137 0 = 0) (b6 : -1 ≤ t 136 0 ∧ t 136 0 ≤ 1000) (a0 : 0 ≤ a) (a1 : a < 2) {K : Int → Hp → Prop}
    (kk : ∀ h1, RT h1 (tRow t a 0 (hdR m g)) → frT h h1 → (∀ c i : Int, c ≠ 1400 → c ≠ 1497 → c ≠ 1500 → c ≠ 1508 → rd h1 c i = rd h c i) → (∀ i : Int, i ≠ 136 → i ≠ 137 → rd h1 1400 i = rd h 1400 i) → K (if t 136 0 = 0 then 0 else 1) h1) : wp_Mo_writeHead 1400 a m g h K := by
  have s5 : scA 1500 := Or.inl rfl
  unfold wp_Mo_writeHead wp_Mo_writeHead_3
  intro P hP
  refine up_ind (P := P) 28 (fun j h' => 0 ≤ j ∧ h' = upr h 1500 0 j (fun _ => 0)) (fun j h' j1 I next => ?_) (fun h' I => ?_) 0 h (by decide) ⟨by decide, (upr_nil (by omega)).symm⟩
  · obtain ⟨j0, e⟩ := I
    have o' : onl 1500 h h' := by rw [e]; exact (onl.rf 1500 h).upr (by decide)
    apply hP
    rw [o'.rd (show (1400 : Int) ≠ 1500 by decide), tp_132 sh, o'.ln, tl_132 sh]
    refine ⟨fun q => absurd q (by omega), fun _ => ⟨by decide, by omega, ?_⟩⟩
    rintro _ rfl _ rfl
    rw [w32_id (by omega) (by omega)]
    refine next _ ⟨by omega, ?_⟩
    rw [e, show w8 0 = 0 by decide, upr_up (f := fun _ => 0) (by omega) rfl]
  · obtain ⟨_, e⟩ := I
    have o' : onl 1500 h h' := by rw [e]; exact (onl.rf 1500 h).upr (by decide)
    have c' : cel 1500 h' z0 := fun i i0 i1 => by rw [e, rd_upr_in i0 i1]; rfl
    refine hP _ _ ⟨fun _ => ?_, fun q => absurd (by decide) q⟩
    refine z_moSet sh o' c' (by decide) (by decide) (by decide) (by decide) (fun h2 o2 c2 => ?_)
    refine m_writeRow ((frT.on o2 s5).sh sh) (r.on o2 s5) d b6 a0 a1 (by decide) (by decide) c2 (fun i i0 i1 => ?_) (fun h3 r3 f3 o3 q3 => kk h3 r3 ((frT.on o2 s5).tr f3) (fun c i c1 c2 c3 c4 => (o3 c i c4 c2 c1).trans (o2.rd c3)) (fun i a b => (q3 i a b).trans (o2.rd (by decide))))
    unfold pcs byt z0
    split
    · unfold w8; omega
    · omega
theorem m_snap {h : Hp} {t : Ts} {n T B : Int} {th : Int → Int} {bs : Int → Int → Int} (sh : Sh h) (r : RT h t) (d : t 137 0 = 0) (g : Bd n t) (gf : frF t < 2147483648)
    (nT : T ≠ 0 ∧ T ≠ 1400 ∧ T ≠ 1497 ∧ T ≠ 1500 ∧ T ≠ 1508) (nB : B ≠ 0 ∧ B ≠ 1400 ∧ B ≠ 1497 ∧ B ≠ 1500 ∧ B ≠ 1508) (lT : ln h T = 135) (lB : ln h B = 3780)
    (ht : ∀ k : Int, 0 ≤ k → k < 135 → rd h T k = th k) (hb : ∀ k i : Int, 0 ≤ k → k < 135 → th k ≠ 0 → 0 ≤ i → i < 28 → rd h B (28 * k + i) = bs k i ∧ -128 ≤ bs k i ∧ bs k i ≤ 127) {K : Int → Hp → Prop}
    (kk : ∀ h1, RT h1 (tSnE th bs (si (fun k => on1 (th k)) 135) (1 - t 133 0) (frF t) t).1 → frT h h1 → (∀ c i : Int, c ≠ 1400 → c ≠ 1497 → c ≠ 1500 → c ≠ 1508 → rd h1 c i = rd h c i) → (∀ i : Int, i ≠ 133 → i ≠ 134 → i ≠ 135 → i ≠ 136 → i ≠ 137 → rd h1 1400 i = rd h 1400 i) → K (tSnE th bs (si (fun k => on1 (th k)) 135) (1 - t 133 0) (frF t) t).2 h1) : wp_Mo_snapshot 1400 T B h K := by
  have s5 : scA 1500 := Or.inl rfl
  have b3 := b_133 g
  have b4 := b_134 g
  have b6 := b_136 g
  have gn := g.1
  unfold wp_Mo_snapshot wp_Mo_snapshot_5
  intro P5 hP5
  refine up_ind (P := fun k l => P5 l k) 135 (fun k l => 0 ≤ k ∧ l = lsF th k.toNat) (fun k l k1 I next => ?_) (fun l I => ?_) 0 (-1) (by decide) ⟨by decide, rfl⟩
  · obtain ⟨k0, e⟩ := I
    have es : lsF th (k + 1).toNat = if th k = 0 then lsF th k.toNat else k := by
      rw [show (k + 1).toNat = k.toNat + 1 by omega]
      show (if th ((k.toNat : Nat) : Int) = 0 then lsF th k.toNat else ((k.toNat : Nat) : Int)) = _
      rw [show ((k.toNat : Nat) : Int) = k by omega]
    apply hP5
    rw [lT, ht k k0 k1]
    refine ⟨fun q => absurd q (by omega), fun _ => ⟨nT.1, by omega, fun q => ?_, fun q => ?_⟩⟩
    · rintro _ rfl
      rw [w32_id (by omega) (by omega)]
      exact next _ ⟨by omega, by rw [es, if_pos q]; exact e⟩
    · rintro _ rfl
      rw [w32_id (by omega) (by omega)]
      exact next _ ⟨by omega, by rw [es, if_neg q]⟩
  · obtain ⟨_, el⟩ := I
    have el : l = lsF th 135 := el
    apply hP5
    refine ⟨fun _ => ?_, fun q => absurd (by decide) q⟩
    rw [gt_133 r, gt_134 r, w32_id (x := 1 - t 133 0) (by omega) (by omega)]
    rintro _ rfl _ rfl
    generalize eM : si (fun k => on1 (th k)) 135 = M at *
    have Mr : 0 ≤ M ∧ M ≤ 135 := by rw [← eM]; exact si_b (fun _ => on1_r _) 135
    have eM' : sm (fun k => on1 (th k)) 135 = M := eM
    generalize eA : 1 - t 133 0 = A at *
    have A0 : 0 ≤ A := by omega
    have A1 : A < 2 := by omega
    have nb : ∀ x : Int, 0 ≤ x → x < 2 → ∀ K2 : Int → Prop, K2 (w32 (gF t A x) + 0) → True := fun _ _ _ _ _ => trivial
    have gen : ∀ x : Int, 0 ≤ x → x < 2 → ∀ K2 : Int → Prop, (∀ y : Int, w32 y = gF t A x → K2 y) → wp_Mo_number (rd h 1400 129) (w32 (w32 (w32 (9600 * A) + w32 (48 * x)) + 8)) 4 h K2 := by
      intro x x0 x1 K2 k2
      have e1 : w32 (w32 (w32 (9600 * A) + w32 (48 * x)) + 8) = 9600 * A + 48 * x + 8 := by unfold w32; omega
      rw [e1, tp_129 sh]
      have dv : ∀ i : Int, 0 ≤ i → i < 4 → rd h 1497 (9600 * A + 48 * x + 8 + i) = t 129 (9600 * A + 48 * x + 8 + i) := fun i i0 i1 => gt_129 r (by omega) (by omega)
      have bv : ∀ i : Int, 0 ≤ i → i < 4 → -128 ≤ rd h 1497 (9600 * A + 48 * x + 8 + i) ∧ rd h 1497 (9600 * A + 48 * x + 8 + i) ≤ 127 := fun i i0 i1 => by rw [dv i i0 i1]; exact b_129 g (by omega) (by omega)
      refine z_number (by decide) (by omega) (by omega) (by decide) (by decide) (by rw [tl_129 sh]; omega) bv (k2 _ ?_)
      have w := (hn_4 (f := fun i => rd h 1497 (9600 * A + 48 * x + 8 + i)) (bv 3 (by decide) (by decide))).2
      have w2 := w32_4 (f := fun i => rd h 1497 (9600 * A + 48 * x + 8 + i)) (bv 3 (by decide) (by decide))
      show w32 (hn (fun i => rd h 1497 (9600 * A + 48 * x + 8 + i)) 4 0) = _
      rw [w, w2]
      unfold gF g4
      show rd h 1497 (9600 * A + 48 * x + 8 + 3) * 16777216 + rd h 1497 (9600 * A + 48 * x + 8 + 2) % 256 * 65536 + rd h 1497 (9600 * A + 48 * x + 8 + 1) % 256 * 256 + rd h 1497 (9600 * A + 48 * x + 8 + 0) % 256 = _
      rw [dv 3 (by decide) (by decide), dv 2 (by decide) (by decide), dv 1 (by decide) (by decide), dv 0 (by decide) (by decide)]
    clear nb
    unfold wp_Mo_snapshot_50
    intro P50 hP50
    have mxr : ∀ (x y : Int) (W : Int → Prop), ((lcmp y x ≤ 0 → W x) ∧ (¬ (lcmp y x ≤ 0) → W y)) = W (mx x y) := by
      intro x y W
      rw [ia]
      unfold mx
      by_cases c : x < y
      · rw [if_neg (fun q => absurd (lcmp_le.mp q) (by omega)), if_pos c]
      · rw [if_pos (lcmp_le.mpr (by omega)), if_neg c]
    apply hP50
    refine ⟨fun q => absurd q (by decide), fun _ => gen 0 (by decide) (by decide) _ (fun y0 ey0 => ?_)⟩
    rintro _ rfl
    rw [ey0]
    simp only [forall_eq]
    rw [mxr (t 134 0) (gF t A 0) (fun z => P50 z (w32 (0 + 1)))]
    rw [show w32 (0 + 1) = 1 by decide]
    apply hP50
    refine ⟨fun q => absurd q (by decide), fun _ => gen 1 (by decide) (by decide) _ (fun y1 ey1 => ?_)⟩
    rintro _ rfl
    rw [ey1]
    simp only [forall_eq]
    rw [mxr (mx (t 134 0) (gF t A 0)) (gF t A 1) (fun z => P50 z (w32 (1 + 1)))]
    rw [show w32 (1 + 1) = 2 by decide]
    apply hP50
    refine ⟨fun _ => ?_, fun q => absurd (by decide) q⟩
    have eF : mx (mx (t 134 0) (gF t A 0)) (gF t A 1) + 1 = frF t := by unfold frF; rw [eA]; omega
    have f0 : 1 ≤ frF t := by
      have : t 134 0 ≤ mx (mx (t 134 0) (gF t A 0)) (gF t A 1) := by
        unfold mx
        repeat' split
        all_goals omega
      omega
    rw [eF, w64_id (x := frF t) (by omega) (by omega)]
    rintro _ rfl
    generalize frF t = G at *
    clear hP50 P50 mxr gen eF ey0 ey1
    unfold wp_Mo_snapshot_118
    intro P hP
    have sr := tSn_r (th := th) (bs := bs) (m := M) (a := A) (g := G) (t := t) b6 d
    refine up_ind (P := fun k (p : Int × Hp) => P p.1 k p.2) 135 (fun k p => 0 ≤ k ∧ (tSn th bs M A G t k.toNat).2.2 = 1 ∧ p.1 = (tSn th bs M A G t k.toNat).2.1 ∧ RT p.2 (tSn th bs M A G t k.toNat).1 ∧ frT h p.2 ∧ (∀ c i : Int, c ≠ 1400 → c ≠ 1497 → c ≠ 1500 → c ≠ 1508 → rd p.2 c i = rd h c i) ∧ (∀ i : Int, i ≠ 136 → i ≠ 137 → rd p.2 1400 i = rd h 1400 i)) (fun k p k1 I next => ?_) (fun p I => ?_) 0 (0, h) (by decide) ⟨by decide, rfl, rfl, r, frT.rf h, fun _ _ _ _ _ _ => rfl, fun _ _ _ => rfl⟩
    · obtain ⟨n', h'⟩ := p
      obtain ⟨k0, i1, i2, r', f', x', y'⟩ := I
      simp only at i1 i2 r' f' x' y' ⊢
      have sh' := f'.sh sh
      have ts := tSn_s (th := th) (bs := bs) (m := M) (a := A) (g := G) (t := t) k0
      have sk := sr k.toNat
      have lT' : ln h' T = 135 := (f'.2 T (-2) (by omega)).trans lT
      have lB' : ln h' B = 3780 := (f'.2 B (-2) (by omega)).trans lB
      apply hP
      rw [lT', x' T k nT.2.1 nT.2.2.1 nT.2.2.2.1 nT.2.2.2.2, ht k k0 k1]
      refine ⟨fun q => absurd q (by omega), fun _ => ⟨nT.1, by omega, fun q => ?_, fun q => ?_⟩⟩
      · rintro _ rfl
        rw [w32_id (by omega) (by omega)]
        rw [if_neg (fun z => z.2 q)] at ts
        exact next (n', h') ⟨by omega, by rw [ts]; exact i1, by rw [ts]; exact i2, by rw [ts]; exact r', f', x', y'⟩
      · rw [if_pos ⟨i1, q⟩] at ts
        rintro _ rfl
        rw [w32_id (x := n' + 1) (by omega) (by omega)]
        unfold wp_Mo_snapshot_139
        intro P2 hP2
        refine up_ind (P := P2) 28 (fun j h2 => 0 ≤ j ∧ h2 = upr h' 1500 0 j (bs k)) (fun j h2 j1 J nxt => ?_) (fun h2 J => ?_) 0 h' (by decide) ⟨by decide, (upr_nil (by omega)).symm⟩
        · obtain ⟨j0, e2⟩ := J
          have o2 : onl 1500 h' h2 := by rw [e2]; exact (onl.rf 1500 h').upr (by decide)
          obtain ⟨hv1, hv2⟩ := hb k j k0 k1 q j0 j1
          apply hP2
          rw [w32_id (x := 28 * k) (by omega) (by omega), w32_id (x := 28 * k + j) (by omega) (by omega), o2.ln, lB', o2.rd (show (1400 : Int) ≠ 1500 by decide), tp_132 sh', o2.ln, tl_132 sh', o2.rd nB.2.2.2.1, x' B _ nB.2.1 nB.2.2.1 nB.2.2.2.1 nB.2.2.2.2, hv1, w8_id hv2.1 hv2.2]
          refine ⟨fun q => absurd q (by omega), fun _ => ⟨nB.1, by omega, by decide, by omega, ?_⟩⟩
          rintro _ rfl _ rfl
          rw [w32_id (by omega) (by omega)]
          exact nxt _ ⟨by omega, by rw [e2, upr_up (f := bs k) j0 rfl]⟩
        · obtain ⟨_, e2⟩ := J
          have o2 : onl 1500 h' h2 := by rw [e2]; exact (onl.rf 1500 h').upr (by decide)
          have c2 : cel 1500 h2 (bs k) := fun i i0 i1 => by rw [e2, rd_upr_in i0 i1]
          have f2 := frT.on o2 s5
          refine hP2 _ _ ⟨fun _ => z_moKindOf k0 k1 (z_moKindOf k0 k1 ?_), fun q => absurd (by decide) q⟩
          have hi := ix_r k0 k1
          have hr := kd_r k0 k1
          have hs := bs_s hr.1.1 hr.1.2
          rw [z_baseOf, w32_id (x := k - bsF (kdF k)) (by omega) (by omega)]
          have go : ∀ la : Int, la = bi (n' + 1 = M) → wp_Mo_snapshot_201 P K 1400 T B l A G (n' + 1) k la (ixF k) (kdF k) (n' + 1) A 1400 h2 := by
            intro la ela
            unfold wp_Mo_snapshot_201
            refine ⟨by decide, m_writeRow (f2.sh sh') (r'.on o2 s5) (sk.2.1 i1).1 sk.1 A0 A1 (by omega) (by omega) c2 (fun i i0 i1 => (hb k i k0 k1 q i0 i1).2) (fun h5 r5 f5 o5 q5 => ?_)⟩
            rw [ela, i2] at r5
            have fx := (f'.tr f2).tr f5
            have x5 : ∀ c i : Int, c ≠ 1400 → c ≠ 1497 → c ≠ 1500 → c ≠ 1508 → rd h5 c i = rd h c i := fun c i c1 c2 c3 c4 => ((o5 c i c4 c2 c1).trans (o2.rd c3)).trans (x' c i c1 c2 c3 c4)
            have y5 : ∀ i : Int, i ≠ 136 → i ≠ 137 → rd h5 1400 i = rd h 1400 i := fun i a b => ((q5 i a b).trans (o2.rd (by decide))).trans (y' i a b)
            by_cases z : (tSn th bs M A G t k.toNat).1 136 0 = 0
            · rw [if_pos z]
              rw [if_pos z] at ts
              refine ⟨fun y => absurd rfl y, fun _ => ?_⟩
              have cut := tSn_cut (th := th) (bs := bs) (m := M) (a := A) (g := G) (t := t) (134 - k).toNat (k + 1).toNat (by rw [ts]; show (0 : Int) ≠ 1; decide)
              rw [show (k + 1).toNat + (134 - k).toNat = 135 by omega, ts] at cut
              have eE : tSnE th bs M A G t = (tRow (tSn th bs M A G t k.toNat).1 A ((tSn th bs M A G t k.toNat).2.1 + 1) (rwb (kdF k) (ixF k) (bi ((tSn th bs M A G t k.toNat).2.1 + 1 = M)) ((tSn th bs M A G t k.toNat).2.1 + 1) G (bs k)), 0) := by
                unfold tSnE
                rw [cut]
                exact if_neg (show ¬ (0 : Int) = 1 by decide)
              rw [eE] at kk
              exact kk h5 r5 fx x5 (fun i _ _ _ a b => y5 i a b)
            · rw [if_neg z]
              rw [if_neg z] at ts
              refine ⟨fun _ => ?_, fun y => absurd (by decide) y⟩
              rintro _ rfl
              rw [w32_id (by omega) (by omega)]
              exact next (n' + 1, h5) ⟨by omega, by rw [ts], by rw [ts, i2], by rw [ts]; exact r5, fx, x5, y5⟩
          have lm := ls_M (th := th) (k := k.toNat) (by omega) (by rw [show ((k.toNat : Nat) : Int) = k by omega]; exact q)
          rw [show ((k.toNat : Nat) : Int) = k by omega, ← el, eM', ← (sk.2.1 i1).2, ← i2] at lm
          exact ⟨fun q2 => go 0 (bi_f (fun z => q2 (lm.mpr z))).symm, fun q2 => go 1 (bi_t (lm.mp (by omega))).symm⟩
    · obtain ⟨n', h'⟩ := p
      obtain ⟨k0, i1, i2, r', f', x', y'⟩ := I
      have e135 : (135 : Int).toNat = 135 := rfl
      rw [e135] at i1 i2 r'
      have sk := sr 135
      unfold tSnE at kk
      clear sr
      generalize tSn th bs M A G t 135 = T' at *
      have i1' : T'.2.2 = 1 := i1
      have r1' : RT h' T'.1 := r'
      have n'M : n' = M := by
        have a := i2
        rw [(sk.2.1 i1').2, eM'] at a
        exact a
      apply hP
      refine ⟨fun _ => ?_, fun q => absurd (by decide) q⟩
      show wp_Mo_writeHead 1400 A n' G h' _
      rw [n'M]
      refine m_head (f'.sh sh) r1' (sk.2.1 i1').1 sk.1 A0 A1 (fun h5 r5 f5 o5 q5 => ?_)
      rw [if_pos i1'] at kk
      have fx := f'.tr f5
      have x5 : ∀ c i : Int, c ≠ 1400 → c ≠ 1497 → c ≠ 1500 → c ≠ 1508 → rd h5 c i = rd h c i := fun c i c1 c2 c3 c4 => (o5 c i c1 c2 c3 c4).trans (x' c i c1 c2 c3 c4)
      have y5 : ∀ i : Int, i ≠ 136 → i ≠ 137 → rd h5 1400 i = rd h 1400 i := fun i a b => (q5 i a b).trans (y' i a b)
      by_cases z : T'.1 136 0 = 0
      · rw [if_pos z] at kk ⊢
        exact ⟨fun y => absurd rfl y, fun _ => kk h5 r5 fx x5 (fun i _ _ _ a b => y5 i a b)⟩
      · rw [if_neg z] at kk ⊢
        refine ⟨fun _ => ?_, fun y => absurd (by decide) y⟩
        rintro _ rfl _ rfl _ rfl
        rw [w32_id (by omega) (by omega)]
        refine kk _ (((r5.put t_133).put t_134).put t_135) (((fx.put t_133).put t_134).put t_135) (fun c i c1 c2 c3 c4 => ?_) (fun i a1 a2 a3 a4 a5 => ?_)
        · rw [rd_up_ne (by omega), rd_up_ne (by omega), rd_up_ne (by omega)]
          exact x5 c i c1 c2 c3 c4
        · rw [rd_up_ne (by omega), rd_up_ne (by omega), rd_up_ne (by omega)]
          exact y5 i a4 a5
