/-! how the relation moves: a field is written, a place of an array is written, a cell is made -/
theorem cv_default (Γ : Gam) {t : Nat} {y : FieldType} (h : tyc t y = true) : defaultValue y = cv Γ t 0 := by
  match t, y, h with
  | 0, .int, _ => rfl
  | 1, .long, _ => rfl
  | 2, .byte, _ => rfl
  | 3, .boolean, _ => rfl
  | 4, .char, _ => rfl
  | 5, .short, _ => rfl
  | _ + 9, .object _, _ => rfl
  | _ + 9, .array _, _ => rfl
theorem ok_default (h : Hp) {t : Nat} {y : FieldType} (k : tyc t y = true) : okv h t 0 := by
  match t, y, k with
  | 0, .int, _ => exact ⟨by omega, by omega⟩
  | 1, .long, _ => exact ⟨by omega, by omega⟩
  | 2, .byte, _ => exact ⟨by omega, by omega⟩
  | 3, .boolean, _ => exact Or.inl rfl
  | 4, .char, _ => exact ⟨by omega, by omega⟩
  | 5, .short, _ => exact ⟨by omega, by omega⟩
  | 9, .object _, _ => exact Or.inl rfl
  | 9, .array _, _ => exact Or.inl rfl
  | _ + 10, .object _, _ => exact Or.inl rfl
  | _ + 10, .array _, _ => exact Or.inl rfl
theorem nr_byte {x : Int} (h : -128 ≤ x ∧ x < 128) : narrow .byte (.int (I32 x)) = .int (I32 x) := by
  have e : (I32 x).toInt8.toInt32 = I32 x := by rw [I32_b]; congr 1; unfold w8; omega
  first | (show Value.int (I32 x).toInt8.toInt32 = _; rw [e]) | simp [narrow, e]
theorem nr_short {x : Int} (h : -32768 ≤ x ∧ x < 32768) : narrow .short (.int (I32 x)) = .int (I32 x) := by
  have e : (I32 x).toInt16.toInt32 = I32 x := by rw [I32_s]; congr 1; unfold w16; omega
  first | (show Value.int (I32 x).toInt16.toInt32 = _; rw [e]) | simp [narrow, e]
theorem nr_bool {x : Int} (h : x = 0 ∨ x = 1) : narrow .boolean (.int (I32 x)) = .int (I32 x) := by
  rcases h with rfl | rfl <;> decide +kernel
theorem nI_I32 (n : Nat) : nI n = I32 n := by
  show Int32.ofNat n = Int32.ofInt n
  rfl
theorem nr_char {x : Int} (h : 0 ≤ x ∧ x < 65536) : narrow .char (.int (I32 x)) = .int (I32 x) ∧ fits .char (.int (I32 x)) = true := by
  obtain ⟨n, rfl⟩ := Int.eq_ofNat_of_zero_le h.1
  have := pk_charN (q := n) (by omega)
  rw [nI_I32] at this
  exact this
theorem cv_fits {Γ : Gam} {h : Hp} {t : Nat} {y : FieldType} {x : Int} (c : tyc t y = true) (k : okv h t x) : narrow y (cv Γ t x) = cv Γ t x ∧ fits y (cv Γ t x) = true := by
  match t, y, c, k with
  | 0, .int, _, _ => exact ⟨rfl, rfl⟩
  | 1, .long, _, _ => exact ⟨rfl, rfl⟩
  | 2, .byte, _, k =>
    refine ⟨nr_byte k, ?_⟩
    have := pk_fb (I32 x)
    have e : (I32 x).toInt8.toInt32 = I32 x := by rw [I32_b]; congr 1; unfold w8; have k : -128 ≤ x ∧ x < 128 := k; omega
    rw [e] at this
    exact this
  | 3, .boolean, _, k =>
    refine ⟨nr_bool k, ?_⟩
    rcases k with rfl | rfl
    · show fits .boolean (.int (I32 0)) = true
      decide +kernel
    · show fits .boolean (.int (I32 1)) = true
      decide +kernel
  | 4, .char, _, k => exact nr_char k
  | 5, .short, _, k =>
    refine ⟨nr_short k, ?_⟩
    have := pk_fs (I32 x)
    have e : (I32 x).toInt16.toInt32 = I32 x := by rw [I32_s]; congr 1; unfold w16; have k : -32768 ≤ x ∧ x < 32768 := k; omega
    rw [e] at this
    exact this
  | _ + 9, .object _, _, _ =>
    show narrow _ (if x = 0 then Value.null else Value.ref (ra Γ x)) = (if x = 0 then Value.null else Value.ref (ra Γ x)) ∧ fits _ (if x = 0 then Value.null else Value.ref (ra Γ x)) = true
    split <;> exact ⟨rfl, rfl⟩
  | _ + 9, .array _, _, _ =>
    show narrow _ (if x = 0 then Value.null else Value.ref (ra Γ x)) = (if x = 0 then Value.null else Value.ref (ra Γ x)) ∧ fits _ (if x = 0 then Value.null else Value.ref (ra Γ x)) = true
    split <;> exact ⟨rfl, rfl⟩
theorem GG.lay {Γ : Gam} (g : GG Γ) {κ : Nat} (hκ : κ < 29) : ∀ w ∈ u_ws (kname κ) (kT κ) (kF κ), w ∈ lw_tbl := by
  intro w hw
  obtain ⟨k, hk, rfl⟩ := List.mem_map.mp hw
  exact wat_in (k_pos κ hκ k (List.mem_range.mp hk))
theorem GG.apart {Γ : Gam} (g : GG Γ) {κ : Nat} (hκ : κ < 29) : ∀ x y, x < kF κ → y < kF κ → x ≠ y → gI Γ κ x ≠ gI Γ κ y := by
  intro x y hx hy hne
  obtain ⟨a0, hts⟩ := g.2.1
  obtain ⟨hS, -⟩ := g.2.2.1 κ hκ
  obtain ⟨_, _, _, fa, hia, ea⟩ := hS x hx
  obtain ⟨_, _, _, fb, hib, eb⟩ := hS y hy
  rw [← ea, ← eb]
  refine u_apart (u_lays hts (g.lay hκ) hx) (u_lays hts (g.lay hκ) hy) hia hib ?_
  rw [(State.fieldFound?_type hia (k_ty κ hκ x hx)).1, (State.fieldFound?_type hib (k_ty κ hκ y hy)).1]
  exact k_nm κ hκ x hx y hy hne
theorem CR.keep {Γ : Gam} {h h2 : Hp} {H H2 : Heap} {b : Int} (c : CR Γ h H b) (e : ext h h2) (hr : ∀ j : Int, h2.1 b j = h.1 b j) (hH : H2[ra Γ b]? = H[ra Γ b]?) : CR Γ h2 H2 b := by
  obtain ⟨κ, e1, hc⟩ := c
  refine ⟨κ, (hr (-1)).trans e1, ?_⟩
  have el : ln h2 b = ln h b := hr (-2)
  rcases hc with ⟨c1, c2, c3, c4⟩ | ⟨c1, c2, c3, c4, c5, c6⟩
  · refine Or.inl ⟨c1, (c2.kept hH).to (fun k hk => ?_), fun k hk => ?_, by obtain ⟨cell, m1, m2⟩ := c4; exact ⟨cell, hH.trans m1, m2⟩⟩
    · show cv Γ (kft κ k) (h.1 b k) = cv Γ (kft κ k) (h2.1 b k)
      rw [hr]
    · show okv h2 (kft κ k) (h2.1 b k)
      rw [hr]
      exact (c3 k hk).ext e
  · refine Or.inr ⟨c1, c2, by rw [el]; exact c3, by rw [el]; exact c4, ?_, fun j hj => ?_⟩
    · rw [hH, c5, el]
      congr 2
      funext j
      show cv Γ (ket κ) (h.1 b j) = cv Γ (ket κ) (h2.1 b j)
      rw [hr]
    · show okv h2 (ket κ) (h2.1 b j)
      rw [hr]
      exact (c6 j (by rw [← el]; exact hj)).ext e
theorem HR.setF {Γ : Gam} (g : GG Γ) {h : Hp} {H H2 : Heap} (hH : HR Γ h H) {κ : Nat} (hκ : κ < 29) {a : Int} (a64 : 64 ≤ a) (an : a < nx h) (ak : kn h a = κ) {k : Nat} (hk : k < kF κ) {v : Int} (hv : okv h (kft κ k) v) {cell : Cell}
    (hc : H[ra Γ a]? = some cell) (e1 : H2[ra Γ a]? = some (cell.setSlot (gI Γ κ k) (cv Γ (kft κ k) v))) (e2 : H2.size = H.size) (e3 : ∀ q, q ≠ ra Γ a → H2[q]? = H[q]?) : HR Γ (up h a k v) H2 := by
  have hx : ext h (up h a k v) := ext.put (by omega)
  refine ⟨hH.1, by rw [e2]; exact hH.2.1, fun q hq => ?_, fun b b64 bn => ?_, fun b i b0 b1 => ?_⟩
  · rw [e3 q (by rw [ra_new a64]; omega)]
    exact hH.2.2.1 q hq
  · by_cases hb : b = a
    · subst hb
      obtain ⟨κ', q1, q2⟩ := hH.2.2.2.1 b b64 bn
      have e' : κ' = κ := by have := q1.symm.trans ak; exact Int.ofNat.inj this
      subst e'
      rcases q2 with ⟨c1, ⟨cell', d1, d2, d3, d4⟩, c3, c4⟩ | ⟨c1, -⟩
      · cases hc.symm.trans d1
        refine ⟨κ', by rw [kn_up (by omega)]; exact q1, Or.inl ⟨c1, ⟨_, e1, d2, d3, fun j hj => ?_⟩, fun j hj => ?_, by obtain ⟨cl, m1, m2, m3, m4⟩ := c4; cases hc.symm.trans m1; exact ⟨_, e1, m2, m3, by show (cell.slots.setIfInBounds _ _).size = _; rw [Array.size_setIfInBounds]; exact m4⟩⟩⟩
        · have ap := g.apart hκ
          by_cases hjk : j = k
          · subst hjk
            show ((cell.slots.setIfInBounds _ _)[_]?) = _
            rw [Array.getElem?_setIfInBounds_self, if_pos]
            · show _ = some (cv Γ (kft κ' j) (rd (up h b j v) b j))
              rw [rd_up_eq]
            · exact (Array.getElem?_eq_some_iff.mp (d4 j hj)).1
          · show ((cell.slots.setIfInBounds _ _)[_]?) = _
            rw [Array.getElem?_setIfInBounds_ne (ap k j hk hj (fun q => hjk q.symm)), d4 j hj]
            show _ = some (cv Γ (kft κ' j) (rd (up h b k v) b j))
            rw [rd_up_ne (by omega)]
        · by_cases hjk : j = k
          · subst hjk
            rw [rd_up_eq]
            exact hv.ext hx
          · rw [rd_up_ne (by omega)]
            exact (c3 j hj).ext hx
      · omega
    · refine (hH.2.2.2.1 b b64 bn).keep hx (fun j => rd_up_ne (fun q => hb q.1)) (e3 _ ?_)
      rw [ra_new a64, ra_new b64]
      omega
  · have := hH.2.2.2.2 b i b0 b1
    rw [← this]
    exact rd_up_ne (by omega)
theorem HR.setA {Γ : Gam} {h : Hp} {H H2 : Heap} (hH : HR Γ h H) {κ : Nat} (h64 : 64 ≤ κ) {a : Int} (a64 : 64 ≤ a) (an : a < nx h) (ak : kn h a = κ) {i v : Int} (i0 : 0 ≤ i) (il : i < ln h a) (hv : okv h (ket κ) v)
    (e1 : H2[ra Γ a]? = some ((arrV (gA Γ κ) (ln h a).toNat (fun j => cv Γ (ket κ) (rd h a j))).setSlot i.toNat (cv Γ (ket κ) v))) (e2 : H2.size = H.size) (e3 : ∀ q, q ≠ ra Γ a → H2[q]? = H[q]?) : HR Γ (up h a i v) H2 := by
  have hx : ext h (up h a i v) := ext.put i0
  refine ⟨hH.1, by rw [e2]; exact hH.2.1, fun q hq => ?_, fun b b64 bn => ?_, fun b j b0 b1 => ?_⟩
  · rw [e3 q (by rw [ra_new a64]; omega)]
    exact hH.2.2.1 q hq
  · by_cases hb : b = a
    · subst hb
      obtain ⟨κ', q1, q2⟩ := hH.2.2.2.1 b b64 bn
      have e' : κ' = κ := by have := q1.symm.trans ak; exact Int.ofNat.inj this
      subst e'
      rcases q2 with ⟨c1, -⟩ | ⟨c1, c2, c3, c4, c5, c6⟩
      · omega
      · have el : ln (up h b i v) b = ln h b := ln_up i0
        refine ⟨κ', by rw [kn_up i0]; exact q1, Or.inr ⟨c1, c2, by rw [el]; exact c3, by rw [el]; exact c4, ?_, fun j hj => ?_⟩⟩
        · rw [e1, arrV_store, el]
          congr 2
          funext j
          unfold updV
          by_cases hj : j = i.toNat
          · subst hj
            rw [if_pos rfl]
            have : rd (up h b i v) b (i.toNat : Int) = v := by rw [Int.toNat_of_nonneg i0, rd_up_eq]
            rw [this]
          · rw [if_neg hj, rd_up_ne (by omega)]
        · by_cases hj2 : (j : Int) = i
          · rw [hj2, rd_up_eq]
            exact hv.ext hx
          · rw [rd_up_ne (by omega)]
            exact (c6 j (by rw [← el]; exact hj)).ext hx
    · refine (hH.2.2.2.1 b b64 bn).keep hx (fun j => rd_up_ne (fun q => hb q.1)) (e3 _ ?_)
      rw [ra_new a64, ra_new b64]
      omega
  · have := hH.2.2.2.2 b j b0 b1
    rw [← this]
    exact rd_up_ne (by omega)
/-- a new cell -/
theorem HR.made {Γ : Gam} {h : Hp} {H H2 : Heap} (hH : HR Γ h H) {κ : Nat} {n : Int} (n0 : 0 ≤ n) (z : H2.size = H.size + 1) (o : ∀ q, q < H.size → H2[q]? = H[q]?) (hc : CR Γ (mk h κ n) H2 (nx h)) : HR Γ (mk h κ n) H2 := by
  have hx : ext h (mk h κ n) := ext.new n0
  have h64 := hH.1
  refine ⟨by rw [nx_mk]; omega, by rw [z, hH.2.1, nx_mk]; omega, fun q hq => ?_, fun b b64 bn => ?_, fun b j b0 b1 => ?_⟩
  · rw [o q (by rw [hH.2.1]; omega)]
    exact hH.2.2.1 q hq
  · rw [nx_mk] at bn
    by_cases hb : b = nx h
    · subst hb
      exact hc
    · refine (hH.2.2.2.1 b b64 (by omega)).keep hx (fun j => rd_mk_old hb) (o _ ?_)
      exact hH.lt b64 (by omega)
  · rw [← hH.2.2.2.2 b j b0 b1]
    exact rd_mk_old (by omega)
theorem ra_nx {Γ : Gam} {h : Hp} {H : Heap} (hH : HR Γ h H) : ra Γ (nx h) = H.size := by rw [ra_new hH.1, hH.2.1]
theorem HR.newA {Γ : Gam} {h : Hp} {H H2 : Heap} (hH : HR Γ h H) {κ : Nat} (h64 : 64 ≤ κ) (h83 : κ < 83) {n : Int} (n0 : 0 ≤ n) (n1 : n < 2147483648) (z : H2.size = H.size + 1) (o : ∀ q, q < H.size → H2[q]? = H[q]?)
    (e : H2[H.size]? = some (arrV (gA Γ κ) n.toNat (fun _ => defaultValue (kat κ)))) : HR Γ (mk h κ n) H2 := by
  have tc := k_atyc κ (by omega) h64
  refine hH.made n0 z o ⟨κ, kn_mk_new h κ n, Or.inr ⟨h64, h83, ?_⟩⟩
  rw [ln_mk_new]
  refine ⟨n0, n1, ?_, fun j _ => ?_⟩
  · rw [ra_nx hH, e]
    congr 2
    funext j
    rw [rd_mk_new (by omega), cv_default Γ tc]
  · rw [rd_mk_new (by omega)]
    exact ok_default _ tc
theorem HR.newO {Γ : Gam} (g : GG Γ) {h : Hp} {H H2 : Heap} (hH : HR Γ h H) {κ : Nat} (hκ : κ < 29) {kC : Class} (hk : (gs Γ).vm.classes[gC Γ κ]? = some kC) (hsz : kC.instanceTypes.size = kN κ) (z : H2.size = H.size + 1) (o : ∀ q, q < H.size → H2[q]? = H[q]?)
    (e : H2[H.size]? = some (blank (gC Γ κ) kC)) : HR Γ (mk h κ (kN κ)) H2 := by
  obtain ⟨a0, hts⟩ := g.2.1
  refine hH.made (by omega) z o ⟨κ, kn_mk_new h κ _, Or.inl ⟨hκ, ?_, fun k hk => ?_, ⟨_, by rw [ra_nx hH]; exact e, rfl, rfl, by show (kC.instanceTypes.map _).size = _; rw [Array.size_map]; exact hsz⟩⟩⟩
  · rw [ra_nx hH]
    refine (u_born (kfy κ) hts (g.lay hκ) (g.2.2.1 κ hκ) hk e (k_ty κ hκ)).to (fun k hk => ?_)
    rw [rd_mk_new (by omega)]
    exact cv_default Γ (k_tyc κ hκ k hk)
  · rw [rd_mk_new (by omega)]
    exact ok_default _ (k_tyc κ hκ k hk)
