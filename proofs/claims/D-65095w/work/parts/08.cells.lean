/-! RULES OF CELLS: fields, arrays, new cells -/
section CELLS
variable {Γ : Gam} {d : Nat} {md : MD} {pc : Nat} {L : Lc} {S : List Vl} {h : Hp} {KR KT : Kt}
theorem GG.kn_at (g : GG Γ) {κ : Nat} (hκ : κ < 29) {s : State} (hW : (gs Γ).WarmedH s.vm) : u_Kn s (kname κ) (kT κ) (kF κ) (gC Γ κ) (gI Γ κ) := u_Kn_moved hW.alike (g.2.2.1 κ hκ)
theorem GG.nestF (g : GG Γ) {own ref n ds host : String} {idx : Nat} (hw : Cond.fieldLinkNest own idx ref n ds host ∈ lw_tbl) {U : State} (hW : (gs Γ).WarmedH U.vm) (a : Array Value) : (Cond.fieldLinkNest own idx ref n ds host).before a U = true := by
  obtain ⟨a0, h0⟩ := g.2.1
  exact va_Nw.use rfl (va_Nw.warmF hW (va_Nw.of rfl (h0 _ hw)))
/-- a field as a method of the run finds it -/
theorem fld (g : GG Γ) {κ k : Nat} (hκ : κ < 29) (hk : k < kF κ) {s : State} (hW : (gs Γ).WarmedH s.vm) (args : Array Value) : ∃ (cf : Nat) (kf : Class) (fi : Nat) (f : Field) (kC : Class),
    s.fieldFound? (kT κ k).1 (kT κ k).2.1 (kT κ k).2.2.1 = some (cf, kf, fi, f) ∧ f.slot = gI Γ κ k ∧ f.isStatic = false ∧ s.vm.findClass (kname κ) = some (gC Γ κ) ∧ s.vm.classes[gC Γ κ]? = some kC ∧ kC.kind = .ordinary ∧
    ((Cond.lays (kname κ) (kT κ k).1 (kT κ k).2.1 (kT κ k).2.2.1).before args s = true ∨ (Cond.laysFinal (kname κ) (kT κ k).1 (kT κ k).2.1 (kT κ k).2.2.1).before args s = true) := by
  obtain ⟨hS, hfc, kC, hkC, hkind⟩ := g.kn_at hκ hW
  obtain ⟨cf, kf, fi, f, hi, hsl⟩ := hS k hk
  have hin := g.lay hκ
  have hl : (Cond.lays (kname κ) (kT κ k).1 (kT κ k).2.1 (kT κ k).2.2.1).before args s = true ∨ (Cond.laysFinal (kname κ) (kT κ k).1 (kT κ k).2.1 (kT κ k).2.2.1).before args s = true := by
    have hw := hin _ (u_in_lay hk)
    unfold u_lay at hw
    split at hw
    · exact Or.inr (g.word hw rfl hW args)
    · exact Or.inl (g.word hw rfl hW args)
  exact ⟨cf, kf, fi, f, kC, hi, hsl, (u_facts hfc hkC hl hi).1, hfc, hkC, hkind, hl⟩
theorem R_getfield (g : GG Γ) {κ f : Nat} {a : Int} {idx : Nat} {ref : String} (hκ : κ < 29) (hf : f < kF κ) (hw : Cond.fieldLink md.1.cls idx ref (kT κ f).2.1 (kT κ f).2.2.1 ∈ lw_tbl)
    (hr : ref = (kT κ f).1 ∨ Cond.sameField ref (kT κ f).1 (kT κ f).2.1 (kT κ f).2.2.1 ∈ lw_tbl) (ha : a ≠ 0) (hd : decode md.2.1 pc = .ok (.getfield idx, 3)) (k : okv h (kft κ f) (rd h a f) → Rr Γ d md (pc + 3) L ((tg (kft κ f), rd h a f) :: S) h KR KT) : Rr Γ d md pc L ((κ + 10, a) :: S) h KR KT := by
  intro h0 s m args below meth c H locs ls X hE hH hlo hl hL hS hb
  obtain ⟨a64, an, ak, ⟨cell, q1, q2, q3, q4⟩, o⟩ := HR.obj g hH hκ hS.h ha
  obtain ⟨cf, kf, fi, fd, kC, hi, hsl, hst, -⟩ := fld g hκ hf X.2.2.2.2.2.2.1 args
  have hi2 : s.fieldFound? ref (kT κ f).2.1 (kT κ f).2.2.1 = some (cf, kf, fi, fd) := by
    rcases hr with rfl | hr
    · exact hi
    · exact u_same (args := args) (g.word hr rfl X.2.2.2.2.2.2.1 args) _ hi
  have K := k (o f hf) h0 s m args below meth c H locs ls X hE hH hlo hl hL (hS.t.c (ok_tg (o f hf))) hb
  have K : W _ _ _ _ _ _ _ _ _ _ _ _ _ _ _ (F0 m (pc + 3) ls (cv Γ (tg (kft κ f)) (rd h a f) :: S.map (cw Γ))) := K
  rw [cv_tg] at K
  show W _ _ _ _ _ _ _ _ _ _ _ _ _ _ _ (F0 m pc ls (cv Γ (κ + 1 + 9) a :: S.map (cw Γ)))
  rw [cv_refN Γ _ ha]
  exact W.getf g.ex X.1 X.2.2.2.2.1 (g.word hw rfl X.2.2.2.2.2.2.1 args) hi2 hst q1 (by rw [q3]; exact fun z => by cases z) (by rw [hsl]; exact q4 f hf) rfl rfl hd K
theorem R_getfieldN (g : GG Γ) {κ f : Nat} {a : Int} {idx : Nat} {host : String} (hκ : κ < 29) (hf : f < kF κ) (hw : Cond.fieldLinkNest md.1.cls idx (kT κ f).1 (kT κ f).2.1 (kT κ f).2.2.1 host ∈ lw_tbl)
    (ha : a ≠ 0) (hd : decode md.2.1 pc = .ok (.getfield idx, 3)) (k : okv h (kft κ f) (rd h a f) → Rr Γ d md (pc + 3) L ((tg (kft κ f), rd h a f) :: S) h KR KT) : Rr Γ d md pc L ((κ + 10, a) :: S) h KR KT := by
  intro h0 s m args below meth c H locs ls X hE hH hlo hl hL hS hb
  obtain ⟨a64, an, ak, ⟨cell, q1, q2, q3, q4⟩, o⟩ := HR.obj g hH hκ hS.h ha
  obtain ⟨cf, kf, fi, fd, kC, hi, hsl, hst, -⟩ := fld g hκ hf X.2.2.2.2.2.2.1 args
  have K := k (o f hf) h0 s m args below meth c H locs ls X hE hH hlo hl hL (hS.t.c (ok_tg (o f hf))) hb
  have K : W _ _ _ _ _ _ _ _ _ _ _ _ _ _ _ (F0 m (pc + 3) ls (cv Γ (tg (kft κ f)) (rd h a f) :: S.map (cw Γ))) := K
  rw [cv_tg] at K
  show W _ _ _ _ _ _ _ _ _ _ _ _ _ _ _ (F0 m pc ls (cv Γ (κ + 1 + 9) a :: S.map (cw Γ)))
  rw [cv_refN Γ _ ha]
  exact va_Wgetf g.ex X.1 X.2.2.2.2.1 (g.nestF hw X.2.2.2.2.2.2.1 args) hi hst q1 (by rw [q3]; exact fun z => by cases z) (by rw [hsl]; exact q4 f hf) rfl rfl hd K
theorem R_putfield (g : GG Γ) {κ f t : Nat} {a v : Int} {idx : Nat} {ref : String} (hκ : κ < 29) (hf : f < kF κ) (hw : Cond.fieldLink md.1.cls idx ref (kT κ f).2.1 (kT κ f).2.2.1 ∈ lw_tbl)
    (hr : ref = (kT κ f).1 ∨ Cond.sameField ref (kT κ f).1 (kT κ f).2.1 (kT κ f).2.2.1 ∈ lw_tbl) (hfin : (kT κ f).2.2.2 = false ∨ (md.1.name = "<init>" ∧ (kT κ f).1 = md.1.cls)) (ht : t = tg (kft κ f)) (hv : okv h t v → okv h (kft κ f) v) (ha : a ≠ 0) (hd : decode md.2.1 pc = .ok (.putfield idx, 3)) (k : Rr Γ d md (pc + 3) L S (up h a f v) KR KT) : Rr Γ d md pc L ((t, v) :: (κ + 10, a) :: S) h KR KT := by
  intro h0 s m args below meth c H locs ls X hE hH hlo hl hL hS hb
  obtain ⟨a64, an, ak, ⟨cell, q1, q2, q3, q4⟩, o⟩ := HR.obj g hH hκ hS.t.h ha
  obtain ⟨cf, kf, fi, fd, kC, hi, hsl, hst, hfc, hkC, hkind, hlay⟩ := fld g hκ hf X.2.2.2.2.2.2.1 args
  have hi2 : s.fieldFound? ref (kT κ f).2.1 (kT κ f).2.2.1 = some (cf, kf, fi, fd) := by
    rcases hr with rfl | hr
    · exact hi
    · exact u_same (args := args) (g.word hr rfl X.2.2.2.2.2.2.1 args) _ hi
  have hv := hv hS.h
  have hx : ext h (up h a f v) := ext.put (by omega)
  have tc := k_tyc κ hκ f hf
  obtain ⟨n1, n2⟩ := cv_fits (Γ := Γ) tc hv
  have hstack : cw Γ (t, v) = cv Γ (kft κ f) v := by show cv Γ t v = _; rw [ht, cv_tg]
  show W _ _ _ _ _ _ _ _ _ _ _ _ _ _ _ (F0 m pc ls (cw Γ (t, v) :: cv Γ (κ + 1 + 9) a :: S.map (cw Γ)))
  rw [cv_refN Γ _ ha, hstack]
  have hB : (gs Γ).heap.size ≤ ra Γ a := by rw [ra_new a64]; omega
  have fin : ∀ H' : Heap, H'[ra Γ a]? = some (cell.setSlot fd.slot (cv Γ (kft κ f) v)) → H'.size = H.size → (∀ q, q ≠ ra Γ a → H'[q]? = H[q]?) → W (gp Γ) (gl Γ) (ge Γ) (Rm d h0) s m args below meth c H' (locs ++ [⟨ra Γ a, fd.slot⟩]) (nx h - nx h0).toNat (us h - us h0).toNat (Zt Γ md h0 KR KT below s) (F0 m (pc + 3) ls (S.map (cw Γ))) := by
    intro H' e1 e2 e3
    rw [hsl] at e1
    refine k h0 s m args below meth c H' _ ls X (hE.tr hx) (HR.setF g hH hκ a64 an ak hf hv q1 e1 e2 e3) ?_ hl (hL.e hx) (hS.t.t.e hx) hb
    intro q hq
    rcases List.mem_append.mp hq with q | q
    · exact hlo _ q
    · rw [List.mem_singleton.mp q]; exact hB
  rcases hfin with hfin | ⟨hin, hdecl⟩
  · have hlay : (Cond.lays (kname κ) (kT κ f).1 (kT κ f).2.1 (kT κ f).2.2.1).before args s = true := by
      have hw := g.lay hκ _ (u_in_lay hf)
      unfold u_lay at hw
      rw [if_neg (by rw [hfin]; decide)] at hw
      exact g.word hw rfl X.2.2.2.2.2.2.1 args
    have h6 := u_store hfc hkC hkind hlay hi (k_ty κ hκ f hf) n1 n2
    exact W.putK g.ex X.1 (f := fd) ⟨X.2.2.2.2.1, g.word hw rfl X.2.2.2.2.2.2.1 args, ⟨_, _, _, hi2⟩, hst⟩ (by rw [q2]; exact h6) q1 q3 (by rw [hsl]; exact k2_hasslot (q4 f hf)) rfl rfl hd fin
  · rcases Bool.eq_false_or_eq_true (kT κ f).2.2.2 with hb2 | hb2
    · have hlf : (Cond.laysFinal (kname κ) (kT κ f).1 (kT κ f).2.1 (kT κ f).2.2.1).before args s = true := by
        have hw := g.lay hκ _ (u_in_lay hf)
        unfold u_lay at hw
        rw [if_pos hb2] at hw
        exact g.word hw rfl X.2.2.2.2.2.2.1 args
      have hcf : m.cls = cf := by
        obtain ⟨_, _, c', _, _, _, -, -, hf', -, -, -, hown2, -⟩ := Cond.laysFinal_spec hlf
        have e1 : c' = cf := by have := hi.symm.trans hf'; simp at this; exact this.1.symm
        rw [hdecl] at hown2
        rw [← e1]; exact Option.some.inj (X.2.2.2.2.1.symm.trans hown2)
      have h6 := u_fits hfc hkC hkind (Or.inr hlf) hi (k_ty κ hκ f hf) n1 n2
      exact W.putFinK g.ex X.1 X.2.2.2.2.1 (g.word hw rfl X.2.2.2.2.2.2.1 args) hi2 hst hcf (by rw [X.2.2.2.2.2.1]; exact hin) (by rw [q2]; exact h6) q1 q3 (by rw [hsl]; exact k2_hasslot (q4 f hf)) rfl rfl hd fin
    · have hlay : (Cond.lays (kname κ) (kT κ f).1 (kT κ f).2.1 (kT κ f).2.2.1).before args s = true := by
        have hw := g.lay hκ _ (u_in_lay hf)
        unfold u_lay at hw
        rw [if_neg (by rw [hb2]; decide)] at hw
        exact g.word hw rfl X.2.2.2.2.2.2.1 args
      have h6 := u_store hfc hkC hkind hlay hi (k_ty κ hκ f hf) n1 n2
      exact W.putK g.ex X.1 (f := fd) ⟨X.2.2.2.2.1, g.word hw rfl X.2.2.2.2.2.2.1 args, ⟨_, _, _, hi2⟩, hst⟩ (by rw [q2]; exact h6) q1 q3 (by rw [hsl]; exact k2_hasslot (q4 f hf)) rfl rfl hd fin
/-! arrays -/
theorem ix {i : Int} (h0 : 0 ≤ i) (h1 : i < 2147483648) : (I32 i).toNatClampNeg = i.toNat := by
  show (I32 i).toInt.toNat = i.toNat
  rw [I32_at ⟨by omega, h1⟩]
theorem ixn {i : Int} {n : Nat} (h0 : 0 ≤ i) (h1 : i < 2147483648) (hn : i.toNat < n) : ¬ (I32 i < 0 ∨ n ≤ (I32 i).toNatClampNeg) := by
  rw [ix h0 h1]
  rintro (q | q)
  · have := (I32_lt ⟨by omega, h1⟩ (show r32 0 by unfold r32; omega)).mp q
    omega
  · omega
theorem GG.arrS (g : GG Γ) {s : State} (hW : (gs Γ).WarmedH s.vm) {cell : Cell} {ty : FieldType} (h : (gs Γ).isArrayOf cell ty) : s.isArrayOf cell ty := State.isArrayOf_alike hW.alike h
theorem R_alen (g : GG Γ) {κ : Nat} {a : Int} (h64 : 64 ≤ κ) (h86 : κ < 86) (ha : a ≠ 0) (hd : decode md.2.1 pc = .ok (.arraylength, 1)) (k : Rr Γ d md (pc + 1) L ((0, ln h a) :: S) h KR KT) : Rr Γ d md pc L ((κ + 10, a) :: S) h KR KT := by
  intro h0 s m args below meth c H locs ls X hE hH hlo hl hL hS hb
  obtain ⟨cell, q1, q2, q3, l0, l1, q4, -⟩ := HR.arr g hH h64 h86 (a := a) hS.h ha
  have K := k h0 s m args below meth c H locs ls X hE hH hlo hl hL (hS.t.c (show r32 (ln h a) by unfold r32; omega)) hb
  show W _ _ _ _ _ _ _ _ _ _ _ _ _ _ _ (F0 m pc ls (cv Γ (κ + 1 + 9) a :: S.map (cw Γ)))
  rw [cv_refN Γ _ ha]
  refine W.alen (n := I32 (ln h a)) g.ex X.1 q1 (g.arrS X.2.2.2.2.2.2.1 q2) ?_ rfl rfl hd K
  exact q4.2.1
theorem R_iald (g : GG Γ) {κ : Nat} {a i : Int} (h64 : 64 ≤ κ) (h86 : κ < 86) (hty : kat κ = .int) (ha : a ≠ 0) (i0 : 0 ≤ i) (il : i < ln h a) (hd : decode md.2.1 pc = .ok (.iaload, 1)) (k : okv h (ket κ) (rd h a i) → Rr Γ d md (pc + 1) L ((tg (ket κ), rd h a i) :: S) h KR KT) : Rr Γ d md pc L ((0, i) :: (κ + 10, a) :: S) h KR KT := by
  intro h0 s m args below meth c H locs ls X hE hH hlo hl hL hS hb
  obtain ⟨cell, q1, q2, q3, l0, l1, q4, q5, q6⟩ := HR.arr g hH h64 h86 (a := a) hS.t.h ha
  have hi : (i.toNat : Int) = i := Int.toNat_of_nonneg i0
  have o := q6 i.toNat (by omega)
  have v := q5 i.toNat (by omega)
  rw [hi] at o v
  have K := k o h0 s m args below meth c H locs ls X hE hH hlo hl hL (hS.t.t.c (ok_tg o)) hb
  have K : W _ _ _ _ _ _ _ _ _ _ _ _ _ _ _ (F0 m (pc + 1) ls (cv Γ (tg (ket κ)) (rd h a i) :: S.map (cw Γ))) := K
  rw [cv_tg] at K
  show W _ _ _ _ _ _ _ _ _ _ _ _ _ _ _ (F0 m pc ls (.int (I32 i) :: cv Γ (κ + 1 + 9) a :: S.map (cw Γ)))
  rw [cv_refN Γ _ ha]
  rw [hty] at q2
  exact W.iald g.ex X.1 q1 (g.arrS X.2.2.2.2.2.2.1 q2) q3 (ixn i0 (by omega) (by have := q4.1; omega)) (by rw [ix i0 (by omega)]; exact v) rfl rfl hd K
theorem R_lald (g : GG Γ) {κ : Nat} {a i : Int} (h64 : 64 ≤ κ) (h86 : κ < 86) (hty : kat κ = .long) (ha : a ≠ 0) (i0 : 0 ≤ i) (il : i < ln h a) (hd : decode md.2.1 pc = .ok (.laload, 1)) (k : okv h (ket κ) (rd h a i) → Rr Γ d md (pc + 1) L ((tg (ket κ), rd h a i) :: S) h KR KT) : Rr Γ d md pc L ((0, i) :: (κ + 10, a) :: S) h KR KT := by
  intro h0 s m args below meth c H locs ls X hE hH hlo hl hL hS hb
  obtain ⟨cell, q1, q2, q3, l0, l1, q4, q5, q6⟩ := HR.arr g hH h64 h86 (a := a) hS.t.h ha
  have hi : (i.toNat : Int) = i := Int.toNat_of_nonneg i0
  have o := q6 i.toNat (by omega)
  have v := q5 i.toNat (by omega)
  rw [hi] at o v
  have K := k o h0 s m args below meth c H locs ls X hE hH hlo hl hL (hS.t.t.c (ok_tg o)) hb
  have K : W _ _ _ _ _ _ _ _ _ _ _ _ _ _ _ (F0 m (pc + 1) ls (cv Γ (tg (ket κ)) (rd h a i) :: S.map (cw Γ))) := K
  rw [cv_tg] at K
  show W _ _ _ _ _ _ _ _ _ _ _ _ _ _ _ (F0 m pc ls (.int (I32 i) :: cv Γ (κ + 1 + 9) a :: S.map (cw Γ)))
  rw [cv_refN Γ _ ha]
  rw [hty] at q2
  exact W.lald g.ex X.1 q1 (g.arrS X.2.2.2.2.2.2.1 q2) q3 (ixn i0 (by omega) (by have := q4.1; omega)) (by rw [ix i0 (by omega)]; exact v) rfl rfl hd K
theorem R_bald (g : GG Γ) {κ : Nat} {a i : Int} (h64 : 64 ≤ κ) (h86 : κ < 86) (hty : kat κ = .byte) (ha : a ≠ 0) (i0 : 0 ≤ i) (il : i < ln h a) (hd : decode md.2.1 pc = .ok (.baload, 1)) (k : okv h (ket κ) (rd h a i) → Rr Γ d md (pc + 1) L ((tg (ket κ), rd h a i) :: S) h KR KT) : Rr Γ d md pc L ((0, i) :: (κ + 10, a) :: S) h KR KT := by
  intro h0 s m args below meth c H locs ls X hE hH hlo hl hL hS hb
  obtain ⟨cell, q1, q2, q3, l0, l1, q4, q5, q6⟩ := HR.arr g hH h64 h86 (a := a) hS.t.h ha
  have hi : (i.toNat : Int) = i := Int.toNat_of_nonneg i0
  have o := q6 i.toNat (by omega)
  have v := q5 i.toNat (by omega)
  rw [hi] at o v
  have K := k o h0 s m args below meth c H locs ls X hE hH hlo hl hL (hS.t.t.c (ok_tg o)) hb
  have K : W _ _ _ _ _ _ _ _ _ _ _ _ _ _ _ (F0 m (pc + 1) ls (cv Γ (tg (ket κ)) (rd h a i) :: S.map (cw Γ))) := K
  rw [cv_tg] at K
  show W _ _ _ _ _ _ _ _ _ _ _ _ _ _ _ (F0 m pc ls (.int (I32 i) :: cv Γ (κ + 1 + 9) a :: S.map (cw Γ)))
  rw [cv_refN Γ _ ha]
  rw [hty] at q2
  exact W.bald g.ex X.1 q1 (g.arrS X.2.2.2.2.2.2.1 q2) q3 (ixn i0 (by omega) (by have := q4.1; omega)) (by rw [ix i0 (by omega)]; exact v) rfl rfl hd K
theorem R_zald (g : GG Γ) {κ : Nat} {a i : Int} (h64 : 64 ≤ κ) (h86 : κ < 86) (hty : kat κ = .boolean) (ha : a ≠ 0) (i0 : 0 ≤ i) (il : i < ln h a) (hd : decode md.2.1 pc = .ok (.baload, 1)) (k : okv h (ket κ) (rd h a i) → Rr Γ d md (pc + 1) L ((tg (ket κ), rd h a i) :: S) h KR KT) : Rr Γ d md pc L ((0, i) :: (κ + 10, a) :: S) h KR KT := by
  intro h0 s m args below meth c H locs ls X hE hH hlo hl hL hS hb
  obtain ⟨cell, q1, q2, q3, l0, l1, q4, q5, q6⟩ := HR.arr g hH h64 h86 (a := a) hS.t.h ha
  have hi : (i.toNat : Int) = i := Int.toNat_of_nonneg i0
  have o := q6 i.toNat (by omega)
  have v := q5 i.toNat (by omega)
  rw [hi] at o v
  have K := k o h0 s m args below meth c H locs ls X hE hH hlo hl hL (hS.t.t.c (ok_tg o)) hb
  have K : W _ _ _ _ _ _ _ _ _ _ _ _ _ _ _ (F0 m (pc + 1) ls (cv Γ (tg (ket κ)) (rd h a i) :: S.map (cw Γ))) := K
  rw [cv_tg] at K
  show W _ _ _ _ _ _ _ _ _ _ _ _ _ _ _ (F0 m pc ls (.int (I32 i) :: cv Γ (κ + 1 + 9) a :: S.map (cw Γ)))
  rw [cv_refN Γ _ ha]
  rw [hty] at q2
  exact W.zald g.ex X.1 q1 (g.arrS X.2.2.2.2.2.2.1 q2) q3 (ixn i0 (by omega) (by have := q4.1; omega)) (by rw [ix i0 (by omega)]; exact v) rfl rfl hd K
theorem R_aald (g : GG Γ) {κ : Nat} {a i : Int} (h64 : 64 ≤ κ) (h86 : κ < 86) (hty : (kat κ).isReference = true) (ha : a ≠ 0) (i0 : 0 ≤ i) (il : i < ln h a) (hd : decode md.2.1 pc = .ok (.aaload, 1)) (k : okv h (ket κ) (rd h a i) → Rr Γ d md (pc + 1) L ((tg (ket κ), rd h a i) :: S) h KR KT) : Rr Γ d md pc L ((0, i) :: (κ + 10, a) :: S) h KR KT := by
  intro h0 s m args below meth c H locs ls X hE hH hlo hl hL hS hb
  obtain ⟨cell, q1, q2, q3, l0, l1, q4, q5, q6⟩ := HR.arr g hH h64 h86 (a := a) hS.t.h ha
  have hi : (i.toNat : Int) = i := Int.toNat_of_nonneg i0
  have o := q6 i.toNat (by omega)
  have v := q5 i.toNat (by omega)
  rw [hi] at o v
  have K := k o h0 s m args below meth c H locs ls X hE hH hlo hl hL (hS.t.t.c (ok_tg o)) hb
  have K : W _ _ _ _ _ _ _ _ _ _ _ _ _ _ _ (F0 m (pc + 1) ls (cv Γ (tg (ket κ)) (rd h a i) :: S.map (cw Γ))) := K
  rw [cv_tg] at K
  show W _ _ _ _ _ _ _ _ _ _ _ _ _ _ _ (F0 m pc ls (.int (I32 i) :: cv Γ (κ + 1 + 9) a :: S.map (cw Γ)))
  rw [cv_refN Γ _ ha]
  exact W.aald g.ex X.1 q1 (g.arrS X.2.2.2.2.2.2.1 q2) hty q3 (ixn i0 (by omega) (by have := q4.1; omega)) (by rw [ix i0 (by omega)]; exact v) rfl rfl hd K
theorem R_iast (g : GG Γ) {κ : Nat} {a i v : Int} (h64 : 64 ≤ κ) (h83 : κ < 83) (hty : kat κ = .int) (hc : ket κ = 0) (ha : a ≠ 0) (i0 : 0 ≤ i) (il : i < ln h a) (hd : decode md.2.1 pc = .ok (.iastore, 1)) (k : Rr Γ d md (pc + 1) L S (up h a i (v)) KR KT) : Rr Γ d md pc L ((0, v) :: (0, i) :: (κ + 10, a) :: S) h KR KT := by
  intro h0 s m args below meth c H locs ls X hE hH hlo hl hL hS hb
  obtain ⟨a64, an, ak, l1, q1, -⟩ := HR.arrW g hH h64 h83 (a := a) hS.t.t.h ha (by omega)
  have q2 := (g.2.2.2.1 κ h64 h83).1 (ln h a).toNat (fun j => cv Γ (ket κ) (rd h a j))
  have q3 : (arrV (gA Γ κ) (ln h a).toNat (fun j => cv Γ (ket κ) (rd h a j))).vm ≠ .unknown := fun z => by cases z
  rw [hty] at q2
  have hv : okv h (ket κ) (v) := by rw [hc]; exact hS.h
  have hx : ext h (up h a i (v)) := ext.put i0
  show W _ _ _ _ _ _ _ _ _ _ _ _ _ _ _ (F0 m pc ls (.int (I32 v) :: .int (I32 i) :: cv Γ (κ + 1 + 9) a :: S.map (cw Γ)))
  rw [cv_refN Γ _ ha]
  refine W.iast g.ex X.1 q1 (g.arrS X.2.2.2.2.2.2.1 q2) q3 (by rw [arrV_size]; exact ixn i0 (by omega) (by omega)) rfl rfl hd (fun H' e1 e2 e3 => ?_)
  rw [ix i0 (by omega)] at e1
  refine k h0 s m args below meth c H' _ ls X (hE.tr hx) (HR.setA hH h64 a64 an ak i0 il hv ?_ e2 e3) ?_ hl (hL.e hx) (hS.t.t.t.e hx) hb
  · rw [e1, hc]; rfl
  · intro q hq
    rcases List.mem_append.mp hq with q | q
    · exact hlo _ q
    · rw [List.mem_singleton.mp q]; show (gs Γ).heap.size ≤ ra Γ a; rw [ra_new a64]; omega
theorem R_last (g : GG Γ) {κ : Nat} {a i v : Int} (h64 : 64 ≤ κ) (h83 : κ < 83) (hty : kat κ = .long) (hc : ket κ = 1) (ha : a ≠ 0) (i0 : 0 ≤ i) (il : i < ln h a) (hd : decode md.2.1 pc = .ok (.lastore, 1)) (k : Rr Γ d md (pc + 1) L S (up h a i (v)) KR KT) : Rr Γ d md pc L ((1, v) :: (0, i) :: (κ + 10, a) :: S) h KR KT := by
  intro h0 s m args below meth c H locs ls X hE hH hlo hl hL hS hb
  obtain ⟨a64, an, ak, l1, q1, -⟩ := HR.arrW g hH h64 h83 (a := a) hS.t.t.h ha (by omega)
  have q2 := (g.2.2.2.1 κ h64 h83).1 (ln h a).toNat (fun j => cv Γ (ket κ) (rd h a j))
  have q3 : (arrV (gA Γ κ) (ln h a).toNat (fun j => cv Γ (ket κ) (rd h a j))).vm ≠ .unknown := fun z => by cases z
  rw [hty] at q2
  have hv : okv h (ket κ) (v) := by rw [hc]; exact hS.h
  have hx : ext h (up h a i (v)) := ext.put i0
  show W _ _ _ _ _ _ _ _ _ _ _ _ _ _ _ (F0 m pc ls (.long (I64 v) :: .int (I32 i) :: cv Γ (κ + 1 + 9) a :: S.map (cw Γ)))
  rw [cv_refN Γ _ ha]
  refine W.last g.ex X.1 q1 (g.arrS X.2.2.2.2.2.2.1 q2) q3 (by rw [arrV_size]; exact ixn i0 (by omega) (by omega)) rfl rfl hd (fun H' e1 e2 e3 => ?_)
  rw [ix i0 (by omega)] at e1
  refine k h0 s m args below meth c H' _ ls X (hE.tr hx) (HR.setA hH h64 a64 an ak i0 il hv ?_ e2 e3) ?_ hl (hL.e hx) (hS.t.t.t.e hx) hb
  · rw [e1, hc]; rfl
  · intro q hq
    rcases List.mem_append.mp hq with q | q
    · exact hlo _ q
    · rw [List.mem_singleton.mp q]; show (gs Γ).heap.size ≤ ra Γ a; rw [ra_new a64]; omega
theorem nb_w8 (v : Int) : narrow .byte (.int (I32 v)) = .int (I32 (w8 v)) := by
  rw [← I32_b]
  rfl
theorem R_bast (g : GG Γ) {κ : Nat} {a i v : Int} (h64 : 64 ≤ κ) (h83 : κ < 83) (hty : kat κ = .byte) (hc : ket κ = 2) (ha : a ≠ 0) (i0 : 0 ≤ i) (il : i < ln h a) (hd : decode md.2.1 pc = .ok (.bastore, 1)) (k : Rr Γ d md (pc + 1) L S (up h a i (w8 v)) KR KT) : Rr Γ d md pc L ((0, v) :: (0, i) :: (κ + 10, a) :: S) h KR KT := by
  intro h0 s m args below meth c H locs ls X hE hH hlo hl hL hS hb
  obtain ⟨a64, an, ak, l1, q1, -⟩ := HR.arrW g hH h64 h83 (a := a) hS.t.t.h ha (by omega)
  have q2 := (g.2.2.2.1 κ h64 h83).1 (ln h a).toNat (fun j => cv Γ (ket κ) (rd h a j))
  have q3 : (arrV (gA Γ κ) (ln h a).toNat (fun j => cv Γ (ket κ) (rd h a j))).vm ≠ .unknown := fun z => by cases z
  rw [hty] at q2
  have hv : okv h (ket κ) (w8 v) := by rw [hc]; exact (show -128 ≤ w8 v ∧ w8 v < 128 by unfold w8; omega)
  have hx : ext h (up h a i (w8 v)) := ext.put i0
  show W _ _ _ _ _ _ _ _ _ _ _ _ _ _ _ (F0 m pc ls (.int (I32 v) :: .int (I32 i) :: cv Γ (κ + 1 + 9) a :: S.map (cw Γ)))
  rw [cv_refN Γ _ ha]
  refine W.bast g.ex X.1 q1 (g.arrS X.2.2.2.2.2.2.1 q2) q3 (by rw [arrV_size]; exact ixn i0 (by omega) (by omega)) rfl rfl hd (fun H' e1 e2 e3 => ?_)
  rw [ix i0 (by omega)] at e1
  refine k h0 s m args below meth c H' _ ls X (hE.tr hx) (HR.setA hH h64 a64 an ak i0 il hv ?_ e2 e3) ?_ hl (hL.e hx) (hS.t.t.t.e hx) hb
  · rw [e1, hc, nb_w8]; rfl
  · intro q hq
    rcases List.mem_append.mp hq with q | q
    · exact hlo _ q
    · rw [List.mem_singleton.mp q]; show (gs Γ).heap.size ≤ ra Γ a; rw [ra_new a64]; omega
theorem R_zast (g : GG Γ) {κ : Nat} {a i v : Int} (h64 : 64 ≤ κ) (h83 : κ < 83) (hty : kat κ = .boolean) (hc : ket κ = 3) (hz : v = 0 ∨ v = 1) (ha : a ≠ 0) (i0 : 0 ≤ i) (il : i < ln h a) (hd : decode md.2.1 pc = .ok (.bastore, 1)) (k : Rr Γ d md (pc + 1) L S (up h a i (v)) KR KT) : Rr Γ d md pc L ((0, v) :: (0, i) :: (κ + 10, a) :: S) h KR KT := by
  intro h0 s m args below meth c H locs ls X hE hH hlo hl hL hS hb
  obtain ⟨a64, an, ak, l1, q1, -⟩ := HR.arrW g hH h64 h83 (a := a) hS.t.t.h ha (by omega)
  have q2 := (g.2.2.2.1 κ h64 h83).1 (ln h a).toNat (fun j => cv Γ (ket κ) (rd h a j))
  have q3 : (arrV (gA Γ κ) (ln h a).toNat (fun j => cv Γ (ket κ) (rd h a j))).vm ≠ .unknown := fun z => by cases z
  rw [hty] at q2
  have hv : okv h (ket κ) (v) := by rw [hc]; exact hz
  have hx : ext h (up h a i (v)) := ext.put i0
  show W _ _ _ _ _ _ _ _ _ _ _ _ _ _ _ (F0 m pc ls (.int (I32 v) :: .int (I32 i) :: cv Γ (κ + 1 + 9) a :: S.map (cw Γ)))
  rw [cv_refN Γ _ ha]
  refine W.zast g.ex X.1 q1 (g.arrS X.2.2.2.2.2.2.1 q2) q3 (by rw [arrV_size]; exact ixn i0 (by omega) (by omega)) rfl rfl hd (fun H' e1 e2 e3 => ?_)
  rw [ix i0 (by omega)] at e1
  refine k h0 s m args below meth c H' _ ls X (hE.tr hx) (HR.setA hH h64 a64 an ak i0 il hv ?_ e2 e3) ?_ hl (hL.e hx) (hS.t.t.t.e hx) hb
  · rw [e1, hc, nr_bool hz]; rfl
  · intro q hq
    rcases List.mem_append.mp hq with q | q
    · exact hlo _ q
    · rw [List.mem_singleton.mp q]; show (gs Γ).heap.size ≤ ra Γ a; rw [ra_new a64]; omega
/-! new cells -/
theorem R_newa (g : GG Γ) {κ : Nat} {n : Int} {ty : ArrayType} (h64 : 64 ≤ κ) (h83 : κ < 83) (hty : kat κ = newarray.typeOf ty) (hw : Cond.arrayClass (newarray.typeOf ty) ∈ lw_tbl) (n0 : 0 ≤ n) (n1 : n ≤ 65536) (hN : nx h + 1 ≤ NM) (hU : us h + n ≤ UM) (hd : decode md.2.1 pc = .ok (.newarray ty, 2)) (k : 64 ≤ nx h → Rr Γ d md (pc + 2) L ((κ + 10, nx h) :: S) (mk h κ n) KR KT) : Rr Γ d md pc L ((0, n) :: S) h KR KT := by
  intro h0 s m args below meth c H locs ls X hE hH hlo hl hL hS hb
  have hx : ext h (mk h κ n) := ext.new n0
  have e0 := hE.1
  have e1 := hE.2.1
  have hn : ¬ I32 n < 0 := fun q => by
    have := (I32_lt (show r32 n by unfold r32; omega) (show r32 0 by unfold r32; omega)).mp q
    omega
  refine va_newaK g.ex X.1 (g.word hw rfl X.2.2.2.2.2.2.1 args) rfl hd rfl hn (ix n0 (by omega)) ?_ ?_ ?_ rfl (fun H' cA q1 q2 q3 q4 q5 => ?_)
  · have : componentBytes (newarray.typeOf ty) ≤ 8 := by cases ty <;> decide
    have h2 : n.toNat * componentBytes (newarray.typeOf ty) ≤ 65536 * 8 := Nat.mul_le_mul (by omega) this
    exact Nat.le_trans h2 (by decide)
  · show (nx h - nx h0).toNat + 1 ≤ (NM - nx h0).toNat
    omega
  · show (us h - us h0).toNat + n.toNat ≤ (UM - us h0).toNat
    omega
  · have hcA : cA = gA Γ κ := by
      have q6 : (gs Γ).vm.findClass ("[" ++ (newarray.typeOf ty).toString) = some cA := by rw [← X.2.2.2.2.2.2.1.alike.findClass]; exact q5
      have := (g.2.2.2.1 κ h64 h83).2.1
      rw [hty] at this
      exact Option.some.inj (q6.symm.trans this)
    subst hcA
    have hH2 : HR Γ (mk h κ n) H' := HR.newA hH h64 h83 n0 (by omega) q2 q3 (by rw [hty]; exact q1)
    have K := k hH.1 h0 s m args below meth c H' locs ls X (hE.tr hx) hH2 hlo hl (hL.e hx) ((hS.t.e hx).c (Or.inr ⟨by have := hH.1; omega, by rw [nx_mk]; omega, kn_mk_new h κ n⟩)) ⟨by rw [nx_mk]; omega, by rw [us_mk]; omega⟩
    have a1 : (nx (mk h κ n) - nx h0).toNat = (nx h - nx h0).toNat + 1 := by rw [nx_mk]; omega
    have a2 : (us (mk h κ n) - us h0).toNat = (us h - us h0).toNat + n.toNat := by rw [us_mk]; omega
    rw [a1, a2] at K
    have K : W _ _ _ _ _ _ _ _ _ _ _ _ _ _ _ (F0 m (pc + 2) ls (cv Γ (κ + 1 + 9) (nx h) :: S.map (cw Γ))) := K
    rw [cv_refN Γ _ (by have := hH.1; omega), ra_nx hH] at K
    exact K
theorem R_new (g : GG Γ) {κ idx : Nat} (hκ : κ < 29) (hw : Cond.classLink md.1.cls idx (kname κ) ∈ lw_tbl) (hN : nx h + 1 ≤ NM) (hU : us h + kN κ ≤ UM) (hd : decode md.2.1 pc = .ok (.new idx, 3)) (k : 64 ≤ nx h → Rr Γ d md (pc + 3) L ((κ + 10, nx h) :: S) (mk h κ (kN κ)) KR KT) : Rr Γ d md pc L S h KR KT := by
  intro h0 s m args below meth c H locs ls X hE hH hlo hl hL hS hb
  have hx : ext h (mk h κ (kN κ)) := ext.new (by omega)
  have e0 := hE.1
  have e1 := hE.2.1
  obtain ⟨-, hfc, -⟩ := g.kn_at hκ X.2.2.2.2.2.2.1
  refine W.newcK g.ex X.1 X.2.2.2.2.1 (g.word hw rfl X.2.2.2.2.2.2.1 args) (g.word (wat_in (k_posI κ hκ)) rfl X.2.2.2.2.2.2.1 args) (g.word (wat_in (k_posZ κ hκ)) rfl X.2.2.2.2.2.2.1 args) rfl hd ?_ ?_ hfc rfl (fun H' kC q1 q2 q3 q4 => ?_)
  · show (nx h - nx h0).toNat + 1 ≤ (NM - nx h0).toNat
    omega
  · show (us h - us h0).toNat + kN κ ≤ (UM - us h0).toNat
    omega
  · obtain ⟨kC0, hk0, he0⟩ : ∃ kC0, (gs Γ).vm.classes[gC Γ κ]? = some kC0 ∧ blank (gC Γ κ) kC = blank (gC Γ κ) kC0 := by
      obtain ⟨k', hk', he⟩ := X.2.2.2.2.2.2.1.alike.symm.2.2 _ _ q1
      exact ⟨k', hk', by unfold blank; rw [he]⟩
    rw [he0] at q2
    have hsz : kC0.instanceTypes.size = kN κ := by
      obtain ⟨a0, h0'⟩ := g.2.1
      obtain ⟨c1, k1, hc1, hk1, -, -, -, hn1⟩ := Cond.instantiable_spec (h0' _ (wat_in (k_posI κ hκ)))
      cases Option.some.inj (hc1.symm.trans (g.2.2.1 κ hκ).2.1)
      cases Option.some.inj (hk1.symm.trans hk0)
      exact hn1
    have hH2 : HR Γ (mk h κ (kN κ)) H' := HR.newO g hH hκ hk0 hsz q3 q4 q2
    have K := k hH.1 h0 s m args below meth c H' locs ls X (hE.tr hx) hH2 hlo hl (hL.e hx) ((hS.e hx).c (Or.inr ⟨by have := hH.1; omega, by rw [nx_mk]; omega, kn_mk_new h κ _⟩)) ⟨by rw [nx_mk]; omega, by rw [us_mk]; omega⟩
    have a1 : (nx (mk h κ (kN κ)) - nx h0).toNat = (nx h - nx h0).toNat + 1 := by rw [nx_mk]; omega
    have a2 : (us (mk h κ (kN κ)) - us h0).toNat = (us h - us h0).toNat + kN κ := by rw [us_mk]; omega
    rw [a1, a2] at K
    have K : W _ _ _ _ _ _ _ _ _ _ _ _ _ _ _ (F0 m (pc + 3) ls (cv Γ (κ + 1 + 9) (nx h) :: S.map (cw Γ))) := K
    rw [cv_refN Γ _ (by have := hH.1; omega), ra_nx hH] at K
    exact K
end CELLS
