section BLOCK
variable {Γ : Gam} {d : Nat} {md : MD} {pc : Nat} {h : Hp} {KR KT : Kt} {k : Nxt} {len : Nat}
theorem sTabC_get {J : Nat × List Nat → Nxt} {x : Int} {L : Lc} {S : List Vl} : ∀ {ts : List (Nat × List Nat)} {lo : Int}, sTabC J x L S h ts lo → ∀ (j : Nat) (t : Nat × List Nat), ts[j]? = some t → x = lo + j → J t L S h
  | [], _, _, j, t, e, _ => by simp at e
  | t0 :: r, lo, hw, 0, t, e, hx => by
    simp at e
    subst e
    exact hw.1 (by omega)
  | t0 :: r, lo, hw, j + 1, t, e, hx => by
    simp at e
    exact sTabC_get hw.2 j t e (by omega)
theorem s_Tab (g : GG Γ) {ts : List (Nat × List Nat)} {dflt lo hi : Int} {offs : Array Int} (hd : decode md.2.1 pc = .ok (.tableswitch dflt lo hi offs, len)) (ok : tabOk pc dflt lo hi offs.toList ts = true) {L : Lc} {S : List Vl} : sTab (jmp Γ d md KR KT) ts lo hi L S h → Rr Γ d md pc L S h KR KT := by
  intro hw
  match S, hw with
  | (u, x) :: S2, hw =>
    obtain ⟨e, hv⟩ := bif_t hw
    clear hw
    cases beq_t e
    unfold tabOk at ok
    obtain ⟨ok, o4⟩ := and_t ok
    obtain ⟨ok, o3⟩ := and_t ok
    obtain ⟨o1, o2⟩ := and_t ok
    have o1 := of_decide_eq_true o1
    have o2 := of_decide_eq_true o2
    have o3 := of_decide_eq_true o3
    have o4 : ts.tail.map (fun t => (t.1 : Int)) = offs.toList.map (fun o => (pc : Int) + o) := eq_of_beq o4
    by_cases hx : x < lo ∨ hi < x
    · exact R_tableOut g hd hx o1 (jmp_s (hv.1 hx))
    · have hj : (x - lo).toNat < offs.size := by rw [← Array.length_toList]; omega
      have eo : offs[(x - lo).toNat]? = some offs[(x - lo).toNat] := Array.getElem?_eq_getElem hj
      have eq := congrArg (fun l => l[(x - lo).toNat]?) o4
      simp only [List.getElem?_map] at eq
      rw [show offs.toList[(x - lo).toNat]? = some offs[(x - lo).toNat] by rw [Array.getElem?_toList]; exact eo] at eq
      cases et : ts.tail[(x - lo).toNat]? with
      | none => rw [et] at eq; simp at eq
      | some t =>
        rw [et] at eq
        simp at eq
        exact R_tableIn g hd (by omega) (by omega) eo eq.symm (jmp_s (sTabC_get hv.2 _ t et (by omega)))
  | [], hw => exact hw.elim
theorem sLooC_get {J : Nat × List Nat → Nxt} {x dflt : Int} {L : Lc} {S : List Vl} {D : Nat × List Nat} {pc : Nat} (hD : (pc : Int) + dflt = (D.1 : Int)) : ∀ {ps : List (Int × Int)} {ts : List (Nat × List Nat)}, ts.map (fun t => (t.1 : Int)) = ps.map (fun o => (pc : Int) + o.2) → sLooC J x L S h D ps ts → ∃ t : Nat × List Nat, (pc : Int) + Op.lookupswitch.offset ps dflt x = (t.1 : Int) ∧ J t L S h
  | [], _, _, hw => ⟨D, by rw [Op.lookupswitch.offset_nil]; exact hD, hw⟩
  | p :: ps, [], _, hw => hw.elim
  | (a, o) :: ps, t :: ts, e, hw => by
    simp only [List.map_cons, List.cons.injEq] at e
    rw [Op.lookupswitch.offset_cons]
    by_cases hx : x = a
    · have : (x == a) = true := by simpa using hx
      first
        | (rw [if_pos hx]; exact ⟨t, e.1.symm, hw.1 hx⟩)
        | (rw [if_pos this]; exact ⟨t, e.1.symm, hw.1 hx⟩)
        | (rw [if_pos hx.symm]; exact ⟨t, e.1.symm, hw.1 hx⟩)
    · obtain ⟨t2, h1, h2⟩ := sLooC_get hD e.2 (hw.2 hx)
      first
        | (rw [if_neg hx]; exact ⟨t2, h1, h2⟩)
        | (rw [if_neg (by simpa using hx)]; exact ⟨t2, h1, h2⟩)
        | (rw [if_neg (fun q => hx q.symm)]; exact ⟨t2, h1, h2⟩)
theorem s_Loo (g : GG Γ) {ts : List (Nat × List Nat)} {dflt : Int} {ps : Array (Int × Int)} (hd : decode md.2.1 pc = .ok (.lookupswitch dflt ps, len)) (ok : looOk pc dflt ps.toList ts = true) {L : Lc} {S : List Vl} : sLoo (jmp Γ d md KR KT) ts ps.toList L S h → Rr Γ d md pc L S h KR KT := by
  intro hw
  match S, hw with
  | (u, x) :: S2, hw =>
    obtain ⟨e, hv⟩ := bif_t hw
    clear hw
    cases beq_t e
    unfold looOk at ok
    obtain ⟨o1, o3⟩ := and_t ok
    obtain ⟨o1, o2⟩ := and_t o1
    obtain ⟨t, e, hj⟩ := sLooC_get (of_decide_eq_true o2) (eq_of_beq o3) hv
    exact R_lookup g hd o1 rfl e (jmp_s hj)
  | [], hw => exact hw.elim
theorem R_athrow (g : GG Γ) {κ : Nat} {a : Int} {L : Lc} {S : List Vl} (ha : a ≠ 0) (hd : decode md.2.1 pc = .ok (.athrow, 1)) (k : okv h (κ + 10) a → Th Γ d md pc L h KR KT a) : Rr Γ d md pc L ((κ + 10, a) :: S) h KR KT := by
  intro h0 s m args below meth c H locs ls X hE hH hlo hl hL hS hb T hT St
  obtain ⟨t, w1, w2⟩ := k hS.h h0 s m args below meth c H locs ls X hE hH hlo hl hL hb (S.map (cw Γ)) T hT St
  refine ⟨t, ?_, w2⟩
  have e : ((κ + 10, a) :: S).map (cw Γ) = .ref (ra Γ a) :: S.map (cw Γ) := by
    rw [List.map_cons]
    congr 1
    exact cv_refN Γ (κ + 1) ha
  rw [e]
  have hdg : decode c.code pc = .ok (.athrow, 1) := by rw [X.1]; exact hd
  jvm_step St.here [g.ex, hdg, athrow.wp_sem]
  exact w1
theorem bl1 {a : Nat} (h : (a == 1) = true) : a = 1 := beq_t h
theorem step_sound (g : GG Γ) {x : El} (hd : decode md.2.1 pc = .ok (x.1, x.2.1)) (hs : stE md pc x = true) (hk : Hk Γ d md KR KT (pc + x.2.1) k) : ∀ L S h, stepW Γ d md KR KT pc x k L S h → Rr Γ d md pc L S h KR KT := by
  obtain ⟨ins, len, info, ts, md2⟩ := x
  dsimp only at hd hk
  cases ins
  case aconst_null =>
    obtain ⟨e1, e2⟩ := and_t hs
    cases beq_t e1
    intro L S h hw
    have hw : k L ((n0 info, 0) :: S) h := hw
    obtain ⟨t, et⟩ : ∃ t, n0 info = t + 9 := ⟨n0 info - 9, by have := ble_t e2; dsimp only at this; omega⟩
    rw [et] at hw
    exact R_null g hd (hk _ _ _ hw)
  case iconst n =>
    obtain ⟨e1, e2⟩ := and_t hs
    cases beq_t e1
    exact fun L S h hw => R_iconst g (show -2147483648 ≤ n ∧ n < 2147483648 from of_decide_eq_true e2) hd (hk _ _ _ hw)
  case bipush n =>
    obtain ⟨e1, e2⟩ := and_t hs
    cases beq_t e1
    exact fun L S h hw => R_bipush g (of_decide_eq_true e2) hd (hk _ _ _ hw)
  case sipush n =>
    obtain ⟨e1, e2⟩ := and_t hs
    cases beq_t e1
    exact fun L S h hw => R_sipush g (of_decide_eq_true e2) hd (hk _ _ _ hw)
  case lconst n =>
    cases beq_t hs
    exact fun L S h hw => R_lconst g hd (hk _ _ _ hw)
  case ldc i =>
    cases beq_t hs
    intro L S h hw
    have hw : (bif n1 info == 78 then sEsc Γ d md KR KT pc (.ldc i, 2, info, ts, md2) k else fun L S h => (r32 (i0 info) ∧ Cond.constant md.1.cls i (I32 (i0 info)) ∈ lw_tbl) ∧ k L ((0, i0 info) :: S) h) L S h := hw
    cases e : (n1 info == 78) with
    | true => rw [e] at hw; exact hw hd hk
    | false =>
      rw [e] at hw
      have hw : (r32 (i0 info) ∧ Cond.constant md.1.cls i (I32 (i0 info)) ∈ lw_tbl) ∧ k L ((0, i0 info) :: S) h := hw
      exact R_ldc g hw.1.1 hw.1.2 hd (hk _ _ _ hw.2)
  case ldc_w i =>
    cases beq_t hs
    exact fun L S h hw => R_ldcw g hw.1.1 hw.1.2 hd (hk _ _ _ hw.2)
  case ldc2_w i =>
    cases beq_t hs
    exact fun L S h hw => R_ldc2 g hw.1.1 hw.1.2 hd (hk _ _ _ hw.2)
  case iload i =>
    cases beq_t hs
    exact fun L S h hw => s_Load (by decide) hk (fun hm k => R_iload g hm hd k) hw
  case iload_n i =>
    cases beq_t hs
    exact fun L S h hw => s_Load (by decide) hk (fun hm k => R_iload_n g rfl hm hd k) hw
  case lload i =>
    cases beq_t hs
    exact fun L S h hw => s_Load (by decide) hk (fun hm k => R_lload g hm hd k) hw
  case lload_n i =>
    cases beq_t hs
    exact fun L S h hw => s_Load (by decide) hk (fun hm k => R_lload_n g rfl hm hd k) hw
  case aload i =>
    cases beq_t hs
    exact fun L S h hw => s_LoadA hk (fun hm k => R_aload g hm hd k) hw
  case aload_n i =>
    cases beq_t hs
    exact fun L S h hw => s_LoadA hk (fun hm k => R_aload_n g rfl hm hd k) hw
  case istore i =>
    cases beq_t hs
    exact fun L S h hw => s_Store hk (fun hn k => R_istore g hn hd k) hw
  case istore_n i =>
    cases beq_t hs
    exact fun L S h hw => s_Store hk (fun hn k => R_istore_n g rfl hn hd k) hw
  case lstore i =>
    cases beq_t hs
    exact fun L S h hw => s_Store2 hk (fun hn k => R_lstore g hn hd k) hw
  case lstore_n i =>
    cases beq_t hs
    exact fun L S h hw => s_Store2 hk (fun hn k => R_lstore_n g rfl hn hd k) hw
  case astore i =>
    cases beq_t hs
    exact fun L S h hw => s_StoreA hk (fun hn k => R_astore g hn hd k) hw
  case astore_n i =>
    cases beq_t hs
    exact fun L S h hw => s_StoreA hk (fun hn k => R_astore_n g rfl hn hd k) hw
  case iinc i n =>
    cases beq_t hs
    exact fun L S h hw => s_Iinc g hd hk hw
  case iadd =>
    cases beq_t hs
    exact fun L S h hw => s_Bin hk (fun k => R_iadd g hd k) hw
  case isub =>
    cases beq_t hs
    exact fun L S h hw => s_Bin hk (fun k => R_isub g hd k) hw
  case imul =>
    cases beq_t hs
    exact fun L S h hw => s_Bin hk (fun k => R_imul g hd k) hw
  case iand =>
    cases beq_t hs
    exact fun L S h hw => s_Bin hk (fun k => R_iand g hd k) hw
  case ior =>
    cases beq_t hs
    exact fun L S h hw => s_Bin hk (fun k => R_ior g hd k) hw
  case ixor =>
    cases beq_t hs
    exact fun L S h hw => s_Bin hk (fun k => R_ixor g hd k) hw
  case ishl =>
    cases beq_t hs
    exact fun L S h hw => s_Bin hk (fun k => R_ishl g hd k) hw
  case ishr =>
    cases beq_t hs
    exact fun L S h hw => s_Bin hk (fun k => R_ishr g hd k) hw
  case iushr =>
    cases beq_t hs
    exact fun L S h hw => s_Bin hk (fun k => R_iushr g hd k) hw
  case ladd =>
    cases beq_t hs
    exact fun L S h hw => s_Bin hk (fun k => R_ladd g hd k) hw
  case lsub =>
    cases beq_t hs
    exact fun L S h hw => s_Bin hk (fun k => R_lsub g hd k) hw
  case lmul =>
    cases beq_t hs
    exact fun L S h hw => s_Bin hk (fun k => R_lmul g hd k) hw
  case land =>
    cases beq_t hs
    exact fun L S h hw => s_Bin hk (fun k => R_land g hd k) hw
  case lor =>
    cases beq_t hs
    exact fun L S h hw => s_Bin hk (fun k => R_lor g hd k) hw
  case lxor =>
    cases beq_t hs
    exact fun L S h hw => s_Bin hk (fun k => R_lxor g hd k) hw
  case lshl =>
    cases beq_t hs
    exact fun L S h hw => s_Bin hk (fun k => R_lshl g hd k) hw
  case lshr =>
    cases beq_t hs
    exact fun L S h hw => s_Bin hk (fun k => R_lshr g hd k) hw
  case lushr =>
    cases beq_t hs
    exact fun L S h hw => s_Bin hk (fun k => R_lushr g hd k) hw
  case lcmp =>
    cases beq_t hs
    exact fun L S h hw => s_Bin hk (fun k => R_lcmp g hd k) hw
  case idiv =>
    cases beq_t hs
    exact fun L S h hw => s_Div hk (fun hne k => R_idiv g hne hd k) hw
  case irem =>
    cases beq_t hs
    exact fun L S h hw => s_Div hk (fun hne k => R_irem g hne hd k) hw
  case ldiv =>
    cases beq_t hs
    exact fun L S h hw => s_Div hk (fun hne k => R_ldiv g hne hd k) hw
  case lrem =>
    cases beq_t hs
    exact fun L S h hw => s_Div hk (fun hne k => R_lrem g hne hd k) hw
  case ineg =>
    cases beq_t hs
    exact fun L S h hw => s_Un hk (fun k => R_ineg g hd k) hw
  case lneg =>
    cases beq_t hs
    exact fun L S h hw => s_Un hk (fun k => R_lneg g hd k) hw
  case i2l =>
    cases beq_t hs
    exact fun L S h hw => s_Un hk (fun k => R_i2l g hd k) hw
  case l2i =>
    cases beq_t hs
    exact fun L S h hw => s_Un hk (fun k => R_l2i g hd k) hw
  case i2b =>
    cases beq_t hs
    exact fun L S h hw => s_Un hk (fun k => R_i2b g hd k) hw
  case i2s =>
    cases beq_t hs
    exact fun L S h hw => s_Un hk (fun k => R_i2s g hd k) hw
  case i2c =>
    cases beq_t hs
    exact fun L S h hw => s_Un hk (fun k => R_i2c g hd k) hw
  case pop =>
    cases beq_t hs
    exact fun L S h hw => s_Pop g hd hk hw
  case dup =>
    cases beq_t hs
    exact fun L S h hw => s_Dup g hd hk hw
  case dup_x1 =>
    cases beq_t hs
    exact fun L S h hw => s_DupX1 g hd hk hw
  case dup2 =>
    cases beq_t hs
    exact fun L S h hw => s_Dup2 g hd hk hw
  case arraylength =>
    cases beq_t hs
    exact fun L S h hw => s_Len g hd hk hw
  case getfield i =>
    cases beq_t hs
    exact fun L S h hw => s_Get g hd hk hw
  case putfield i =>
    cases beq_t hs
    exact fun L S h hw => s_Put g hd hk hw
  case new i =>
    cases beq_t hs
    exact fun L S h hw => s_New g hd hk hw
  case invokestatic i =>
    cases beq_t hs
    intro L S h hw
    have hw : (bif n1 info == 78 then sEsc Γ d md KR KT pc (.invokestatic i, 3, info, ts, md2) k else sCallS Γ d md KR KT pc md.1.cls i (n0 info) md2 k) L S h := hw
    cases e : (n1 info == 78) with
    | true => rw [e] at hw; exact hw hd hk
    | false => rw [e] at hw; exact s_CallS g hd hk hw
  case invokevirtual i =>
    cases beq_t hs
    intro L S h hw
    have hw : (bif n1 info == 78 then sEsc Γ d md KR KT pc (.invokevirtual i, 3, info, ts, md2) k else sCallV Γ d md KR KT pc md.1.cls i (n1 info) (n0 info) md2 k) L S h := hw
    cases e : (n1 info == 78) with
    | true => rw [e] at hw; exact hw hd hk
    | false => rw [e] at hw; exact s_CallV g hd hk hw
  case invokespecial i =>
    cases beq_t hs
    intro L S h hw
    have hw : (bif n1 info == 78 then sEsc Γ d md KR KT pc (.invokespecial i, 3, info, ts, md2) k else bif n1 info == 77 then sObjI d md.1.cls i k else sCallI Γ d md KR KT pc md.1.cls i (n0 info) md2 k) L S h := hw
    cases e8 : (n1 info == 78) with
    | true => rw [e8] at hw; exact hw hd hk
    | false =>
      rw [e8] at hw
      have hw : (bif n1 info == 77 then sObjI d md.1.cls i k else sCallI Γ d md KR KT pc md.1.cls i (n0 info) md2 k) L S h := hw
      cases e : (n1 info == 77) with
      | true => rw [e] at hw; exact s_ObjI g hd hk hw
      | false => rw [e] at hw; exact s_CallI g hd hk hw
  case newarray ty =>
    cases beq_t hs
    exact fun L S h hw => s_NewA g hw.1.1 hw.1.2 hd hk hw.2
  case iaload =>
    cases beq_t hs
    exact fun L S h hw => s_Ald (ok := fun c => c == 0) (κ := n0 info) hk (fun h64 h86 ok ha i0 i1 k => R_iald g h64 h86 ((kat_of h64 h86 rfl).1 (beq_t ok)) ha i0 i1 hd k) hw
  case laload =>
    cases beq_t hs
    exact fun L S h hw => s_Ald (ok := fun c => c == 1) (κ := n0 info) hk (fun h64 h86 ok ha i0 i1 k => R_lald g h64 h86 ((kat_of h64 h86 rfl).2.1 (beq_t ok)) ha i0 i1 hd k) hw
  case aaload =>
    cases beq_t hs
    exact fun L S h hw => s_Ald (ok := fun c => Nat.ble 9 c) (κ := n0 info) hk (fun h64 h86 ok ha i0 i1 k => R_aald g h64 h86 ((kat_of h64 h86 rfl).2.2.2.2 (ble_t ok)) ha i0 i1 hd k) hw
  case baload =>
    cases beq_t hs
    refine fun L S h hw => s_Ald (ok := fun c => c == 2 || c == 3) (κ := n0 info) hk (fun h64 h86 ok ha i0 i1 k => ?_) hw
    have ok : (ket (n0 info) == 2) = true ∨ (ket (n0 info) == 3) = true := by simpa using ok
    rcases ok with ok | ok
    · exact R_bald g h64 h86 ((kat_of h64 h86 rfl).2.2.1 (beq_t ok)) ha i0 i1 hd k
    · exact R_zald g h64 h86 ((kat_of h64 h86 rfl).2.2.2.1 (beq_t ok)) ha i0 i1 hd k
  case iastore =>
    cases beq_t hs
    exact fun L S h hw => s_Ast hk (fun h64 h83 hc ha i0 i1 hz k => R_iast g h64 h83 ((kat_of h64 (by omega) hc).1 rfl) hc ha i0 i1 hd k) hw
  case lastore =>
    cases beq_t hs
    exact fun L S h hw => s_Ast hk (fun h64 h83 hc ha i0 i1 hz k => R_last g h64 h83 ((kat_of h64 (by omega) hc).2.1 rfl) hc ha i0 i1 hd k) hw
  case bastore =>
    cases beq_t hs
    intro L S h hw
    have hw : (bif ket (n0 info) == 2 then sAst 2 (n0 info) w8 k else sAst 3 (n0 info) (fun v => v) k) L S h := hw
    cases e : (ket (n0 info) == 2) with
    | true =>
      rw [e] at hw
      exact s_Ast hk (fun h64 h83 hc ha i0 i1 hz k => R_bast g h64 h83 ((kat_of h64 (by omega) hc).2.2.1 rfl) hc ha i0 i1 hd k) hw
    | false =>
      rw [e] at hw
      exact s_Ast hk (fun h64 h83 hc ha i0 i1 hz k => R_zast g h64 h83 ((kat_of h64 (by omega) hc).2.2.2.1 rfl) hc (hz rfl) ha i0 i1 hd k) hw
  case goto o =>
    obtain ⟨e1, e2⟩ := and_t hs
    cases beq_t e1
    exact fun L S h hw => R_goto g hd (of_decide_eq_true e2) (jmp_s hw)
  case ifCond c o =>
    obtain ⟨e1, e3⟩ := and_t hs
    obtain ⟨e1, e2⟩ := and_t e1
    cases beq_t e1
    cases c
    · exact fun L S h hw => s_If (beq_t e3) rfl (fun k1 k2 => R_if_eq g hd (of_decide_eq_true e2) k1 k2) hw
    · exact fun L S h hw => s_If (beq_t e3) rfl (fun k1 k2 => R_if_ne g hd (of_decide_eq_true e2) k1 k2) hw
    · exact fun L S h hw => s_If (beq_t e3) rfl (fun k1 k2 => R_if_lt g hd (of_decide_eq_true e2) k1 k2) hw
    · exact fun L S h hw => s_If (beq_t e3) rfl (fun k1 k2 => R_if_ge g hd (of_decide_eq_true e2) k1 k2) hw
    · exact fun L S h hw => s_If (beq_t e3) rfl (fun k1 k2 => R_if_gt g hd (of_decide_eq_true e2) k1 k2) hw
    · exact fun L S h hw => s_If (beq_t e3) rfl (fun k1 k2 => R_if_le g hd (of_decide_eq_true e2) k1 k2) hw
  case if_icmp c o =>
    obtain ⟨e1, e3⟩ := and_t hs
    obtain ⟨e1, e2⟩ := and_t e1
    cases beq_t e1
    cases c
    · exact fun L S h hw => s_Cmp (beq_t e3) rfl (fun k1 k2 => R_icmp_eq g hd (of_decide_eq_true e2) k1 k2) hw
    · exact fun L S h hw => s_Cmp (beq_t e3) rfl (fun k1 k2 => R_icmp_ne g hd (of_decide_eq_true e2) k1 k2) hw
    · exact fun L S h hw => s_Cmp (beq_t e3) rfl (fun k1 k2 => R_icmp_lt g hd (of_decide_eq_true e2) k1 k2) hw
    · exact fun L S h hw => s_Cmp (beq_t e3) rfl (fun k1 k2 => R_icmp_ge g hd (of_decide_eq_true e2) k1 k2) hw
    · exact fun L S h hw => s_Cmp (beq_t e3) rfl (fun k1 k2 => R_icmp_gt g hd (of_decide_eq_true e2) k1 k2) hw
    · exact fun L S h hw => s_Cmp (beq_t e3) rfl (fun k1 k2 => R_icmp_le g hd (of_decide_eq_true e2) k1 k2) hw
  case ifnull o =>
    obtain ⟨e1, e3⟩ := and_t hs
    obtain ⟨e1, e2⟩ := and_t e1
    cases beq_t e1
    exact fun L S h hw => s_Null (y := true) (beq_t e3) rfl (fun k1 k2 => R_ifnull g hd (of_decide_eq_true e2) k1 k2) hw
  case ifnonnull o =>
    obtain ⟨e1, e3⟩ := and_t hs
    obtain ⟨e1, e2⟩ := and_t e1
    cases beq_t e1
    exact fun L S h hw => s_Null (y := false) (beq_t e3) rfl (fun k1 k2 => R_ifnonnull g hd (of_decide_eq_true e2) k2 k1) hw
  case if_acmp c o =>
    obtain ⟨e1, e3⟩ := and_t hs
    obtain ⟨e1, e2⟩ := and_t e1
    cases beq_t e1
    cases c
    · exact fun L S h hw => s_Acmp (y := true) (beq_t e3) rfl (fun k83 k1 k2 => R_acmp_eq g k83 hd (of_decide_eq_true e2) k1 k2) hw
    · exact fun L S h hw => s_Acmp (y := false) (beq_t e3) rfl (fun k83 k1 k2 => R_acmp_ne g k83 hd (of_decide_eq_true e2) k2 k1) hw
  case tableswitch dflt lo hi offs => exact fun L S h hw => s_Tab g hd hs hw
  case lookupswitch dflt ps => exact fun L S h hw => s_Loo g hd hs hw
  case ireturn =>
    obtain ⟨e1, e2⟩ := and_t hs
    cases beq_t e1
    intro L S h hw
    match S, hw with
    | [(u, x)], hw =>
      obtain ⟨e, hv⟩ := bif_t hw
      clear hw
      cases beq_t e
      generalize er : md.2.2.2.1 = rt at e2
      match rt, e2 with
      | some ty, e2 =>
        obtain ⟨e2, e5⟩ := and_t e2
        obtain ⟨e3, e4⟩ := and_t e2
        rcases bif_or hv with ⟨e0, hv⟩ | hv
        · exact R_ireturn0 g er e3 ⟨blt_t e4, by simpa using e5⟩ (beq_t e0) hd hv
        · exact R_ireturn g er e3 ⟨blt_t e4, by simpa using e5⟩ hv.1 hd hv.2
    | [], hw => exact hw.elim
    | (_, _) :: _ :: _, hw => exact hw.elim
  case lreturn =>
    obtain ⟨e1, e2⟩ := and_t hs
    cases beq_t e1
    intro L S h hw
    match S, hw with
    | [(u, x)], hw =>
      obtain ⟨e, hv⟩ := bif_t hw
      clear hw
      cases beq_t e
      generalize er : md.2.2.2.1 = rt at e2
      match rt, e2 with
      | some .long, e2 => exact R_lreturn g er (beq_t e2) hd hv
    | [], hw => exact hw.elim
    | (_, _) :: _ :: _, hw => exact hw.elim
  case areturn =>
    obtain ⟨e1, e5⟩ := and_t hs
    obtain ⟨e1, e4⟩ := and_t e1
    obtain ⟨e1, e2⟩ := and_t e1
    cases beq_t e1
    intro L S h hw
    match S, hw with
    | [(u, x)], hw =>
      obtain ⟨e, hv⟩ := bif_t hw
      clear hw
      cases beq_t e
      have e4 := ble_t e4
      have e5 : md.2.2.2.2.1 ≠ 99 := by simpa using e5
      generalize er : md.2.2.2.1 = rt at e2
      obtain ⟨t, et⟩ : ∃ t, md.2.2.2.2.1 = t + 9 := ⟨md.2.2.2.2.1 - 9, by omega⟩
      rw [et]
      match rt, e2 with
      | some (.object n), e2 => exact R_areturn g er (Or.inl ⟨n, rfl⟩) et (by omega) hd hv
      | some (.array n), e2 => exact R_areturn g er (Or.inr ⟨n, rfl⟩) et (by omega) hd hv
    | [], hw => exact hw.elim
    | (_, _) :: _ :: _, hw => exact hw.elim
  case return_ =>
    obtain ⟨e1, e3⟩ := and_t hs
    obtain ⟨e1, e2⟩ := and_t e1
    cases beq_t e1
    intro L S h hw
    match S, hw with
    | [], hw =>
      generalize er : md.2.2.2.1 = rt at e3
      match rt, e3 with
      | none, e3 => exact R_return g er (beq_t e2) hd hw
    | _ :: _, hw => exact hw.elim
  case athrow =>
    cases beq_t hs
    intro L S h hw
    match S, hw with
    | (u, a) :: S2, hw =>
      obtain ⟨e, ha, hv⟩ := bif_t hw
      clear hw
      obtain ⟨e1, e2⟩ := and_t e
      obtain ⟨κ, rfl⟩ : ∃ t, u = t + 10 := ⟨u - 10, by have := ble_t e1; omega⟩
      exact R_athrow g ha hd (fun ho => thr_s (by have := blt_t e2; omega) ho ha hv)
    | [], hw => exact hw.elim
  case aastore => exact fun L S h hw => hw hd hk
  case anewarray i => exact fun L S h hw => hw hd hk
  case checkcast i => exact fun L S h hw => hw hd hk
  case getstatic i => exact fun L S h hw => hw hd hk
  case multianewarray i j => exact fun L S h hw => hw hd hk
  case invokeinterface i j => exact fun L S h hw => hw hd hk
  all_goals exact fun L S h hw => hw.elim
/-- A BLOCK: what it asks is enough -/
theorem blk_sound (g : GG Γ) : ∀ {blk : List El} {pc : Nat} {fin : Nat × List Nat}, decB md pc blk fin = true → ∀ L S h, wpB Γ d md KR KT pc blk fin L S h → Rr Γ d md pc L S h KR KT
  | [], pc, fin, hd, L, S, h, hw => by
    have : pc = fin.1 := beq_t hd
    rw [this]
    exact jmp_s hw
  | x :: r, pc, fin, hd, L, S, h, hw => by
    obtain ⟨e1, e3⟩ := and_t hd
    obtain ⟨e1, e2⟩ := and_t e1
    exact step_sound g (of_decide_eq_true e1) e2 (fun L S h q => blk_sound g e3 L S h q) L S h hw
end BLOCK
