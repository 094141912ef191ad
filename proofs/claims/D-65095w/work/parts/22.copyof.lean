/-! Arrays.copyOf(Object[], int) -/
abbrev md_Arrs_copyOf1 : MD := (⟨"java/util/Arrays", "copyOf", "([Ljava/lang/Object;I)[Ljava/lang/Object;"⟩, prog_59_method_119_code, 2, (some (.array (.object "java/lang/Object"))), 92, [])
abbrev md_Arrs_copyOf2 : MD := (⟨"java/util/Arrays", "copyOf", "([Ljava/lang/Object;ILjava/lang/Class;)[Ljava/lang/Object;"⟩, prog_59_method_120_code, 4, (some (.array (.object "java/lang/Object"))), 92, [])
def wp_Arrs_copyOf1 (x0 x1 : Int) (h : Hp) (K : Int → Hp → Prop) : Prop := x0 ≠ 0 ∧ (0 ≤ x1 ∧ x1 ≤ 65536 ∧ nx h + 1 ≤ NM ∧ us h + x1 ≤ UM) ∧ (0 < ln h x0 ∧ 0 < x1) ∧ (∀ j : Int, 0 ≤ j → j < ln h x0 → rd h x0 j = 0 ∨ (rd h x0 j < nx h ∧ (kn h (rd h x0 j) = 24 ∨ kn h (rd h x0 j) = 27))) ∧ K (nx h) (cpO h x0 x1)
theorem ok_co1 : decB md_Arrs_copyOf1 0 [ee (.aload_n 0) 1, ee (.iload_n 1) 1, ee (.aload_n 0) 1, ee (.invokevirtual 86) 3, ee (.invokestatic 300) 3, ee (.areturn) 1] (10, []) = true := by decide +kernel
theorem ok_co2a : decB md_Arrs_copyOf2 0 [ee (.aload_n 2) 1, ee (.ldc 110) 2, ej (.if_acmp .ne 10) 3 [(13, []), (6, [])]] (6, []) = true := by decide +kernel
theorem ok_co2b : decB md_Arrs_copyOf2 6 [ee (.iload_n 1) 1, ee (.anewarray 2) 3, ej (.goto 14) 3 [(24, [])]] (13, []) = true := by decide +kernel
theorem ok_co2c : decB md_Arrs_copyOf2 24 [ee (.astore_n 3) 1, ee (.aload_n 0) 1, ee (.iconst 0) 1, ee (.aload_n 3) 1, ee (.iconst 0) 1, ee (.aload_n 0) 1, ee (.arraylength) 1, ee (.iload_n 1) 1, ee (.invokestatic 304) 3, ee (.invokestatic 150) 3, ee (.aload_n 3) 1, ee (.areturn) 1] (40, []) = true := by decide +kernel
section COPYOF
variable {Γ : Gam} {d : Nat} {h : Hp} {KR KT : Kt}
theorem mk_old {κ n a i : Int} (ha : a ≠ nx h) : (mk h κ n).1 a i = h.1 a i := if_neg ha
theorem co2_Rr (g : GG Γ) (hd : 4 ≤ d) {x0 x1 : Int} (hx : x0 < nx h) (w : wp_Arrs_copyOf1 x0 x1 h KR) : Rr Γ d md_Arrs_copyOf2 6 [(0, (92, x0)), (1, (0, x1))] [] h KR KT := by
  obtain ⟨w1, ⟨w2, w3, w4, w5⟩, ⟨w6, w7⟩, w8, w9⟩ := w
  have o := ok_co2b
  refine q_ild1_1 g o fun o => ?_
  refine q_anew g (κ := 82) (u := 92) (ki := 82) ⟨by decide, by decide, rfl, rfl⟩ ⟨"java/lang/Object", wat_in (q := (11, 105)) rfl, rfl, wat_in (q := (11, 104)) rfl⟩ o ⟨w2, w3, w4, w5⟩ fun hn o => ?_
  refine j_goto g o ?_
  have o := ok_co2c
  have hxn : x0 ≠ nx h := by omega
  have el : ln (mk h 82 x1) x0 = ln h x0 := mk_old hxn
  refine q_astore_n g (L2 := [(3, (92, nx h)), (0, (92, x0)), (1, (0, x1))]) o rfl rfl rfl fun o => ?_
  refine q_aload_n g o rfl rfl fun o => ?_
  refine q_iconst g o fun o => ?_
  refine q_aload_n g o rfl rfl fun o => ?_
  refine q_iconst g o fun o => ?_
  refine q_aload_n g o rfl rfl fun o => ?_
  refine q_len g (κ := 82) (c := 9) (t := 9) ⟨by decide, by decide, rfl, rfl, rfl⟩ o w1 fun o => ?_
  refine q_iload_n g o rfl fun o => ?_
  refine q_callS2r g (rc := 0) (t := 0) (md2 := md_Math_min1) ⟨rfl, rfl, by decide⟩ ⟨cq_Math_min1, wat_in (q := (5, 48)) rfl, Or.inl (wat_in (q := (11, 106)) rfl)⟩ o rfl (d2 := 2) (by omega) fun o => ?_
  refine Mx.c0 (s_Math_min1 g (Nat.le_refl 2) (K := fun r => r = if ln h x0 ≤ x1 then ln h x0 else x1) ?_) fun rv hr ok => ?_
  · rw [el]
    refine ⟨fun c => ?_, fun c => ?_⟩
    · rw [if_neg (by omega)]
    · rw [if_pos (by omega)]
  have hrv : 0 ≤ rv ∧ rv ≤ ln h x0 ∧ rv ≤ x1 := by
    rw [hr]
    split <;> omega
  refine q_copy9 g (wat_in (q := (11, 107)) rfl) o rfl (by omega) w1 (by omega) ⟨by decide, by decide, hrv.1, by rw [el]; omega, by rw [ln_mk_new]; omega, by rw [el]; exact w6, by rw [ln_mk_new]; exact w7⟩ (fun j j0 j1 => ?_) fun o => ?_
  · have e1 : rd (mk h 82 x1) x0 j = rd h x0 j := mk_old hxn
    rw [e1]
    rcases w8 j j0 (by omega) with z | ⟨z1, z2⟩
    · exact Or.inl z
    · have e2 : kn (mk h 82 x1) (rd h x0 j) = kn h (rd h x0 j) := mk_old (by omega)
      rw [e2]
      exact Or.inr z2
  refine q_aload_n g o rfl rfl fun o => ?_
  refine q_aret g o rfl ?_
  rw [hr]
  exact w9
theorem s_Arrs_copyOf1 (g : GG Γ) (hd : 6 ≤ d) {x0 x1 : Int} {K : Int → Hp → Prop} (w : wp_Arrs_copyOf1 x0 x1 h K) : Mx Γ d md_Arrs_copyOf1 [(92, x0), (0, x1)] h K (fun _ _ => False) := by
  refine Mx_ofL g (L := [(0, (92, x0)), (1, (0, x1))]) (by decide +kernel) (Nat.le_refl 2) rfl ?_
  have o := ok_co1
  refine q_aload_n g o rfl rfl fun o => ?_
  refine q_iload_n g o rfl fun o => ?_
  refine q_aload_n g o rfl rfl fun o => ?_
  intro h0 s m args below meth c H locs ls X hE hH hlo hl hL hSS hb
  have hW := X.2.2.2.2.2.2.1
  obtain ⟨a0, n1, -⟩ := g.nar
  obtain ⟨mi, hM0⟩ := va_Mi.of (n1 (Cond.isRef (.mirror "[Ljava/lang/Object;")) (List.mem_of_getElem? (i := 313) rfl))
  obtain ⟨a64, an, -, -, qc, -⟩ := HR.arrW g hH (κ := 82) (by decide) (by decide) (a := x0) hSS.h w.1 w.2.2.1.1
  have hfc : ∀ {s' : State}, (gs Γ).WarmedH s'.vm → s'.vm.findClass "[Ljava/lang/Object;" = some (gA Γ 82) := fun hW' => by rw [hW'.alike.findClass]; exact (g.2.2.2.1 82 (by decide) (by decide)).2.1
  show W _ _ _ _ _ _ _ _ _ _ _ _ _ _ _ (F0 m 3 ls (cv Γ (83 + 9) x0 :: .int (I32 x1) :: cv Γ (83 + 9) x0 :: []))
  rw [cv_refN Γ _ w.1]
  refine va_getC g.ex X.1 (by rw [X.2.2.2.1]; exact hl.1.symm) (C := "[Ljava/lang/Object;") (mi := mi) X.2.2.2.2.1 (g.word (wat_in (q := (11, 57)) rfl) rfl hW args) (g.declares (wat_in (q := (18, 14)) rfl) hW args) (g.word (wat_in (q := (18, 13)) rfl) rfl hW args) (g.word (wat_in (q := (11, 58)) rfl) rfl hW args) (g.word (wat_in (q := (11, 99)) rfl) rfl hW args) (va_Mi.moved hW.alike hM0)
    ⟨_, qc, rfl, hfc hW⟩ (show 1 ≤ d by omega) (by show 1 + (1 + 0) + 14 ≤ 400 * d; omega) (dA o) ?_
  have hdI := dA (dB o)
  have hcd : cdC md_Arrs_copyOf2 ∈ lw_tbl := wat_in (q := (11, 102)) rfl
  have hini : Cond.initialized md_Arrs_copyOf2.1.cls ∈ lw_tbl := wat_in (q := (1, 46)) rfl
  have hcb := g.word hcd rfl hW args
  obtain ⟨mk', hnamed⟩ := cdC_named hcb
  obtain ⟨methM, cM, hmethM, -, -, -, -, -, -, hsigM⟩ := cdC_spec hnamed hcb
  have hstatic : methM.isStatic = true := Cond.static_spec hnamed hmethM (g.word (wat_in (q := (11, 101)) rfl) rfl hW args)
  obtain ⟨kP, hkP, -⟩ := className_of_methodNamed hnamed
  have hinitP : kP.init = .initialized := Cond.initialized_spec (findClass_of_methodNamed hnamed) hkP (g.word hini rfl hW args)
  intro T hT St
  have hl2 : ([.ref (ra Γ x0), .int (I32 x1), .ref mi] : List Value).length = methM.sig.parameters.length := by
    have h1 : (parseMethodDescriptor md_Arrs_copyOf2.1.desc).map (fun q => q.parameters.length) = some 3 := rfl
    rw [hsigM] at h1
    exact (Option.some.inj h1).symm
  obtain ⟨vm₁, X₁, hstep₁⟩ := St.invokestatic g.ex X.2.2.2.2.1 (g.word (wat_in (q := (11, 100)) rfl) rfl hW args) hnamed hmethM hstatic hkP hinitP ⟨by decide, by decide⟩ (g := F0 m 6 ls [.ref mi, .int (I32 x1), .ref (ra Γ x0)]) rfl (argsL := [.ref (ra Γ x0), .int (I32 x1), .ref mi]) (rest := []) hl2 rfl (by rw [X.1]; exact hdI)
  have hH1 : HR Γ h (T.setVm vm₁).heap := by rw [show (T.setVm vm₁).heap = T.heap from rfl, hT]; exact hH
  have M : MetFree (gl Γ) md_Arrs_copyOf2.1 (headSpec [cdC md_Arrs_copyOf2] (Rm 5 h)) (fun a' s => a' = ([.ref (ra Γ x0), .int (I32 x1), .ref mi] : List Value).toArray ∧ (gs Γ).WarmedH s.vm ∧ HR Γ h s.heap) (fun p e _ _ _ => p = gp Γ ∧ e = ge Γ) (fun _ s o t => Zq Γ md_Arrs_copyOf2.2.2.2.2.1 h K (fun _ _ => False) s o t) := by
    refine MetFree.of_bodySF (code := md_Arrs_copyOf2.2.1) (maxLocals := md_Arrs_copyOf2.2.2.1) (ret := md_Arrs_copyOf2.2.2.2.1) (by decide +kernel) ?_ ?_
    · intro args s m hp hm
      obtain ⟨meth, c, h1, h2, h3, h4, h5, h6, -, -⟩ := cdC_spec hm (atoms_spec (ws := [cdC md_Arrs_copyOf2]) hp _ List.mem_cons_self)
      exact ⟨meth, c, h1, h2, h3, h4, h5, h6⟩
    · intro p e s m args below meth c s₁ B hml hP hK
      obtain ⟨rfl, hW, hH⟩ := hP
      obtain ⟨rfl, rfl⟩ := hK
      obtain ⟨meth', c', h1, h2, h3, h4, h5, h6, h7, -⟩ := cdC_spec B.named (atoms_spec (ws := [cdC md_Arrs_copyOf2]) B.pre _ List.mem_cons_self)
      cases B.method.symm.trans h1
      have X₀ := Stand.of_body B
      cases X₀.code.symm.trans h2
      have hh0 : s₁.heap = s.heap := by rw [B.state]; rfl
      have C : Cx Γ md_Arrs_copyOf2 s m meth c := ⟨h3, h5, h6, h4, findClass_of_methodNamed B.named, (name_of_methodNamed B.named B.method).1, hW, h7, hH.2.2.1⟩
      have hle := lv_entry ([.ref (ra Γ x0), .int (I32 x1), .ref mi] : List Value) (n := 4) (show 3 ≤ 4 by decide)
      rw [lg_entry_eq]
      have hfin : ∀ ls : Array Slot, lv_has ls 4 (lv_args 0 ([.ref (ra Γ x0), .int (I32 x1), .ref mi] : List Value)) → W (gp Γ) (gl Γ) (ge Γ) (Rm 5 h) s m (([.ref (ra Γ x0), .int (I32 x1), .ref mi] : List Value).toArray) below meth c s.heap [] 0 0 (Zt Γ md_Arrs_copyOf2 h K (fun _ _ => False) below s) (F0 m 0 ls []) := by
        intro ls hls
        have o := ok_co2a
        refine lv_aload_n g.ex C.1 (dA o) (i := 2) rfl (hls.2.2 (2, .ref mi) (by simp [lv_args, Value.category])) ?_
        refine va_ldcM g.ex C.1 (C := "[Ljava/lang/Object;") (mi := mi) C.2.2.2.2.1 (g.word (wat_in (q := (11, 103)) rfl) rfl hW _) (va_Mi.moved hW.alike hM0) (dA (dB o)) ?_
        show W _ _ _ _ _ _ _ _ _ _ _ _ _ _ _ (F0 m 3 ls (va_rf (some mi) :: va_rf (some mi) :: []))
        refine lv_acmp_ne g.ex C.1 (tgt := 13) (dA (dB (dB o))) (by decide) (fun q => absurd rfl q) (fun _ => ?_)
        have K' := co2_Rr (Γ := Γ) (d := 5) (KT := fun _ _ => False) g (by decide) an w h s m (([.ref (ra Γ x0), .int (I32 x1), .ref mi] : List Value).toArray) below meth c s.heap [] ls C (ext.rf h) hH (fun q hq => by cases hq) ⟨hls.1, hls.2.1, fun q hq => ?_⟩ (fun q hq => ?_) (fun v hv => by cases hv) hb
        · rw [Int.sub_self, Int.sub_self] at K'
          exact K'
        · have hq : q ∈ [(0, cv Γ (83 + 9) x0), (1, Value.int (I32 x1))] := hq
          rw [cv_refN Γ _ w.1] at hq
          refine hls.2.2 q ?_
          simp only [List.mem_cons, List.not_mem_nil, or_false] at hq
          rcases hq with rfl | rfl <;> simp [lv_args, Value.category]
        · simp only [List.mem_cons, List.not_mem_nil, or_false] at hq
          rcases hq with rfl | rfl
          · exact hSS.h
          · exact hSS.t.h
      obtain ⟨t, a1, o, b1, b2, b3⟩ := hfin _ hle s₁ hh0 X₀
      exact ⟨t, o, a1, b1, b2, b3⟩
  obtain ⟨t, w1, w2⟩ := call_endA g (d := d) (d2 := 5) (S := []) (L := [(0, (92, x0)), (1, (0, x1))]) (KR2 := K) (KT2 := fun _ _ => False) M (by omega) (by decide) (by decide) hcd rfl X hE hH1 hlo hl hL (fun v hv => by cases hv) hb X₁ (pc := 6) (ig := .invokestatic 300) (len := 3) (by rw [X.1]; exact hdI) (X₁.named hnamed) (KR := K) (KT := fun _ _ => False) (fun x h2 hE2 hr hk H2 locs2 hH2 hlo2 hb2 => by
      rw [rpush_cw]
      exact q_aret (Γ := Γ) (d := d) (L := [(0, (92, x0)), (1, (0, x1))]) g (t := 92) (dB (dB o)) rfl hk h0 s m args below meth c H2 locs2 ls X (hE.tr hE2) hH2 hlo2 hl (hL.e hE2) (rpush_ok hr (fun v hv => by cases hv)) hb2) (fun _ _ _ _ _ _ _ q => q.elim) (fun kY hkY => by
      obtain ⟨k', f1, f2⟩ := X₁.warmed.alike.2.2 _ _ hkP
      cases Option.some.inj (hkY.symm.trans f1)
      rw [f2]
      exact hinitP)
  exact ⟨t, hstep₁ _ fun acts => by rw [doInvoke_state]; exact w1, w2⟩
end COPYOF
