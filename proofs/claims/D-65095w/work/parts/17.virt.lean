/-! METHODS OF CONSTANTS AND INTERFACES -/
/-- a cell that was there before: its class -/
def Old (Γ : Gam) : Nat → Prop := fun q => (gs Γ).heap.size ≤ q
section VIRT
variable {Γ : Gam} {d : Nat} {md : MD} {pc : Nat} {L : Lc} {S : List Vl} {h : Hp} {KR KT : Kt} {r : List El} {fin : Nat × List Nat} {d2 : Nat} {md2 : MD} {vs : List Vl} {KR2 KT2 : Kt} {idx : Nat}
theorem GG.declares (g : GG Γ) {x : MethodName} (hw : Cond.declares x ∈ lw_tbl) {s : State} (hW : (gs Γ).WarmedH s.vm) (A : Array Value) : (Cond.declares x).before A s = true := by
  obtain ⟨a0, h0⟩ := g.2.1
  have h1 : (Cond.declares x).before #[] (gs Γ) = true := va_any rfl (h0 _ hw)
  have e := Cond.onTables_vm (A := #[]) (A' := A) (U := gs Γ) (U' := s) s.vm (Cond.declares x) rfl
  have hU : s.setVm s.vm = s := rfl
  rw [hU] at e
  rw [← e, Cond.declares_setVm hW.alike]
  exact h1
theorem GG.nar (g : GG Γ) : ∃ a0 : Array Value, (∀ w ∈ flatC narrow_1, w.before a0 (gs Γ) = true) ∧ (∀ q ∈ romT, (Term.static q.1 q.2.1 q.2.2.1).eval a0 (gs Γ) none [] (gs Γ) = some (.ref (gR Γ q.2.2.2.1))) ∧ (∀ q ∈ romQ, (Term.string q.1 q.2.1).eval a0 (gs Γ) none [] (gs Γ) = some (.ref (gR Γ q.2.2))) ∧
    (Term.field (.string "KeptHouse$Reader" 82) "java/lang/String" "value" "[B").eval a0 (gs Γ) none [] (gs Γ) = some (.ref (gR Γ 25)) ∧ (Term.field (.string "KeptHouse$Reader" 89) "java/lang/String" "value" "[B").eval a0 (gs Γ) none [] (gs Γ) = some (.ref (gR Γ 26)) := by
  obtain ⟨-, -, -, -, -, q⟩ := g.2.2.2.2.2.2.2
  exact q
theorem GG.val (g : GG Γ) {H : Heap} (hH : HR Γ h H) {a k v : Int} (hq : (a, k, v) ∈ romV) (a0 : 0 ≤ a) (a1 : a < 64) : h.1 a k = v := by
  obtain ⟨-, -, -, q, -⟩ := g.2.2.2.2.2.2.2
  rw [hH.2.2.2.2 a k a0 a1]
  exact q _ hq
theorem GG.romO (g : GG Γ) {C n ds E : String} {a κ : Nat} (hq : (C, n, ds, a, κ) ∈ romT) (hw : Cond.exactly (.static C n ds) E ∈ flatC narrow_1) : va_O E (ra Γ (a : Int)) (Old Γ) (gs Γ) (gs Γ).heap := by
  obtain ⟨a0, n1, n2, -⟩ := g.nar
  have hlt := romT_lt _ hq
  dsimp only at hlt
  rw [ra_old (by omega), Int.toNat_natCast]
  exact va_Oof (n1 _ hw) (n2 _ hq) (fun q hq hq2 => by have : (gs Γ).heap.size ≤ q := hq2; omega)
theorem GG.strO (g : GG Γ) {C : String} {i a : Nat} (hq : (C, i, a) ∈ romQ) (hw : Cond.exactly (.string C i) "java/lang/String" ∈ flatC narrow_1) : va_O "java/lang/String" (ra Γ (a : Int)) (Old Γ) (gs Γ) (gs Γ).heap := by
  obtain ⟨a0, n1, -, n2, -⟩ := g.nar
  have hlt := romQ_lt _ hq
  dsimp only at hlt
  rw [ra_old (by omega), Int.toNat_natCast]
  exact va_Oof (n1 _ hw) (n2 _ hq) (fun q hq hq2 => by have : (gs Γ).heap.size ≤ q := hq2; omega)
theorem va_O.now {E : String} {t : Nat} (hO : va_O E t (Old Γ) (gs Γ) (gs Γ).heap) {s : State} (hW : (gs Γ).WarmedH s.vm) {H : Heap} (hH : HR Γ h H) : ∃ cell : Cell, H[t]? = some cell ∧ cell.vm.isStatics = false ∧ s.vm.findClass E = some cell.cls := by
  obtain ⟨cell, h1, h2, h3, -⟩ := (va_O.moved hW.alike hO).kept (H1 := H) (fun q hq _ => hH.2.2.1 q hq)
  exact ⟨cell, h1, h2, h3⟩
/-- as Cq, without the word that the class is initialised (which 'selects' says) -/
def Cq0 (md2 : MD) (n : Nat) : Prop := md2.2.2.1 ≤ 200 ∧ cdC md2 ∈ lw_tbl ∧ keepW (cdC md2) = true ∧ Mh md2.1 ∧ (parseMethodDescriptor md2.1.desc).map (fun q => q.parameters.length) = some n
/-- a call that is walked in its place: the callee's class need not be known as initialised -/
theorem call_inl (g : GG Γ) {KR2 : Kt} (k2 : Rr Γ d2 md2 0 (entL 0 vs) [] h KR2 (fun _ _ => False)) (hn2 : entN vs ≤ md2.2.2.1) (hy : plainName md2.1.cls = true) (hok : okS h vs) (hd2 : d2 + 1 ≤ d) (hm2 : md2.2.2.1 ≤ 200) (hS40 : S.length ≤ 40)
    (hcd : cdC md2 ∈ lw_tbl) (hkc : keepW (cdC md2) = true)
    {h0 : Hp} {s : State} {m : MethodId} {args : Array Value} {below : List Frame} {meth : Method} {c : Code} {locs : List Loc} {ls : Array Slot} (X : Cx Γ md s m meth c) (hE : ext h0 h) {U : State} (hH : HR Γ h U.heap) (hlo : ∀ q ∈ locs, (gs Γ).heap.size ≤ q.base) (hl : lv_has ls md.2.2.1 (cL Γ L)) (hb : bd h)
    (St : Stand (gp Γ) (gl Γ) (ge Γ) (Rm d h0) s m args below meth c U locs (nx h - nx h0).toNat (us h - us h0).toNat) {ig : Instr} {len : Nat} (hdg : decode c.code pc = .ok (ig, len)) {mk : MethodId} (hn : U.methodNamed? md2.1 = some mk)
    (kR : ∀ r h2, ext h h2 → okr md2.2.2.2.2.1 h2 r → KR2 r h2 → ∀ H2 locs2, HR Γ h2 H2 → (∀ q ∈ locs2, (gs Γ).heap.size ≤ q.base) → bd h2 → W (gp Γ) (gl Γ) (ge Γ) (Rm d h0) s m args below meth c H2 locs2 (nx h2 - nx h0).toNat (us h2 - us h0).toNat (Zt Γ md h0 KR KT below s) (F0 m (pc + len) ls ((rvO Γ md2.2.2.2.2.1 r).toList ++ S.map (cw Γ)))) :
    ∃ t, Steps (gp Γ).tables (ge Γ) below (doInvoke (ge Γ) (U.setTop (F0 m pc ls (S.map (cw Γ)))) [] mk (vs.map (cw Γ)).toArray).1 t ∧ Zt Γ md h0 KR KT below s t := by
  have hWs : (gs Γ).WarmedH U.vm := State.WarmedH.trans X.2.2.2.2.2.2.1 St.warmed
  have hcb : (cdC md2).before #[] U = true := g.word hcd hkc hWs #[]
  obtain ⟨methY, cY, hmY, hcY, hbY, hlY, hrY, hkY, htY, -⟩ := cdC_spec hn hcb
  have hplain : U.plainMethod mk := by
    refine State.plainMethod.of_name ?_
    intro k hk
    obtain ⟨k', hk', hnm⟩ := className_of_methodNamed hn
    cases hk.symm.trans hk'
    rw [hnm]
    exact hy
  have e0 := hE.1
  have e1 := hE.2.1
  obtain ⟨St2, hdo⟩ := St.into (g := F0 m pc ls (S.map (cw Γ))) rfl (by rw [X.2.2.2.1]; exact hl.1) hdg (mk := mk) (methk := methY) (ck := cY) ((vs.map (cw Γ)).toArray) (R' := Rm d2 h) hmY hcY hkY hplain (show d2 + 1 ≤ d from hd2)
    (by
      rw [hlY]
      show 2 * 0 + ((S.map (cw Γ)).map fun v => v.category).sum + (md2.2.2.1 + 11) + 400 * d2 ≤ 400 * d
      have := sumS Γ S
      omega)
    (by show (nx h - nx h0).toNat + (NM - nx h).toNat ≤ (NM - nx h0).toNat; have := hb.1; omega)
    (by show (us h - us h0).toNat + (UM - us h).toNat ≤ (UM - us h0).toNat; have := hb.2; omega)
  have C : Cx Γ md2 (U.calling (F0 m pc ls (S.map (cw Γ))) mk (vs.map (cw Γ)).toArray) mk methY cY := ⟨hbY, hrY, hkY, hlY, findClass_of_methodNamed hn, (name_of_methodNamed hn hmY).1, hWs, htY, hH.2.2.1⟩
  have hle := lv_entry (vs.map (cw Γ)) (n := md2.2.2.1) (by rw [entN_len]; exact hn2)
  rw [entL_cL] at hle
  have K := k2 h _ mk ((vs.map (cw Γ)).toArray) (.java (F0 m pc ls (S.map (cw Γ))) :: below) methY cY U.heap [] _ C (ext.rf h) hH (fun q hq => by cases hq) hle (entL_ok vs 0 hok) (fun v hv => by cases hv) hb
  rw [Int.sub_self, Int.sub_self] at K
  have hst := hdo []
  rw [hlY, lg_entry_eq] at hst
  rw [hlY, lg_entry_eq] at St2
  have hhp : ∀ x : Frame, ((U.setTop (F0 m pc ls (S.map (cw Γ)))).pushFrame x).heap = U.heap := fun x => by simp [State.pushFrame, State.setFrames, State.setTop, State.modifyTopJava]
  obtain ⟨t, a1, o, b1, b2, hW₂, h2, hH2, hE2, hb2, ⟨L2, hsb, hL2⟩, hout⟩ := K _ (hhp _) St2
  rcases hout with ⟨rv, rfl, hro, hk⟩ | ⟨x, κ, rfl, hx, hx0, hκ, hk⟩
  · obtain ⟨T', St', -, -, ht⟩ := St.outOf (g := F0 m pc ls (S.map (cw Γ))) rfl hdg b2 hW₂ hsb
    have f0 := hE2.1
    have f1 := hE2.2.1
    rw [show (nx h - nx h0).toNat + (nx h2 - nx h).toNat = (nx h2 - nx h0).toNat by omega, show (us h - us h0).toNat + (us h2 - us h).toNat = (us h2 - us h0).toNat by omega] at St'
    have hT' : T'.heap = t.heap := by rw [ht]; simp
    obtain ⟨t2, w1, w2⟩ := kR rv h2 hE2 hro hk t.heap (locs ++ L2) hH2 (fun q hq => by
      rcases List.mem_append.mp hq with q | q
      · exact hlo _ q
      · exact hL2 _ q) hb2 T' hT' St'
    refine ⟨t2, ?_, w2⟩
    rw [hst]
    obtain ⟨n, y1, y2⟩ := a1
    refine Steps.trans ⟨n, y1, fun k hk => Within.weaken (mid := [.java (F0 m pc ls (S.map (cw Γ)))]) (y2 k hk)⟩ ?_
    rw [ht]
    exact w1
  · exact hk.elim
/-- the reference names x through a class that may only inherit it; the receiver's class selects md2's method -/
theorem R_virtUp (g : GG Γ) {x : MethodName} {owner C : String} {a : Int} {t : Nat} (ha : a ≠ 0) {ts : List Nat} (hsub : subV ((t + 9, a) :: vs) ts = true) (k2 : Rr Γ d2 md2 0 (entL 0 (reT ((t + 9, a) :: vs) ts)) [] h KR2 (fun _ _ => False)) (hn2 : entN (reT ((t + 9, a) :: vs) ts) ≤ md2.2.2.1) (hy : plainName md2.1.cls = true) (hd2 : d2 + 1 ≤ d) (hS40 : S.length ≤ 40) (q : Cq0 md2 vs.length) (hin : Cond.instanceMethod md2.1 ∈ lw_tbl) (hsel : Cond.selects C x md2.1 ∈ lw_tbl) (hlk : Cond.methodLink md.1.cls idx x ∈ lw_tbl)
    (hsm : Cond.sameMethod x.cls owner x.name x.desc ∈ lw_tbl) (hdc : Cond.declares ⟨owner, x.name, x.desc⟩ ∈ lw_tbl) (how : owner ≠ "java/lang/invoke/MethodHandle" ∧ owner ≠ "java/lang/invoke/VarHandle") (hlx : (parseMethodDescriptor x.desc).map (fun q => q.parameters.length) = some vs.length) (hO : va_O C (ra Γ a) (Old Γ) (gs Γ) (gs Γ).heap) (hd : decode md.2.1 pc = .ok (.invokevirtual idx, 3))
    (kR : ∀ r h2, ext h h2 → okr md2.2.2.2.2.1 h2 r → KR2 r h2 → Rr Γ d md (pc + 3) L (rpush md2.2.2.2.2.1 r S) h2 KR KT) : Rr Γ d md pc L (vs.reverse ++ (t + 9, a) :: S) h KR KT := by
  intro h0 s m args below meth c H locs ls X hE hH hlo hl hL hSS hb
  obtain ⟨hm2, hcd, hkc, hmh, hlen⟩ := q
  obtain ⟨hvs, hS1⟩ := hSS.split
  have hS := hS1.t
  have hWs := X.2.2.2.2.2.2.1
  have hcb := g.word hcd hkc hWs args
  obtain ⟨mk, methM, hnamed, hmethM, hstM, habM⟩ := Cond.instanceMethod_spec (g.word hin rfl hWs args)
  obtain ⟨r0, rr, hn, hrm, hstR, hsigR⟩ := Cond.declares_spec (g.declares hdc hWs args)
  obtain ⟨cn, ck, r1, hcn, hck, hni, hf, hn1⟩ := Cond.sameMethod_found (g.word hsm rfl hWs args)
  cases hn.symm.trans hn1
  obtain ⟨c2, r2, m2, q1, q2, q3, q4, kP, hkP, hkPi⟩ := Cond.selects_spec (g.word hsel rfl hWs args)
  obtain ⟨cellB, p1, p2, p3⟩ := hO.now hWs hH
  cases p3.symm.trans q1
  cases hf.symm.trans q2
  cases hnamed.symm.trans q3
  intro T hT St
  have hselP : selectMethod (ge Γ).platform s.vm cellB.cls r0 = .method mk := by rw [Launch.admits_selectMethod St.admits]; exact q4
  have hl2 : (vs.map (cw Γ)).length = rr.sig.parameters.length := by
    have hsigR : parseMethodDescriptor x.desc = some rr.sig := hsigR
    rw [hsigR] at hlx; rw [List.length_map]; exact (Option.some.inj hlx).symm
  have hst : ((vs.reverse ++ (t + 9, a) :: S).map (cw Γ)) = (vs.map (cw Γ)).reverse ++ .ref (ra Γ a) :: S.map (cw Γ) := by
    rw [List.map_append, List.map_reverse, List.map_cons]
    congr 2
    exact cv_refN Γ t ha
  obtain ⟨vm₁, X₁, hstep₁⟩ := St.invokevirtualUp g.ex X.2.2.2.2.1 (g.word hlk rfl hWs args) (g.word hsm rfl hWs args) how hn hrm hstR (a := ra Γ a) (cell := cellB) (by rw [hT]; exact p1)
    (fun z hz => by rw [hz] at p2; cases p2) hselP hmethM habM hkP hkPi (g := F0 m pc ls ((vs.reverse ++ (t + 9, a) :: S).map (cw Γ))) rfl (argsL := vs.map (cw Γ)) (rest := S.map (cw Γ)) hl2 hst (by rw [X.1]; exact hd)
  have hH1 : HR Γ h (T.setVm vm₁).heap := by rw [show (T.setVm vm₁).heap = T.heap from rfl, hT]; exact hH
  obtain ⟨t', w1, w2⟩ := call_inl g k2 hn2 hy (reT_ok hsub (hvs.rev.c hS1.h)) hd2 hm2 hS40 hcd hkc X hE hH1 hlo hl hb X₁ (pc := pc) (ig := .invokevirtual idx) (len := 3) (by rw [X.1]; exact hd) (X₁.named hnamed) (call_go kR X hE hl hL hS)
  rw [reT_cw Γ hsub] at w1
  refine ⟨t', hstep₁ _ fun acts => ?_, w2⟩
  rw [doInvoke_state]
  have e : ((((t + 9, a) :: vs).map (cw Γ)).toArray) = (Value.ref (ra Γ a) :: vs.map (cw Γ)).toArray := by
    rw [List.map_cons]
    congr 2
    exact cv_refN Γ t ha
  rw [e] at w1
  exact w1
/-- a method of a cell that was there before, found by its own name -/
theorem R_virtRom (g : GG Γ) {C : String} {a : Int} {t : Nat} (ha : a ≠ 0) (M : Mx Γ d2 md2 ((t + 9, a) :: vs) h KR2 KT2) (hd2 : d2 + 1 ≤ d) (hS40 : S.length ≤ 40) (q : Cq md2 vs.length) (hin : Cond.instanceMethod md2.1 ∈ lw_tbl) (hsel : Cond.selects C md2.1 md2.1 ∈ lw_tbl) (hlk : Cond.methodLink md.1.cls idx md2.1 ∈ lw_tbl)
    (hO : va_O C (ra Γ a) (Old Γ) (gs Γ) (gs Γ).heap) (hd : decode md.2.1 pc = .ok (.invokevirtual idx, 3))
    (kR : ∀ r h2, ext h h2 → okr md2.2.2.2.2.1 h2 r → KR2 r h2 → Rr Γ d md (pc + 3) L (rpush md2.2.2.2.2.1 r S) h2 KR KT) (kT : ∀ a h2 κ, ext h h2 → κ < 29 → okv h2 (κ + 10) a → a ≠ 0 → KT2 a h2 → Th Γ d md pc L h2 KR KT a) : Rr Γ d md pc L (vs.reverse ++ (t + 9, a) :: S) h KR KT := by
  intro h0 s m args below meth c H locs ls X hE hH hlo hl hL hSS hb
  obtain ⟨hm2, hcd, hkc, hini, hmh, hlen⟩ := q
  obtain ⟨hvs, hS1⟩ := hSS.split
  have hS := hS1.t
  have hWs := X.2.2.2.2.2.2.1
  have hcb := g.word hcd hkc hWs args
  obtain ⟨mk, methM, hnamed, hmethM, hstM, habM⟩ := Cond.instanceMethod_spec (g.word hin rfl hWs args)
  obtain ⟨methM', cM, hmethM', -, -, -, -, -, -, hsigM⟩ := cdC_spec hnamed hcb
  cases hmethM.symm.trans hmethM'
  obtain ⟨c2, r2, m2, q1, q2, q3, q4, kP, hkP, hkPi⟩ := Cond.selects_spec (g.word hsel rfl hWs args)
  obtain ⟨cellB, p1, p2, p3⟩ := hO.now hWs hH
  cases p3.symm.trans q1
  cases (State.methodFound?_of_named hnamed hmh).symm.trans q2
  cases hnamed.symm.trans q3
  intro T hT St
  have hselP : selectMethod (ge Γ).platform s.vm cellB.cls mk = .method mk := by rw [Launch.admits_selectMethod St.admits]; exact q4
  have hl2 : (vs.map (cw Γ)).length = methM.sig.parameters.length := by rw [hsigM] at hlen; rw [List.length_map]; exact (Option.some.inj hlen).symm
  have hst : ((vs.reverse ++ (t + 9, a) :: S).map (cw Γ)) = (vs.map (cw Γ)).reverse ++ .ref (ra Γ a) :: S.map (cw Γ) := by
    rw [List.map_append, List.map_reverse, List.map_cons]
    congr 2
    exact cv_refN Γ t ha
  obtain ⟨vm₁, X₁, hstep₁⟩ := St.invokevirtual g.ex X.2.2.2.2.1 (g.word hlk rfl hWs args) hnamed hmethM hstM hkP hkPi hmh (a := ra Γ a) (cell := cellB) (by rw [hT]; exact p1)
    (fun z hz => by rw [hz] at p2; cases p2) hselP hmethM habM hkP hkPi (g := F0 m pc ls ((vs.reverse ++ (t + 9, a) :: S).map (cw Γ))) rfl (argsL := vs.map (cw Γ)) (rest := S.map (cw Γ)) hl2 hst (by rw [X.1]; exact hd)
  have hH1 : HR Γ h (T.setVm vm₁).heap := by rw [show (T.setVm vm₁).heap = T.heap from rfl, hT]; exact hH
  obtain ⟨t', w1, w2⟩ := call_end g M (hvs.rev.c hS1.h) hd2 hm2 hS40 hcd hkc hini X hE hH1 hlo hl hL hS hb X₁ (pc := pc) (ig := .invokevirtual idx) (len := 3) (by rw [X.1]; exact hd) (X₁.named hnamed) (call_go kR X hE hl hL hS) kT
  refine ⟨t', hstep₁ _ fun acts => ?_, w2⟩
  rw [doInvoke_state]
  have e : ((((t + 9, a) :: vs).map (cw Γ)).toArray) = (Value.ref (ra Γ a) :: vs.map (cw Γ)).toArray := by
    rw [List.map_cons]
    congr 2
    exact cv_refN Γ t ha
  rw [e] at w1
  exact w1
/-- the strings -/
theorem GG.str2 (g : GG Γ) {a : Int} (e : a = 20 ∨ a = 21) : va_O "java/lang/String" (ra Γ a) (Old Γ) (gs Γ) (gs Γ).heap := by
  rcases e with rfl | rfl
  · exact g.strO (C := "KeptHouse$Reader") (i := 82) (a := 20) (by decide) (List.mem_of_getElem? (i := 323) rfl)
  · exact g.strO (C := "KeptHouse$Reader") (i := 89) (a := 21) (by decide) (List.mem_of_getElem? (i := 334) rfl)
def LkR (own : String) (idx n : Nat) (md2 : MD) : Prop := Cq md2 n ∧ Cond.instanceMethod md2.1 ∈ lw_tbl ∧ Cond.selects "java/lang/String" md2.1 md2.1 ∈ lw_tbl ∧ Cond.methodLink own idx md2.1 ∈ lw_tbl
theorem q_callRr (g : GG Γ) {a : Int} {rc t n : Nat} (R : RT md2 rc t) (l : LkR md.1.cls idx n md2) (en : n = vs.length) (o : decB md pc (ee (.invokevirtual idx) 3 :: r) fin = true) (ea : a = 20 ∨ a = 21) (e : Nat.ble S.length 40 = true) (hd2 : d2 + 1 ≤ d)
    (k : decB md (pc + 3) r fin = true → Mx Γ d2 md2 ((140, a) :: vs) h (fun x h2 => okr rc h2 x → Rr Γ d md (pc + 3) L ((t, x) :: S) h2 KR KT) (fun a h2 => thr Γ d md KR KT pc L a h2)) : Rr Γ d md pc L (vs.reverse ++ (140, a) :: S) h KR KT := by
  subst en
  obtain ⟨e1, rfl, e3⟩ := R
  refine R_virtRom g (t := 131) (by omega) (k (dB o)) hd2 (Nat.le_of_ble_eq_true e) l.1 l.2.1 l.2.2.1 l.2.2.2 (g.str2 ea) (dA o) (fun x h2 _ ok q => ?_) (fun a h2 κ _ hκ ha h0 q => thr_s hκ ha h0 q)
  rw [rpush_ne e1 e3]
  exact q (by rw [← e1]; exact ok)
theorem q_callR0r (g : GG Γ) {a : Int} {rc t : Nat} (R : RT md2 rc t) (l : LkR md.1.cls idx 0 md2) (o : decB md pc (ee (.invokevirtual idx) 3 :: r) fin = true) (ea : a = 20 ∨ a = 21) (e : Nat.ble S.length 40 = true) (hd2 : d2 + 1 ≤ d)
    (k : decB md (pc + 3) r fin = true → Mx Γ d2 md2 [(140, a)] h (fun x h2 => okr rc h2 x → Rr Γ d md (pc + 3) L ((t, x) :: S) h2 KR KT) (fun a h2 => thr Γ d md KR KT pc L a h2)) : Rr Γ d md pc L ((140, a) :: S) h KR KT := q_callRr g (vs := []) R l rfl o ea e hd2 k
theorem q_callR1r (g : GG Γ) {a : Int} {v1 : Vl} {rc t : Nat} (R : RT md2 rc t) (l : LkR md.1.cls idx 1 md2) (o : decB md pc (ee (.invokevirtual idx) 3 :: r) fin = true) (ea : a = 20 ∨ a = 21) (e : Nat.ble S.length 40 = true) (hd2 : d2 + 1 ≤ d)
    (k : decB md (pc + 3) r fin = true → Mx Γ d2 md2 [(140, a), v1] h (fun x h2 => okr rc h2 x → Rr Γ d md (pc + 3) L ((t, x) :: S) h2 KR KT) (fun a h2 => thr Γ d md KR KT pc L a h2)) : Rr Γ d md pc L (v1 :: (140, a) :: S) h KR KT := q_callRr g (vs := [v1]) R l rfl o ea e hd2 k
theorem q_callR2r (g : GG Γ) {a : Int} {v1 v2 : Vl} {rc t : Nat} (R : RT md2 rc t) (l : LkR md.1.cls idx 2 md2) (o : decB md pc (ee (.invokevirtual idx) 3 :: r) fin = true) (ea : a = 20 ∨ a = 21) (e : Nat.ble S.length 40 = true) (hd2 : d2 + 1 ≤ d)
    (k : decB md (pc + 3) r fin = true → Mx Γ d2 md2 [(140, a), v1, v2] h (fun x h2 => okr rc h2 x → Rr Γ d md (pc + 3) L ((t, x) :: S) h2 KR KT) (fun a h2 => thr Γ d md KR KT pc L a h2)) : Rr Γ d md pc L (v2 :: v1 :: (140, a) :: S) h KR KT := q_callRr g (vs := [v1, v2]) R l rfl o ea e hd2 k
/-- fields of constants -/
theorem va_OF.now {on n ds : String} {v : Value} {t : Nat} (hO : va_OF on n ds v t (Old Γ) (gs Γ) (gs Γ).heap) (g : GG Γ) {H : Heap} (hH : HR Γ h H) {h0 : Hp} {s : State} {m : MethodId} {args : Array Value} {below : List Frame} {meth : Method} {c : Code} {locs : List Loc} {ls : Array Slot} {cells slots : Nat} {Q : State → Prop} {rest : List Value} (X : Cx Γ md s m meth c) (hw : Cond.fieldLink md.1.cls idx on n ds ∈ lw_tbl) (hd : decode md.2.1 pc = .ok (.getfield idx, 3))
    (k : W (gp Γ) (gl Γ) (ge Γ) (Rm d h0) s m args below meth c H locs cells slots Q (F0 m (pc + 3) ls (v :: rest))) : W (gp Γ) (gl Γ) (ge Γ) (Rm d h0) s m args below meth c H locs cells slots Q (F0 m pc ls (.ref t :: rest)) := by
  have hW := X.2.2.2.2.2.2.1
  obtain ⟨cf, k', fi, f, cell, h1, h2, h3, h4, h5, -⟩ := (va_OF.moved hW.alike hO).kept (H1 := H) (fun q hq _ => hH.2.2.1 q hq)
  exact W.getf g.ex X.1 X.2.2.2.2.1 (g.word hw rfl hW args) h1 h2 h3 h4 (v := v) h5 rfl rfl hd k
theorem notOld {a : Nat} : a < (gs Γ).heap.size → ¬ Old Γ a := fun h1 h2 => by
  have : (gs Γ).heap.size ≤ a := h2
  omega
theorem GG.op10 (g : GG Γ) {H : Heap} (hH : HR Γ h H) {a : Int} (ok : okv h 138 a) (ha : a ≠ 0) : 1 ≤ a ∧ a ≤ 10 := by
  rcases ok with ok | ⟨h1, h2, h3⟩
  · exact absurd ok ha
  · rcases Int.lt_or_le a 64 with q | q
    · have e := hH.2.2.2.2 a (-1) (by omega) q
      obtain ⟨-, -, -, -, R, -⟩ := g.2.2.2.2.2.2.2
      exact ⟨by omega, R a h1 q (by rw [← e]; exact h3)⟩
    · exfalso
      obtain ⟨κ', e, hc⟩ := hH.2.2.2.1 a q h2
      have e' : κ' = 128 := by have := e.symm.trans h3; exact Int.ofNat.inj this
      subst e'
      rcases hc with ⟨c1, -⟩ | ⟨-, c1, -⟩ <;> omega
def opN : Nat → String
  | 1 => "LAY" | 2 => "NAME" | 3 => "MINUS" | 4 => "ADD" | 5 => "TAKE" | 6 => "TIMES" | 7 => "LESS" | 8 => "MORE" | 9 => "UNLESS" | _ => "JUMP"
theorem q_rord (g : GG Γ) {a : Int} (C : Cond.fieldLink md.1.cls idx "java/lang/Enum" "ordinal" "I" ∈ lw_tbl) (o : decB md pc (ee (.getfield idx) 3 :: r) fin = true) (ha : a ≠ 0) (k : decB md (pc + 3) r fin = true → Rr Γ d md (pc + 3) L ((0, rd h a 0) :: S) h KR KT) : Rr Γ d md pc L ((138, a) :: S) h KR KT := by
  intro h0 s m args below meth c H locs ls X hE hH hlo hl hL hS hb
  obtain ⟨a1, a2⟩ := g.op10 hH hS.h ha
  obtain ⟨a0, n1, n2, -⟩ := g.nar
  have fin_ : ∀ (n : Nat), a = (n : Int) → 1 ≤ n → n ≤ 10 → (((n : Int), (0 : Int), (n : Int) - 1) ∈ romV) → ((("KeptHouse$Op", opN n, "LKeptHouse$Op;", n, 128) : String × String × String × Nat × Nat) ∈ romT) → (Cond.eq (.field (.static "KeptHouse$Op" (opN n) "LKeptHouse$Op;") "java/lang/Enum" "ordinal" "I") (.int (I32 ((n : Int) - 1))) ∈ flatC narrow_1) →
      W (gp Γ) (gl Γ) (ge Γ) (Rm d h0) s m args below meth c H locs (nx h - nx h0).toNat (us h - us h0).toNat (Zt Γ md h0 KR KT below s) (F0 m pc ls (((138, a) :: S).map (cw Γ))) := by
    intro n hn b1 b2 hv ht hw
    subst hn
    have e0 : rd h (n : Int) 0 = (n : Int) - 1 := g.val hH hv (by omega) (by omega)
    show W _ _ _ _ _ _ _ _ _ _ _ _ _ _ _ (F0 m pc ls (cv Γ (129 + 9) (n : Int) :: S.map (cw Γ)))
    rw [cv_refN Γ _ (by omega), ra_old (by omega), Int.toNat_natCast]
    refine va_OF.now (vk_OFof (n2 _ ht) (va_eqt (n1 _ hw)) (fun _ => notOld)) g hH X C (dA o) ?_
    have K := k (dB o) h0 s m args below meth c H locs ls X hE hH hlo hl hL (hS.t.c (show okv h 0 (rd h (n : Int) 0) by rw [e0]; show r32 _; unfold r32; omega)) hb
    rw [e0] at K
    exact K
  have : a = 1 ∨ a = 2 ∨ a = 3 ∨ a = 4 ∨ a = 5 ∨ a = 6 ∨ a = 7 ∨ a = 8 ∨ a = 9 ∨ a = 10 := by omega
  rcases this with e | e | e | e | e | e | e | e | e | e
  · exact fin_ 1 e (by decide) (by decide) (by decide) (by decide) (List.mem_of_getElem? (i := 56) rfl)
  · exact fin_ 2 e (by decide) (by decide) (by decide) (by decide) (List.mem_of_getElem? (i := 64) rfl)
  · exact fin_ 3 e (by decide) (by decide) (by decide) (by decide) (List.mem_of_getElem? (i := 73) rfl)
  · exact fin_ 4 e (by decide) (by decide) (by decide) (by decide) (List.mem_of_getElem? (i := 94) rfl)
  · exact fin_ 5 e (by decide) (by decide) (by decide) (by decide) (List.mem_of_getElem? (i := 106) rfl)
  · exact fin_ 6 e (by decide) (by decide) (by decide) (by decide) (List.mem_of_getElem? (i := 83) rfl)
  · exact fin_ 7 e (by decide) (by decide) (by decide) (by decide) (List.mem_of_getElem? (i := 119) rfl)
  · exact fin_ 8 e (by decide) (by decide) (by decide) (by decide) (List.mem_of_getElem? (i := 133) rfl)
  · exact fin_ 9 e (by decide) (by decide) (by decide) (by decide) (List.mem_of_getElem? (i := 148) rfl)
  · exact fin_ 10 e (by decide) (by decide) (by decide) (by decide) (List.mem_of_getElem? (i := 164) rfl)
/-- String.value, String.coder -/
theorem q_rval (g : GG Γ) {a : Int} (C : Cond.fieldLink md.1.cls idx "java/lang/String" "value" "[B" ∈ lw_tbl) (o : decB md pc (ee (.getfield idx) 3 :: r) fin = true) (ea : a = 20 ∨ a = 21) (k : decB md (pc + 3) r fin = true → Rr Γ d md (pc + 3) L ((94, rd h a 0) :: S) h KR KT) : Rr Γ d md pc L ((140, a) :: S) h KR KT := by
  intro h0 s m args below meth c H locs ls X hE hH hlo hl hL hS hb
  obtain ⟨a0, n1, -, n2, n3, n4⟩ := g.nar
  have h64 := hH.1
  rcases ea with rfl | rfl
  · have e0 : rd h 20 0 = 25 := g.val hH (by decide) (by decide) (by decide)
    have e1 : h.1 25 (-1) = 84 := g.val hH (by decide) (by decide) (by decide)
    show W _ _ _ _ _ _ _ _ _ _ _ _ _ _ _ (F0 m pc ls (cv Γ (131 + 9) 20 :: S.map (cw Γ)))
    rw [cv_refN Γ _ (by decide), ra_old (by decide)]
    refine va_OF.now (vk_OFof (n2 ("KeptHouse$Reader", 82, 20) (by decide)) n3 (fun _ => notOld)) g hH X C (dA o) ?_
    have K := k (dB o) h0 s m args below meth c H locs ls X hE hH hlo hl hL (hS.t.c (show okv h (84 + 10) (rd h 20 0) by rw [e0]; exact Or.inr ⟨by decide, by omega, e1⟩)) hb
    rw [e0] at K
    have K : W _ _ _ _ _ _ _ _ _ _ _ _ _ _ _ (F0 m (pc + 3) ls (cv Γ (85 + 9) 25 :: S.map (cw Γ))) := K
    rw [cv_refN Γ _ (by decide), ra_old (by decide)] at K
    exact K
  · have e0 : rd h 21 0 = 26 := g.val hH (by decide) (by decide) (by decide)
    have e1 : h.1 26 (-1) = 84 := g.val hH (by decide) (by decide) (by decide)
    show W _ _ _ _ _ _ _ _ _ _ _ _ _ _ _ (F0 m pc ls (cv Γ (131 + 9) 21 :: S.map (cw Γ)))
    rw [cv_refN Γ _ (by decide), ra_old (by decide)]
    refine va_OF.now (vk_OFof (n2 ("KeptHouse$Reader", 89, 21) (by decide)) n4 (fun _ => notOld)) g hH X C (dA o) ?_
    have K := k (dB o) h0 s m args below meth c H locs ls X hE hH hlo hl hL (hS.t.c (show okv h (84 + 10) (rd h 21 0) by rw [e0]; exact Or.inr ⟨by decide, by omega, e1⟩)) hb
    rw [e0] at K
    have K : W _ _ _ _ _ _ _ _ _ _ _ _ _ _ _ (F0 m (pc + 3) ls (cv Γ (85 + 9) 26 :: S.map (cw Γ))) := K
    rw [cv_refN Γ _ (by decide), ra_old (by decide)] at K
    exact K
theorem q_rcod (g : GG Γ) {a : Int} (C : Cond.fieldLink md.1.cls idx "java/lang/String" "coder" "B" ∈ lw_tbl) (o : decB md pc (ee (.getfield idx) 3 :: r) fin = true) (ea : a = 20 ∨ a = 21) (k : decB md (pc + 3) r fin = true → Rr Γ d md (pc + 3) L ((0, rd h a 1) :: S) h KR KT) : Rr Γ d md pc L ((140, a) :: S) h KR KT := by
  intro h0 s m args below meth c H locs ls X hE hH hlo hl hL hS hb
  obtain ⟨a0, n1, -, n2, n3, n4⟩ := g.nar
  rcases ea with rfl | rfl
  · have e0 : rd h 20 1 = 0 := g.val hH (by decide) (by decide) (by decide)
    show W _ _ _ _ _ _ _ _ _ _ _ _ _ _ _ (F0 m pc ls (cv Γ (131 + 9) 20 :: S.map (cw Γ)))
    rw [cv_refN Γ _ (by decide), ra_old (by decide)]
    refine va_OF.now (vk_OFof (n2 ("KeptHouse$Reader", 82, 20) (by decide)) (va_eqt (n1 (Cond.eq (.field (.string "KeptHouse$Reader" 82) "java/lang/String" "coder" "B") (.int 0)) (List.mem_of_getElem? (i := 324) rfl))) (fun _ => notOld)) g hH X C (dA o) ?_
    have K := k (dB o) h0 s m args below meth c H locs ls X hE hH hlo hl hL (hS.t.c (show okv h 0 (rd h 20 1) by rw [e0]; show r32 _; unfold r32; omega)) hb
    rw [e0] at K
    exact K
  · have e0 : rd h 21 1 = 0 := g.val hH (by decide) (by decide) (by decide)
    show W _ _ _ _ _ _ _ _ _ _ _ _ _ _ _ (F0 m pc ls (cv Γ (131 + 9) 21 :: S.map (cw Γ)))
    rw [cv_refN Γ _ (by decide), ra_old (by decide)]
    refine va_OF.now (vk_OFof (n2 ("KeptHouse$Reader", 89, 21) (by decide)) (va_eqt (n1 (Cond.eq (.field (.string "KeptHouse$Reader" 89) "java/lang/String" "coder" "B") (.int 0)) (List.mem_of_getElem? (i := 335) rfl))) (fun _ => notOld)) g hH X C (dA o) ?_
    have K := k (dB o) h0 s m args below meth c H locs ls X hE hH hlo hl hL (hS.t.c (show okv h 0 (rd h 21 1) by rw [e0]; show r32 _; unfold r32; omega)) hb
    rw [e0] at K
    exact K
/-- String.COMPACT_STRINGS -/
theorem q_rcs (g : GG Γ) (C : Cond.fieldLink md.1.cls idx "java/lang/String" "COMPACT_STRINGS" "Z" ∈ lw_tbl) (o : decB md pc (ee (.getstatic idx) 3 :: r) fin = true) (k : decB md (pc + 3) r fin = true → Rr Γ d md (pc + 3) L ((0, 1) :: S) h KR KT) : Rr Γ d md pc L S h KR KT := by
  intro h0 s m args below meth c H locs ls X hE hH hlo hl hL hS hb
  have hW := X.2.2.2.2.2.2.1
  obtain ⟨a0, n1, -⟩ := g.nar
  have R4 := va_eqt (n1 (Cond.eq (.static "java/lang/String" "COMPACT_STRINGS" "Z") (.int 1)) (List.mem_of_getElem? (i := 50) rfl))
  have Z0 : va_Z "java/lang/String" "COMPACT_STRINGS" "Z" (.int 1) (Old Γ) (gs Γ) (gs Γ).heap := va_Zof (show (Cond.laysStatic "java/lang/String" "COMPACT_STRINGS" "Z").before a0 (gs Γ) = true from g.2.1.choose_spec _ (wat_in (q := (5, 204)) rfl)) (g.word (wat_in (q := (1, 34)) rfl) rfl (State.WarmedH.refl _) a0) R4 (fun _ => notOld)
  obtain ⟨cf, kf, fi, f, q, cell, z1, z2, z3, z4, z5, z6, z7, -⟩ := (va_Z.moved hW.alike Z0).kept (H1 := H) (fun q hq _ => hH.2.2.1 q hq)
  refine W.gets g.ex X.1 X.2.2.2.2.1 (g.word C rfl hW args) z1 z2 z3 z4 z5 (fun z => by rw [z] at z6; cases z6) z7 rfl (dA o) ?_
  exact k (dB o) h0 s m args below meth c H locs ls X hE hH hlo hl hL (hS.c (show okv h 0 1 by show r32 _; unfold r32; omega)) hb
/-- Minute.named on a Life -/
def mNamed : MethodName := ⟨"KeptHouse$Minute", "named", "(I)J"⟩
def LkF (own : String) (idx : Nat) (md2 : MD) : Prop := Cq md2 1 ∧ md2.1 = ⟨"KeptHouse$Life", "named", "(I)J"⟩ ∧ Cond.methodLink own idx mNamed ∈ lw_tbl
theorem q_iface (g : GG Γ) {i n : Nat} {rc t : Nat} {a : Int} {v : Vl} (R : RT md2 rc t) (l : LkF md.1.cls i md2) (o : decB md pc (ee (.invokeinterface i n) 5 :: r) fin = true) (ha : a ≠ 0) (e : Nat.ble S.length 40 = true) (hd2 : d2 + 1 ≤ d) (k : decB md (pc + 5) r fin = true → Mx Γ d2 md2 [(16 + 10, a), v] h (fun x h2 => okr rc h2 x → Rr Γ d md (pc + 5) L ((t, x) :: S) h2 KR KT) (fun a h2 => thr Γ d md KR KT pc L a h2)) : Rr Γ d md pc L (v :: (16 + 10, a) :: S) h KR KT := by
  obtain ⟨e1, rfl, e3⟩ := R
  have M := k (dB o)
  have hd := dA o
  intro h0 s m args below meth c H locs ls X hE hH hlo hl hL hSS hb
  obtain ⟨⟨hm2, hcd, hkc, hini, hmh, hlen⟩, hnm, hlk⟩ := l
  have hS1 := hSS.t
  have hS := hS1.t
  have hWs := X.2.2.2.2.2.2.1
  obtain ⟨a0, h0'⟩ := g.2.1
  have hin : Cond.instanceMethod md2.1 ∈ lw_tbl := by rw [hnm]; exact wat_in (q := (9, 100)) rfl
  have hsel : Cond.selects "KeptHouse$Life" mNamed md2.1 ∈ lw_tbl := by rw [hnm]; exact wat_in (q := (9, 98)) rfl
  obtain ⟨hdecl, hface, hpub, hunh, hcast⟩ := va_Fw.moved (C := "KeptHouse$Life") (x := mNamed) (y := md2.1) ⟨by decide, by decide⟩ hWs.alike (va_Fw.of (h0' (Cond.declares mNamed) (wat_in (q := (9, 96)) rfl)) (h0' (Cond.interfaceMethod "KeptHouse$Minute" "KeptHouse$Minute" "named" "(I)J") (wat_in (q := (9, 95)) rfl)) (h0' (Cond.publicMethod md2.1) (by rw [hnm]; exact wat_in (q := (9, 101)) rfl)) (h0' (Cond.unhidden "KeptHouse$Life" "named" "(I)J") (wat_in (q := (9, 99)) rfl)) (h0' (Cond.castable "KeptHouse$Life" "KeptHouse$Minute") (wat_in (q := (9, 97)) rfl)))
  obtain ⟨r0, rr, hn, hrm, hstR, hsigR⟩ := Cond.declares_spec hdecl
  obtain ⟨cL', kL, r1, hcL, hkL, hiL, hfoundL, hn1⟩ := Cond.interfaceMethod_spec hface
  cases hn.symm.trans hn1
  have hr0cls : r0.cls = cL' := Option.some.inj ((findClass_of_methodNamed hn).symm.trans hcL)
  obtain ⟨hnameR, hdescR⟩ := name_of_methodNamed hn hrm
  obtain ⟨mk, methM, hnamed, hmethM, -, habM⟩ := Cond.instanceMethod_spec (g.word hin rfl hWs args)
  obtain ⟨c2, r2, m2, q1, q2, q3, q4, -⟩ := Cond.selects_spec (g.word hsel rfl hWs args)
  obtain ⟨a64, an, ak, ⟨cellB, p1, p2, p3, p4⟩, o'⟩ := HR.obj g hH (κ := 16) (by decide) (a := a) hS1.h ha
  have hcls : s.vm.findClass "KeptHouse$Life" = some cellB.cls := by rw [p2]; exact (g.kn_at (κ := 16) (by decide) hWs).2.1
  obtain ⟨-, kB, f4, -⟩ := (g.kn_at (κ := 16) (by decide) hWs).2
  cases hcls.symm.trans q1
  cases hfoundL.symm.trans q2
  cases hnamed.symm.trans q3
  have hpubM : hasFlag methM.accessFlags Acc.public_ = true := Cond.publicMethod_spec hnamed hmethM hpub
  have hway : ((cellB.cls :: s.vm.superclasses cellB.cls).any fun k => (declaredIn s.vm rr.name rr.desc k).any fun (_, z) => z.isPrivate || z.isStatic) = false := by
    rw [hnameR, hdescR]; exact Cond.unhidden_spec hcls hunh
  obtain ⟨c3, t3, w1, w2, w3⟩ := Cond.castable_spec hcast
  cases hcls.symm.trans w1
  cases hcL.symm.trans w2
  intro T hT St
  have hselP : selectMethod (ge Γ).platform s.vm cellB.cls r0 = .method mk := by rw [Launch.admits_selectMethod St.admits]; exact q4
  have hl2 : ([v].map (cw Γ)).length = rr.sig.parameters.length := by
    have hsigR : parseMethodDescriptor "(I)J" = some rr.sig := hsigR
    have h1 : (parseMethodDescriptor "(I)J").map (fun q => q.parameters.length) = some 1 := by rw [hnm] at hlen; exact hlen
    rw [hsigR] at h1
    exact (Option.some.inj h1).symm
  have hst : ((v :: (16 + 10, a) :: S).map (cw Γ)) = ([v].map (cw Γ)).reverse ++ .ref (ra Γ a) :: S.map (cw Γ) := by
    show cw Γ v :: cv Γ (16 + 1 + 9) a :: S.map (cw Γ) = _
    rw [cv_refN Γ (16 + 1) ha]
    rfl
  obtain ⟨vm₁, X₁, hstep₁⟩ := St.invokeinterface g.ex X.2.2.2.2.1 (g.word hlk rfl hWs args) hn hrm hstR (by rw [hr0cls]; exact hkL) hiL ⟨by decide, by decide⟩ (a := ra Γ a) (cell := cellB) (kcell := kB) (by rw [hT]; exact p1)
    (fun z hz => by rw [p3] at hz; cases hz) (by rw [p2]; exact f4) (by rw [hr0cls]; exact w3) hselP hmethM hway hpubM habM (g := F0 m pc ls ((v :: (16 + 10, a) :: S).map (cw Γ))) rfl (argsL := [v].map (cw Γ)) (rest := S.map (cw Γ)) hl2 hst (by rw [X.1]; exact hd)
  have hH1 : HR Γ h (T.setVm vm₁).heap := by rw [show (T.setVm vm₁).heap = T.heap from rfl, hT]; exact hH
  obtain ⟨t', w1, w2⟩ := call_end g M ((okS.rev (A := [v]) (fun z hz => hSS z (by rw [List.reverse_singleton] at hz; rw [List.mem_singleton.mp hz]; exact List.mem_cons_self))).c hS1.h) hd2 hm2 (Nat.le_of_ble_eq_true e) hcd hkc hini X hE hH1 hlo hl hL hS hb X₁ (pc := pc) (ig := .invokeinterface i n) (len := 5) (by rw [X.1]; exact hd) (X₁.named hnamed) (fun r h2 hE2 hr hk H2 locs2 hH2 hlo2 hb2 => by
      rw [rpush_cw]
      have kR := hk (by rw [← e1]; exact hr)
      rw [← rpush_ne (S := S) e1 e3] at kR
      exact kR h0 s m args below meth c H2 locs2 ls X (hE.tr hE2) hH2 hlo2 hl (hL.e hE2) (rpush_ok hr (hS.e hE2)) hb2) (fun a h2 κ _ hκ ha h0 q => thr_s hκ ha h0 q)
  refine ⟨t', hstep₁ _ fun acts => ?_, w2⟩
  rw [doInvoke_state]
  have e : ((([(16 + 10, a), v] : List Vl).map (cw Γ)).toArray) = (Value.ref (ra Γ a) :: [v].map (cw Γ)).toArray := by
    show (cv Γ (16 + 1 + 9) a :: [v].map (cw Γ)).toArray = _
    rw [cv_refN Γ (16 + 1) ha]
  rw [e] at w1
  exact w1
/-- the entry of a method, some of whose arguments are not of the small machine -/
theorem MxA_of (g : GG Γ) {al : List Value} (hy : plainFor md.1 = true) (hn : (lg_sl al).length ≤ md.2.2.1) (hsub : ∀ q ∈ cL Γ L, q ∈ lv_args 0 al) (hok : okL h L) (hbd : bd h) (k : Rr Γ d md 0 L [] h KR KT) :
    MetFree (gl Γ) md.1 (headSpec [cdC md] (Rm d h)) (fun a' s => a' = al.toArray ∧ (gs Γ).WarmedH s.vm ∧ HR Γ h s.heap) (fun p e _ _ _ => p = gp Γ ∧ e = ge Γ) (fun _ s o t => Zq Γ md.2.2.2.2.1 h KR KT s o t) := by
  refine MetFree.of_bodySF (code := md.2.1) (maxLocals := md.2.2.1) (ret := md.2.2.2.1) hy ?_ ?_
  · intro args s m hp hm
    obtain ⟨meth, c, h1, h2, h3, h4, h5, h6, -, -⟩ := cdC_spec hm (atoms_spec (ws := [cdC md]) hp _ List.mem_cons_self)
    exact ⟨meth, c, h1, h2, h3, h4, h5, h6⟩
  · intro p e s m args below meth c s₁ B hml hP hK
    obtain ⟨rfl, hW, hH⟩ := hP
    obtain ⟨rfl, rfl⟩ := hK
    obtain ⟨meth', c', h1, h2, h3, h4, h5, h6, h7, -⟩ := cdC_spec B.named (atoms_spec (ws := [cdC md]) B.pre _ List.mem_cons_self)
    cases B.method.symm.trans h1
    have X₀ := Stand.of_body B
    cases X₀.code.symm.trans h2
    have hh0 : s₁.heap = s.heap := by rw [B.state]; rfl
    have C : Cx Γ md s m meth c := ⟨h3, h5, h6, h4, findClass_of_methodNamed B.named, (name_of_methodNamed B.named B.method).1, hW, h7, hH.2.2.1⟩
    have hl := lv_entry al (n := md.2.2.1) hn
    have hl : lv_has _ md.2.2.1 (cL Γ L) := ⟨hl.1, hl.2.1, fun q hq => hl.2.2 q (hsub q hq)⟩
    have K := k h s m (al.toArray) below meth c s.heap [] _ C (ext.rf h) hH (fun q hq => by cases hq) hl hok (fun v hv => by cases hv) hbd
    rw [Int.sub_self, Int.sub_self] at K
    rw [lg_entry_eq]
    obtain ⟨t, a1, o, b1, b2, b3⟩ := K s₁ hh0 X₀
    exact ⟨t, o, a1, b1, b2, b3⟩
/-- Preconditions.checkIndex: the reference that makes exceptions is not of the small machine -/
def nmCI : MethodName := ⟨"jdk/internal/util/Preconditions", "checkIndex", "(IILjava/util/function/BiFunction;)I"⟩
abbrev mdCI : MD := (nmCI, prog_66_method_11_code, 3, (some .int), 0, [])
theorem ci_0 : decB mdCI 0 [ee (.iload_n 0) 1, ej (.ifCond .lt 8) 3 [(9, []), (4, [])]] (4, []) = true := by decide +kernel
theorem ci_4 : decB mdCI 4 [ee (.iload_n 0) 1, ee (.iload_n 1) 1, ej (.if_icmp .lt 10) 3 [(16, []), (9, [])]] (9, []) = true := by decide +kernel
theorem ci_16 : decB mdCI 16 [ee (.iload_n 0) 1, ee .ireturn 1] (18, []) = true := by decide +kernel
theorem ci_Rr (g : GG Γ) {i n : Int} (i0 : 0 ≤ i) (i1 : i < n) {K : Kt} (k : K i h) {KT : Kt} : Rr Γ d mdCI 0 [(0, (0, i)), (1, (0, n))] [] h K KT := by
  have o := ci_0
  refine q_ild0_0 g o fun o => ?_
  refine j_if_lt g o (fun c => absurd c (by omega)) (fun _ => ?_)
  have o := ci_4
  refine q_ild0_0 g o fun o => ?_
  refine q_ild1_1 g o fun o => ?_
  refine j_icmp_lt g o (fun _ => ?_) (fun c => absurd i1 c)
  have o := ci_16
  refine q_ild0_0 g o fun o => ?_
  exact q_iret0 g o rfl k
theorem q_chk (g : GG Γ) {j1 j2 : Nat} {i n : Int} (C1 : Cond.fieldLink md.1.cls j1 "jdk/internal/util/Preconditions" "SIOOBE_FORMATTER" "Ljava/util/function/BiFunction;" ∈ lw_tbl) (C2 : Cond.methodLink md.1.cls j2 nmCI ∈ lw_tbl) (o : decB md pc (ee (.getstatic j1) 3 :: ee (.invokestatic j2) 3 :: r) fin = true) (b : 0 ≤ i ∧ i < n) (e : Nat.ble S.length 40 = true) (hd3 : 1 ≤ d)
    (k : decB md (pc + 3 + 3) r fin = true → Rr Γ d md (pc + 3 + 3) L ((0, i) :: S) h KR KT) : Rr Γ d md pc L ((0, n) :: (0, i) :: S) h KR KT := by
  intro h0 s m args below meth c H locs ls X hE hH hlo hl hL hSS hb
  have hS := hSS.t.t
  have hW := X.2.2.2.2.2.2.1
  obtain ⟨a0, n1, -⟩ := g.nar
  have Z0 : va_Zq "jdk/internal/util/Preconditions" "SIOOBE_FORMATTER" "Ljava/util/function/BiFunction;" (Old Γ) (gs Γ) (gs Γ).heap := va_Zqof (show (Cond.laysStatic "jdk/internal/util/Preconditions" "SIOOBE_FORMATTER" "Ljava/util/function/BiFunction;").before a0 (gs Γ) = true from g.2.1.choose_spec _ (wat_in (q := (6, 3)) rfl)) (g.word (wat_in (q := (1, 37)) rfl) rfl (State.WarmedH.refl _) a0) (n1 (Cond.isRef (.static "jdk/internal/util/Preconditions" "SIOOBE_FORMATTER" "Ljava/util/function/BiFunction;")) (List.mem_of_getElem? (i := 51) rfl)) (fun _ => notOld)
  have go : ∀ v : Value, v.category = 1 → va_Z "jdk/internal/util/Preconditions" "SIOOBE_FORMATTER" "Ljava/util/function/BiFunction;" v (Old Γ) (gs Γ) (gs Γ).heap → W (gp Γ) (gl Γ) (ge Γ) (Rm d h0) s m args below meth c H locs (nx h - nx h0).toNat (us h - us h0).toNat (Zt Γ md h0 KR KT below s) (F0 m pc ls (((0, n) :: (0, i) :: S).map (cw Γ))) := by
    intro v hv1 Z0
    obtain ⟨cf, kf, fi, f, q, cell, z1, z2, z3, z4, z5, z6, z7, -⟩ := (va_Z.moved hW.alike Z0).kept (H1 := H) (fun q hq _ => hH.2.2.1 q hq)
    refine W.gets g.ex X.1 X.2.2.2.2.1 (g.word C1 rfl hW args) z1 z2 z3 z4 z5 (fun z => by rw [z] at z6; cases z6) z7 rfl (dA o) ?_
    have hd := dA (dB o)
    have hcd : cdC mdCI ∈ lw_tbl := wat_in (q := (9, 31)) rfl
    have hini : Cond.initialized mdCI.1.cls ∈ lw_tbl := wat_in (q := (1, 37)) rfl
    have hcb := g.word hcd rfl hW args
    obtain ⟨mk, hnamed⟩ := cdC_named hcb
    obtain ⟨methM, cM, hmethM, -, -, -, -, -, -, hsigM⟩ := cdC_spec hnamed hcb
    have hstatic : methM.isStatic = true := Cond.static_spec hnamed hmethM (g.word (wat_in (q := (9, 30)) rfl) rfl hW args)
    obtain ⟨kP, hkP, -⟩ := className_of_methodNamed hnamed
    have hinitP : kP.init = .initialized := Cond.initialized_spec (findClass_of_methodNamed hnamed) hkP (g.word hini rfl hW args)
    intro T hT St
    have hl2 : ([.int (I32 i), .int (I32 n), v] : List Value).length = methM.sig.parameters.length := by
      have h1 : (parseMethodDescriptor mdCI.1.desc).map (fun q => q.parameters.length) = some 3 := rfl
      rw [hsigM] at h1
      exact (Option.some.inj h1).symm
    obtain ⟨vm₁, X₁, hstep₁⟩ := St.invokestatic g.ex X.2.2.2.2.1 (g.word C2 rfl hW args) hnamed hmethM hstatic hkP hinitP ⟨by decide, by decide⟩ (g := F0 m (pc + 3) ls (v :: .int (I32 n) :: .int (I32 i) :: S.map (cw Γ))) rfl (argsL := [.int (I32 i), .int (I32 n), v]) (rest := S.map (cw Γ)) hl2 rfl (by rw [X.1]; exact hd)
    have hH1 : HR Γ h (T.setVm vm₁).heap := by rw [show (T.setVm vm₁).heap = T.heap from rfl, hT]; exact hH
    have ho2 : okL h ([(0, (0, i)), (1, (0, n))] : Lc) := by
      intro q hq
      rcases List.mem_cons.mp hq with rfl | hq
      · exact hSS.t.h
      · rcases List.mem_cons.mp hq with rfl | hq
        · exact hSS.h
        · cases hq
    have hlg : (lg_sl ([.int (I32 i), .int (I32 n), v] : List Value)).length ≤ 3 := by
      have h1 : ∀ (w : Value) (l : List Value), w.category = 1 → (lg_sl (w :: l)).length = 1 + (lg_sl l).length := by
        intro w l hw
        unfold lg_sl
        rw [List.flatMap_cons, List.length_append]
        congr 1
        rw [if_neg (by omega)]
        rfl
      rw [h1 _ _ rfl, h1 _ _ rfl, h1 _ _ hv1]
      show 1 + (1 + (1 + 0)) ≤ 3
      omega
    obtain ⟨t, w1, w2⟩ := call_endA g (d2 := 0) (KR2 := fun x h2 => h2 = h ∧ x = i) (KT2 := fun _ _ => False) (MxA_of g (md := mdCI) (L := [(0, (0, i)), (1, (0, n))]) (al := [.int (I32 i), .int (I32 n), v]) (by decide +kernel) hlg (fun q hq => by
        rcases List.mem_cons.mp hq with rfl | hq
        · exact List.mem_cons_self
        · rcases List.mem_cons.mp hq with rfl | hq
          · exact List.mem_cons_of_mem _ List.mem_cons_self
          · cases hq) ho2 hb (ci_Rr g b.1 b.2 ⟨rfl, rfl⟩)) (by omega) (by decide) (Nat.le_of_ble_eq_true e) hcd rfl X hE hH1 hlo hl hL hS hb X₁ (pc := pc + 3) (ig := .invokestatic j2) (len := 3) (by rw [X.1]; exact hd) (X₁.named hnamed) (KR := KR) (KT := KT) (fun x h2 hE2 hr hk H2 locs2 hH2 hlo2 hb2 => by
        obtain ⟨rfl, rfl⟩ := hk
        exact k (dB (dB o)) h0 s m args below meth c H2 locs2 ls X hE hH2 hlo2 hl hL (hS.c hSS.t.h) hb2) (fun _ _ _ _ _ _ _ q => q.elim) (fun kY hkY => by
        obtain ⟨k', f1, f2⟩ := X₁.warmed.alike.2.2 _ _ hkP
        cases Option.some.inj (hkY.symm.trans f1)
        rw [f2]
        exact hinitP)
    exact ⟨t, hstep₁ _ fun acts => by rw [doInvoke_state]; exact w1, w2⟩
  rcases Z0 with Z0 | ⟨t, Z0⟩
  · exact go .null rfl Z0
  · exact go (.ref t) rfl Z0
theorem ne20 {a : Int} (e : a = 20 ∨ a = 21) : a ≠ 0 := by omega
end VIRT
