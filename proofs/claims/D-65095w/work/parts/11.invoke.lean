/-! THE INVOKING INSTRUCTIONS -/
def rpush (rc : Nat) (r : Int) (S : List Vl) : List Vl := bif rc == 99 then S else (tg rc, r) :: S
theorem rpush_cw (Γ : Gam) (rc : Nat) (r : Int) (S : List Vl) : (rvO Γ rc r).toList ++ S.map (cw Γ) = (rpush rc r S).map (cw Γ) := by
  unfold rvO rpush
  by_cases e : rc = 99
  · subst e; rfl
  · rw [if_neg e, show (rc == 99) = false by simpa using e]
    show cv Γ rc r :: S.map (cw Γ) = cv Γ (tg rc) r :: S.map (cw Γ)
    rw [cv_tg]
theorem rpush_ok {h : Hp} {rc : Nat} {r : Int} {S : List Vl} (hr : okr rc h r) (hS : okS h S) : okS h (rpush rc r S) := by
  unfold rpush
  unfold okr at hr
  by_cases e : rc = 99
  · subst e; exact hS
  · rw [if_neg e] at hr
    rw [show (rc == 99) = false by simpa using e]
    exact hS.c (ok_tg hr)
def Mh (y : MethodName) : Prop := y.cls ≠ "java/lang/invoke/MethodHandle" ∧ y.cls ≠ "java/lang/invoke/VarHandle"
/-- what a call asks of the tables, whatever instruction makes it -/
def Cq (md2 : MD) (n : Nat) : Prop := md2.2.2.1 ≤ 200 ∧ cdC md2 ∈ lw_tbl ∧ keepW (cdC md2) = true ∧ Cond.initialized md2.1.cls ∈ lw_tbl ∧ Mh md2.1 ∧ (parseMethodDescriptor md2.1.desc).map (fun q => q.parameters.length) = some n
section INVOKE
variable {Γ : Gam} {d : Nat} {md : MD} {pc : Nat} {L : Lc} {S : List Vl} {h : Hp} {KR KT : Kt} {d2 : Nat} {md2 : MD} {vs : List Vl} {KR2 KT2 : Kt} {idx : Nat}
theorem okS.split : ∀ {A B : List Vl}, okS h (A ++ B) → okS h A ∧ okS h B := fun k => ⟨fun v hv => k v (List.mem_append_left _ hv), fun v hv => k v (List.mem_append_right _ hv)⟩
theorem okS.rev {A : List Vl} (k : okS h A.reverse) : okS h A := fun v hv => k v (List.mem_reverse.mpr hv)
theorem GG.nestM (g : GG Γ) {own host : String} {y : MethodName} (hw : Cond.methodLinkNest own idx y host ∈ lw_tbl) {U : State} (hW : (gs Γ).WarmedH U.vm) (a : Array Value) : (Cond.methodLinkNest own idx y host).before a U = true := by
  obtain ⟨a0, h0⟩ := g.2.1
  exact va_Nw.use rfl (va_Nw.warmM hW (va_Nw.of rfl (h0 _ hw)))
/-- how the call goes on -/
theorem call_go (kR : ∀ r h2, ext h h2 → okr md2.2.2.2.2.1 h2 r → KR2 r h2 → Rr Γ d md (pc + 3) L (rpush md2.2.2.2.2.1 r S) h2 KR KT) {h0 : Hp} {s : State} {m : MethodId} {args : Array Value} {below : List Frame} {meth : Method} {c : Code} {ls : Array Slot} (X : Cx Γ md s m meth c) (hE : ext h0 h) (hl : lv_has ls md.2.2.1 (cL Γ L)) (hL : okL h L) (hS : okS h S) :
    ∀ r h2, ext h h2 → okr md2.2.2.2.2.1 h2 r → KR2 r h2 → ∀ H2 locs2, HR Γ h2 H2 → (∀ q ∈ locs2, (gs Γ).heap.size ≤ q.base) → bd h2 → W (gp Γ) (gl Γ) (ge Γ) (Rm d h0) s m args below meth c H2 locs2 (nx h2 - nx h0).toNat (us h2 - us h0).toNat (Zt Γ md h0 KR KT below s) (F0 m (pc + 3) ls ((rvO Γ md2.2.2.2.2.1 r).toList ++ S.map (cw Γ))) := by
  intro r h2 hE2 hr hk H2 locs2 hH2 hlo2 hb2
  rw [rpush_cw]
  exact kR r h2 hE2 hr hk h0 s m args below meth c H2 locs2 ls X (hE.tr hE2) hH2 hlo2 hl (hL.e hE2) (rpush_ok hr (hS.e hE2)) hb2
theorem R_invokestatic (g : GG Γ) (M : Mx Γ d2 md2 vs h KR2 KT2) (hd2 : d2 + 1 ≤ d) (hS40 : S.length ≤ 40) (q : Cq md2 vs.length) (hst : Cond.static md2.1 ∈ lw_tbl) (hlk : Cond.methodLink md.1.cls idx md2.1 ∈ lw_tbl) (hd : decode md.2.1 pc = .ok (.invokestatic idx, 3))
    (kR : ∀ r h2, ext h h2 → okr md2.2.2.2.2.1 h2 r → KR2 r h2 → Rr Γ d md (pc + 3) L (rpush md2.2.2.2.2.1 r S) h2 KR KT) (kT : ∀ a h2 κ, ext h h2 → κ < 29 → okv h2 (κ + 10) a → a ≠ 0 → KT2 a h2 → Th Γ d md pc L h2 KR KT a) : Rr Γ d md pc L (vs.reverse ++ S) h KR KT := by
  intro h0 s m args below meth c H locs ls X hE hH hlo hl hL hSS hb
  obtain ⟨hm2, hcd, hkc, hini, hmh, hlen⟩ := q
  obtain ⟨hvs, hS⟩ := hSS.split
  have hWs := X.2.2.2.2.2.2.1
  have hcb := g.word hcd hkc hWs args
  obtain ⟨mk, hnamed⟩ := cdC_named hcb
  obtain ⟨methM, cM, hmethM, -, -, -, -, -, -, hsigM⟩ := cdC_spec hnamed hcb
  have hstatic : methM.isStatic = true := Cond.static_spec hnamed hmethM (g.word hst rfl hWs args)
  obtain ⟨kP, hkP, -⟩ := className_of_methodNamed hnamed
  have hinitP : kP.init = .initialized := Cond.initialized_spec (findClass_of_methodNamed hnamed) hkP (g.word hini rfl hWs args)
  intro T hT St
  have hl2 : (vs.map (cw Γ)).length = methM.sig.parameters.length := by rw [hsigM] at hlen; rw [List.length_map]; exact (Option.some.inj hlen).symm
  obtain ⟨vm₁, X₁, hstep₁⟩ := St.invokestatic g.ex X.2.2.2.2.1 (g.word hlk rfl hWs args) hnamed hmethM hstatic hkP hinitP hmh (g := F0 m pc ls ((vs.reverse ++ S).map (cw Γ))) rfl (argsL := vs.map (cw Γ)) (rest := S.map (cw Γ)) hl2 (by rw [List.map_append, List.map_reverse]) (by rw [X.1]; exact hd)
  have hH1 : HR Γ h (T.setVm vm₁).heap := by rw [show (T.setVm vm₁).heap = T.heap from rfl, hT]; exact hH
  obtain ⟨t, w1, w2⟩ := call_end g M hvs.rev hd2 hm2 hS40 hcd hkc hini X hE hH1 hlo hl hL hS hb X₁ (pc := pc) (ig := .invokestatic idx) (len := 3) (by rw [X.1]; exact hd) (X₁.named hnamed) (call_go kR X hE hl hL hS) kT
  exact ⟨t, hstep₁ _ fun acts => by rw [doInvoke_state]; exact w1, w2⟩
theorem R_invokestaticN (g : GG Γ) {host : String} (M : Mx Γ d2 md2 vs h KR2 KT2) (hd2 : d2 + 1 ≤ d) (hS40 : S.length ≤ 40) (q : Cq md2 vs.length) (hst : Cond.static md2.1 ∈ lw_tbl) (hlk : Cond.methodLinkNest md.1.cls idx md2.1 host ∈ lw_tbl) (hd : decode md.2.1 pc = .ok (.invokestatic idx, 3))
    (kR : ∀ r h2, ext h h2 → okr md2.2.2.2.2.1 h2 r → KR2 r h2 → Rr Γ d md (pc + 3) L (rpush md2.2.2.2.2.1 r S) h2 KR KT) (kT : ∀ a h2 κ, ext h h2 → κ < 29 → okv h2 (κ + 10) a → a ≠ 0 → KT2 a h2 → Th Γ d md pc L h2 KR KT a) : Rr Γ d md pc L (vs.reverse ++ S) h KR KT := by
  intro h0 s m args below meth c H locs ls X hE hH hlo hl hL hSS hb
  obtain ⟨hm2, hcd, hkc, hini, hmh, hlen⟩ := q
  obtain ⟨hvs, hS⟩ := hSS.split
  have hWs := X.2.2.2.2.2.2.1
  have hcb := g.word hcd hkc hWs args
  obtain ⟨mk, hnamed⟩ := cdC_named hcb
  obtain ⟨methM, cM, hmethM, -, -, -, -, -, -, hsigM⟩ := cdC_spec hnamed hcb
  have hstatic : methM.isStatic = true := Cond.static_spec hnamed hmethM (g.word hst rfl hWs args)
  obtain ⟨kP, hkP, -⟩ := className_of_methodNamed hnamed
  have hinitP : kP.init = .initialized := Cond.initialized_spec (findClass_of_methodNamed hnamed) hkP (g.word hini rfl hWs args)
  intro T hT St
  have hl2 : (vs.map (cw Γ)).length = methM.sig.parameters.length := by rw [hsigM] at hlen; rw [List.length_map]; exact (Option.some.inj hlen).symm
  obtain ⟨vm₁, X₁, hstep₁⟩ := St.invokestaticNest g.ex X.2.2.2.2.1 (g.nestM hlk hWs args) hnamed hmethM hstatic hkP hinitP hmh (g := F0 m pc ls ((vs.reverse ++ S).map (cw Γ))) rfl (argsL := vs.map (cw Γ)) (rest := S.map (cw Γ)) hl2 (by rw [List.map_append, List.map_reverse]) (by rw [X.1]; exact hd)
  have hH1 : HR Γ h (T.setVm vm₁).heap := by rw [show (T.setVm vm₁).heap = T.heap from rfl, hT]; exact hH
  obtain ⟨t, w1, w2⟩ := call_end g M hvs.rev hd2 hm2 hS40 hcd hkc hini X hE hH1 hlo hl hL hS hb X₁ (pc := pc) (ig := .invokestatic idx) (len := 3) (by rw [X.1]; exact hd) (X₁.named hnamed) (call_go kR X hE hl hL hS) kT
  exact ⟨t, hstep₁ _ fun acts => by rw [doInvoke_state]; exact w1, w2⟩
/-- a method of an object: the receiver's class is known -/
theorem R_invokevirtual (g : GG Γ) {κ : Nat} {a : Int} (hκ : κ < 29) (ha : a ≠ 0) (M : Mx Γ d2 md2 ((κ + 10, a) :: vs) h KR2 KT2) (hd2 : d2 + 1 ≤ d) (hS40 : S.length ≤ 40) (q : Cq md2 vs.length) (hin : Cond.instanceMethod md2.1 ∈ lw_tbl) (hsel : Cond.selects (kname κ) md2.1 md2.1 ∈ lw_tbl) (hlk : Cond.methodLink md.1.cls idx md2.1 ∈ lw_tbl) (hd : decode md.2.1 pc = .ok (.invokevirtual idx, 3))
    (kR : ∀ r h2, ext h h2 → okr md2.2.2.2.2.1 h2 r → KR2 r h2 → Rr Γ d md (pc + 3) L (rpush md2.2.2.2.2.1 r S) h2 KR KT) (kT : ∀ a h2 κ, ext h h2 → κ < 29 → okv h2 (κ + 10) a → a ≠ 0 → KT2 a h2 → Th Γ d md pc L h2 KR KT a) : Rr Γ d md pc L (vs.reverse ++ (κ + 10, a) :: S) h KR KT := by
  intro h0 s m args below meth c H locs ls X hE hH hlo hl hL hSS hb
  obtain ⟨hm2, hcd, hkc, hini, hmh, hlen⟩ := q
  obtain ⟨hvs, hS1⟩ := hSS.split
  have hS := hS1.t
  have hWs := X.2.2.2.2.2.2.1
  have hcb := g.word hcd hkc hWs args
  obtain ⟨mk, methM, hnamed, hmethM, hstM, habM⟩ := Cond.instanceMethod_spec (g.word hin rfl hWs args)
  obtain ⟨methM', cM, hmethM', -, -, -, -, -, -, hsigM⟩ := cdC_spec hnamed hcb
  cases hmethM.symm.trans hmethM'
  obtain ⟨c2, r2, m2, q1, q2, q3, q4, kP, hkP, hkPi⟩ := Cond.selects_spec (g.word hsel rfl hWs args)
  obtain ⟨a64, an, ak, ⟨cellB, p1, p2, p3, p4⟩, o⟩ := HR.obj g hH hκ (a := a) hS1.h ha
  have hcls : s.vm.findClass (kname κ) = some cellB.cls := by rw [p2]; exact (g.kn_at hκ hWs).2.1
  cases hcls.symm.trans q1
  cases (State.methodFound?_of_named hnamed hmh).symm.trans q2
  cases hnamed.symm.trans q3
  intro T hT St
  have hselP : selectMethod (ge Γ).platform s.vm cellB.cls mk = .method mk := by rw [Launch.admits_selectMethod St.admits]; exact q4
  have hl2 : (vs.map (cw Γ)).length = methM.sig.parameters.length := by rw [hsigM] at hlen; rw [List.length_map]; exact (Option.some.inj hlen).symm
  have hst : ((vs.reverse ++ (κ + 10, a) :: S).map (cw Γ)) = (vs.map (cw Γ)).reverse ++ .ref (ra Γ a) :: S.map (cw Γ) := by
    rw [List.map_append, List.map_reverse, List.map_cons]
    congr 2
    exact cv_refN Γ (κ + 1) ha
  obtain ⟨vm₁, X₁, hstep₁⟩ := St.invokevirtual g.ex X.2.2.2.2.1 (g.word hlk rfl hWs args) hnamed hmethM hstM hkP hkPi hmh (a := ra Γ a) (cell := cellB) (by rw [hT]; exact p1)
    (fun z hz => by rw [p3] at hz; cases hz) hselP hmethM habM hkP hkPi (g := F0 m pc ls ((vs.reverse ++ (κ + 10, a) :: S).map (cw Γ))) rfl (argsL := vs.map (cw Γ)) (rest := S.map (cw Γ)) hl2 hst (by rw [X.1]; exact hd)
  have hH1 : HR Γ h (T.setVm vm₁).heap := by rw [show (T.setVm vm₁).heap = T.heap from rfl, hT]; exact hH
  obtain ⟨t, w1, w2⟩ := call_end g M (hvs.rev.c hS1.h) hd2 hm2 hS40 hcd hkc hini X hE hH1 hlo hl hL hS hb X₁ (pc := pc) (ig := .invokevirtual idx) (len := 3) (by rw [X.1]; exact hd) (X₁.named hnamed) (call_go kR X hE hl hL hS) kT
  refine ⟨t, hstep₁ _ fun acts => ?_, w2⟩
  rw [doInvoke_state]
  have e : ((((κ + 10, a) :: vs).map (cw Γ)).toArray) = (Value.ref (ra Γ a) :: vs.map (cw Γ)).toArray := by
    rw [List.map_cons]
    congr 2
    exact cv_refN Γ (κ + 1) ha
  rw [e] at w1
  exact w1
theorem R_invokevirtualN (g : GG Γ) {κ : Nat} {a : Int} {host : String} (hκ : κ < 29) (ha : a ≠ 0) (M : Mx Γ d2 md2 ((κ + 10, a) :: vs) h KR2 KT2) (hd2 : d2 + 1 ≤ d) (hS40 : S.length ≤ 40) (q : Cq md2 vs.length) (hin : Cond.instanceMethod md2.1 ∈ lw_tbl) (hsel : Cond.selects (kname κ) md2.1 md2.1 ∈ lw_tbl) (hlk : Cond.methodLinkNest md.1.cls idx md2.1 host ∈ lw_tbl) (hd : decode md.2.1 pc = .ok (.invokevirtual idx, 3))
    (kR : ∀ r h2, ext h h2 → okr md2.2.2.2.2.1 h2 r → KR2 r h2 → Rr Γ d md (pc + 3) L (rpush md2.2.2.2.2.1 r S) h2 KR KT) (kT : ∀ a h2 κ, ext h h2 → κ < 29 → okv h2 (κ + 10) a → a ≠ 0 → KT2 a h2 → Th Γ d md pc L h2 KR KT a) : Rr Γ d md pc L (vs.reverse ++ (κ + 10, a) :: S) h KR KT := by
  intro h0 s m args below meth c H locs ls X hE hH hlo hl hL hSS hb
  obtain ⟨hm2, hcd, hkc, hini, hmh, hlen⟩ := q
  obtain ⟨hvs, hS1⟩ := hSS.split
  have hS := hS1.t
  have hWs := X.2.2.2.2.2.2.1
  have hcb := g.word hcd hkc hWs args
  obtain ⟨mk, methM, hnamed, hmethM, hstM, habM⟩ := Cond.instanceMethod_spec (g.word hin rfl hWs args)
  obtain ⟨methM', cM, hmethM', -, -, -, -, -, -, hsigM⟩ := cdC_spec hnamed hcb
  cases hmethM.symm.trans hmethM'
  obtain ⟨c2, r2, m2, q1, q2, q3, q4, kP, hkP, hkPi⟩ := Cond.selects_spec (g.word hsel rfl hWs args)
  obtain ⟨a64, an, ak, ⟨cellB, p1, p2, p3, p4⟩, o⟩ := HR.obj g hH hκ (a := a) hS1.h ha
  have hcls : s.vm.findClass (kname κ) = some cellB.cls := by rw [p2]; exact (g.kn_at hκ hWs).2.1
  cases hcls.symm.trans q1
  cases (State.methodFound?_of_named hnamed hmh).symm.trans q2
  cases hnamed.symm.trans q3
  intro T hT St
  have hselP : selectMethod (ge Γ).platform s.vm cellB.cls mk = .method mk := by rw [Launch.admits_selectMethod St.admits]; exact q4
  have hl2 : (vs.map (cw Γ)).length = methM.sig.parameters.length := by rw [hsigM] at hlen; rw [List.length_map]; exact (Option.some.inj hlen).symm
  have hst : ((vs.reverse ++ (κ + 10, a) :: S).map (cw Γ)) = (vs.map (cw Γ)).reverse ++ .ref (ra Γ a) :: S.map (cw Γ) := by
    rw [List.map_append, List.map_reverse, List.map_cons]
    congr 2
    exact cv_refN Γ (κ + 1) ha
  obtain ⟨vm₁, X₁, hstep₁⟩ := St.invokevirtualNest g.ex X.2.2.2.2.1 (g.nestM hlk hWs args) hnamed hmethM hstM hkP hkPi hmh (a := ra Γ a) (cell := cellB) (by rw [hT]; exact p1)
    (fun z hz => by rw [p3] at hz; cases hz) hselP hmethM habM hkP hkPi (g := F0 m pc ls ((vs.reverse ++ (κ + 10, a) :: S).map (cw Γ))) rfl (argsL := vs.map (cw Γ)) (rest := S.map (cw Γ)) hl2 hst (by rw [X.1]; exact hd)
  have hH1 : HR Γ h (T.setVm vm₁).heap := by rw [show (T.setVm vm₁).heap = T.heap from rfl, hT]; exact hH
  obtain ⟨t, w1, w2⟩ := call_end g M (hvs.rev.c hS1.h) hd2 hm2 hS40 hcd hkc hini X hE hH1 hlo hl hL hS hb X₁ (pc := pc) (ig := .invokevirtual idx) (len := 3) (by rw [X.1]; exact hd) (X₁.named hnamed) (call_go kR X hE hl hL hS) kT
  refine ⟨t, hstep₁ _ fun acts => ?_, w2⟩
  rw [doInvoke_state]
  have e : ((((κ + 10, a) :: vs).map (cw Γ)).toArray) = (Value.ref (ra Γ a) :: vs.map (cw Γ)).toArray := by
    rw [List.map_cons]
    congr 2
    exact cv_refN Γ (κ + 1) ha
  rw [e] at w1
  exact w1
/-- a constructor of a class of ours -/
theorem R_invokeinit (g : GG Γ) {κ : Nat} {a : Int} (ha : a ≠ 0) (M : Mx Γ d2 md2 ((κ + 10, a) :: vs) h KR2 KT2) (hd2 : d2 + 1 ≤ d) (hS40 : S.length ≤ 40) (q : Cq md2 vs.length) (hin : Cond.instanceMethod md2.1 ∈ lw_tbl) (hnm : md2.1.name = "<init>") (hhs : md2.2.2.2.2.2 = []) (hrt : md2.2.2.2.1 = none) (hlk : Cond.methodLink md.1.cls idx md2.1 ∈ lw_tbl) (hd : decode md.2.1 pc = .ok (.invokespecial idx, 3))
    (kR : ∀ r h2, ext h h2 → okr md2.2.2.2.2.1 h2 r → KR2 r h2 → Rr Γ d md (pc + 3) L (rpush md2.2.2.2.2.1 r S) h2 KR KT) (kT : ∀ a h2 κ, ext h h2 → κ < 29 → okv h2 (κ + 10) a → a ≠ 0 → KT2 a h2 → Th Γ d md pc L h2 KR KT a) : Rr Γ d md pc L (vs.reverse ++ (κ + 10, a) :: S) h KR KT := by
  intro h0 s m args below meth c H locs ls X hE hH hlo hl hL hSS hb
  obtain ⟨hm2, hcd, hkc, hini, hmh, hlen⟩ := q
  obtain ⟨hvs, hS1⟩ := hSS.split
  have hS := hS1.t
  have hWs := X.2.2.2.2.2.2.1
  have hcb := g.word hcd hkc hWs args
  have hcode : (Cond.code md2.1 md2.2.1 md2.2.2.1 none).before args s = true := by
    unfold cdC at hcb
    rw [hhs, hrt] at hcb
    exact hcb
  intro T hT St
  have hpl : (ge Γ).platform.magicAccessors = ({} : Platform).magicAccessors := by rw [St.admits.platform]
  have hst : ((vs.reverse ++ (κ + 10, a) :: S).map (cw Γ)) = (vs.map (cw Γ)).reverse ++ .ref (ra Γ a) :: S.map (cw Γ) := by
    rw [List.map_append, List.map_reverse, List.map_cons]
    congr 2
    exact cv_refN Γ (κ + 1) ha
  obtain ⟨mk, methM, cM, kP, vm₁, hnamed, hmethM, hcodeM, -, hlocalsM, -, hkP, -, hW₁, hstep₁⟩ := Steps.initColdArgs (e := ge Γ) St.here g.ex St.warmed hpl X.2.2.2.2.1 hnm hmh (g.word hlk rfl hWs args) (g.word hin rfl hWs args) hcode (f := F0 m pc ls ((vs.reverse ++ (κ + 10, a) :: S).map (cw Γ))) rfl (argsL := vs.map (cw Γ)) (rest := S.map (cw Γ))
    (fun sig hs => by rw [hs] at hlen; rw [List.length_map]; exact (Option.some.inj hlen).symm) hst (by rw [X.1]; exact hd)
  have X₁ := St.noted hW₁
  have hH1 : HR Γ h (T.setVm vm₁).heap := by rw [show (T.setVm vm₁).heap = T.heap from rfl, hT]; exact hH
  obtain ⟨t, w1, w2⟩ := call_end g M (hvs.rev.c hS1.h) hd2 hm2 hS40 hcd hkc hini X hE hH1 hlo hl hL hS hb X₁ (pc := pc) (ig := .invokespecial idx) (len := 3) (by rw [X.1]; exact hd) (X₁.named hnamed) (call_go kR X hE hl hL hS) kT
  refine ⟨t, hstep₁ _ fun acts => ?_, w2⟩
  rw [doInvoke_state]
  have e : ((((κ + 10, a) :: vs).map (cw Γ)).toArray) = (Value.ref (ra Γ a) :: vs.map (cw Γ)).toArray := by
    rw [List.map_cons]
    congr 2
    exact cv_refN Γ (κ + 1) ha
  rw [e] at w1
  exact w1
theorem R_invokeinitN (g : GG Γ) {κ : Nat} {a : Int} {host : String} (ha : a ≠ 0) (M : Mx Γ d2 md2 ((κ + 10, a) :: vs) h KR2 KT2) (hd2 : d2 + 1 ≤ d) (hS40 : S.length ≤ 40) (q : Cq md2 vs.length) (hin : Cond.instanceMethod md2.1 ∈ lw_tbl) (hnm : md2.1.name = "<init>") (hhs : md2.2.2.2.2.2 = []) (hrt : md2.2.2.2.1 = none) (hlk : Cond.methodLinkNest md.1.cls idx md2.1 host ∈ lw_tbl) (hd : decode md.2.1 pc = .ok (.invokespecial idx, 3))
    (kR : ∀ r h2, ext h h2 → okr md2.2.2.2.2.1 h2 r → KR2 r h2 → Rr Γ d md (pc + 3) L (rpush md2.2.2.2.2.1 r S) h2 KR KT) (kT : ∀ a h2 κ, ext h h2 → κ < 29 → okv h2 (κ + 10) a → a ≠ 0 → KT2 a h2 → Th Γ d md pc L h2 KR KT a) : Rr Γ d md pc L (vs.reverse ++ (κ + 10, a) :: S) h KR KT := by
  intro h0 s m args below meth c H locs ls X hE hH hlo hl hL hSS hb
  obtain ⟨hm2, hcd, hkc, hini, hmh, hlen⟩ := q
  obtain ⟨hvs, hS1⟩ := hSS.split
  have hS := hS1.t
  have hWs := X.2.2.2.2.2.2.1
  have hcb := g.word hcd hkc hWs args
  have hcode : (Cond.code md2.1 md2.2.1 md2.2.2.1 none).before args s = true := by
    unfold cdC at hcb
    rw [hhs, hrt] at hcb
    exact hcb
  intro T hT St
  have hpl : (ge Γ).platform.magicAccessors = ({} : Platform).magicAccessors := by rw [St.admits.platform]
  have hst : ((vs.reverse ++ (κ + 10, a) :: S).map (cw Γ)) = (vs.map (cw Γ)).reverse ++ .ref (ra Γ a) :: S.map (cw Γ) := by
    rw [List.map_append, List.map_reverse, List.map_cons]
    congr 2
    exact cv_refN Γ (κ + 1) ha
  obtain ⟨mk, methM, cM, kP, vm₁, hnamed, hmethM, hcodeM, -, hlocalsM, -, hkP, -, hW₁, hstep₁⟩ := Steps.initColdArgsNest (e := ge Γ) St.here g.ex St.warmed hpl X.2.2.2.2.1 hnm hmh (g.nestM hlk hWs args) (g.word hin rfl hWs args) hcode (f := F0 m pc ls ((vs.reverse ++ (κ + 10, a) :: S).map (cw Γ))) rfl (argsL := vs.map (cw Γ)) (rest := S.map (cw Γ))
    (fun sig hs => by rw [hs] at hlen; rw [List.length_map]; exact (Option.some.inj hlen).symm) hst (by rw [X.1]; exact hd)
  have X₁ := St.noted hW₁
  have hH1 : HR Γ h (T.setVm vm₁).heap := by rw [show (T.setVm vm₁).heap = T.heap from rfl, hT]; exact hH
  obtain ⟨t, w1, w2⟩ := call_end g M (hvs.rev.c hS1.h) hd2 hm2 hS40 hcd hkc hini X hE hH1 hlo hl hL hS hb X₁ (pc := pc) (ig := .invokespecial idx) (len := 3) (by rw [X.1]; exact hd) (X₁.named hnamed) (call_go kR X hE hl hL hS) kT
  refine ⟨t, hstep₁ _ fun acts => ?_, w2⟩
  rw [doInvoke_state]
  have e : ((((κ + 10, a) :: vs).map (cw Γ)).toArray) = (Value.ref (ra Γ a) :: vs.map (cw Γ)).toArray := by
    rw [List.map_cons]
    congr 2
    exact cv_refN Γ (κ + 1) ha
  rw [e] at w1
  exact w1
/-- Object's constructor -/
theorem R_objinit (g : GG Γ) {κ : Nat} {a : Int} (ha : a ≠ 0) (hS40 : S.length ≤ 40) (hd1 : 1 ≤ d) (hlk : Cond.methodLink md.1.cls idx objectInit ∈ lw_tbl) (hin : Cond.instanceMethod objectInit ∈ lw_tbl) (hcd : Cond.code objectInit ⟨#[0xb1]⟩ 1 none ∈ lw_tbl) (hd : decode md.2.1 pc = .ok (.invokespecial idx, 3))
    (k : Rr Γ d md (pc + 3) L S h KR KT) : Rr Γ d md pc L ((κ + 10, a) :: S) h KR KT := by
  intro h0 s m args below meth c H locs ls X hE hH hlo hl hL hS hb
  have hWs := X.2.2.2.2.2.2.1
  have K := k h0 s m args below meth c H locs ls X hE hH hlo hl hL hS.t hb
  show W _ _ _ _ _ _ _ _ _ _ _ _ _ _ _ (F0 m pc ls (cv Γ (κ + 1 + 9) a :: S.map (cw Γ)))
  rw [cv_refN Γ _ ha]
  refine W.objInit g.ex X.1 X.2.2.2.2.1 (g.word hlk rfl hWs args) (g.word hin rfl hWs args) (g.word hcd rfl hWs args) rfl (by rw [X.2.2.2.1]; exact hl.1) rfl hd hd1 ?_ K
  show 2 * 0 + ((S.map (cw Γ)).map fun v => v.category).sum + 12 ≤ 400 * d
  have := sumS Γ S
  omega
end INVOKE
