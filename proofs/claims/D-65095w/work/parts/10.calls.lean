/-! CALLS: a method's contract Mx, its entry, calls that return and calls that throw -/
/-- the word of the tables that names a method's code -/
def cdC (md : MD) : Cond := match md.2.2.2.2.2 with
  | [] => .code md.1 md.2.1 md.2.2.1 md.2.2.2.1
  | hs => .codeWith md.1 md.2.1 md.2.2.1 md.2.2.2.1 hs
theorem cdC_spec {md : MD} {args : Array Value} {s : State} {m : MethodId} (hn : s.methodNamed? md.1 = some m) (h : (cdC md).before args s = true) :
    ∃ meth c, s.vm.method? m = some meth ∧ meth.code = some c ∧ c.code = md.2.1 ∧ c.maxLocals = md.2.2.1 ∧ meth.sig.returnType = md.2.2.2.1 ∧ meth.locks = false ∧ c.exceptionTable.toList = tableOf md.2.2.2.2.2 ∧ parseMethodDescriptor md.1.desc = some meth.sig := by
  unfold cdC at h
  split at h
  · next e =>
    obtain ⟨meth, c, h1, h2, h3, h4, h5, h6, h7, h8⟩ := Cond.code_spec hn h
    refine ⟨meth, c, h1, h2, h3, h4, h5, h6, ?_, h8⟩
    rw [e]
    have : c.exceptionTable = #[] := by simpa [Array.isEmpty_iff] using h7
    rw [this]
    rfl
  · next e hs =>
    obtain ⟨m', meth, c, h0, h1, h2, h3, h4, h5, h6, h7, h8⟩ := Cond.codeWith_spec h
    cases hn.symm.trans h0
    refine ⟨meth, c, h1, h2, h3, h4, h6, h7, ?_, h8⟩
    rw [← h5, table_eq]
theorem cdC_named {md : MD} {args : Array Value} {s : State} (h : (cdC md).before args s = true) : ∃ m, s.methodNamed? md.1 = some m := by
  unfold cdC at h
  split at h
  · exact Cond.code_named h
  · obtain ⟨m', -, -, h0, -⟩ := Cond.codeWith_spec h
    exact ⟨m', h0⟩
def Mx (Γ : Gam) (d : Nat) (md : MD) (vs : List Vl) (h : Hp) (KR KT : Kt) : Prop := okS h vs → bd h →
  MetFree (gl Γ) md.1 (headSpec [cdC md] (Rm d h)) (fun a s => a = (vs.map (cw Γ)).toArray ∧ (gs Γ).WarmedH s.vm ∧ HR Γ h s.heap) (fun p e _ _ _ => p = gp Γ ∧ e = ge Γ) (fun _ s o t => Zq Γ md.2.2.2.2.1 h KR KT s o t)
theorem Mx.mono {Γ : Gam} {d : Nat} {md : MD} {vs : List Vl} {h : Hp} {KR KT KR2 KT2 : Kt} (M : Mx Γ d md vs h KR KT) (kR : ∀ r h2, KR r h2 → KR2 r h2) (kT : ∀ a h2, KT a h2 → KT2 a h2) : Mx Γ d md vs h KR2 KT2 := by
  intro hok hbd p e ha hc hk s m args below hf happ hP hK
  obtain ⟨n, o, h1, h2, h3, hW, h4, q1, q2, q3, q4, q5⟩ := M hok hbd p e ha hc hk s m args below hf happ hP hK
  refine ⟨n, o, h1, h2, h3, hW, h4, q1, q2, q3, q4, ?_⟩
  rcases q5 with ⟨r, e1, e2, e3⟩ | ⟨a, κ, e1, e2, e3, e4, e5⟩
  · exact Or.inl ⟨r, e1, e2, kR r h4 e3⟩
  · exact Or.inr ⟨a, κ, e1, e2, e3, e4, kT a h4 e5⟩
/-- a method that changes nothing -/
theorem Mx.mono0 {Γ : Gam} {d : Nat} {md : MD} {vs : List Vl} {h : Hp} {K : Int → Prop} {KR2 KT2 : Kt} (M : Mx Γ d md vs h (fun r h1 => h1 = h ∧ K r) (fun _ _ => False)) (kR : ∀ r, K r → KR2 r h) : Mx Γ d md vs h KR2 KT2 :=
  M.mono (fun r h2 q => by obtain ⟨rfl, q⟩ := q; exact kR r q) (fun _ _ q => q.elim)
/-- .. and whose answer is known -/
theorem Mx.monoF {Γ : Gam} {d : Nat} {md : MD} {vs : List Vl} {h : Hp} {v : Int} {KR2 KT2 : Kt} (M : Mx Γ d md vs h (fun r h1 => h1 = h ∧ r = v) (fun _ _ => False)) (kR : KR2 v h) : Mx Γ d md vs h KR2 KT2 :=
  M.mono (fun r h2 q => by obtain ⟨rfl, rfl⟩ := q; exact kR) (fun _ _ q => q.elim)
theorem Mx.monoR {Γ : Gam} {d : Nat} {md : MD} {vs : List Vl} {h : Hp} {K KR2 KT2 : Kt} (M : Mx Γ d md vs h K (fun _ _ => False)) (kR : ∀ r h2, K r h2 → KR2 r h2) : Mx Γ d md vs h KR2 KT2 := M.mono kR (fun _ _ q => q.elim)
theorem Mx.monoV {Γ : Gam} {d : Nat} {md : MD} {vs : List Vl} {h : Hp} {K : Hp → Prop} {KR2 KT2 : Kt} (M : Mx Γ d md vs h (fun _ => K) (fun _ _ => False)) (kR : ∀ r h2, K h2 → KR2 r h2) : Mx Γ d md vs h KR2 KT2 := M.mono kR (fun _ _ q => q.elim)
theorem Mx.up {Γ : Gam} {d : Nat} {md : MD} {vs : List Vl} {h : Hp} {KR KT : Kt} (M : Mx Γ d md vs h KR KT) : Mx Γ d md vs h KR KT := M
/-- the locals at the entry -/
def entL : Nat → List Vl → Lc
  | _, [] => []
  | i, v :: r => (i, v) :: entL (i + (if v.1 = 1 then 2 else 1)) r
def entN : List Vl → Nat
  | [] => 0
  | v :: r => (if v.1 = 1 then 2 else 1) + entN r
theorem cat12 (Γ : Gam) (v : Vl) : (cw Γ v).category = if v.1 = 1 then 2 else 1 := by
  by_cases hv : v.1 = 1
  · rw [if_pos hv]; show (cv Γ v.1 v.2).category = 2; rw [hv]; rfl
  · rw [if_neg hv]; exact cat1 Γ v.2 hv
theorem entL_cL (Γ : Gam) : ∀ (vs : List Vl) (i : Nat), lv_args i (vs.map (cw Γ)) = cL Γ (entL i vs)
  | [], _ => rfl
  | v :: r, i => by
    show (i, cw Γ v) :: lv_args (if (cw Γ v).category = 2 then i + 2 else i + 1) (r.map (cw Γ)) = (i, cw Γ v) :: cL Γ (entL (i + (if v.1 = 1 then 2 else 1)) r)
    rw [← entL_cL Γ r]
    congr 2
    rw [cat12]
    by_cases hv : v.1 = 1
    · rw [if_pos hv, if_pos rfl]
    · rw [if_neg hv, if_neg (by decide)]
theorem entN_len (Γ : Gam) : ∀ vs : List Vl, (lg_sl (vs.map (cw Γ))).length = entN vs
  | [] => rfl
  | v :: r => by
    show (lg_sl (cw Γ v :: r.map (cw Γ))).length = (if v.1 = 1 then 2 else 1) + entN r
    have ih := entN_len Γ r
    unfold lg_sl at ih ⊢
    rw [List.flatMap_cons, List.length_append, ih]
    congr 1
    have := cat12 Γ v
    by_cases hv : v.1 = 1
    · rw [if_pos hv] at this ⊢; rw [if_pos this]; rfl
    · rw [if_neg hv] at this ⊢; rw [if_neg (by omega)]; rfl
theorem entL_ok {h : Hp} : ∀ (vs : List Vl) (i : Nat), okS h vs → okL h (entL i vs)
  | [], _, _ => fun q hq => by cases hq
  | v :: r, i, k => by
    intro q hq
    rcases List.mem_cons.mp hq with rfl | hq
    · exact k.h
    · exact entL_ok r _ k.t q hq
theorem Mx_of {Γ : Gam} (g : GG Γ) {d : Nat} {md : MD} {vs : List Vl} {h : Hp} {KR KT : Kt} (hy : plainFor md.1 = true) (hn : entN vs ≤ md.2.2.1) (k : Rr Γ d md 0 (entL 0 vs) [] h KR KT) : Mx Γ d md vs h KR KT := by
  intro hok hbd
  refine MetFree.of_bodySF (code := md.2.1) (maxLocals := md.2.2.1) (ret := md.2.2.2.1) hy ?_ ?_
  · intro args s m hp hm
    obtain ⟨meth, c, h1, h2, h3, h4, h5, h6, -, -⟩ := cdC_spec hm (atoms_spec (ws := [cdC md]) hp _ List.mem_cons_self)
    exact ⟨meth, c, h1, h2, h3, h4, h5, h6⟩
  · intro p e s m args below meth c s₁ B hml hP hK
    obtain ⟨rfl, hW, hH⟩ := hP
    obtain ⟨rfl, rfl⟩ := hK
    obtain ⟨meth', c', h1, h2, h3, h4, h5, h6, h7, -⟩ := cdC_spec B.named (atoms_spec (ws := [cdC md]) B.pre _ List.mem_cons_self)
    cases B.method.symm.trans h1
    have X₀ := Stand.of_body B
    cases X₀.code.symm.trans h2
    have hh0 : s₁.heap = s.heap := by rw [B.state]; rfl
    have C : Cx Γ md s m meth c := ⟨h3, h5, h6, h4, findClass_of_methodNamed B.named, (name_of_methodNamed B.named B.method).1, hW, h7, hH.2.2.1⟩
    have hl := lv_entry (vs.map (cw Γ)) (n := md.2.2.1) (by rw [entN_len]; exact hn)
    rw [entL_cL] at hl
    have K := k h s m ((vs.map (cw Γ)).toArray) below meth c s.heap [] _ C (ext.rf h) hH (fun q hq => by cases hq) hl (entL_ok vs 0 hok) (fun v hv => by cases hv) hbd
    rw [Int.sub_self, Int.sub_self] at K
    rw [lg_entry_eq]
    obtain ⟨t, a1, o, b1, b2, b3⟩ := K s₁ hh0 X₀
    exact ⟨t, o, a1, b1, b2, b3⟩
/-- a thrown exception, in a frame of the method -/
def Th (Γ : Gam) (d : Nat) (md : MD) (pc : Nat) (L : Lc) (h : Hp) (KR KT : Kt) (a : Int) : Prop :=
  ∀ (h0 : Hp) (s : State) (m : MethodId) (args : Array Value) (below : List Frame) (meth : Method) (c : Code) (H : Heap) (locs : List Loc) (ls : Array Slot),
    Cx Γ md s m meth c → ext h0 h → HR Γ h H → (∀ q ∈ locs, (gs Γ).heap.size ≤ q.base) → lv_has ls md.2.2.1 (cL Γ L) → okL h L → bd h →
    ∀ (stk : List Value) (T : State), T.heap = H → Stand (gp Γ) (gl Γ) (ge Γ) (Rm d h0) s m args below meth c T locs (nx h - nx h0).toNat (us h - us h0).toNat →
      ∃ t, Steps (gp Γ).tables (ge Γ) below ((T.setTop (F0 m pc ls stk)).pushFrame (.throwing (ra Γ a))) t ∧ Zt Γ md h0 KR KT below s t
section CALLS
variable {Γ : Gam} {d : Nat} {md : MD} {pc : Nat} {L : Lc} {S : List Vl} {h : Hp} {KR KT : Kt}
theorem Th_out {a : Int} {κ : Nat} (ho : (tableOf md.2.2.2.2.2).all (fun x => !covers x pc) = true) (hκ : κ < 29) (ha : okv h (κ + 10) a) (h0a : a ≠ 0) (k : KT a h) : Th Γ d md pc L h KR KT a := by
  intro h0 s m args below meth c H locs ls X hE hH hlo hl hL hb stk T hT St
  obtain ⟨q1, q2, q3, q4, q5⟩ := St.leaveThrown (ra Γ a) (g := F0 m pc ls stk) rfl rfl rfl (outside_of_table X.2.2.2.2.2.2.2.1 ho) X.2.2.1
  refine ⟨_, q1, _, q2, q3, q4, h, ?_, hE, hb, ⟨locs, q5, hlo⟩, Or.inr ⟨a, κ, rfl, ha, h0a, hκ, k⟩⟩
  have : (T.setFrames (.throwing (ra Γ a) :: below)).heap = T.heap := rfl
  rw [this, hT]
  exact hH
theorem sumS (Γ : Gam) : ∀ S : List Vl, ((S.map (cw Γ)).map fun v => v.category).sum ≤ 2 * S.length
  | [] => by simp
  | v :: r => by
    have ih := sumS Γ r
    have := cat12 Γ v
    simp only [List.map_cons, List.sum_cons, List.length_cons]
    have h2 : (cw Γ v).category ≤ 2 := by rw [this]; split <;> omega
    omega
/-- the call itself, behind the invoking instruction's own step -/
theorem call_endA (g : GG Γ) {d2 : Nat} {md2 : MD} {a : Array Value} {KR2 KT2 : Kt} (M : MetFree (gl Γ) md2.1 (headSpec [cdC md2] (Rm d2 h)) (fun a' s => a' = a ∧ (gs Γ).WarmedH s.vm ∧ HR Γ h s.heap) (fun p e _ _ _ => p = gp Γ ∧ e = ge Γ) (fun _ s o t => Zq Γ md2.2.2.2.2.1 h KR2 KT2 s o t)) (hd2 : d2 + 1 ≤ d) (hm2 : md2.2.2.1 ≤ 200) (hS40 : S.length ≤ 40)
    (hcd : cdC md2 ∈ lw_tbl) (hkc : keepW (cdC md2) = true)
    {h0 : Hp} {s : State} {m : MethodId} {args : Array Value} {below : List Frame} {meth : Method} {c : Code} {locs : List Loc} {ls : Array Slot} (X : Cx Γ md s m meth c) (hE : ext h0 h) {U : State} (hH : HR Γ h U.heap) (hlo : ∀ q ∈ locs, (gs Γ).heap.size ≤ q.base) (hl : lv_has ls md.2.2.1 (cL Γ L)) (hL : okL h L) (hS : okS h S) (hb : bd h)
    (St : Stand (gp Γ) (gl Γ) (ge Γ) (Rm d h0) s m args below meth c U locs (nx h - nx h0).toNat (us h - us h0).toNat) {ig : Instr} {len : Nat} (hdg : decode c.code pc = .ok (ig, len)) {mk : MethodId} (hn : U.methodNamed? md2.1 = some mk)
    (kR : ∀ r h2, ext h h2 → okr md2.2.2.2.2.1 h2 r → KR2 r h2 → ∀ H2 locs2, HR Γ h2 H2 → (∀ q ∈ locs2, (gs Γ).heap.size ≤ q.base) → bd h2 → W (gp Γ) (gl Γ) (ge Γ) (Rm d h0) s m args below meth c H2 locs2 (nx h2 - nx h0).toNat (us h2 - us h0).toNat (Zt Γ md h0 KR KT below s) (F0 m (pc + len) ls ((rvO Γ md2.2.2.2.2.1 r).toList ++ S.map (cw Γ))))
    (kT : ∀ a h2 κ, ext h h2 → κ < 29 → okv h2 (κ + 10) a → a ≠ 0 → KT2 a h2 → Th Γ d md pc L h2 KR KT a) (hini : ∀ kY : Class, U.vm.classes[mk.cls]? = some kY → kY.init = .initialized) :
    ∃ t, Steps (gp Γ).tables (ge Γ) below (doInvoke (ge Γ) (U.setTop (F0 m pc ls (S.map (cw Γ)))) [] mk a).1 t ∧ Zt Γ md h0 KR KT below s t := by
  have hWs : (gs Γ).WarmedH U.vm := State.WarmedH.trans X.2.2.2.2.2.2.1 St.warmed
  have hcb : (cdC md2).before a U = true := g.word hcd hkc hWs a
  have hpre : (headSpec [cdC md2] (Rm d2 h)).pre.before a U = true := atoms_intro (ws := [cdC md2]) (fun w hw => by rw [List.mem_singleton.mp hw]; exact hcb)
  obtain ⟨methY, cY, hmY, hcY, -, hlY, -, -, -, -⟩ := cdC_spec hn hcb
  obtain ⟨kY, hkY, -⟩ := className_of_methodNamed hn
  have hinitY : kY.init = .initialized := hini kY hkY
  generalize hg : F0 m pc ls (S.map (cw Γ)) = gf
  have hgm : gf.method = m := by rw [← hg]
  have hA : At U gf.method c below := by rw [hgm]; exact St.here
  have hdg' : decode c.code gf.pc = .ok (ig, len) := by rw [← hg]; exact hdg
  have e0 := hE.1
  have e1 := hE.2.1
  have hroom := St.room_calling (g := gf) (R' := Rm d2 h) (args' := a) (by rw [← hg, X.2.2.2.1]; exact hl.1) hmY hcY (by show d2 + 1 ≤ d; exact hd2)
    (by
      rw [hlY, ← hg]
      show 2 * 0 + ((S.map (cw Γ)).map fun v => v.category).sum + (md2.2.2.1 + 11) + 400 * d2 ≤ 400 * d
      have := sumS Γ S
      omega)
    (by show (nx h - nx h0).toNat + (NM - nx h).toNat ≤ (NM - nx h0).toNat; have := hb.1; omega)
    (by show (us h - us h0).toNat + (UM - us h).toNat ≤ (UM - us h0).toNat; have := hb.2; omega)
  have happ : (headSpec [cdC md2] (Rm d2 h)).appliesLoose md2.1 (ge Γ).platform (U.calling gf mk a) = true := Spec.appliesLoose_calling (g := gf) hA hdg' hn hkY hinitY hroom hpre
  obtain ⟨mid, hmid⟩ := hA.above
  have hfr : (U.setTop gf).frames = (.java gf :: mid) ++ below := by rw [State.frames_setTop' gf hA.top, hmid]; rfl
  obtain ⟨o, s₂, hsteps, -, hend, hq⟩ := Steps.callFree M (gp Γ) St.admits St.cas St.clock (acts := []) hfr happ ⟨rfl, hWs, hH⟩ ⟨rfl, rfl⟩
  obtain ⟨hW₂, h2, hH2, hE2, hb2, ⟨L2, hsb, hL2⟩, hout⟩ := hq
  have hW₂ : (U.calling gf mk a).WarmedH s₂.vm := hW₂
  have hsb : (U.calling gf mk a).sameButNew ({ s₂ with vm := (U.calling gf mk a).vm } : State) L2 (nx h2 - nx h).toNat (us h2 - us h).toNat := hsb
  obtain ⟨e2, q2, q3, q4, q5, q6⟩ := hsb
  rw [State.frames_setTop' gf hA.top] at hend
  have e3 : s₂ = ({ (U.calling gf mk a).setFrames s₂.frames with heap := s₂.heap, slotsUsed := s₂.slotsUsed } : State).setVm s₂.vm := by
    have : s₂ = ({ s₂ with vm := (U.calling gf mk a).vm } : State).setVm s₂.vm := rfl
    rw [e2] at this
    exact this
  have hW' : U.WarmedH s₂.vm := hW₂
  obtain ⟨g₀, hg0⟩ := Option.isSome_iff_exists.mp hA.top
  obtain ⟨r, hr⟩ := State.topJava?_eq_some.mp hg0
  have hr' : (({ U with heap := s₂.heap, slotsUsed := s₂.slotsUsed } : State).setVm s₂.vm).frames = .java g₀ :: r := hr
  have hsame : U.sameButNew ({ U with heap := s₂.heap, slotsUsed := s₂.slotsUsed } : State) L2 (nx h2 - nx h).toNat (us h2 - us h).toNat := by
    refine ⟨?_, q2, q3, q4, q5, q6⟩
    obtain ⟨t, ht, -⟩ := State.frames_cons hr
    show ({ U with heap := s₂.heap, slotsUsed := s₂.slotsUsed } : State) = { U.setFrames U.frames with heap := s₂.heap, slotsUsed := s₂.slotsUsed }
    rw [State.setFrames_self ht]
  have St2 : Stand (gp Γ) (gl Γ) (ge Γ) (Rm d h0) s m args below meth c (({ U with heap := s₂.heap, slotsUsed := s₂.slotsUsed } : State).setVm s₂.vm) (locs ++ L2) ((nx h - nx h0).toNat + (nx h2 - nx h).toNat) ((us h - us h0).toNat + (us h2 - us h).toNat) :=
    ⟨St.admits, St.cas, St.clock, St.frames, St.room, St.hears, St.method, St.code, (St.here.setHeapUsed s₂.heap s₂.slotsUsed).setVm hW'.alike, St.tail, State.WarmedH.trans St.warmed hW', St.limits, St.bytes, St.same.trans (hsame.setVm s.vm)⟩
  have f0 := hE2.1
  have f1 := hE2.2.1
  rw [show (nx h - nx h0).toNat + (nx h2 - nx h).toNat = (nx h2 - nx h0).toNat by omega, show (us h - us h0).toNat + (us h2 - us h).toNat = (us h2 - us h0).toNat by omega] at St2
  have hlo2 : ∀ q ∈ locs ++ L2, (gs Γ).heap.size ≤ q.base := fun q hq => by
    rcases List.mem_append.mp hq with q | q
    · exact hlo _ q
    · exact hL2 _ q
  rcases hout with ⟨rv, rfl, hro, hk⟩ | ⟨x, κ, rfl, hx, hx0, hκ, hk⟩
  · obtain ⟨c₂, i₂, len₂, hc₂, hd₂, hf₂⟩ := hend
    have hcc : c₂ = c := by
      have h1 : s₂.code? gf.method = U.code? gf.method := by
        rw [State.code?_eq, State.code?_eq, hW'.alike.method?]
      exact Option.some.inj (hc₂.symm.trans (h1.trans hA.code))
    subst hcc
    have hlen : len₂ = len := by rw [hdg'] at hd₂; cases hd₂; rfl
    subst hlen
    have hs₂ : s₂ = (({ U with heap := s₂.heap, slotsUsed := s₂.slotsUsed } : State).setVm s₂.vm).setTop { gf with pc := gf.pc + len₂, stack := (rvO Γ md2.2.2.2.2.1 rv).toList ++ gf.stack } := by
      refine e3.trans ?_
      rw [hf₂, State.calling_eq hA.top, State.setFrames_setFrames, State.setTop_of_frames _ hr', hr]
      rfl
    obtain ⟨t, w1, w2⟩ := kR rv h2 hE2 hro hk s₂.heap (locs ++ L2) hH2 hlo2 hb2 (({ U with heap := s₂.heap, slotsUsed := s₂.slotsUsed } : State).setVm s₂.vm) rfl St2
    refine ⟨t, hsteps.trans ?_, w2⟩
    rw [hs₂, ← hg]
    exact w1
  · have hf₂ : s₂.frames = .throwing (ra Γ x) :: .java gf :: U.frames.tail := hend
    have hs₂ : s₂ = ((({ U with heap := s₂.heap, slotsUsed := s₂.slotsUsed } : State).setVm s₂.vm).setTop gf).pushFrame (.throwing (ra Γ x)) := by
      refine e3.trans ?_
      rw [hf₂, State.calling_eq hA.top, State.setFrames_setFrames, State.setTop_of_frames _ hr', State.pushFrame, State.setFrames_setFrames, State.frames_setFrames _ (State.cur_lt_of_frames hr'), hr]
      rfl
    obtain ⟨t, w1, w2⟩ := kT x h2 κ hE2 hκ hx hx0 hk h0 s m args below meth c s₂.heap (locs ++ L2) ls X (hE.tr hE2) hH2 hlo2 hl (hL.e hE2) hb2 (S.map (cw Γ)) (({ U with heap := s₂.heap, slotsUsed := s₂.slotsUsed } : State).setVm s₂.vm) rfl St2
    refine ⟨t, hsteps.trans ?_, w2⟩
    rw [hs₂, ← hg]
    exact w1
theorem call_end (g : GG Γ) {d2 : Nat} {md2 : MD} {vs : List Vl} {KR2 KT2 : Kt} (M : Mx Γ d2 md2 vs h KR2 KT2) (hok : okS h vs) (hd2 : d2 + 1 ≤ d) (hm2 : md2.2.2.1 ≤ 200) (hS40 : S.length ≤ 40)
    (hcd : cdC md2 ∈ lw_tbl) (hkc : keepW (cdC md2) = true) (hini : Cond.initialized md2.1.cls ∈ lw_tbl)
    {h0 : Hp} {s : State} {m : MethodId} {args : Array Value} {below : List Frame} {meth : Method} {c : Code} {locs : List Loc} {ls : Array Slot} (X : Cx Γ md s m meth c) (hE : ext h0 h) {U : State} (hH : HR Γ h U.heap) (hlo : ∀ q ∈ locs, (gs Γ).heap.size ≤ q.base) (hl : lv_has ls md.2.2.1 (cL Γ L)) (hL : okL h L) (hS : okS h S) (hb : bd h)
    (St : Stand (gp Γ) (gl Γ) (ge Γ) (Rm d h0) s m args below meth c U locs (nx h - nx h0).toNat (us h - us h0).toNat) {ig : Instr} {len : Nat} (hdg : decode c.code pc = .ok (ig, len)) {mk : MethodId} (hn : U.methodNamed? md2.1 = some mk)
    (kR : ∀ r h2, ext h h2 → okr md2.2.2.2.2.1 h2 r → KR2 r h2 → ∀ H2 locs2, HR Γ h2 H2 → (∀ q ∈ locs2, (gs Γ).heap.size ≤ q.base) → bd h2 → W (gp Γ) (gl Γ) (ge Γ) (Rm d h0) s m args below meth c H2 locs2 (nx h2 - nx h0).toNat (us h2 - us h0).toNat (Zt Γ md h0 KR KT below s) (F0 m (pc + len) ls ((rvO Γ md2.2.2.2.2.1 r).toList ++ S.map (cw Γ))))
    (kT : ∀ a h2 κ, ext h h2 → κ < 29 → okv h2 (κ + 10) a → a ≠ 0 → KT2 a h2 → Th Γ d md pc L h2 KR KT a) :
    ∃ t, Steps (gp Γ).tables (ge Γ) below (doInvoke (ge Γ) (U.setTop (F0 m pc ls (S.map (cw Γ)))) [] mk (vs.map (cw Γ)).toArray).1 t ∧ Zt Γ md h0 KR KT below s t :=
  call_endA g (M hok hb) hd2 hm2 hS40 hcd hkc X hE hH hlo hl hL hS hb St hdg hn kR kT (fun kY hkY => Cond.initialized_spec (findClass_of_methodNamed hn) hkY (g.word hini rfl (State.WarmedH.trans X.2.2.2.2.2.2.1 St.warmed) #[]))
end CALLS
