/-! HANDLERS -/
theorem fh_cold {E : CtlPost} {e : Env} {dd : Bool} {acts : List Action} {s : State} {f : JFrame} {a : Addr} {Q : Handler → Pre} {x : ExceptionTableEntry} {t : List ExceptionTableEntry} {c : ClassId} {vm' : Vm} {cell : Cell} (hx : covers x f.pc = true) (h0 : x.catchType ≠ 0) (hg : (Jvm.resolveClass f.method.cls x.catchType).Gives e.toSetting s.vm (.ok c) vm') (hsz : vm'.classes.size ≤ s.vm.classes.size) (hcell : s.heap[a]? = some cell) (hobj : ∀ k, cell.vm ≠ .statics k) (hk : ∃ k, vm'.classes[cell.cls]? = some k) (hc : ∃ k, vm'.classes[c]? = some k) :
    wp (findHandler.go f a (x :: t)) Q E e dd acts s ↔ if vm'.assignable cell.cls c = true then Q (.found x.handlerPc) dd acts (s.setVm vm') else wp (findHandler.go f a t) Q E e dd acts (s.setVm vm') := by
  simp only [covers] at hx
  obtain ⟨ha, ht⟩ := hg.op (op := VmOp.resolveClass f.method.cls x.catchType) rfl
  cases hfit : vm'.assignable cell.cls c <;> simp [findHandler.go, hx, h0, ha, ht, hsz, hcell, hobj, hk, hc, hfit, VmOp.dirties, VmOp.acts]
theorem sc_cold {e : Env} {s : State} {a : Addr} {f : JFrame} {r : List Frame} {pc : Nat} {vm' : Vm} (hfind : ∀ (Q : Handler → Pre) (E : CtlPost) (d : Bool) (acts : List Action), wp (findHandler f a) Q E e d acts s ↔ Q (.found pc) d acts (s.setVm vm')) :
    (stepThrowing e s a (.java f :: r)).Is ((s.setVm vm').setFrames (.java { f with pc := pc, stack := [.ref a] } :: r)) [] := by
  simp only [stepThrowing, searchFrame, vmDo]
  generalize hr : Sem.go _ e false [] s = res
  obtain ⟨as, rfl, ha⟩ := Sem.eq_ok_of hr (a := Handler.found pc) (s' := s.setVm vm') (acts' := []) (by simp [hfind _ _ _ _])
  exact ⟨rfl, ha⟩
theorem steps_cold {tb : Tables} {e : Env} {s target : State} {g : JFrame} {c : Code} {below : List Frame} {a : Addr} (h : At s g.method c below) {pc : Nat} {vm' : Vm} (hfind : ∀ (Q : Handler → Pre) (E : CtlPost) (d : Bool) (acts : List Action), wp (findHandler g a) Q E e d acts ((s.setTop g).pushFrame (.throwing a)) ↔ Q (.found pc) d acts (((s.setTop g).pushFrame (.throwing a)).setVm vm'))
    (hrest : Steps tb e below ((s.setVm vm').setTop { g with pc := pc, stack := [.ref a] }) target) :
    Steps tb e below ((s.setTop g).pushFrame (.throwing a)) target := by
  obtain ⟨hgo, hw⟩ := h.throwing a
  refine Steps.head hgo hw ?_
  rw [stepThread_throwing (frames_entered h.top _), (sc_cold (s := (s.setTop g).pushFrame (.throwing a)) hfind).1]
  obtain ⟨g₀, hg⟩ := Option.isSome_iff_exists.mp h.top
  obtain ⟨r, hr⟩ := State.topJava?_eq_some.mp hg
  have hr' : (s.setVm vm').frames = .java g₀ :: r := hr
  rw [State.setTop_of_frames _ hr'] at hrest
  have e1 : (((s.setTop g).pushFrame (.throwing a)).setVm vm').setFrames (.java { g with pc := pc, stack := [.ref a] } :: s.frames.tail) = (s.setVm vm').setFrames (.java { g with pc := pc, stack := [.ref a] } :: r) := by
    rw [hr]
    show (((s.setTop g).pushFrame (.throwing a)).setFrames _).setVm vm' = ((s.setFrames _).setVm vm')
    rw [State.pushFrame, State.setFrames_setFrames, State.setTop_of_frames _ hr, State.setFrames_setFrames]
    rfl
  rw [e1]
  exact hrest
def Catch (md : MD) (pc hpc κ : Nat) : Prop :=
  (∃ (b e t : Nat) (post : List (Nat × Nat × Nat × Nat)), md.2.2.2.2.2 = (b, e, hpc, t) :: post ∧ covers ⟨b, e, hpc, t⟩ pc = true ∧ t ≠ 0 ∧ Cond.classLink md.1.cls t (kname κ) ∈ lw_tbl) ∨
  ∃ (b e t b0 e0 h0 t0 : Nat) (C0 : String), md.2.2.2.2.2 = [(b0, e0, h0, t0), (b, e, hpc, t)] ∧ covers ⟨b, e, hpc, t⟩ pc = true ∧ t ≠ 0 ∧ t0 ≠ 0 ∧ Cond.classLink md.1.cls t (kname κ) ∈ lw_tbl ∧ Cond.classLink md.1.cls t0 C0 ∈ lw_tbl ∧ Cond.not (.castable (kname κ) C0) ∈ flatC narrow_1
section CATCH
variable {Γ : Gam} {d : Nat} {md : MD} {pc : Nat} {L : Lc} {S : List Vl} {h : Hp} {KR KT : Kt}
theorem Th_in (g : GG Γ) {κ : Nat} {a : Int} {hpc : Nat} (C : Catch md pc hpc κ) (hκ : Nat.blt κ 29 = true) (hkn : kn h a = κ) (k : Rr Γ d md hpc L [(κ + 10, a)] h KR KT) : thr Γ d md KR KT pc L a h := by
  unfold thr
  have hcov : (tableOf md.2.2.2.2.2).all (fun x => !covers x pc) = false := by
    rcases C with ⟨b, e, t, post, c1, c2, -⟩ | ⟨b, e, t, b0, e0, h0, t0, C0, c1, c2, -⟩
    · rw [c1]
      show (!covers ⟨b, e, hpc, t⟩ pc && _) = false
      rw [c2]
      rfl
    · rw [c1]
      show (!covers ⟨b0, e0, h0, t0⟩ pc && (!covers ⟨b, e, hpc, t⟩ pc && true)) = false
      rw [c2]
      simp
  rw [hcov]
  show ∀ κ' : Nat, κ' < 29 → okv h (κ' + 10) a → a ≠ 0 → Th Γ d md pc L h KR KT a
  intro κ' hκ' ha ha0
  have e' : κ' = κ := by
    rcases ha with ha | ⟨-, -, h3⟩
    · exact absurd ha ha0
    · have := h3.symm.trans hkn
      exact Int.ofNat.inj this
  subst e'
  intro h0 s m args below meth c H locs ls X hE hH hlo hl hL hb stk T hT St
  obtain ⟨a64, an, ak, ⟨cell, p1, p2, p3, -⟩, -⟩ := HR.obj g hH hκ' ha ha0
  have hW := X.2.2.2.2.2.2.1
  have hpl : (ge Γ).platform.magicAccessors = ({} : Platform).magicAccessors := by rw [St.admits.platform]
  obtain ⟨hfc, kC, hkC, -⟩ := (g.kn_at hκ' hW).2
  have ent : ∀ (t : Nat) (C : String), Cond.classLink md.1.cls t C ∈ lw_tbl → ∀ vm : Vm, s.WarmedH vm → ∃ c', s.vm.findClass C = some c' ∧ (Jvm.resolveClass m.cls t).Gives (ge Γ).toSetting vm (.ok c') (vm.noted m.cls t (.cls c')) ∧ s.WarmedH (vm.noted m.cls t (.cls c')) ∧ ∃ k', s.vm.classes[c']? = some k' := by
    intro t C hw vm hWv
    obtain ⟨c', hc', hcl⟩ := Cond.classLink_spec X.2.2.2.2.1 (g.word hw rfl hW args) (ge Γ).platform hpl
    obtain ⟨dk, cf, nm, ck, hd, y2, y3, y4, y5, y6, y7, y8⟩ := hcl.here
    exact ⟨c', hc', resolveClass_links (ge Γ).toSetting (hWv.classLinks hcl), hWv.noted hd y8 (State.rightAt_cls hcl), ck, y6⟩
  have hcellU : ((T.setTop (F0 m pc ls stk)).pushFrame (.throwing (ra Γ a))).heap[ra Γ a]? = some cell := by rw [Stand.throwing_heap, hT]; exact p1
  have hobj : ∀ k, cell.vm ≠ .statics k := fun z hz => by rw [p3] at hz; cases hz
  have fin_ : ∀ vm' : Vm, s.WarmedH vm' → (∀ (Q : Handler → Pre) (E : CtlPost) (dd : Bool) (acts : List Action), wp (findHandler (F0 m pc ls stk) (ra Γ a)) Q E (ge Γ) dd acts ((T.setTop (F0 m pc ls stk)).pushFrame (.throwing (ra Γ a))) ↔ Q (.found hpc) dd acts (((T.setTop (F0 m pc ls stk)).pushFrame (.throwing (ra Γ a))).setVm vm')) →
      ∃ t, Steps (gp Γ).tables (ge Γ) below ((T.setTop (F0 m pc ls stk)).pushFrame (.throwing (ra Γ a))) t ∧ Zt Γ md h0 KR KT below s t := by
    intro vm' hW' hf
    have X1 := St.noted hW'
    have K := k h0 s m args below meth c H locs ls X hE hH hlo hl hL (fun v hv => by rw [List.mem_singleton.mp hv]; exact ha) hb
    have K : W _ _ _ _ _ _ _ _ _ _ _ _ _ _ _ (F0 m hpc ls [cv Γ (κ' + 1 + 9) a]) := K
    rw [cv_refN Γ _ ha0] at K
    obtain ⟨t, w1, w2⟩ := K (T.setVm vm') hT X1
    exact ⟨t, steps_cold (g := F0 m pc ls stk) St.here hf w1, w2⟩
  have hmU : ((T.setTop (F0 m pc ls stk)).pushFrame (.throwing (ra Γ a))).vm.method? (F0 m pc ls stk).method = some meth := by rw [Stand.throwing_vm, St.warmed.alike.method?]; exact St.method
  have hcU : meth.code = some c := St.code
  have clsAt : ∀ {vm' : Vm} {c' : ClassId} {k' : Class}, s.WarmedH vm' → s.vm.classes[c']? = some k' → ∃ k'', vm'.classes[c']? = some k'' := fun hW' hk' => by
    obtain ⟨k'', q, -⟩ := hW'.alike.2.2 _ _ hk'
    exact ⟨k'', q⟩
  have hkc : s.vm.classes[cell.cls]? = some kC := by rw [p2]; exact hkC
  rcases C with ⟨b, e, t, post, c1, c2, c3, c4⟩ | ⟨b, e, t, b0, e0, h0', t0, C0, c1, c2, c3, c3', c4, c5, c6⟩
  · obtain ⟨c', f1, f2, f3, k', f4⟩ := ent t _ c4 T.vm St.warmed
    cases Option.some.inj (f1.symm.trans hfc)
    refine fin_ _ f3 (fun Q E dd acts => ?_)
    rw [W.findHandler_eq hmU hcU, X.2.2.2.2.2.2.2.1, c1]
    show wp (findHandler.go _ _ (⟨b, e, hpc, t⟩ :: _)) _ _ _ _ _ _ ↔ _
    rw [fh_cold (x := ⟨b, e, hpc, t⟩) (vm' := T.vm.noted m.cls t (.cls (gC Γ κ'))) c2 c3 (by rw [Stand.throwing_vm]; exact f2) (by rw [Stand.throwing_vm]; simp [Vm.size_noted]) hcellU hobj (clsAt f3 hkc) (clsAt f3 f4), if_pos (by rw [f3.alike.assignable, p2]; exact va_asg _ _)]
  · obtain ⟨c0, f1, f2, f3, k', f4⟩ := ent t0 _ c5 T.vm St.warmed
    obtain ⟨c', f5, f6, f7, k'', f8⟩ := ent t _ c4 _ f3
    cases Option.some.inj (f5.symm.trans hfc)
    obtain ⟨a0, n1, -⟩ := g.nar
    obtain ⟨x1, x2, y1, y2, y3⟩ := va_Nc.moved hW.alike (va_Nc.of (n1 _ c6))
    cases Option.some.inj (y1.symm.trans hfc)
    cases Option.some.inj (y2.symm.trans f1)
    cases hc0 : covers ⟨b0, e0, h0', t0⟩ pc with
    | true =>
      refine fin_ _ f7 (fun Q E dd acts => ?_)
      rw [W.findHandler_eq hmU hcU, X.2.2.2.2.2.2.2.1, c1]
      show wp (findHandler.go _ _ [⟨b0, e0, h0', t0⟩, ⟨b, e, hpc, t⟩]) _ _ _ _ _ _ ↔ _
      rw [fh_cold (x := ⟨b0, e0, h0', t0⟩) (vm' := T.vm.noted m.cls t0 (.cls c0)) hc0 c3' (by rw [Stand.throwing_vm]; exact f2) (by rw [Stand.throwing_vm]; simp [Vm.size_noted]) hcellU hobj (clsAt f3 hkc) (clsAt f3 f4), if_neg (by rw [f3.alike.assignable, p2, y3]; decide),
        fh_cold (s := ((T.setTop (F0 m pc ls stk)).pushFrame (.throwing (ra Γ a))).setVm (T.vm.noted m.cls t0 (.cls c0))) (x := ⟨b, e, hpc, t⟩) (vm' := (T.vm.noted m.cls t0 (.cls c0)).noted m.cls t (.cls (gC Γ κ'))) c2 c3 f6 (by simp [Vm.size_noted]) hcellU hobj (clsAt f7 hkc) (clsAt f7 f8), if_pos (by rw [f7.alike.assignable, p2]; exact va_asg _ _)]
      rfl
    | false =>
      obtain ⟨c', f5, f6, f7, k'', f8⟩ := ent t _ c4 T.vm St.warmed
      cases Option.some.inj (f5.symm.trans hfc)
      refine fin_ _ f7 (fun Q E dd acts => ?_)
      rw [W.findHandler_eq hmU hcU, X.2.2.2.2.2.2.2.1, c1]
      show wp (findHandler.go _ _ [⟨b0, e0, h0', t0⟩, ⟨b, e, hpc, t⟩]) _ _ _ _ _ _ ↔ _
      rw [W.findHandler_go_skip (x := ⟨b0, e0, h0', t0⟩) hc0, fh_cold (x := ⟨b, e, hpc, t⟩) (vm' := T.vm.noted m.cls t (.cls (gC Γ κ'))) c2 c3 (by rw [Stand.throwing_vm]; exact f6) (by rw [Stand.throwing_vm]; simp [Vm.size_noted]) hcellU hobj (clsAt f7 hkc) (clsAt f7 f8), if_pos (by rw [f7.alike.assignable, p2]; exact va_asg _ _)]
end CATCH
