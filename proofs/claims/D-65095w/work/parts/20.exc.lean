/-! EXCEPTIONS: their constructors (a launch without stack traces), handlers -/
section EXC
variable {Γ : Gam} {d : Nat} {md : MD} {pc : Nat} {L : Lc} {S : List Vl} {h : Hp} {KR KT : Kt} {r : List El} {fin : Nat × List Nat}
theorem GG.layS (g : GG Γ) {C n ds : String} (hw : Cond.laysStatic C n ds ∈ lw_tbl) {s : State} (hW : (gs Γ).WarmedH s.vm) (hO : ∀ q : Nat, q < (gs Γ).heap.size → s.heap[q]? = (gs Γ).heap[q]?) (args : Array Value) : (Cond.laysStatic C n ds).before args s = true := by
  obtain ⟨a0, h0⟩ := g.2.1
  obtain ⟨c, k, i, f, a, cell, h1, h2, h3, h4, h5, h6, h7, h8, h9⟩ := Cond.laysStatic_spec (h0 _ hw)
  obtain ⟨k', h2', he⟩ := State.fieldFound?_setVm hW.alike h2
  have h2' : s.fieldFound? C n ds = some (c, k', i, f) := h2'
  have h5' : s.heap[a]? = some cell := by rw [hO a (Array.getElem?_eq_some_iff.mp h5).1]; exact h5
  have e1 : k'.statics = some a := by rw [he]; exact h4
  have e2 : k'.staticTypes[f.slot]? = some f.type := by rw [he]; exact h9
  have e3 : s.vm.findClass C = some c := by rw [hW.alike.findClass]; exact h1
  simp [Cond.before, Cond.holds, Cond.value, e3, h2', e1, h5', h3, h6, h7, h8, e2]
theorem GG.thA (g : GG Γ) {s : State} (hW : (gs Γ).WarmedH s.vm) (hO : ∀ q : Nat, q < (gs Γ).heap.size → s.heap[q]? = (gs Γ).heap[q]?) (args : Array Value) : ∀ w ∈ Bundle.throwableAtoms, w.before args s = true := List.forall_mem_cons.2 ⟨g.word (wat_in (q := (1, 31)) rfl) rfl hW args, List.forall_mem_cons.2 ⟨g.word (wat_in (q := (5, 132)) rfl) rfl hW args, List.forall_mem_cons.2 ⟨g.word (wat_in (q := (5, 141)) rfl) rfl hW args, List.forall_mem_cons.2 ⟨g.word (wat_in (q := (5, 145)) rfl) rfl hW args, List.forall_mem_cons.2 ⟨g.word (wat_in (q := (5, 148)) rfl) rfl hW args, List.forall_mem_cons.2 ⟨g.word (wat_in (q := (5, 150)) rfl) rfl hW args, List.forall_mem_cons.2 ⟨g.word (wat_in (q := (5, 133)) rfl) rfl hW args, List.forall_mem_cons.2 ⟨g.word (wat_in (q := (5, 134)) rfl) rfl hW args, List.forall_mem_cons.2 ⟨g.word (wat_in (q := (1, 54)) rfl) rfl hW args, List.forall_mem_cons.2 ⟨g.word (wat_in (q := (1, 55)) rfl) rfl hW args, List.forall_mem_cons.2 ⟨g.word (wat_in (q := (5, 135)) rfl) rfl hW args, List.forall_mem_cons.2 ⟨g.word (wat_in (q := (5, 140)) rfl) rfl hW args, List.forall_mem_cons.2 ⟨g.word (wat_in (q := (5, 146)) rfl) rfl hW args, List.forall_mem_cons.2 ⟨g.word (wat_in (q := (5, 167)) rfl) rfl hW args, List.forall_mem_cons.2 ⟨g.word (wat_in (q := (5, 122)) rfl) rfl hW args, List.forall_mem_cons.2 ⟨g.word (wat_in (q := (5, 168)) rfl) rfl hW args, List.forall_mem_cons.2 ⟨g.word (wat_in (q := (5, 124)) rfl) rfl hW args, List.forall_mem_cons.2 ⟨g.word (wat_in (q := (5, 169)) rfl) rfl hW args, List.forall_mem_cons.2 ⟨g.word (wat_in (q := (5, 126)) rfl) rfl hW args, List.forall_mem_cons.2 ⟨g.word (wat_in (q := (5, 136)) rfl) rfl hW args, List.forall_mem_cons.2 ⟨g.layS (wat_in (q := (5, 137)) rfl) hW hO args, List.forall_mem_cons.2 ⟨g.word (wat_in (q := (5, 138)) rfl) rfl hW args, List.forall_mem_cons.2 ⟨g.layS (wat_in (q := (5, 139)) rfl) hW hO args, List.forall_mem_cons.2 ⟨g.word (wat_in (q := (5, 128)) rfl) rfl hW args, fun _ h => nomatch h⟩⟩⟩⟩⟩⟩⟩⟩⟩⟩⟩⟩⟩⟩⟩⟩⟩⟩⟩⟩⟩⟩⟩⟩
theorem GG.thS (g : GG Γ) {s : State} (hW : (gs Γ).WarmedH s.vm) (args : Array Value) : ∀ w ∈ Bundle.throwableSAtoms, w.before args s = true := List.forall_mem_cons.2 ⟨g.word (wat_in (q := (5, 159)) rfl) rfl hW args, List.forall_mem_cons.2 ⟨g.word (wat_in (q := (5, 160)) rfl) rfl hW args, List.forall_mem_cons.2 ⟨g.word (wat_in (q := (5, 166)) rfl) rfl hW args, List.forall_mem_cons.2 ⟨g.word (wat_in (q := (5, 128)) rfl) rfl hW args, fun _ h => nomatch h⟩⟩⟩⟩
theorem GG.ch25 (g : GG Γ) {s : State} (hW : (gs Γ).WarmedH s.vm) (args : Array Value) : ∀ w ∈ Bundle.chain0Atoms "java/lang/IllegalStateException" ["java/lang/RuntimeException", "java/lang/Exception"], w.before args s = true := List.forall_mem_cons.2 ⟨g.word (wat_in (q := (7, 153)) rfl) rfl hW args, List.forall_mem_cons.2 ⟨g.word (wat_in (q := (7, 154)) rfl) rfl hW args, List.forall_mem_cons.2 ⟨g.word (wat_in (q := (7, 155)) rfl) rfl hW args, List.forall_mem_cons.2 ⟨g.word (wat_in (q := (7, 156)) rfl) rfl hW args, List.forall_mem_cons.2 ⟨g.declares (wat_in (q := (7, 144)) rfl) hW args, List.forall_mem_cons.2 ⟨g.word (wat_in (q := (7, 156)) rfl) rfl hW args, List.forall_mem_cons.2 ⟨g.word (wat_in (q := (7, 157)) rfl) rfl hW args, List.forall_mem_cons.2 ⟨g.word (wat_in (q := (7, 158)) rfl) rfl hW args, List.forall_mem_cons.2 ⟨g.word (wat_in (q := (7, 159)) rfl) rfl hW args, List.forall_mem_cons.2 ⟨g.declares (wat_in (q := (5, 115)) rfl) hW args, List.forall_mem_cons.2 ⟨g.word (wat_in (q := (7, 159)) rfl) rfl hW args, List.forall_mem_cons.2 ⟨g.word (wat_in (q := (7, 160)) rfl) rfl hW args, List.forall_mem_cons.2 ⟨g.word (wat_in (q := (7, 161)) rfl) rfl hW args, List.forall_mem_cons.2 ⟨g.word (wat_in (q := (5, 133)) rfl) rfl hW args, List.forall_mem_cons.2 ⟨g.declares (wat_in (q := (5, 117)) rfl) hW args, fun _ h => nomatch h⟩⟩⟩⟩⟩⟩⟩⟩⟩⟩⟩⟩⟩⟩⟩
theorem GG.ch26 (g : GG Γ) {s : State} (hW : (gs Γ).WarmedH s.vm) (args : Array Value) : ∀ w ∈ Bundle.chain0Atoms "java/lang/IllegalArgumentException" ["java/lang/RuntimeException", "java/lang/Exception"], w.before args s = true := List.forall_mem_cons.2 ⟨g.word (wat_in (q := (7, 183)) rfl) rfl hW args, List.forall_mem_cons.2 ⟨g.word (wat_in (q := (7, 184)) rfl) rfl hW args, List.forall_mem_cons.2 ⟨g.word (wat_in (q := (7, 185)) rfl) rfl hW args, List.forall_mem_cons.2 ⟨g.word (wat_in (q := (7, 156)) rfl) rfl hW args, List.forall_mem_cons.2 ⟨g.declares (wat_in (q := (7, 144)) rfl) hW args, List.forall_mem_cons.2 ⟨g.word (wat_in (q := (7, 156)) rfl) rfl hW args, List.forall_mem_cons.2 ⟨g.word (wat_in (q := (7, 157)) rfl) rfl hW args, List.forall_mem_cons.2 ⟨g.word (wat_in (q := (7, 158)) rfl) rfl hW args, List.forall_mem_cons.2 ⟨g.word (wat_in (q := (7, 159)) rfl) rfl hW args, List.forall_mem_cons.2 ⟨g.declares (wat_in (q := (5, 115)) rfl) hW args, List.forall_mem_cons.2 ⟨g.word (wat_in (q := (7, 159)) rfl) rfl hW args, List.forall_mem_cons.2 ⟨g.word (wat_in (q := (7, 160)) rfl) rfl hW args, List.forall_mem_cons.2 ⟨g.word (wat_in (q := (7, 161)) rfl) rfl hW args, List.forall_mem_cons.2 ⟨g.word (wat_in (q := (5, 133)) rfl) rfl hW args, List.forall_mem_cons.2 ⟨g.declares (wat_in (q := (5, 117)) rfl) hW args, fun _ h => nomatch h⟩⟩⟩⟩⟩⟩⟩⟩⟩⟩⟩⟩⟩⟩⟩
theorem GG.ch22 (g : GG Γ) {s : State} (hW : (gs Γ).WarmedH s.vm) (args : Array Value) : ∀ w ∈ Bundle.chainSAtoms "java/lang/Exception" [], w.before args s = true := List.forall_mem_cons.2 ⟨g.word (wat_in (q := (5, 156)) rfl) rfl hW args, List.forall_mem_cons.2 ⟨g.word (wat_in (q := (5, 157)) rfl) rfl hW args, List.forall_mem_cons.2 ⟨g.word (wat_in (q := (5, 158)) rfl) rfl hW args, List.forall_mem_cons.2 ⟨g.word (wat_in (q := (5, 159)) rfl) rfl hW args, List.forall_mem_cons.2 ⟨g.declares (wat_in (q := (5, 118)) rfl) hW args, fun _ h => nomatch h⟩⟩⟩⟩⟩
def excR (X : String) (n : Nat) : List Cond := [.instantiable X n, .selects X Bundle.tFill0 Bundle.tFill0, .selects X Bundle.tFill Bundle.tFill, .lays X Bundle.tN "cause" "Ljava/lang/Throwable;", .lays X Bundle.tN "stackTrace" Bundle.steD, .lays X Bundle.tN "suppressedExceptions" Bundle.listD, .lays X Bundle.tN "detailMessage" "Ljava/lang/String;", .fieldLink Bundle.tN 198 Bundle.tN "backtrace" "Ljava/lang/Object;", .lays Bundle.tN Bundle.tN "backtrace" "Ljava/lang/Object;", .lays X Bundle.tN "backtrace" "Ljava/lang/Object;"]
theorem GG.re25 (g : GG Γ) {s : State} (hW : (gs Γ).WarmedH s.vm) (args : Array Value) : ∀ w ∈ excR "java/lang/IllegalStateException" 6, w.before args s = true := List.forall_mem_cons.2 ⟨g.word (wat_in (q := (7, 142)) rfl) rfl hW args, List.forall_mem_cons.2 ⟨g.word (wat_in (q := (7, 146)) rfl) rfl hW args, List.forall_mem_cons.2 ⟨g.word (wat_in (q := (5, 144)) rfl) rfl hW args, List.forall_mem_cons.2 ⟨g.word (wat_in (q := (7, 147)) rfl) rfl hW args, List.forall_mem_cons.2 ⟨g.word (wat_in (q := (7, 148)) rfl) rfl hW args, List.forall_mem_cons.2 ⟨g.word (wat_in (q := (7, 149)) rfl) rfl hW args, List.forall_mem_cons.2 ⟨g.word (wat_in (q := (7, 150)) rfl) rfl hW args, List.forall_mem_cons.2 ⟨g.word (wat_in (q := (5, 131)) rfl) rfl hW args, List.forall_mem_cons.2 ⟨g.word (wat_in (q := (5, 130)) rfl) rfl hW args, List.forall_mem_cons.2 ⟨g.word (wat_in (q := (7, 151)) rfl) rfl hW args, fun _ h => nomatch h⟩⟩⟩⟩⟩⟩⟩⟩⟩⟩
theorem GG.re26 (g : GG Γ) {s : State} (hW : (gs Γ).WarmedH s.vm) (args : Array Value) : ∀ w ∈ excR "java/lang/IllegalArgumentException" 6, w.before args s = true := List.forall_mem_cons.2 ⟨g.word (wat_in (q := (7, 174)) rfl) rfl hW args, List.forall_mem_cons.2 ⟨g.word (wat_in (q := (7, 176)) rfl) rfl hW args, List.forall_mem_cons.2 ⟨g.word (wat_in (q := (5, 143)) rfl) rfl hW args, List.forall_mem_cons.2 ⟨g.word (wat_in (q := (7, 177)) rfl) rfl hW args, List.forall_mem_cons.2 ⟨g.word (wat_in (q := (7, 178)) rfl) rfl hW args, List.forall_mem_cons.2 ⟨g.word (wat_in (q := (7, 179)) rfl) rfl hW args, List.forall_mem_cons.2 ⟨g.word (wat_in (q := (7, 180)) rfl) rfl hW args, List.forall_mem_cons.2 ⟨g.word (wat_in (q := (5, 131)) rfl) rfl hW args, List.forall_mem_cons.2 ⟨g.word (wat_in (q := (5, 130)) rfl) rfl hW args, List.forall_mem_cons.2 ⟨g.word (wat_in (q := (7, 181)) rfl) rfl hW args, fun _ h => nomatch h⟩⟩⟩⟩⟩⟩⟩⟩⟩⟩
theorem GG.re22 (g : GG Γ) {s : State} (hW : (gs Γ).WarmedH s.vm) (args : Array Value) : ∀ w ∈ excR "KeptHouse$Fault" 8, w.before args s = true := List.forall_mem_cons.2 ⟨g.word (wat_in (q := (5, 113)) rfl) rfl hW args, List.forall_mem_cons.2 ⟨g.word (wat_in (q := (5, 119)) rfl) rfl hW args, List.forall_mem_cons.2 ⟨g.word (wat_in (q := (5, 120)) rfl) rfl hW args, List.forall_mem_cons.2 ⟨g.word (wat_in (q := (5, 121)) rfl) rfl hW args, List.forall_mem_cons.2 ⟨g.word (wat_in (q := (5, 123)) rfl) rfl hW args, List.forall_mem_cons.2 ⟨g.word (wat_in (q := (5, 125)) rfl) rfl hW args, List.forall_mem_cons.2 ⟨g.word (wat_in (q := (5, 127)) rfl) rfl hW args, List.forall_mem_cons.2 ⟨g.word (wat_in (q := (5, 131)) rfl) rfl hW args, List.forall_mem_cons.2 ⟨g.word (wat_in (q := (5, 130)) rfl) rfl hW args, List.forall_mem_cons.2 ⟨g.word (wat_in (q := (5, 129)) rfl) rfl hW args, fun _ h => nomatch h⟩⟩⟩⟩⟩⟩⟩⟩⟩⟩
theorem HR.sameO {H H2 : Heap} (hH : HR Γ h H) {a : Int} (a64 : 64 ≤ a) (hc : CR Γ h H2 a) (e2 : H2.size = H.size) (e3 : ∀ q, q ≠ ra Γ a → H2[q]? = H[q]?) : HR Γ h H2 := by
  refine ⟨hH.1, by rw [e2]; exact hH.2.1, fun q hq => ?_, fun b b64 bn => ?_, hH.2.2.2.2⟩
  · rw [e3 q (by rw [ra_new a64]; omega)]
    exact hH.2.2.1 q hq
  · by_cases hb : b = a
    · subst hb
      exact hc
    · exact (hH.2.2.2.1 b b64 bn).keep (ext.rf h) (fun _ => rfl) (e3 _ (by rw [ra_new b64, ra_new a64]; omega))
theorem takes_of {s : State} {c : Nat} {k : Class} {f : Field} {v : Value} {cell : Cell} (hk : s.vm.classes[c]? = some k) (hord : k.kind = .ordinary) (hty : k.instanceTypes[f.slot]? = some f.type) (hv : fits f.type v = true) (e1 : cell.cls = c) (e2 : cell.vm = .none) (e3 : cell.slots.size = k.instanceTypes.size) : Takes s cell f v := by
  refine ⟨by rw [e3]; exact (Array.getElem?_eq_some_iff.mp hty).1, ?_⟩
  rw [e1, e2]
  exact (Takes.of_laid hk hord hty hv).2
/-- a static of Throwable's -/
theorem GG.thStat (g : GG Γ) {n ds : String} (hw : Cond.laysStatic "java/lang/Throwable" n ds ∈ lw_tbl) (hr : Cond.isRef (.static "java/lang/Throwable" n ds) ∈ flatC narrow_1) {s : State} (hW : (gs Γ).WarmedH s.vm) {H : Heap} (hH : HR Γ h H) {cf fi aS : Nat} {kf : Class} {f : Field} (hf : s.fieldFound? "java/lang/Throwable" n ds = some (cf, kf, fi, f)) (hs : kf.statics = some aS) : ∃ (u : RefV) (cell : Cell), H[aS]? = some cell ∧ cell.vm ≠ .unknown ∧ aS < (gs Γ).heap.size ∧ cell.slots[f.slot]? = some u.v := by
  obtain ⟨a0, n1, -⟩ := g.nar
  have Z0 : va_Zq "java/lang/Throwable" n ds (Old Γ) (gs Γ) (gs Γ).heap := va_Zqof (show (Cond.laysStatic "java/lang/Throwable" n ds).before a0 (gs Γ) = true from g.2.1.choose_spec _ hw) (g.word (wat_in (q := (1, 31)) rfl) rfl (State.WarmedH.refl _) a0) (n1 _ hr) (fun _ => notOld)
  have go : ∀ v : Value, v.isRef = true → va_Z "java/lang/Throwable" n ds v (Old Γ) (gs Γ) (gs Γ).heap → ∃ (u : RefV) (cell : Cell), H[aS]? = some cell ∧ cell.vm ≠ .unknown ∧ aS < (gs Γ).heap.size ∧ cell.slots[f.slot]? = some u.v := by
    intro v hv Z
    obtain ⟨cf', kf', fi', f', q, cell, z1, z2, z3, z4, z5, z6, z7, z8⟩ := (va_Z.moved hW.alike Z).kept (H1 := H) (fun q hq _ => hH.2.2.1 q hq)
    cases Option.some.inj (hf.symm.trans z1)
    cases Option.some.inj (hs.symm.trans z4)
    exact ⟨⟨v, hv⟩, cell, z5, (fun z => by rw [z] at z6; cases z6), Nat.lt_of_not_le z8, z7⟩
  rcases Z0 with Z0 | ⟨t, Z0⟩
  · exact go .null rfl Z0
  · exact go (.ref t) rfl Z0
def excN : Nat → String
  | 25 => "java/lang/IllegalStateException"
  | _ => "java/lang/IllegalArgumentException"
theorem q_exc0 (g : GG Γ) {κ i : Nat} {a : Int} (C : Cond.methodLink md.1.cls i ⟨excN κ, "<init>", "()V"⟩ ∈ lw_tbl) (o : decB md pc (ee (.invokespecial i) 3 :: r) fin = true) (eκ : (κ == 25 || κ == 26) = true) (e : Nat.ble S.length 40 = true) (ha : a ≠ 0) (hz : rd h a 0 = 0) (hd6 : 6 ≤ d)
    (k : decB md (pc + 3) r fin = true → Rr Γ d md (pc + 3) L S h KR KT) : Rr Γ d md pc L ((κ + 10, a) :: S) h KR KT := by
  intro h0 s m args below meth c H locs ls X hE hH hlo hl hL hSS hb
  have hS := hSS.t
  have hW := X.2.2.2.2.2.2.1
  have hO := X.2.2.2.2.2.2.2.2
  have hκ : κ = 25 ∨ κ = 26 := by simpa using eκ
  have hcls : kname κ = excN κ ∧ kN κ = 6 ∧ kF κ = 1 ∧ kft κ 0 = 9 ∧ kT κ 0 = ("java/lang/Throwable", "backtrace", "Ljava/lang/Object;", false) ∧ κ < 29 ∧ Bundle.fit (excN κ) = true := by
    rcases hκ with rfl | rfl
    · exact ⟨rfl, rfl, rfl, rfl, rfl, by decide, by decide +kernel⟩
    · exact ⟨rfl, rfl, rfl, rfl, rfl, by decide, by decide +kernel⟩
  obtain ⟨e1, e2, e3, e4, e5, e6, e7⟩ := hcls
  obtain ⟨a64, an, ak, -, -⟩ := HR.obj g hH e6 (a := a) hSS.h ha
  obtain ⟨κ', q1, hc⟩ := hH.2.2.2.1 a a64 an
  have q2 : κ' = κ := by have := q1.symm.trans ak; exact Int.ofNat.inj this
  subst q2
  rcases hc with ⟨-, ⟨cell, p1, p2, p3, p4⟩, c2, ⟨cell', m1, m2, m3, m4⟩⟩ | ⟨c1, -⟩
  case inr => omega
  cases Option.some.inj (p1.symm.trans m1)
  have hbt : cell.slots[gI Γ κ' 0]? = some .null := by
    rw [p4 0 (by omega)]
    show some (cv Γ (kft κ' 0) (rd h a 0)) = _
    rw [e4, hz]
    rfl
  have A2 : ∀ w ∈ Bundle.chain0Atoms (excN κ') ["java/lang/RuntimeException", "java/lang/Exception"], w.before args s = true := by
    rcases hκ with rfl | rfl
    · exact g.ch25 hW args
    · exact g.ch26 hW args
  have A3 : ∀ w ∈ excR (excN κ') 6, w.before args s = true := by
    rcases hκ with rfl | rfl
    · exact g.re25 hW args
    · exact g.re26 hW args
  intro T' hT St
  have howns : (ge Γ).platform.frameOwnsMonitors = true := by rw [St.admits.platform]
  have hfin : (ge Γ).platform.finalization = false := by rw [St.admits.platform]
  have hpl : (ge Γ).platform.magicAccessors = ({} : Platform).magicAccessors := by rw [St.admits.platform]
  have htr : (ge Γ).platform.stackTraces = false := by rw [St.admits.platform]; exact g.2.2.2.2.2.2.2.1
  obtain ⟨T, Z, LT, LZ, Y⟩ := ThrowableC.of_atoms (args := args) (s := s) howns hfin hpl (g.thA hW hO args)
  obtain ⟨P1, Ps, hlen, L1, hLs, hP1m, hlink1, hlink⟩ := Bundle.chain0 (args := args) hpl Y.init0 ["java/lang/RuntimeException", "java/lang/Exception"] (excN κ') e7 (by decide +kernel) A2
  have hfound : s.vm.findClass (excN κ') = some P1.m.cls := findClass_of_methodNamed hP1m
  have hkn := g.kn_at e6 hW
  have hgc : P1.m.cls = gC Γ κ' := by
    have := hkn.2.1
    rw [e1] at this
    exact Option.some.inj (hfound.symm.trans this)
  have hcc : cell.cls = P1.m.cls := by rw [hgc]; exact p2
  obtain ⟨c1, kX, hc1, hk, hord, -, -, hn6⟩ := Cond.instantiable_spec (A3 (.instantiable (excN κ') 6) (by simp [excR]))
  cases Option.some.inj (hc1.symm.trans hfound)
  have hsz : cell.slots.size = kX.instanceTypes.size := by rw [m4, e2, hn6]
  have hsel0 : selectMethod (ge Γ).platform s.vm cell.cls T.fill0 = .method T.fill0 := by
    obtain ⟨c2, r2, m2, q1, q2, q3, q4, -⟩ := Cond.selects_spec (A3 (.selects (excN κ') Bundle.tFill0 Bundle.tFill0) (by simp [excR]))
    cases Option.some.inj (q1.symm.trans hfound)
    cases Option.some.inj (q2.symm.trans (State.methodFound?_of_named Y.fill0 (by decide)))
    cases Option.some.inj (q3.symm.trans Y.fill0)
    rw [Launch.admits_selectMethod St.admits, hcc]; exact q4
  have hselF : selectMethod (ge Γ).platform s.vm cell.cls T.fill = .method T.fill := by
    obtain ⟨c2, r2, m2, q1, q2, q3, q4, -⟩ := Cond.selects_spec (A3 (.selects (excN κ') Bundle.tFill Bundle.tFill) (by simp [excR]))
    cases Option.some.inj (q1.symm.trans hfound)
    cases Option.some.inj (q2.symm.trans (State.methodFound?_of_named Y.fill (by decide)))
    cases Option.some.inj (q3.symm.trans Y.fill)
    rw [Launch.admits_selectMethod St.admits, hcc]; exact q4
  obtain ⟨u0, cellS, s1, s2, s3, s4⟩ := g.thStat (wat_in (q := (5, 137)) rfl) (List.mem_of_getElem? (i := 48) rfl) hW hH Y.unassigned LT.statics
  obtain ⟨sen, cellS', s1', -, -, s5⟩ := g.thStat (wat_in (q := (5, 139)) rfl) (List.mem_of_getElem? (i := 49) rfl) hW hH Y.sentinel LT.statics
  cases Option.some.inj (s1.symm.trans s1')
  obtain ⟨ci198, i198, fB, hk198, hg198, ha198, hsB, -, hnB, htB, hffB⟩ := Cond.ownField (t := .object "java/lang/Object") Y.found LT.cls (by decide +kernel) (A3 (.fieldLink Bundle.tN 198 Bundle.tN "backtrace" "Ljava/lang/Object;") (by simp [excR])) (A3 (.lays Bundle.tN Bundle.tN "backtrace" "Ljava/lang/Object;") (by simp [excR])) (ge Γ).platform hpl
  obtain ⟨tyC, dC, hdC, hdnC⟩ := Cond.laysAt hfound hk Y.cause (A3 (.lays (excN κ') Bundle.tN "cause" "Ljava/lang/Throwable;") (by simp [excR]))
  obtain ⟨tyS, dS, hdS, hdnS⟩ := Cond.laysAt hfound hk Y.stack (A3 (.lays (excN κ') Bundle.tN "stackTrace" Bundle.steD) (by simp [excR]))
  obtain ⟨tyP, dP, hdP, hdnP⟩ := Cond.laysAt hfound hk Y.supp (A3 (.lays (excN κ') Bundle.tN "suppressedExceptions" Bundle.listD) (by simp [excR]))
  obtain ⟨tyB, dB', hdB, hdnB⟩ := Cond.laysAt hfound hk hffB (A3 (.lays (excN κ') Bundle.tN "backtrace" "Ljava/lang/Object;") (by simp [excR]))
  have bC := Cond.laysApart hdB hdC hdnB hdnC (by rw [hnB, Y.causeName]; decide)
  have bS := Cond.laysApart hdB hdS hdnB hdnS (by rw [hnB, Y.stackName]; decide)
  have bP := Cond.laysApart hdB hdP hdnB hdnP (by rw [hnB, Y.suppName]; decide)
  have hBs : fB.slot = gI Γ κ' 0 := by
    obtain ⟨cf, kf, fi, fd, w1, w2⟩ := hkn.1 0 (by omega)
    rw [e5] at w1
    cases Option.some.inj (hffB.symm.trans w1)
    exact w2
  have hskip : SkipFacts T (ge Γ).platform s (fun u => u) u0 ((preparedCellV T.toThrowableT cell (ra Γ a) u0 sen).withEntry T'.cur) :=
    ⟨{ ci198 := ci198, i198 := i198, fBack := fB }, ⟨hk198, hg198, ha198, hsB⟩, by
      have := hbt
      rw [← hBs] at this
      simpa [preparedCellV, Cell.setSlot, Cell.withEntry, Array.getElem?_setIfInBounds, bC, bS, bP, bC.symm, bS.symm, bP.symm] using this, fun _ _ => rfl⟩
  have hd0 : decode c.code pc = .ok (.invokespecial i, 3) := by rw [X.1]; exact dA o
  obtain ⟨tm, methC, cdC', kC, vm₁, hnC, -, -, -, -, -, -, -, hW₁, st1⟩ := Steps.initCold (tb := (gp Γ).tables) (e := ge Γ) (below := below) (s := s) (U := T') St.here g.ex St.warmed hpl X.2.2.2.2.1 (t := Bundle.init0 (excN κ')) rfl rfl (Bundle.fit_spec e7).2
    (g.word C rfl hW args) (A2 (.instanceMethod (Bundle.init0 (excN κ'))) (by simp [Bundle.chain0Atoms, Bundle.passAtoms])) (bytes := Bundle.five) (maxL := 1) (A2 (.code (Bundle.init0 (excN κ')) Bundle.five 1 none) (by simp [Bundle.chain0Atoms, Bundle.passAtoms]))
    (f := F0 m pc ls (((κ' + 10, a) :: S).map (cw Γ))) rfl (a := ra Γ a) (rest := S.map (cw Γ)) (by show cv Γ (κ' + 1 + 9) a :: _ = _; rw [cv_refN Γ _ ha]) hd0
  cases Option.some.inj (hnC.symm.trans hP1m)
  have X₁ := St.noted hW₁
  have hcellT : (T'.setVm vm₁).heap[ra Γ a]? = some cell := by rw [show (T'.setVm vm₁).heap = T'.heap from rfl, hT]; exact p1
  have hStT : (T'.setVm vm₁).heap[T.aS]? = some cellS := by rw [show (T'.setVm vm₁).heap = T'.heap from rfl, hT]; exact s1
  obtain ⟨vm₂, X₂, st2⟩ := X₁.ctorPlainOffV g.ex (g := F0 m pc ls (S.map (cw Γ))) rfl (by rw [X.2.2.2.1]; exact hl.1) T LT Z LZ (P1 :: Ps)
    (fun P hP => by rcases List.mem_cons.mp hP with rfl | hP; exact L1; exact hLs P hP) ⟨hlink1, hlink⟩ (u0 := u0) (sen := sen) (self := ra Γ a) (cell := cell) (cellS := cellS)
    hcellT (fun z hz => by rw [p3] at hz; cases hz) (fun hz => by rw [p3] at hz; cases hz) m2 m3 hsel0 hselF hStT (by rw [ra_new a64]; exact Nat.ne_of_lt (Nat.lt_of_lt_of_le s3 (Nat.le_add_right _ _))) s2 s4 s5
    (takes_of hk hord tyC (by rw [Y.causeType]; rfl) hcc p3 hsz) (takes_of hk hord tyS (by rw [Y.stackType]; exact fits_refV_array _ u0) hcc p3 hsz) (takes_of hk hord tyP (by rw [Y.suppType]; exact fits_refV_object _ sen) hcc p3 hsz) Y.objLocals hskip htr [] hd0
    (by simp only [List.length_cons, hlen, List.length_nil]; show _ < d; omega) (by
      simp only [List.length_cons, hlen, List.length_nil]
      show 2 * 0 + ((S.map (cw Γ)).map fun v => v.category).sum + _ ≤ 400 * d
      have := sumS Γ S
      have := Nat.le_of_ble_eq_true e
      omega)
  generalize hcell2 : (preparedCellV T.toThrowableT cell (ra Γ a) u0 sen).setSlot T.fStack.slot u0.v = cell2 at X₂ st2
  have hlt : ra Γ a < H.size := (Array.getElem?_eq_some_iff.mp p1).1
  generalize hH2 : H.setIfInBounds (ra Γ a) cell2 = H2
  have z1 : H2.size = H.size := by rw [← hH2, Array.size_setIfInBounds]
  have z2 : H2[ra Γ a]? = some cell2 := by rw [← hH2]; simp [Array.getElem?_setIfInBounds, hlt]
  have z3 : ∀ q, q ≠ ra Γ a → H2[q]? = H[q]? := fun q hq => by rw [← hH2]; simp [Array.getElem?_setIfInBounds, Ne.symm hq]
  have hHR : HR Γ h H2 := by
    refine HR.sameO hH a64 ⟨κ', ak, Or.inl ⟨e6, ⟨cell2, z2, by rw [← hcell2]; exact p2, by rw [← hcell2]; exact p3, fun j hj => ?_⟩, c2, ⟨cell2, z2, by rw [← hcell2]; exact m2, by rw [← hcell2]; exact m3, by rw [← hcell2]; simp [preparedCellV, Cell.setSlot]; exact m4⟩⟩⟩ z1 z3
    have hj0 : j = 0 := by omega
    subst hj0
    rw [← p4 0 (by omega), ← hcell2, ← hBs]
    simp [preparedCellV, Cell.setSlot, Array.getElem?_setIfInBounds, bC, bS, bP, bC.symm, bS.symm, bP.symm]
  have hheap : (((T'.setVm vm₁).setVm vm₂).setCell (ra Γ a) cell2).heap = H2 := by rw [← hH2, ← hT]; rfl
  obtain ⟨t, w1, w2⟩ := k (dB o) h0 s m args below meth c H2 _ ls X hE hHR (fun q hq => by
      rcases List.mem_append.mp hq with y1 | y1
      · exact hlo _ y1
      · have : q.base = ra Γ a := by
          simp only [List.mem_cons, List.not_mem_nil, or_false] at y1
          rcases y1 with rfl | rfl | rfl | rfl <;> rfl
        rw [this, ra_new a64]; omega) hl hL hS hb _ hheap X₂
  exact ⟨t, st1 t (fun acts => by rw [doInvoke_state]; exact st2 t w1), w2⟩
theorem q_excS (g : GG Γ) {κ i : Nat} {a x : Int} (C : Cond.methodLink md.1.cls i ⟨"java/lang/Exception", "<init>", "(Ljava/lang/String;)V"⟩ ∈ lw_tbl) (o : decB md pc (ee (.invokespecial i) 3 :: r) fin = true) (eκ : (κ == 22) = true) (e : Nat.ble S.length 40 = true) (ha : a ≠ 0) (hz : rd h a 0 = 0) (hd6 : 6 ≤ d)
    (k : decB md (pc + 3) r fin = true → Rr Γ d md (pc + 3) L S h KR KT) : Rr Γ d md pc L ((140, x) :: (κ + 10, a) :: S) h KR KT := by
  intro h0 s m args below meth c H locs ls X hE hH hlo hl hL hSS hb
  have hS1 := hSS.t
  have hS := hS1.t
  have hW := X.2.2.2.2.2.2.1
  have hO := X.2.2.2.2.2.2.2.2
  have hκ : κ = 22 := by simpa using eκ
  subst hκ
  have hcls : kname 22 = "KeptHouse$Fault" ∧ kN 22 = 8 ∧ kF 22 = 3 ∧ kft 22 0 = 9 ∧ kT 22 0 = ("java/lang/Throwable", "backtrace", "Ljava/lang/Object;", false) ∧ (22 : Nat) < 29 ∧ Bundle.fit "java/lang/Exception" = true := ⟨rfl, rfl, rfl, rfl, rfl, by decide, by decide +kernel⟩
  obtain ⟨e1, e2, e3, e4, e5, e6, e7⟩ := hcls
  obtain ⟨a64, an, ak, -, -⟩ := HR.obj g hH e6 (a := a) hS1.h ha
  obtain ⟨κ', q1, hc⟩ := hH.2.2.2.1 a a64 an
  have q2 : κ' = 22 := by have := q1.symm.trans ak; exact Int.ofNat.inj this
  subst q2
  rcases hc with ⟨-, ⟨cell, p1, p2, p3, p4⟩, c2, ⟨cell', m1, m2, m3, m4⟩⟩ | ⟨c1, -⟩
  case inr => omega
  cases Option.some.inj (p1.symm.trans m1)
  have hbt : cell.slots[gI Γ 22 0]? = some .null := by
    rw [p4 0 (by omega)]
    show some (cv Γ (kft 22 0) (rd h a 0)) = _
    rw [e4, hz]
    rfl
  have A2 : ∀ w ∈ Bundle.chainSAtoms "java/lang/Exception" [], w.before args s = true := g.ch22 hW args
  have A3 : ∀ w ∈ excR "KeptHouse$Fault" 8, w.before args s = true := g.re22 hW args
  intro T' hT St
  have howns : (ge Γ).platform.frameOwnsMonitors = true := by rw [St.admits.platform]
  have hfin : (ge Γ).platform.finalization = false := by rw [St.admits.platform]
  have hpl : (ge Γ).platform.magicAccessors = ({} : Platform).magicAccessors := by rw [St.admits.platform]
  have htr : (ge Γ).platform.stackTraces = false := by rw [St.admits.platform]; exact g.2.2.2.2.2.2.2.1
  obtain ⟨T, Z0, LT, -, Y⟩ := ThrowableC.of_atoms (args := args) (s := s) howns hfin hpl (g.thA hW hO args)
  obtain ⟨Z, M, LZ, LM, hnZ⟩ := Init0T.ofS_atoms (args := args) hpl LT Y (g.thS hW args)
  obtain ⟨P1, Ps, hlen, L1, hLs, hP1m, hlink1, hlink⟩ := Bundle.chainS (args := args) hpl hnZ [] "java/lang/Exception" e7 (by decide) A2
  have hkn := g.kn_at e6 hW
  have hfound : s.vm.findClass "KeptHouse$Fault" = some (gC Γ 22) := hkn.2.1
  obtain ⟨c1, kX, hc1, hk, hord, -, -, hn6⟩ := Cond.instantiable_spec (A3 (.instantiable "KeptHouse$Fault" 8) (by simp [excR]))
  cases Option.some.inj (hc1.symm.trans hfound)
  have hsz : cell.slots.size = kX.instanceTypes.size := by rw [m4, e2, hn6]
  have hsel0 : selectMethod (ge Γ).platform s.vm cell.cls T.fill0 = .method T.fill0 := by
    obtain ⟨c2, r2, m2, q1, q2, q3, q4, -⟩ := Cond.selects_spec (A3 (.selects ("KeptHouse$Fault") Bundle.tFill0 Bundle.tFill0) (by simp [excR]))
    cases Option.some.inj (q1.symm.trans hfound)
    cases Option.some.inj (q2.symm.trans (State.methodFound?_of_named Y.fill0 (by decide)))
    cases Option.some.inj (q3.symm.trans Y.fill0)
    rw [Launch.admits_selectMethod St.admits, p2]; exact q4
  have hselF : selectMethod (ge Γ).platform s.vm cell.cls T.fill = .method T.fill := by
    obtain ⟨c2, r2, m2, q1, q2, q3, q4, -⟩ := Cond.selects_spec (A3 (.selects ("KeptHouse$Fault") Bundle.tFill Bundle.tFill) (by simp [excR]))
    cases Option.some.inj (q1.symm.trans hfound)
    cases Option.some.inj (q2.symm.trans (State.methodFound?_of_named Y.fill (by decide)))
    cases Option.some.inj (q3.symm.trans Y.fill)
    rw [Launch.admits_selectMethod St.admits, p2]; exact q4
  obtain ⟨u0, cellS, s1, s2, s3, s4⟩ := g.thStat (wat_in (q := (5, 137)) rfl) (List.mem_of_getElem? (i := 48) rfl) hW hH Y.unassigned LT.statics
  obtain ⟨sen, cellS', s1', -, -, s5⟩ := g.thStat (wat_in (q := (5, 139)) rfl) (List.mem_of_getElem? (i := 49) rfl) hW hH Y.sentinel LT.statics
  cases Option.some.inj (s1.symm.trans s1')
  obtain ⟨ci198, i198, fB, hk198, hg198, ha198, hsB, -, hnB, htB, hffB⟩ := Cond.ownField (t := .object "java/lang/Object") Y.found LT.cls (by decide +kernel) (A3 (.fieldLink Bundle.tN 198 Bundle.tN "backtrace" "Ljava/lang/Object;") (by simp [excR])) (A3 (.lays Bundle.tN Bundle.tN "backtrace" "Ljava/lang/Object;") (by simp [excR])) (ge Γ).platform hpl
  obtain ⟨tyC, dC, hdC, hdnC⟩ := Cond.laysAt hfound hk Y.cause (A3 (.lays ("KeptHouse$Fault") Bundle.tN "cause" "Ljava/lang/Throwable;") (by simp [excR]))
  obtain ⟨tyS, dS, hdS, hdnS⟩ := Cond.laysAt hfound hk Y.stack (A3 (.lays ("KeptHouse$Fault") Bundle.tN "stackTrace" Bundle.steD) (by simp [excR]))
  obtain ⟨tyP, dP, hdP, hdnP⟩ := Cond.laysAt hfound hk Y.supp (A3 (.lays ("KeptHouse$Fault") Bundle.tN "suppressedExceptions" Bundle.listD) (by simp [excR]))
  obtain ⟨iM, hffM⟩ := Y.msg
  have hnM : T.fMsg.name = "detailMessage" := (State.fieldFound?_type hffM (t := .object "java/lang/String") (by decide +kernel)).1
  obtain ⟨tyM, dM, hdM, hdnM⟩ := Cond.laysAt hfound hk hffM (A3 (.lays ("KeptHouse$Fault") Bundle.tN "detailMessage" "Ljava/lang/String;") (by simp [excR]))
  obtain ⟨tyB, dB', hdB, hdnB⟩ := Cond.laysAt hfound hk hffB (A3 (.lays ("KeptHouse$Fault") Bundle.tN "backtrace" "Ljava/lang/Object;") (by simp [excR]))
  have bC := Cond.laysApart hdB hdC hdnB hdnC (by rw [hnB, Y.causeName]; decide)
  have bS := Cond.laysApart hdB hdS hdnB hdnS (by rw [hnB, Y.stackName]; decide)
  have bP := Cond.laysApart hdB hdP hdnB hdnP (by rw [hnB, Y.suppName]; decide)
  have bM := Cond.laysApart hdB hdM hdnB hdnM (by rw [hnB, hnM]; decide)
  have ap : ∀ (n : String), n ≠ "cause" → n ≠ "stackTrace" → n ≠ "suppressedExceptions" → n ≠ "detailMessage" → ∀ sl : Nat, SlotIs s "KeptHouse$Fault" n "I" sl → (Cond.laysFinal "KeptHouse$Fault" "KeptHouse$Fault" n "I").before args s = true → sl ≠ T.fCause.slot ∧ sl ≠ T.fStack.slot ∧ sl ≠ T.fSupp.slot ∧ sl ≠ T.fMsg.slot := by
    intro n y1 y2 y3 y4 sl hsl hw
    obtain ⟨cf, kf, fi, fd, w1, w2⟩ := hsl
    obtain ⟨c5, k5, c6, k6, i5, f5, v1, v2, v3, -, -, -, -, -, dd, v4, -, v5, -⟩ := Cond.laysFinal_spec hw
    cases Option.some.inj (v1.symm.trans hfound)
    cases Option.some.inj (w1.symm.trans v3)
    have hn : fd.name = n := (State.fieldFound?_type w1 (t := .int) (by decide +kernel)).1
    subst w2
    exact ⟨Cond.laysApart v4 hdC v5 hdnC (by rw [hn, Y.causeName]; exact y1), Cond.laysApart v4 hdS v5 hdnS (by rw [hn, Y.stackName]; exact y2), Cond.laysApart v4 hdP v5 hdnP (by rw [hn, Y.suppName]; exact y3), Cond.laysApart v4 hdM v5 hdnM (by rw [hn, hnM]; exact y4)⟩
  obtain ⟨c1a, c1b, c1c, c1d⟩ := ap "code" (by decide) (by decide) (by decide) (by decide) (gI Γ 22 1) (hkn.1 1 (by decide)) (g.word (wat_in (q := (5, 170)) rfl) rfl hW args)
  obtain ⟨c2a, c2b, c2c, c2d⟩ := ap "place" (by decide) (by decide) (by decide) (by decide) (gI Γ 22 2) (hkn.1 2 (by decide)) (g.word (wat_in (q := (5, 172)) rfl) rfl hW args)
  have hBs : fB.slot = gI Γ 22 0 := by
    obtain ⟨cf, kf, fi, fd, w1, w2⟩ := hkn.1 0 (by omega)
    rw [e5] at w1
    cases Option.some.inj (hffB.symm.trans w1)
    exact w2
  have hskip : SkipFacts T (ge Γ).platform s (fun u => u) u0 ((preparedCellV T.toThrowableT cell (ra Γ a) u0 sen).withEntry T'.cur) :=
    ⟨{ ci198 := ci198, i198 := i198, fBack := fB }, ⟨hk198, hg198, ha198, hsB⟩, by
      have := hbt
      rw [← hBs] at this
      simpa [preparedCellV, Cell.setSlot, Cell.withEntry, Array.getElem?_setIfInBounds, bC, bS, bP, bC.symm, bS.symm, bP.symm] using this, fun _ _ => rfl⟩
  have hd0 : decode c.code pc = .ok (.invokespecial i, 3) := by rw [X.1]; exact dA o
  have hmsg : (cv Γ 140 x).isRef = true := by
    show (if x = 0 then Value.null else .ref (ra Γ x)).isRef = true
    split <;> rfl
  obtain ⟨tm, methC, cdC', kC, vm₁, hnC, -, -, -, -, -, -, -, hW₁, st1⟩ := Steps.initColdS (tb := (gp Γ).tables) (e := ge Γ) (below := below) (s := s) (U := T') St.here g.ex St.warmed hpl X.2.2.2.2.1 (t := Bundle.initS "java/lang/Exception") rfl rfl (Bundle.fit_spec e7).2
    (g.word C rfl hW args) (A2 (.instanceMethod (Bundle.initS "java/lang/Exception")) (by simp [Bundle.chainSAtoms, Bundle.passSAtoms])) (bytes := Bundle.six) (maxL := 2) (A2 (.code (Bundle.initS "java/lang/Exception") Bundle.six 2 none) (by simp [Bundle.chainSAtoms, Bundle.passSAtoms]))
    (f := F0 m pc ls (((140, x) :: (22 + 10, a) :: S).map (cw Γ))) rfl (a := ra Γ a) (msg := cv Γ 140 x) (rest := S.map (cw Γ)) (by show cv Γ 140 x :: cv Γ (23 + 9) a :: _ = _; rw [cv_refN Γ _ ha]) hd0
  cases Option.some.inj (hnC.symm.trans hP1m)
  have X₁ := St.noted hW₁
  have hcellT : (T'.setVm vm₁).heap[ra Γ a]? = some cell := by rw [show (T'.setVm vm₁).heap = T'.heap from rfl, hT]; exact p1
  have hStT : (T'.setVm vm₁).heap[T.aS]? = some cellS := by rw [show (T'.setVm vm₁).heap = T'.heap from rfl, hT]; exact s1
  obtain ⟨vm₂, X₂, st2⟩ := X₁.ctorMessageOffV g.ex (g := F0 m pc ls (S.map (cw Γ))) rfl (by rw [X.2.2.2.1]; exact hl.1) T LT Z LZ M LM (P1 :: Ps)
    (fun P hP => by rcases List.mem_cons.mp hP with rfl | hP; exact L1; exact hLs P hP) ⟨hlink1, hlink⟩ (u0 := u0) (sen := sen) (self := ra Γ a) hmsg (cell := cell) (cellS := cellS)
    hcellT (fun z hz => by rw [p3] at hz; cases hz) (fun hz => by rw [p3] at hz; cases hz) m2 m3 hsel0 hselF hStT (by rw [ra_new a64]; exact Nat.ne_of_lt (Nat.lt_of_lt_of_le s3 (Nat.le_add_right _ _))) s2 s4 s5
    (takes_of hk hord tyC (by rw [Y.causeType]; rfl) p2 p3 hsz) (takes_of hk hord tyS (by rw [Y.stackType]; exact fits_refV_array _ u0) p2 p3 hsz) (takes_of hk hord tyP (by rw [Y.suppType]; exact fits_refV_object _ sen) p2 p3 hsz) (takes_of hk hord tyM (by rw [Y.msgType]; exact fits_refV_object _ ⟨_, hmsg⟩) p2 p3 hsz) Y.objLocals hskip htr [] hd0
    (by simp only [List.length_cons, hlen, List.length_nil]; show _ < d; omega) (by
      simp only [List.length_cons, hlen, List.length_nil]
      show 2 * 0 + ((S.map (cw Γ)).map fun v => v.category).sum + _ ≤ 400 * d
      have := sumS Γ S
      have := Nat.le_of_ble_eq_true e
      omega)
  generalize hcell2 : plainBareV T.toThrowableT cell (ra Γ a) u0 sen (cv Γ 140 x) = cell2 at X₂ st2
  have hlt : ra Γ a < H.size := (Array.getElem?_eq_some_iff.mp p1).1
  generalize hH2 : H.setIfInBounds (ra Γ a) cell2 = H2
  have z1 : H2.size = H.size := by rw [← hH2, Array.size_setIfInBounds]
  have z2 : H2[ra Γ a]? = some cell2 := by rw [← hH2]; simp [Array.getElem?_setIfInBounds, hlt]
  have z3 : ∀ q, q ≠ ra Γ a → H2[q]? = H[q]? := fun q hq => by rw [← hH2]; simp [Array.getElem?_setIfInBounds, Ne.symm hq]
  have hHR : HR Γ h H2 := by
    refine HR.sameO hH a64 ⟨22, ak, Or.inl ⟨e6, ⟨cell2, z2, by rw [← hcell2]; exact p2, by rw [← hcell2]; exact p3, fun j hj => ?_⟩, c2, ⟨cell2, z2, by rw [← hcell2]; exact m2, by rw [← hcell2]; exact m3, by rw [← hcell2]; simp [plainBareV, preparedCellV, Cell.setSlot]; exact m4⟩⟩⟩ z1 z3
    rw [← p4 j hj, ← hcell2]
    have hj3 : j = 0 ∨ j = 1 ∨ j = 2 := by omega
    rcases hj3 with rfl | rfl | rfl
    · rw [← hBs]
      simp [plainBareV, preparedCellV, Cell.setSlot, Array.getElem?_setIfInBounds, bC.symm, bS.symm, bP.symm, bM.symm]
    · simp [plainBareV, preparedCellV, Cell.setSlot, Array.getElem?_setIfInBounds, c1a.symm, c1b.symm, c1c.symm, c1d.symm]
    · simp [plainBareV, preparedCellV, Cell.setSlot, Array.getElem?_setIfInBounds, c2a.symm, c2b.symm, c2c.symm, c2d.symm]
  have hheap : (((T'.setVm vm₁).setVm vm₂).setCell (ra Γ a) cell2).heap = H2 := by rw [← hH2, ← hT]; rfl
  obtain ⟨t, w1, w2⟩ := k (dB o) h0 s m args below meth c H2 _ ls X hE hHR (fun q hq => by
      rcases List.mem_append.mp hq with y1 | y1
      · exact hlo _ y1
      · have : q.base = ra Γ a := by
          simp only [List.mem_cons, List.not_mem_nil, or_false] at y1
          rcases y1 with rfl | rfl | rfl | rfl | rfl <;> rfl
        rw [this, ra_new a64]; omega) hl hL hS hb _ hheap X₂
  exact ⟨t, st1 t (fun acts => by rw [doInvoke_state]; exact st2 t w1), w2⟩
end EXC
