/-! multianewarray -/
/-- a state inside an instruction -/
def SR (Γ : Gam) (d : Nat) (h0 : Hp) (s : State) (m : MethodId) (args : Array Value) (below : List Frame) (meth : Method) (c : Code) (U : State) (h : Hp) : Prop :=
  ext h0 h ∧ HR Γ h U.heap ∧ bd h ∧ (gs Γ).WarmedH U.vm ∧ ∃ locs : List Loc, (∀ q ∈ locs, (gs Γ).heap.size ≤ q.base) ∧ Stand (gp Γ) (gl Γ) (ge Γ) (Rm d h0) s m args below meth c U locs (nx h - nx h0).toNat (us h - us h0).toNat
theorem compB (t : FieldType) : componentBytes t ≤ 8 := by cases t <;> simp [componentBytes]
theorem k_null {κ : Nat} (h64 : 64 ≤ κ) (h83 : κ < 83) (h9 : 9 ≤ ket κ) : defaultValue (kat κ) = .null := by
  have : κ = 64 ∨ κ = 65 ∨ κ = 66 ∨ κ = 67 ∨ κ = 68 ∨ κ = 69 ∨ κ = 70 ∨ κ = 71 ∨ κ = 72 ∨ κ = 73 ∨ κ = 74 ∨ κ = 75 ∨ κ = 76 ∨ κ = 77 ∨ κ = 78 ∨ κ = 79 ∨ κ = 80 ∨ κ = 81 ∨ κ = 82 := by omega
  rcases this with rfl | rfl | rfl | rfl | rfl | rfl | rfl | rfl | rfl | rfl | rfl | rfl | rfl | rfl | rfl | rfl | rfl | rfl | rfl <;> first | rfl | exact absurd h9 (by decide)
section MULTI
variable {Γ : Gam} {d : Nat} {h0 : Hp} {s : State} {m : MethodId} {args : Array Value} {below : List Frame} {meth : Method} {c : Code} {U : State} {h : Hp}
theorem SR.new (g : GG Γ) (S : SR Γ d h0 s m args below meth c U h) {κ : Nat} {n : Int} (h64 : 64 ≤ κ) (h83 : κ < 83) (n0 : 0 ≤ n) (n1 : n < 2147483648) (b1 : nx h + 1 ≤ NM) (b2 : us h + n ≤ UM) : SR Γ d h0 s m args below meth c (U.pushCell { cls := gA Γ κ, slots := Array.replicate n.toNat (defaultValue (kat κ)) }) (mk h κ n) := by
  obtain ⟨hE, hH, hb, hW, locs, hlo, St⟩ := S
  have hx : ext h (mk h κ n) := ext.new n0
  have e0 := hE.1
  have e1 := hE.2.1
  have hX := St.pushed { cls := gA Γ κ, slots := Array.replicate n.toNat (defaultValue (kat κ)) }
  have hz : ({ cls := gA Γ κ, slots := Array.replicate n.toNat (defaultValue (kat κ)) } : Cell).slots.size = n.toNat := Array.size_replicate
  rw [hz] at hX
  have a1 : (nx (mk h κ n) - nx h0).toNat = (nx h - nx h0).toNat + 1 := by rw [nx_mk]; omega
  have a2 : (us (mk h κ n) - us h0).toNat = (us h - us h0).toNat + n.toNat := by rw [us_mk]; omega
  refine ⟨hE.tr hx, ?_, ⟨by rw [nx_mk]; omega, by rw [us_mk]; omega⟩, hW, locs, hlo, by rw [a1, a2]; exact hX⟩
  refine HR.newA hH h64 h83 n0 n1 ?_ ?_ ?_
  · show (U.heap.push _).size = _
    rw [Array.size_push]
  · intro q hq
    show (U.heap.push _)[q]? = _
    rw [Array.getElem?_push, if_neg (Nat.ne_of_lt hq)]
  · show (U.heap.push _)[U.heap.size]? = _
    rw [Array.getElem?_push_size, ← arrV_new]
theorem SR.put (g : GG Γ) (S : SR Γ d h0 s m args below meth c U h) {κ : Nat} {a i x : Int} (h64 : 64 ≤ κ) (h83 : κ < 83) (a64 : 64 ≤ a) (an : a < nx h) (ak : kn h a = κ) (i0 : 0 ≤ i) (i1 : i < ln h a) (hx : okv h (ket κ) x) :
    ∃ cell : Cell, U.heap[ra Γ a]? = some cell ∧ cell.vm ≠ .unknown ∧ i.toNat < cell.slots.size ∧ U.fitsSlot cell.cls cell.vm i.toNat (cv Γ (ket κ) x) = true ∧ SR Γ d h0 s m args below meth c (U.setCell (ra Γ a) (cell.setSlot i.toNat (cv Γ (ket κ) x))) (up h a i x) := by
  obtain ⟨hE, hH, hb, hW, locs, hlo, St⟩ := S
  obtain ⟨κ', q1, hc⟩ := hH.2.2.2.1 a a64 an
  have q2 : κ' = κ := by have := q1.symm.trans ak; exact Int.ofNat.inj this
  subst q2
  rcases hc with ⟨c1, -⟩ | ⟨-, -, c1, c2, c3, c4⟩
  · omega
  obtain ⟨G1, G2, kA, comp, G3, G4, -⟩ := g.2.2.2.1 κ' h64 h83
  obtain ⟨kA', f1, f2⟩ := hW.alike.2.2 _ _ G3
  have f3 : kA'.kind = .array comp (kat κ') := by rw [f2]; exact G4
  have hxe : ext h (up h a i x) := ext.put i0
  refine ⟨_, c3, (fun z => by cases z), by rw [arrV_size]; omega, ?_, hE.tr hxe, ?_, hb, hW, locs ++ [⟨ra Γ a, i.toNat⟩], fun q hq => ?_, St.stored c3 i.toNat _⟩
  · have := (cv_fits (Γ := Γ) (k_atyc κ' (by omega) h64) hx).2
    have f1' : U.vm.classes[(arrV (gA Γ κ') (ln h a).toNat (fun j => cv Γ (ket κ') (rd h a j))).cls]? = some kA' := f1
    have hv : (arrV (gA Γ κ') (ln h a).toNat (fun j => cv Γ (ket κ') (rd h a j))).vm = .none := rfl
    simpa [State.fitsSlot, State.slotType?, f1', f3, hv] using this
  · have hlt : ra Γ a < U.heap.size := (Array.getElem?_eq_some_iff.mp c3).1
    refine HR.setA hH h64 a64 an ak i0 i1 hx ?_ ?_ ?_
    · show (U.heap.setIfInBounds _ _)[_]? = _
      simp [Array.getElem?_setIfInBounds, hlt]
    · show (U.heap.setIfInBounds _ _).size = _
      rw [Array.size_setIfInBounds]
    · intro q hq
      show (U.heap.setIfInBounds _ _)[_]? = _
      simp [Array.getElem?_setIfInBounds, Ne.symm hq]
  · rcases List.mem_append.mp hq with y1 | y1
    · exact hlo _ y1
    · rw [List.mem_singleton.mp y1]; show (gs Γ).heap.size ≤ ra Γ a; rw [ra_new a64]; omega
/-- what making an inner array does -/
def Mkr (Γ : Gam) (d : Nat) (h0 : Hp) (s : State) (m : MethodId) (args : Array Value) (below : List Frame) (meth : Method) (c : Code) (f : JFrame) (κ : Nat) (cnt : List Int32) (F : Hp → Hp) (R : Hp → Prop) : Prop :=
  ∀ (U : State) (h : Hp) (Q : Addr → Pre) (E : CtlPost) (dd : Bool) (acts : List Action), SR Γ d h0 s m args below meth c U h → R h → (∀ dd' acts' U', SR Γ d h0 s m args below meth c U' (F h) → Q (ra Γ (nx h)) dd' acts' (U'.setTop f)) → wp (Op.multianewarray.make (gA Γ κ) cnt) Q E (ge Γ) dd acts (U.setTop f)
theorem mkr_new (g : GG Γ) {f : JFrame} {κ : Nat} (h64 : 64 ≤ κ) (h83 : κ < 83) {n : Int} (n0 : 0 ≤ n) (n1 : n ≤ 65536) {U : State} {h : Hp} {Q : Addr → Pre} {E : CtlPost} {dd : Bool} {acts : List Action} (S : SR Γ d h0 s m args below meth c U h) (b1 : nx h + 1 ≤ NM) (b2 : us h + n ≤ UM)
    (hq : ∀ dd' acts' U', SR Γ d h0 s m args below meth c U' (mk h κ n) → Q (ra Γ (nx h)) dd' acts' (U'.setTop f)) : wp (Jvm.newArray (gA Γ κ) n.toNat (defaultValue (kat κ))) Q E (ge Γ) dd acts (U.setTop f) := by
  obtain ⟨hE, hH, hb, hW, locs, hlo, St⟩ := id S
  obtain ⟨G1, G2, kA, comp, G3, G4, -⟩ := g.2.2.2.1 κ h64 h83
  obtain ⟨kA', f1, f2⟩ := hW.alike.2.2 _ _ G3
  have f3 : kA'.kind = .array comp (kat κ) := by rw [f2]; exact G4
  have e0 := hE.1
  have e1 := hE.2.1
  obtain ⟨r1, r2⟩ := St.heapHas (a := 1) (b := n.toNat) (by show (nx h - nx h0).toNat + 1 ≤ (NM - nx h0).toNat; omega) (by show (us h - us h0).toNat + n.toNat ≤ (UM - us h0).toNat; omega)
  have hlim : ¬ n.toNat > (ge Γ).platform.arrayLengthLimit := by rw [Launch.admits_arrayLengthLimit St.admits]; omega
  have hby : ¬ n.toNat * componentBytes (kat κ) > (ge Γ).platform.maxHeapBytes := by
    rw [Launch.admits_maxHeapBytes St.admits]
    have h1 : n.toNat * componentBytes (kat κ) ≤ 65536 * 8 := Nat.mul_le_mul (by omega) (compB _)
    show ¬ n.toNat * componentBytes (kat κ) > 536870912
    omega
  refine W.newArray_of (k := kA') (comp := comp) (type := kat κ) (by simpa using f1) f3 hlim hby (Nat.lt_of_succ_le (by simpa using r1)) (by simpa using r2) (fits_default _) (fun acts' => ?_)
  have hS := S.new g h64 h83 n0 (show n < 2147483648 by omega) b1 b2
  have K := hq dd acts' _ hS
  rw [ra_nx hH] at K
  simpa using K
theorem mkr_one (g : GG Γ) {f : JFrame} {κ : Nat} (h64 : 64 ≤ κ) (h83 : κ < 83) {n : Int} (n0 : 0 ≤ n) (n1 : n ≤ 65536) : Mkr Γ d h0 s m args below meth c f κ [I32 n] (fun h => mk h κ n) (fun h => nx h + 1 ≤ NM ∧ us h + n ≤ UM) := by
  intro U h Q E dd acts S hR hq
  obtain ⟨hE, hH, hb, hW, locs, hlo, St⟩ := id S
  obtain ⟨G1, G2, kA, comp, G3, G4, -⟩ := g.2.2.2.1 κ h64 h83
  obtain ⟨kA', f1, f2⟩ := hW.alike.2.2 _ _ G3
  have f3 : kA'.kind = .array comp (kat κ) := by rw [f2]; exact G4
  have hn : ¬ I32 n < 0 := fun q => by
    have := (I32_lt (show r32 n by unfold r32; omega) (show r32 0 by unfold r32; omega)).mp q
    omega
  have hi := ix n0 (show n < 2147483648 by omega)
  have f1' : (U.setTop f).vm.classes[gA Γ κ]? = some kA' := by simpa using f1
  simp only [Op.multianewarray.make, wp_bind', W.ite, hn, if_false, wp_pure', W.theClass, f1', Option.some.injEq, exists_eq_left', f3, hi]
  exact mkr_new g h64 h83 n0 n1 S hR.1 hR.2 hq
/-- the inner arrays, one by one -/
def mL (F : Hp → Hp) (a : Int) (g0 : Hp) : Nat → Hp
  | 0 => g0
  | k + 1 => up (F (mL F a g0 k)) a (k : Int) (nx (mL F a g0 k))
theorem mkr_more (g : GG Γ) {f : JFrame} {κ κ1 : Nat} (h64 : 64 ≤ κ) (h83 : κ < 83) (k64 : 64 ≤ κ1) (k83 : κ1 < 83) (hket : ket κ = κ1 + 10) {n : Int} (n0 : 0 ≤ n) (n1 : n ≤ 65536) {r0 : Int32} {rs : List Int32} (hneg : (r0 :: rs).find? (fun z => decide (z < 0)) = none) {F : Hp → Hp} {R R' : Hp → Prop}
    (hF : ∀ h, 64 ≤ nx h → ext h (F h) ∧ nx h < nx (F h) ∧ kn (F h) (nx h) = κ1) (I : Mkr Γ d h0 s m args below meth c f κ1 (r0 :: rs) F R)
    (hR : ∀ h, R' h → 64 ≤ nx h → nx h + 1 ≤ NM ∧ us h + n ≤ UM ∧ ∀ k : Nat, (k : Int) < n → R (mL F (nx h) (mk h κ n) k)) : Mkr Γ d h0 s m args below meth c f κ (I32 n :: r0 :: rs) (fun h => mL F (nx h) (mk h κ n) n.toNat) R' := by
  intro U h Q E dd acts S hR' hq
  obtain ⟨hE, hH, hb, hW, locs, hlo, St⟩ := id S
  obtain ⟨b1, b2, b3⟩ := hR h hR' hH.1
  obtain ⟨G1, G2, kA, comp, G3, G4, -, -, -, G7⟩ := g.2.2.2.1 κ h64 h83
  have hcomp : comp = gA Γ κ1 := G7 κ1 k64 k83 hket
  subst hcomp
  obtain ⟨kA', f1, f2⟩ := hW.alike.2.2 _ _ G3
  have f3 : kA'.kind = .array (gA Γ κ1) (kat κ) := by rw [f2]; exact G4
  have hn : ¬ I32 n < 0 := fun q => by
    have := (I32_lt (show r32 n by unfold r32; omega) (show r32 0 by unfold r32; omega)).mp q
    omega
  have hi := ix n0 (show n < 2147483648 by omega)
  have f1' : (U.setTop f).vm.classes[gA Γ κ]? = some kA' := by simpa using f1
  have hdef : defaultValue (kat κ) = .null := k_null h64 h83 (by omega)
  have h64' := hH.1
  have hmk : nx (mk h κ n) = nx h + 1 := nx_mk h κ n
  -- the loop's states
  have keep : ∀ k : Nat, (k : Int) ≤ n → nx h + 1 ≤ nx (mL F (nx h) (mk h κ n) k) ∧ ext (mk h κ n) (mL F (nx h) (mk h κ n) k) := by
    intro k
    induction k with
    | zero => exact fun _ => ⟨by show nx h + 1 ≤ nx (mk h κ n); omega, ext.rf _⟩
    | succ k ih =>
      intro hk
      obtain ⟨i1, i2⟩ := ih (by omega)
      obtain ⟨j1, j2, j3⟩ := hF (mL F (nx h) (mk h κ n) k) (by omega)
      have hu : ext (F (mL F (nx h) (mk h κ n) k)) (mL F (nx h) (mk h κ n) (k + 1)) := ext.put (by omega)
      refine ⟨?_, i2.tr (j1.tr hu)⟩
      show nx h + 1 ≤ nx (F (mL F (nx h) (mk h κ n) k))
      omega
  have body : ∀ (k : Nat) (U' : State), (k : Int) < n → SR Γ d h0 s m args below meth c U' (mL F (nx h) (mk h κ n) k) → ∀ (Q' : ForInStep PUnit → Pre) (dd' : Bool) (acts' : List Action), (∀ dd'' acts'' U'', SR Γ d h0 s m args below meth c U'' (mL F (nx h) (mk h κ n) (k + 1)) → Q' (ForInStep.yield PUnit.unit) dd'' acts'' (U''.setTop f)) →
      wp (do let x ← Op.multianewarray.make (gA Γ κ1) (r0 :: rs); Jvm.writeLoc (ra Γ (nx h)) k (.ref x); Pure.pure (ForInStep.yield PUnit.unit)) Q' E (ge Γ) dd' acts' (U'.setTop f) := by
    intro k U' hk S' Q' dd' acts' hq'
    obtain ⟨i1, i2⟩ := keep k (by omega)
    obtain ⟨j1, j2, j3⟩ := hF (mL F (nx h) (mk h κ n) k) (by omega)
    simp only [wp_bind']
    refine I U' _ _ E dd' acts' S' (b3 k hk) (fun dd2 acts2 U2 S2 => ?_)
    have x2 := i2.tr j1
    have hkn : kn (F (mL F (nx h) (mk h κ n) k)) (nx h) = κ := by
      have := (x2.2.2 (nx h) (by omega) (by rw [hmk]; omega)).1
      exact this.trans (kn_mk_new h κ n)
    have hln : ln (F (mL F (nx h) (mk h κ n) k)) (nx h) = n := by
      have := (x2.2.2 (nx h) (by omega) (by rw [hmk]; omega)).2
      exact this.trans (ln_mk_new h κ n)
    have hnn : nx (mL F (nx h) (mk h κ n) k) ≠ 0 := by omega
    obtain ⟨cell, c1, c2, c3, c4, c5⟩ := S2.put g (κ := κ) (a := nx h) (i := (k : Int)) (x := nx (mL F (nx h) (mk h κ n) k)) h64 h83 (by omega) (by omega) hkn (by omega) (by rw [hln]; exact hk) (by rw [hket]; exact Or.inr ⟨by omega, j2, j3⟩)
    have ecv : cv Γ (ket κ) (nx (mL F (nx h) (mk h κ n) k)) = .ref (ra Γ (nx (mL F (nx h) (mk h κ n) k))) := by rw [hket]; exact cv_refN Γ (κ1 + 1) hnn
    rw [ecv, Int.toNat_natCast] at c4 c5
    rw [Int.toNat_natCast] at c3
    simp only [wp_bind']
    refine (W.writeLoc (s := U2.setTop f) (ra Γ (nx h)) k _ _).mpr ⟨cell, by simpa using c1, c2, c3, by simpa using c4, ?_⟩
    have K := hq' true (writeActs ⟨ra Γ (nx h), k⟩ .plain (.ref (ra Γ (nx (mL F (nx h) (mk h κ n) k)))) acts2) _ c5
    simpa using K
  rw [Op.multianewarray.make]
  simp only [wp_bind', W.ite, hn, if_false, wp_pure', W.theClass, f1', Option.some.injEq, exists_eq_left', f3, hi]
  rw [← hdef]
  refine mkr_new g h64 h83 n0 n1 S b1 b2 (fun dd' acts' U' S' => ?_)
  have fin_ : ∀ (dd2 : Bool) (acts2 : List Action), wp (do for i in [0:n.toNat] do { Jvm.writeLoc (ra Γ (nx h)) i (.ref (← Op.multianewarray.make (gA Γ κ1) (r0 :: rs))) }; Pure.pure (ra Γ (nx h))) Q E (ge Γ) dd2 acts2 (U'.setTop f) := by
    intro dd2 acts2
    simp only [wp_bind', Std.Legacy.Range.forIn_eq_forIn_range']
    refine wp_forIn_inv (fun rest W' => ∃ (k : Nat) (U2 : State), rest = List.range' k (n.toNat - k) ∧ (k : Int) ≤ n ∧ W' = U2.setTop f ∧ SR Γ d h0 s m args below meth c U2 (mL F (nx h) (mk h κ n) k)) _ _ ⟨0, U', by simp [Std.Legacy.Range.size], by omega, rfl, S'⟩ ?_ ?_
    · rintro x rest W' d3 acts3 Q3 ⟨k, U2, e1, e2, rfl, S2⟩ hq3
      have hk : (k : Int) < n := by
        rcases Nat.lt_or_ge k n.toNat with y | y
        · omega
        · rw [show n.toNat - k = 0 by omega] at e1
          cases e1
      obtain ⟨y, hy⟩ : ∃ y, n.toNat - k = y + 1 := ⟨n.toNat - k - 1, by omega⟩
      rw [hy, List.range'_succ] at e1
      obtain ⟨rfl, rfl⟩ := List.cons.inj e1
      refine body x U2 hk S2 Q3 d3 acts3 (fun d4 acts4 U4 S4 => hq3 _ _ _ ⟨x + 1, U4, by rw [show n.toNat - (x + 1) = y by omega], by omega, rfl, S4⟩)
    · rintro W' d3 acts3 ⟨k, U2, e1, e2, rfl, S2⟩
      have hk : k = n.toNat := by
        rcases Nat.lt_or_ge k n.toNat with y | y
        · obtain ⟨z, hz⟩ : ∃ z, n.toNat - k = z + 1 := ⟨n.toNat - k - 1, by omega⟩
          rw [hz, List.range'_succ] at e1
          cases e1
        · omega
      subst hk
      exact hq _ _ _ S2
  by_cases hz : I32 n == 0
  · simp only [hz, hneg, if_true]
    exact fin_ _ _
  · simp only [hz]
    exact fin_ _ _
end MULTI
/-- arrays of arrays -/
theorem k_in3 {κ κ2 κ1 : Nat} (h64 : 64 ≤ κ) (h83 : κ < 83) (hket : ket κ = κ2 + 10) (hket2 : ket κ2 = κ1 + 10) (k64 : 64 ≤ κ2) (k83 : κ2 < 83) : κ = 70 ∧ κ2 = 68 ∧ κ1 = 66 := by
  have : κ = 64 ∨ κ = 65 ∨ κ = 66 ∨ κ = 67 ∨ κ = 68 ∨ κ = 69 ∨ κ = 70 ∨ κ = 71 ∨ κ = 72 ∨ κ = 73 ∨ κ = 74 ∨ κ = 75 ∨ κ = 76 ∨ κ = 77 ∨ κ = 78 ∨ κ = 79 ∨ κ = 80 ∨ κ = 81 ∨ κ = 82 := by omega
  rcases this with rfl | rfl | rfl | rfl | rfl | rfl | rfl | rfl | rfl | rfl | rfl | rfl | rfl | rfl | rfl | rfl | rfl | rfl | rfl
  all_goals first | (exfalso; revert hket; show ¬ (_ = _); simp only [show ket 64 = 0 from rfl, show ket 65 = 1 from rfl, show ket 66 = 2 from rfl, show ket 67 = 3 from rfl, show ket 71 = 138 from rfl, show ket 72 = 19 from rfl, show ket 73 = 20 from rfl, show ket 74 = 34 from rfl, show ket 75 = 21 from rfl, show ket 76 = 22 from rfl, show ket 77 = 23 from rfl, show ket 78 = 25 from rfl, show ket 79 = 31 from rfl, show ket 80 = 27 from rfl, show ket 81 = 30 from rfl, show ket 82 = 9 from rfl]; omega) | skip
  · have hk : κ2 = 66 := by have : (76 : Nat) = κ2 + 10 := hket; omega
    subst hk
    have : (2 : Nat) = κ1 + 10 := hket2
    omega
  · have hk : κ2 = 64 := by have : (74 : Nat) = κ2 + 10 := hket; omega
    subst hk
    have : (0 : Nat) = κ1 + 10 := hket2
    omega
  · have hk : κ2 = 68 := by have : (78 : Nat) = κ2 + 10 := hket; omega
    subst hk
    have : (76 : Nat) = κ1 + 10 := hket2
    exact ⟨rfl, rfl, by omega⟩
section MULTI2
variable {Γ : Gam} {d : Nat} {md : MD} {pc : Nat} {L : Lc} {S : List Vl} {h : Hp} {KR KT : Kt} {r : List El} {fin : Nat × List Nat}
theorem mul_go (g : GG Γ) {i κ nd : Nat} {cs : List Int} (h64 : 64 ≤ κ) (h83 : κ < 83) (C : CA md.1.cls i κ) (hd : decode md.2.1 pc = .ok (.multianewarray i nd, 4)) (hnd : cs.length = nd) (hnd0 : nd ≠ 0) {F : Hp → Hp} {R : Hp → Prop} (hR : R h)
    (hF : 64 ≤ nx h → ext h (F h) ∧ nx h < nx (F h) ∧ kn (F h) (nx h) = κ)
    (I : ∀ (h0 : Hp) (s : State) (m : MethodId) (args : Array Value) (below : List Frame) (meth : Method) (c : Code) (f : JFrame), Mkr Γ d h0 s m args below meth c f κ (cs.map I32) F R)
    (k : 64 ≤ nx h → Rr Γ d md (pc + 4) L ((κ + 10, nx h) :: S) (F h) KR KT) : Rr Γ d md pc L ((cs.map (fun z => ((0 : Nat), z))).reverse ++ S) h KR KT := by
  intro h0 s m args below meth c H locs ls X hE hH hlo hl hL hSS hb
  obtain ⟨-, hS⟩ := hSS.split
  have hW := X.2.2.2.2.2.2.1
  obtain ⟨nm, C1, C2⟩ := C
  intro T hT St
  have hpl : (ge Γ).platform.magicAccessors = ({} : Platform).magicAccessors := by rw [St.admits.platform]
  obtain ⟨c', hc', hcl⟩ := Cond.classLink_spec X.2.2.2.2.1 (g.word C1 rfl hW args) (ge Γ).platform hpl
  have hcA : c' = gA Γ κ := by
    have h1 := (g.2.2.2.1 κ h64 h83).2.1
    rw [← hW.alike.findClass, ← C2] at h1
    exact Option.some.inj (hc'.symm.trans h1)
  subst hcA
  obtain ⟨hg₁, hwarm₁, hready₁⟩ := State.classEntry (e := ge Γ) St.warmed hcl
  generalize T.vm.noted m.cls i (.cls (gA Γ κ)) = vm₁ at hg₁ hwarm₁ hready₁
  have X₁ := St.noted hwarm₁
  have S1 : SR Γ d h0 s m args below meth c (T.setVm vm₁) h := ⟨hE, by rw [show (T.setVm vm₁).heap = T.heap from rfl, hT]; exact hH, hb, State.WarmedH.trans hW hwarm₁, locs, hlo, X₁⟩
  have hst : ((cs.map (fun z => ((0 : Nat), z))).reverse ++ S).map (cw Γ) = (cs.map (fun z => Value.int (I32 z))).reverse ++ S.map (cw Γ) := by
    rw [List.map_append, List.map_reverse, List.map_map]
    rfl
  have key : ∀ (Q : Unit → Pre) (E : CtlPost), (∀ dd acts U', SR Γ d h0 s m args below meth c U' (F h) → Q () dd acts (U'.setTop (F0 m pc ls (.ref (ra Γ (nx h)) :: S.map (cw Γ))))) → wp (Op.multianewarray.sem i nd) Q E (ge Γ) false [] (T.setTop (F0 m pc ls (((cs.map (fun z => ((0 : Nat), z))).reverse ++ S).map (cw Γ)))) := by
    intro Q E hq
    rw [hst]
    simp only [Op.multianewarray.sem, wp_bind']
    rw [W.resolveClassAt_links (t := T.setTop (F0 m pc ls ((cs.map (fun z => Value.int (I32 z))).reverse ++ S.map (cw Γ)))) (mm := m) (State.method?_setTop _ St.here.top) (by simpa using hg₁) (by have := hwarm₁.alike.size_le; have := (St.warmed.alike.symm).size_le; simp only [State.vm_setTop]; omega)]
    have e2 : (T.setTop (F0 m pc ls ((cs.map (fun z => Value.int (I32 z))).reverse ++ S.map (cw Γ)))).setVm vm₁ = (T.setVm vm₁).setTop (F0 m pc ls ((cs.map (fun z => Value.int (I32 z))).reverse ++ S.map (cw Γ))) := rfl
    rw [e2]
    simp only [wp_bind']
    rw [W.popN, if_neg hnd0]
    refine ⟨_, State.topJava?_setTop' _ X₁.here.top, cs.map (fun z => Value.int (I32 z)), S.map (cw Γ), by rw [List.length_map]; exact hnd, rfl, ?_⟩
    have e3 : ∀ (fm : Value → Sem Int32), (∀ z : Int32, fm (.int z) = Pure.pure z) → (cs.map (fun z => Value.int (I32 z))).mapM fm = Pure.pure (cs.map I32) := by
      intro fm hfm
      clear hst hnd e2 hq k I hSS
      induction cs with
      | nil => rfl
      | cons z zs ih =>
        simp only [List.map_cons, List.mapM_cons, hfm, pure_bind, ih]
    rw [e3 _ (fun z => rfl)]
    simp only [wp_bind', wp_pure', State.setTop_setTop]
    refine I h0 s m args below meth c (F0 m pc ls (S.map (cw Γ))) (T.setVm vm₁) h _ E _ _ S1 hR (fun dd' acts' U' S' => ?_)
    obtain ⟨y1, y2, y3, y4, y5, y6, StU⟩ := id S'
    simp only [wp_bind', W.mark, W.pushRef, State.topJava?_setTop' _ StU.here.top, Option.some.injEq, exists_eq_left', State.setTop_setTop]
    exact hq _ _ _ S'
  obtain ⟨x1, x2, x3⟩ := hF hH.1
  have fin_ : ∀ U', SR Γ d h0 s m args below meth c U' (F h) → ∃ t, Steps (gp Γ).tables (ge Γ) below (U'.setTop (F0 m (pc + 4) ls (.ref (ra Γ (nx h)) :: S.map (cw Γ)))) t ∧ Zt Γ md h0 KR KT below s t := by
    intro U' S'
    obtain ⟨q1, q2, q3, q4, locs', q5, StU⟩ := S'
    have K := k hH.1 h0 s m args below meth c U'.heap locs' ls X q1 q2 q5 hl (hL.e x1) ((hS.e x1).c (Or.inr ⟨by have := hH.1; omega, x2, x3⟩)) q3
    have K : W _ _ _ _ _ _ _ _ _ _ _ _ _ _ _ (F0 m (pc + 4) ls (cv Γ (κ + 1 + 9) (nx h) :: S.map (cw Γ))) := K
    rw [cv_refN Γ _ (by have := hH.1; omega)] at K
    exact K U' rfl StU
  -- one state: the one that the instruction ends in
  have ex : ∃ U', SR Γ d h0 s m args below meth c U' (F h) ∧ ∀ target, Steps (gp Γ).tables (ge Γ) below (U'.setTop (F0 m (pc + 4) ls (.ref (ra Γ (nx h)) :: S.map (cw Γ)))) target → Steps (gp Γ).tables (ge Γ) below (T.setTop (F0 m pc ls (((cs.map (fun z => ((0 : Nat), z))).reverse ++ S).map (cw Γ)))) target := by
    have hdg : decode c.code pc = .ok (.multianewarray i nd, 4) := by rw [X.1]; exact hd
    have w := key (fun _ _ acts W' => ∃ U', SR Γ d h0 s m args below meth c U' (F h) ∧ W' = U'.setTop (F0 m pc ls (.ref (ra Γ (nx h)) :: S.map (cw Γ)))) (fun _ _ _ => False) (fun _ _ U' S' => ⟨U', S', rfl⟩)
    have w' : wpRun (Op.multianewarray.sem i nd) (fun _ W' _ => ∃ U', SR Γ d h0 s m args below meth c U' (F h) ∧ W' = U'.setTop (F0 m pc ls (.ref (ra Γ (nx h)) :: S.map (cw Γ)))) (fun _ _ _ => False) (ge Γ) (T.setTop (F0 m pc ls (((cs.map (fun z => ((0 : Nat), z))).reverse ++ S).map (cw Γ)))) := w
    have w2 := (wpRun_iff_run _ _ _ _ _).mp w'
    cases hr : (Op.multianewarray.sem i nd).run (ge Γ) (T.setTop (F0 m pc ls (((cs.map (fun z => ((0 : Nat), z))).reverse ++ S).map (cw Γ)))) with
    | ok a s₁ acts =>
      rw [hr] at w2
      obtain ⟨U', S', e1⟩ := w2
      refine ⟨U', S', fun target ht => ?_⟩
      refine Steps.instr (c := c) (f := F0 m pc ls (((cs.map (fun z => ((0 : Nat), z))).reverse ++ S).map (cw Γ))) St.here ?_
      show (match decode c.code pc with | .ok (i, len) => _ | .error _ => False)
      rw [hdg]
      show wpRun ((gp Γ).tables.exec (.multianewarray i nd)) _ _ (ge Γ) _
      rw [g.ex]
      refine (wpRun_iff_run _ _ _ _ _).mpr ?_
      have hr' : (Jvm.exec (.multianewarray i nd)).run (ge Γ) (T.setTop (F0 m pc ls (((cs.map (fun z => ((0 : Nat), z))).reverse ++ S).map (cw Γ)))) = .ok a s₁ acts := hr
      rw [hr']
      intro acts2
      rw [e1, afterInstr_ok]
      exact ht
    | ctl x s₁ acts =>
      rw [hr] at w2
      cases x <;> exact w2.elim
  obtain ⟨U', S', st⟩ := ex
  obtain ⟨t, a1, b1⟩ := fin_ U' S'
  exact ⟨t, st t a1, b1⟩
theorem mL_mIn (a κ m : Int) (g0 : Hp) : ∀ k : Nat, mL (fun h => mk h κ m) a g0 k = mIn g0 a κ m k
  | 0 => rfl
  | k + 1 => by
    show up (mk (mL _ a g0 k) κ m) a k (nx (mL _ a g0 k)) = up (mk (mIn g0 a κ m k) κ m) a k (nx (mIn g0 a κ m k))
    rw [mL_mIn a κ m g0 k]
theorem mL_mIn3 (a κ2 κ1 n m : Int) (g0 : Hp) : ∀ k : Nat, mL (fun h => m2k h κ2 κ1 n m) a g0 k = mIn3 g0 a κ2 κ1 n m k
  | 0 => rfl
  | k + 1 => by
    show up (m2k (mL _ a g0 k) κ2 κ1 n m) a k (nx (mL _ a g0 k)) = up (m2k (mIn3 g0 a κ2 κ1 n m k) κ2 κ1 n m) a k (nx (mIn3 g0 a κ2 κ1 n m k))
    rw [mL_mIn3 a κ2 κ1 n m g0 k]
theorem mIn_nx (g0 : Hp) (a κ m : Int) : ∀ k : Nat, nx (mIn g0 a κ m k) = nx g0 + k ∧ us (mIn g0 a κ m k) = us g0 + k * m
  | 0 => ⟨by show nx g0 = nx g0 + 0; omega, by show us g0 = us g0 + 0 * m; omega⟩
  | k + 1 => by
    obtain ⟨h1, h2⟩ := mIn_nx g0 a κ m k
    refine ⟨?_, ?_⟩
    · show nx (mIn g0 a κ m k) + 1 = nx g0 + ((k + 1 : Nat) : Int)
      rw [h1]; omega
    · show us (mIn g0 a κ m k) + m = us g0 + ((k + 1 : Nat) : Int) * m
      rw [h2, Int.natCast_add, Int.add_mul]; omega
theorem m2k_nx {h : Hp} {κ2 κ1 n m : Int} (n0 : 0 ≤ n) : nx (m2k h κ2 κ1 n m) = nx h + 1 + n ∧ us (m2k h κ2 κ1 n m) = us h + n + n * m := by
  obtain ⟨h1, h2⟩ := mIn_nx (mk h κ2 n) (nx h) κ1 m n.toNat
  have e : ((n.toNat : Nat) : Int) = n := Int.toNat_of_nonneg n0
  rw [e] at h1 h2
  exact ⟨h1, h2⟩
theorem mIn_ext {g0 : Hp} {a κ m : Int} (m0 : 0 ≤ m) : ∀ k : Nat, ext g0 (mIn g0 a κ m k)
  | 0 => ext.rf _
  | k + 1 => (mIn_ext m0 k).tr ((ext.new (κ := κ) m0).tr (ext.put (by omega)))
theorem m2k_ext {h : Hp} {κ2 κ1 n m : Int} (n0 : 0 ≤ n) (m0 : 0 ≤ m) : ext h (m2k h κ2 κ1 n m) := (ext.new (κ := κ2) n0).tr (mIn_ext m0 _)
theorem m2k_kn {h : Hp} {κ2 κ1 n m : Int} (m0 : 0 ≤ m) (hx : 0 < nx h) : kn (m2k h κ2 κ1 n m) (nx h) = κ2 :=
  ((mIn_ext (g0 := mk h κ2 n) (a := nx h) (κ := κ1) m0 n.toNat).2.2 (nx h) hx (by rw [nx_mk]; omega)).1.trans (kn_mk_new h κ2 n)
theorem noneg {z : Int} (z0 : 0 ≤ z) (z1 : z ≤ 65536) : decide (I32 z < 0) = false := by
  refine decide_eq_false fun q => ?_
  have := (I32_lt (show r32 z by unfold r32; omega) (show r32 0 by unfold r32; omega)).mp q
  omega
theorem mkr_two (g : GG Γ) {h0 : Hp} {s : State} {m' : MethodId} {args : Array Value} {below : List Frame} {meth : Method} {c : Code} {f : JFrame} {κ κ1 : Nat} (h64 : 64 ≤ κ) (h83 : κ < 83) (k64 : 64 ≤ κ1) (k83 : κ1 < 83) (hket : ket κ = κ1 + 10) {n m : Int} (n0 : 0 ≤ n) (n1 : n ≤ 65536) (m0 : 0 ≤ m) (m1 : m ≤ 65536) :
    Mkr Γ d h0 s m' args below meth c f κ [I32 n, I32 m] (fun h => m2k h κ κ1 n m) (fun h => nx h + 1 + n ≤ NM ∧ us h + n + n * m ≤ UM) := by
  have I := mkr_more (Γ := Γ) (d := d) (h0 := h0) (s := s) (m := m') (args := args) (below := below) (meth := meth) (c := c) g (f := f) h64 h83 k64 k83 hket n0 n1 (r0 := I32 m) (rs := []) (by simp [noneg m0 m1]) (F := fun h => mk h κ1 m) (R := fun h => nx h + 1 ≤ NM ∧ us h + m ≤ UM) (R' := fun h => nx h + 1 + n ≤ NM ∧ us h + n + n * m ≤ UM)
    (fun h hx => ⟨ext.new m0, by rw [nx_mk]; omega, kn_mk_new h κ1 m⟩) (mkr_one g k64 k83 m0 m1) (fun h hR hx => by
      have hnm : 0 ≤ n * m := Int.mul_nonneg n0 m0
      refine ⟨by omega, by omega, fun k hk => ?_⟩
      rw [mL_mIn]
      obtain ⟨h1, h2⟩ := mIn_nx (mk h κ n) (nx h) κ1 m k
      rw [nx_mk] at h1
      rw [us_mk] at h2
      have h3 : ((k : Int) + 1) * m ≤ n * m := Int.mul_le_mul_of_nonneg_right (by omega) m0
      rw [Int.add_mul] at h3
      exact ⟨by omega, by omega⟩)
  intro U h Q E dd acts S hR hq
  refine I U h Q E dd acts S hR (fun dd' acts' U' S' => hq dd' acts' U' ?_)
  dsimp only at S' ⊢
  rw [mL_mIn] at S'
  exact S'
theorem q_m2k (g : GG Γ) {i κ κ1 u : Nat} {ki k1 n m : Int} (T : NA κ u ki) (T1 : k1 = (κ1 : Int) ∧ ket κ = κ1 + 10 ∧ Nat.ble 64 κ1 = true ∧ Nat.blt κ1 83 = true) (C : CA md.1.cls i κ) (o : decB md pc (ee (.multianewarray i 2) 4 :: r) fin = true) (e : m2kR h ki k1 n m) (k : 64 ≤ nx h → decB md (pc + 4) r fin = true → Rr Γ d md (pc + 4) L ((u, nx h) :: S) (m2k h ki k1 n m) KR KT) : Rr Γ d md pc L ((0, m) :: (0, n) :: S) h KR KT := by
  obtain ⟨h64, h83, rfl, rfl⟩ := T
  obtain ⟨rfl, hket, hk1, hk2⟩ := T1
  obtain ⟨n0, n1, m0, m1, b1, b2⟩ := e
  have hκ1 : 64 ≤ κ1 ∧ κ1 < 83 := ⟨Nat.le_of_ble_eq_true hk1, blt_t hk2⟩
  exact mul_go g (cs := [n, m]) h64 h83 C (dA o) rfl (by decide) (F := fun h => m2k h κ κ1 n m) (R := fun h => nx h + 1 + n ≤ NM ∧ us h + n + n * m ≤ UM) ⟨b1, b2⟩ (fun hx => ⟨m2k_ext n0 m0, by rw [(m2k_nx n0).1]; omega, m2k_kn m0 (by omega)⟩) (fun h0 s m' args below meth c f => mkr_two g h64 h83 hκ1.1 hκ1.2 hket n0 n1 m0 m1) (fun q => k q (dB o))
theorem q_m3k (g : GG Γ) {i κ κ2 κ1 u : Nat} {ki k2 k1 l n m : Int} (T : NA κ u ki) (T1 : k2 = (κ2 : Int) ∧ ket κ = κ2 + 10 ∧ k1 = (κ1 : Int) ∧ ket κ2 = κ1 + 10 ∧ Nat.ble 64 κ2 = true ∧ Nat.blt κ2 83 = true) (C : CA md.1.cls i κ) (o : decB md pc (ee (.multianewarray i 3) 4 :: r) fin = true) (e : m3kR h ki k2 k1 l n m) (k : 64 ≤ nx h → decB md (pc + 4) r fin = true → Rr Γ d md (pc + 4) L ((u, nx h) :: S) (m3k h ki k2 k1 l n m) KR KT) : Rr Γ d md pc L ((0, m) :: (0, n) :: (0, l) :: S) h KR KT := by
  obtain ⟨h64, h83, rfl, rfl⟩ := T
  obtain ⟨rfl, hket, rfl, hket2, hk1, hk2⟩ := T1
  obtain ⟨l0, l1, n0, n1, m0, m1, b1, b2⟩ := e
  have hκ2 : κ = 70 ∧ κ2 = 68 ∧ κ1 = 66 := k_in3 h64 h83 hket hket2 (Nat.le_of_ble_eq_true hk1) (blt_t hk2)
  obtain ⟨rfl, rfl, rfl⟩ := hκ2
  have hlnm : 0 ≤ n * m := Int.mul_nonneg n0 m0
  have I : ∀ (h0 : Hp) (s : State) (m' : MethodId) (args : Array Value) (below : List Frame) (meth : Method) (c : Code) (f : JFrame), Mkr Γ d h0 s m' args below meth c f 70 [I32 l, I32 n, I32 m] (fun h => m3k h 70 68 66 l n m) (fun h => nx h + 1 + l * (1 + n) ≤ NM ∧ us h + l + l * (n + n * m) ≤ UM) := by
    intro h0 s m' args below meth c f
    have I := mkr_more (Γ := Γ) (d := d) (h0 := h0) (s := s) (m := m') (args := args) (below := below) (meth := meth) (c := c) g (f := f) (κ := 70) (κ1 := 68) (by decide) (by decide) (by decide) (by decide) rfl l0 l1 (r0 := I32 n) (rs := [I32 m]) (by simp [noneg n0 n1, noneg m0 m1]) (F := fun h => m2k h 68 66 n m) (R := fun h => nx h + 1 + n ≤ NM ∧ us h + n + n * m ≤ UM) (R' := fun h => nx h + 1 + l * (1 + n) ≤ NM ∧ us h + l + l * (n + n * m) ≤ UM)
      (fun h hx => ⟨m2k_ext n0 m0, by rw [(m2k_nx n0).1]; omega, m2k_kn m0 (by omega)⟩) (mkr_two g (by decide) (by decide) (by decide) (by decide) rfl n0 n1 m0 m1) (fun h hR hx => by
        have hl1 : 0 ≤ l * (1 + n) := Int.mul_nonneg l0 (by omega)
        have hl2 : 0 ≤ l * (n + n * m) := Int.mul_nonneg l0 (by omega)
        refine ⟨by omega, by omega, fun k hk => ?_⟩
        have hs : ∀ k : Nat, nx (mL (fun h => m2k h 68 66 n m) (nx h) (mk h ((70 : Nat) : Int) l) k) = nx h + 1 + (k : Int) * (1 + n) ∧ us (mL (fun h => m2k h 68 66 n m) (nx h) (mk h ((70 : Nat) : Int) l) k) = us h + l + (k : Int) * (n + n * m) := by
          intro k
          induction k with
          | zero => exact ⟨by show nx h + 1 = nx h + 1 + 0 * (1 + n); omega, by show us h + l = us h + l + 0 * (n + n * m); omega⟩
          | succ k ih =>
            obtain ⟨i1, i2⟩ := ih
            refine ⟨?_, ?_⟩
            · show nx (m2k (mL (fun h => m2k h 68 66 n m) (nx h) (mk h ((70 : Nat) : Int) l) k) 68 66 n m) = _
              rw [(m2k_nx n0).1, i1, Int.natCast_add, Int.add_mul]; omega
            · show us (m2k (mL (fun h => m2k h 68 66 n m) (nx h) (mk h ((70 : Nat) : Int) l) k) 68 66 n m) = _
              rw [(m2k_nx n0).2, i2, Int.natCast_add, Int.add_mul]; omega
        obtain ⟨h1, h2⟩ := hs k
        have h3 : ((k : Int) + 1) * (1 + n) ≤ l * (1 + n) := Int.mul_le_mul_of_nonneg_right (by omega) (by omega)
        have h4 : ((k : Int) + 1) * (n + n * m) ≤ l * (n + n * m) := Int.mul_le_mul_of_nonneg_right (by omega) (by omega)
        rw [Int.add_mul] at h3 h4
        exact ⟨by omega, by omega⟩)
    intro U h Q E dd acts S hR hq
    refine I U h Q E dd acts S hR (fun dd' acts' U' S' => hq dd' acts' U' ?_)
    dsimp only at S' ⊢
    rw [mL_mIn3] at S'
    exact S'
  have hx3 : 64 ≤ nx h → ext h (m3k h 70 68 66 l n m) ∧ nx h < nx (m3k h 70 68 66 l n m) ∧ kn (m3k h 70 68 66 l n m) (nx h) = (70 : Nat) := by
    intro hx
    have hs : ∀ k : Nat, ext (mk h 70 l) (mIn3 (mk h 70 l) (nx h) 68 66 n m k) := by
      intro k
      induction k with
      | zero => exact ext.rf _
      | succ k ih => exact ih.tr ((m2k_ext n0 m0).tr (ext.put (by omega)))
    have h1 := hs l.toNat
    refine ⟨(ext.new l0).tr h1, ?_, ?_⟩
    · have := h1.1
      rw [nx_mk] at this
      show nx h < nx (mIn3 (mk h 70 l) (nx h) 68 66 n m l.toNat)
      omega
    · exact (h1.2.2 (nx h) (by omega) (by rw [nx_mk]; omega)).1.trans (kn_mk_new h 70 l)
  exact mul_go g (cs := [l, n, m]) (κ := 70) (by decide) (by decide) C (dA o) rfl (by decide) (F := fun h => m3k h 70 68 66 l n m) (R := fun h => nx h + 1 + l * (1 + n) ≤ NM ∧ us h + l + l * (n + n * m) ≤ UM) ⟨b1, b2⟩ hx3 I (fun q => k q (dB o))
end MULTI2
