/-! THE JUDGEMENT Rr: from pc with these locals, this stack, this heap of the small machine, the method comes to its end: returned with KR, or threw with KT -/
abbrev MD : Type := MethodName × ByteArray × Nat × Option FieldType × Nat × List (Nat × Nat × Nat × Nat)
abbrev Lc : Type := List (Nat × Vl)
abbrev Kt : Type := Int → Hp → Prop
abbrev NM : Int := 608256
abbrev UM : Int := 7228488
def Cx (Γ : Gam) (md : MD) (s : State) (m : MethodId) (meth : Method) (c : Code) : Prop :=
  c.code = md.2.1 ∧ meth.sig.returnType = md.2.2.2.1 ∧ meth.locks = false ∧ c.maxLocals = md.2.2.1 ∧ s.vm.findClass md.1.cls = some m.cls ∧ meth.name = md.1.name ∧ (gs Γ).WarmedH s.vm ∧ c.exceptionTable.toList = tableOf md.2.2.2.2.2 ∧ ∀ q : Nat, q < (gs Γ).heap.size → s.heap[q]? = (gs Γ).heap[q]?
def Rm (d : Nat) (h0 : Hp) : Room := { frames := d, cells := (NM - nx h0).toNat, slots := (UM - us h0).toNat, locals := 400 * d }
def bd (h : Hp) : Prop := nx h ≤ NM ∧ us h ≤ UM
def rvO (Γ : Gam) (rc : Nat) (r : Int) : Option Value := if rc = 99 then none else some (cv Γ rc r)
def okr (rc : Nat) (h : Hp) (r : Int) : Prop := if rc = 99 then r = 0 else okv h rc r
abbrev Zq (Γ : Gam) (rc : Nat) (h0 : Hp) (KR KT : Kt) (s : State) (o : Outcome) (t : State) : Prop := s.WarmedH t.vm ∧ ∃ h2, HR Γ h2 t.heap ∧ ext h0 h2 ∧ bd h2 ∧
  (∃ L : List Loc, s.sameButNew ({ t with vm := s.vm } : State) L (nx h2 - nx h0).toNat (us h2 - us h0).toNat ∧ ∀ q ∈ L, (gs Γ).heap.size ≤ q.base) ∧
  ((∃ r, o = .returned (rvO Γ rc r) ∧ okr rc h2 r ∧ KR r h2) ∨ ∃ (a : Int) (κ : Nat), o = .threw (ra Γ a) ∧ okv h2 (κ + 10) a ∧ a ≠ 0 ∧ κ < 29 ∧ KT a h2)
def Zt (Γ : Gam) (md : MD) (h0 : Hp) (KR KT : Kt) (below : List Frame) (s : State) : State → Prop := fun t => ∃ o, t.status = .running ∧ Ended t below o ∧ Zq Γ md.2.2.2.2.1 h0 KR KT s o t
def cL (Γ : Gam) (L : Lc) : List (Nat × Value) := L.map fun q => (q.1, cw Γ q.2)
def okL (h : Hp) (L : Lc) : Prop := ∀ q ∈ L, okv h q.2.1 q.2.2
def okS (h : Hp) (S : List Vl) : Prop := ∀ v ∈ S, okv h v.1 v.2
def Rr (Γ : Gam) (d : Nat) (md : MD) (pc : Nat) (L : Lc) (S : List Vl) (h : Hp) (KR KT : Kt) : Prop :=
  ∀ (h0 : Hp) (s : State) (m : MethodId) (args : Array Value) (below : List Frame) (meth : Method) (c : Code) (H : Heap) (locs : List Loc) (ls : Array Slot),
    Cx Γ md s m meth c → ext h0 h → HR Γ h H → (∀ q ∈ locs, (gs Γ).heap.size ≤ q.base) → lv_has ls md.2.2.1 (cL Γ L) → okL h L → okS h S → bd h →
    W (gp Γ) (gl Γ) (ge Γ) (Rm d h0) s m args below meth c H locs (nx h - nx h0).toNat (us h - us h0).toNat (Zt Γ md h0 KR KT below s) (F0 m pc ls (S.map (cw Γ)))
theorem okS.c {h : Hp} {S : List Vl} {t : Nat} {x : Int} (k : okv h t x) (hS : okS h S) : okS h ((t, x) :: S) := by
  intro v hv
  rcases List.mem_cons.mp hv with rfl | hv
  · exact k
  · exact hS v hv
theorem okS.h {h : Hp} {S : List Vl} {v : Vl} (hS : okS h (v :: S)) : okv h v.1 v.2 := hS v List.mem_cons_self
theorem okS.t {h : Hp} {S : List Vl} {v : Vl} (hS : okS h (v :: S)) : okS h S := fun x hx => hS x (List.mem_cons_of_mem _ hx)
theorem okS.e {h h2 : Hp} {S : List Vl} (e : ext h h2) (hS : okS h S) : okS h2 S := fun v hv => (hS v hv).ext e
theorem okL.e {h h2 : Hp} {L : Lc} (e : ext h h2) (hS : okL h L) : okL h2 L := fun v hv => (hS v hv).ext e
section RULES
variable {Γ : Gam} {d : Nat} {md : MD} {pc : Nat} {L : Lc} {S : List Vl} {h : Hp} {KR KT : Kt}
theorem R_iconst (g : GG Γ) {n : Int} (hn : r32 n) (hd : decode md.2.1 pc = .ok (.iconst n, 1)) (k : Rr Γ d md (pc + 1) L ((0, n) :: S) h KR KT) : Rr Γ d md pc L S h KR KT := by
  intro h0 s m args below meth c H locs ls X hE hH hlo hl hL hS hb
  have K := k h0 s m args below meth c H locs ls X hE hH hlo hl hL (hS.c hn) hb
  refine lv_iconst (v := I32 n) g.ex X.1 hd rfl ?_
  exact K
theorem R_bipush (g : GG Γ) {n : Int} (hn : -128 ≤ n ∧ n < 128) (hd : decode md.2.1 pc = .ok (.bipush n, 2)) (k : Rr Γ d md (pc + 2) L ((0, n) :: S) h KR KT) : Rr Γ d md pc L S h KR KT := by
  intro h0 s m args below meth c H locs ls X hE hH hlo hl hL hS hb
  have e1 : (Int8.ofInt n).toInt32 = I32 n := by
    rw [← I32_of (Int8.ofInt n).toInt32, Int8.toInt_toInt32, Int8.toInt_ofInt]
    congr 1
    rw [← w8_bmod]; unfold w8; omega
  have K := k h0 s m args below meth c H locs ls X hE hH hlo hl hL (hS.c (show r32 n by unfold r32; omega)) hb
  refine lv_bipush (v := I32 n) g.ex X.1 hd e1 ?_
  exact K
theorem R_sipush (g : GG Γ) {n : Int} (hn : -32768 ≤ n ∧ n < 32768) (hd : decode md.2.1 pc = .ok (.sipush n, 3)) (k : Rr Γ d md (pc + 3) L ((0, n) :: S) h KR KT) : Rr Γ d md pc L S h KR KT := by
  intro h0 s m args below meth c H locs ls X hE hH hlo hl hL hS hb
  have e1 : (Int16.ofInt n).toInt32 = I32 n := by
    rw [← I32_of (Int16.ofInt n).toInt32, Int16.toInt_toInt32, Int16.toInt_ofInt]
    congr 1
    rw [← w16_bmod]; unfold w16; omega
  have K := k h0 s m args below meth c H locs ls X hE hH hlo hl hL (hS.c (show r32 n by unfold r32; omega)) hb
  refine lv_sipush (v := I32 n) g.ex X.1 hd e1 ?_
  exact K
theorem R_lconst (g : GG Γ) {n : Fin 2} (hd : decode md.2.1 pc = .ok (.lconst n, 1)) (k : Rr Γ d md (pc + 1) L ((1, (n.val : Int)) :: S) h KR KT) : Rr Γ d md pc L S h KR KT := by
  intro h0 s m args below meth c H locs ls X hE hH hlo hl hL hS hb
  have hr : r64 (n.val : Int) := by have := n.isLt; unfold r64; omega
  have K := k h0 s m args below meth c H locs ls X hE hH hlo hl hL (hS.c hr) hb
  refine lv_lconst (v := I64 (n.val : Int)) g.ex X.1 hd ?_ ?_
  · have : n = 0 ∨ n = 1 := by have := n.isLt; omega
    rcases this with rfl | rfl <;> first | rfl | decide +kernel
  · exact K
theorem R_null (g : GG Γ) {t : Nat} (hd : decode md.2.1 pc = .ok (.aconst_null, 1)) (k : Rr Γ d md (pc + 1) L ((t + 9, 0) :: S) h KR KT) : Rr Γ d md pc L S h KR KT := by
  intro h0 s m args below meth c H locs ls X hE hH hlo hl hL hS hb
  have hr : okv h (t + 9) 0 := by
    match t with
    | 0 => exact Or.inl rfl
    | t + 1 => exact Or.inl rfl
  have K := k h0 s m args below meth c H locs ls X hE hH hlo hl hL (hS.c hr) hb
  refine lv_null g.ex X.1 hd ?_
  exact K
theorem R_iadd (g : GG Γ) {a b : Int} (hd : decode md.2.1 pc = .ok (.iadd, 1)) (k : Rr Γ d md (pc + 1) L ((0, w32 (a + b)) :: S) h KR KT) : Rr Γ d md pc L ((0, b) :: (0, a) :: S) h KR KT := by
  intro h0 s m args below meth c H locs ls X hE hH hlo hl hL hS hb
  have K := k h0 s m args below meth c H locs ls X hE hH hlo hl hL (hS.t.t.c (w32_r _)) hb
  refine lv_iadd g.ex X.1 hd ?_
  rw [I32_add]
  exact K
theorem R_isub (g : GG Γ) {a b : Int} (hd : decode md.2.1 pc = .ok (.isub, 1)) (k : Rr Γ d md (pc + 1) L ((0, w32 (a - b)) :: S) h KR KT) : Rr Γ d md pc L ((0, b) :: (0, a) :: S) h KR KT := by
  intro h0 s m args below meth c H locs ls X hE hH hlo hl hL hS hb
  have K := k h0 s m args below meth c H locs ls X hE hH hlo hl hL (hS.t.t.c (w32_r _)) hb
  refine lv_isub g.ex X.1 hd ?_
  rw [I32_sub]
  exact K
theorem R_imul (g : GG Γ) {a b : Int} (hd : decode md.2.1 pc = .ok (.imul, 1)) (k : Rr Γ d md (pc + 1) L ((0, w32 (a * b)) :: S) h KR KT) : Rr Γ d md pc L ((0, b) :: (0, a) :: S) h KR KT := by
  intro h0 s m args below meth c H locs ls X hE hH hlo hl hL hS hb
  have K := k h0 s m args below meth c H locs ls X hE hH hlo hl hL (hS.t.t.c (w32_r _)) hb
  refine lv_imul g.ex X.1 hd ?_
  rw [I32_mul]
  exact K
theorem R_iand (g : GG Γ) {a b : Int} (hd : decode md.2.1 pc = .ok (.iand, 1)) (k : Rr Γ d md (pc + 1) L ((0, iand a b) :: S) h KR KT) : Rr Γ d md pc L ((0, b) :: (0, a) :: S) h KR KT := by
  intro h0 s m args below meth c H locs ls X hE hH hlo hl hL hS hb
  have K := k h0 s m args below meth c H locs ls X hE hH hlo hl hL (hS.t.t.c (I32_eqr _)) hb
  refine lv_iand g.ex X.1 hd ?_
  rw [show I32 a &&& I32 b = I32 (iand a b) from (I32_of _).symm]
  exact K
theorem R_ior (g : GG Γ) {a b : Int} (hd : decode md.2.1 pc = .ok (.ior, 1)) (k : Rr Γ d md (pc + 1) L ((0, ior a b) :: S) h KR KT) : Rr Γ d md pc L ((0, b) :: (0, a) :: S) h KR KT := by
  intro h0 s m args below meth c H locs ls X hE hH hlo hl hL hS hb
  have K := k h0 s m args below meth c H locs ls X hE hH hlo hl hL (hS.t.t.c (I32_eqr _)) hb
  refine lv_ior g.ex X.1 hd ?_
  rw [show I32 a ||| I32 b = I32 (ior a b) from (I32_of _).symm]
  exact K
theorem R_ixor (g : GG Γ) {a b : Int} (hd : decode md.2.1 pc = .ok (.ixor, 1)) (k : Rr Γ d md (pc + 1) L ((0, ixor a b) :: S) h KR KT) : Rr Γ d md pc L ((0, b) :: (0, a) :: S) h KR KT := by
  intro h0 s m args below meth c H locs ls X hE hH hlo hl hL hS hb
  have K := k h0 s m args below meth c H locs ls X hE hH hlo hl hL (hS.t.t.c (I32_eqr _)) hb
  refine lv_ixor g.ex X.1 hd ?_
  rw [show I32 a ^^^ I32 b = I32 (ixor a b) from (I32_of _).symm]
  exact K
theorem R_ishl (g : GG Γ) {a b : Int} (hd : decode md.2.1 pc = .ok (.ishl, 1)) (k : Rr Γ d md (pc + 1) L ((0, ishl a b) :: S) h KR KT) : Rr Γ d md pc L ((0, b) :: (0, a) :: S) h KR KT := by
  intro h0 s m args below meth c H locs ls X hE hH hlo hl hL hS hb
  have K := k h0 s m args below meth c H locs ls X hE hH hlo hl hL (hS.t.t.c (I32_eqr _)) hb
  refine lv_ishl g.ex X.1 hd ?_
  rw [show I32 a <<< (I32 b &&& 31) = I32 (ishl a b) from (I32_of _).symm]
  exact K
theorem R_ishr (g : GG Γ) {a b : Int} (hd : decode md.2.1 pc = .ok (.ishr, 1)) (k : Rr Γ d md (pc + 1) L ((0, ishr a b) :: S) h KR KT) : Rr Γ d md pc L ((0, b) :: (0, a) :: S) h KR KT := by
  intro h0 s m args below meth c H locs ls X hE hH hlo hl hL hS hb
  have K := k h0 s m args below meth c H locs ls X hE hH hlo hl hL (hS.t.t.c (I32_eqr _)) hb
  refine lv_ishr g.ex X.1 hd ?_
  rw [show I32 a >>> (I32 b &&& 31) = I32 (ishr a b) from (I32_of _).symm]
  exact K
theorem R_iushr (g : GG Γ) {a b : Int} (hd : decode md.2.1 pc = .ok (.iushr, 1)) (k : Rr Γ d md (pc + 1) L ((0, iushr a b) :: S) h KR KT) : Rr Γ d md pc L ((0, b) :: (0, a) :: S) h KR KT := by
  intro h0 s m args below meth c H locs ls X hE hH hlo hl hL hS hb
  have K := k h0 s m args below meth c H locs ls X hE hH hlo hl hL (hS.t.t.c (I32_eqr _)) hb
  refine lv_iushr (v := I32 (iushr a b)) g.ex X.1 hd (I32_of _).symm ?_
  exact K
theorem R_idiv (g : GG Γ) {a b : Int} (hne : b ≠ 0) (hd : decode md.2.1 pc = .ok (.idiv, 1)) (k : Rr Γ d md (pc + 1) L ((0, w32 (a.tdiv b)) :: S) h KR KT) : Rr Γ d md pc L ((0, b) :: (0, a) :: S) h KR KT := by
  intro h0 s m args below meth c H locs ls X hE hH hlo hl hL hS hb
  have K := k h0 s m args below meth c H locs ls X hE hH hlo hl hL (hS.t.t.c (w32_r _)) hb
  refine lv_idiv g.ex X.1 hd (fun q => hne ((I32_inj hS.h (show r32 0 by unfold r32; omega)).mp q)) ?_
  rw [I32_div (show r32 a from hS.t.h) (show r32 b from hS.h)]
  exact K
theorem R_irem (g : GG Γ) {a b : Int} (hne : b ≠ 0) (hd : decode md.2.1 pc = .ok (.irem, 1)) (k : Rr Γ d md (pc + 1) L ((0, a.tmod b) :: S) h KR KT) : Rr Γ d md pc L ((0, b) :: (0, a) :: S) h KR KT := by
  intro h0 s m args below meth c H locs ls X hE hH hlo hl hL hS hb
  have K := k h0 s m args below meth c H locs ls X hE hH hlo hl hL (hS.t.t.c (tmod_r32 hS.t.h)) hb
  refine lv_irem g.ex X.1 hd (fun q => hne ((I32_inj hS.h (show r32 0 by unfold r32; omega)).mp q)) ?_
  rw [I32_rem (show r32 a from hS.t.h) (show r32 b from hS.h)]
  exact K
theorem R_ineg (g : GG Γ) {a : Int} (hd : decode md.2.1 pc = .ok (.ineg, 1)) (k : Rr Γ d md (pc + 1) L ((0, w32 (-a)) :: S) h KR KT) : Rr Γ d md pc L ((0, a) :: S) h KR KT := by
  intro h0 s m args below meth c H locs ls X hE hH hlo hl hL hS hb
  have K := k h0 s m args below meth c H locs ls X hE hH hlo hl hL (hS.t.c (w32_r _)) hb
  refine lv_ineg g.ex X.1 hd ?_
  rw [I32_neg]
  exact K
theorem R_ladd (g : GG Γ) {a b : Int} (hd : decode md.2.1 pc = .ok (.ladd, 1)) (k : Rr Γ d md (pc + 1) L ((1, w64 (a + b)) :: S) h KR KT) : Rr Γ d md pc L ((1, b) :: (1, a) :: S) h KR KT := by
  intro h0 s m args below meth c H locs ls X hE hH hlo hl hL hS hb
  have K := k h0 s m args below meth c H locs ls X hE hH hlo hl hL (hS.t.t.c (w64_r _)) hb
  refine lv_ladd g.ex X.1 hd ?_
  rw [I64_add]
  exact K
theorem R_lsub (g : GG Γ) {a b : Int} (hd : decode md.2.1 pc = .ok (.lsub, 1)) (k : Rr Γ d md (pc + 1) L ((1, w64 (a - b)) :: S) h KR KT) : Rr Γ d md pc L ((1, b) :: (1, a) :: S) h KR KT := by
  intro h0 s m args below meth c H locs ls X hE hH hlo hl hL hS hb
  have K := k h0 s m args below meth c H locs ls X hE hH hlo hl hL (hS.t.t.c (w64_r _)) hb
  refine lv_lsub g.ex X.1 hd ?_
  rw [I64_sub]
  exact K
theorem R_lmul (g : GG Γ) {a b : Int} (hd : decode md.2.1 pc = .ok (.lmul, 1)) (k : Rr Γ d md (pc + 1) L ((1, w64 (a * b)) :: S) h KR KT) : Rr Γ d md pc L ((1, b) :: (1, a) :: S) h KR KT := by
  intro h0 s m args below meth c H locs ls X hE hH hlo hl hL hS hb
  have K := k h0 s m args below meth c H locs ls X hE hH hlo hl hL (hS.t.t.c (w64_r _)) hb
  refine lv_lmul g.ex X.1 hd ?_
  rw [I64_mul]
  exact K
theorem R_land (g : GG Γ) {a b : Int} (hd : decode md.2.1 pc = .ok (.land, 1)) (k : Rr Γ d md (pc + 1) L ((1, land' a b) :: S) h KR KT) : Rr Γ d md pc L ((1, b) :: (1, a) :: S) h KR KT := by
  intro h0 s m args below meth c H locs ls X hE hH hlo hl hL hS hb
  have K := k h0 s m args below meth c H locs ls X hE hH hlo hl hL (hS.t.t.c (I64_eqr _)) hb
  refine lv_land g.ex X.1 hd ?_
  rw [show I64 a &&& I64 b = I64 (land' a b) from (I64_of _).symm]
  exact K
theorem R_lor (g : GG Γ) {a b : Int} (hd : decode md.2.1 pc = .ok (.lor, 1)) (k : Rr Γ d md (pc + 1) L ((1, lor' a b) :: S) h KR KT) : Rr Γ d md pc L ((1, b) :: (1, a) :: S) h KR KT := by
  intro h0 s m args below meth c H locs ls X hE hH hlo hl hL hS hb
  have K := k h0 s m args below meth c H locs ls X hE hH hlo hl hL (hS.t.t.c (I64_eqr _)) hb
  refine lv_lor g.ex X.1 hd ?_
  rw [show I64 a ||| I64 b = I64 (lor' a b) from (I64_of _).symm]
  exact K
theorem R_lxor (g : GG Γ) {a b : Int} (hd : decode md.2.1 pc = .ok (.lxor, 1)) (k : Rr Γ d md (pc + 1) L ((1, lxor' a b) :: S) h KR KT) : Rr Γ d md pc L ((1, b) :: (1, a) :: S) h KR KT := by
  intro h0 s m args below meth c H locs ls X hE hH hlo hl hL hS hb
  have K := k h0 s m args below meth c H locs ls X hE hH hlo hl hL (hS.t.t.c (I64_eqr _)) hb
  refine lv_lxor g.ex X.1 hd ?_
  rw [show I64 a ^^^ I64 b = I64 (lxor' a b) from (I64_of _).symm]
  exact K
theorem R_lshl (g : GG Γ) {a b : Int} (hd : decode md.2.1 pc = .ok (.lshl, 1)) (k : Rr Γ d md (pc + 1) L ((1, lshl' a b) :: S) h KR KT) : Rr Γ d md pc L ((0, b) :: (1, a) :: S) h KR KT := by
  intro h0 s m args below meth c H locs ls X hE hH hlo hl hL hS hb
  have K := k h0 s m args below meth c H locs ls X hE hH hlo hl hL (hS.t.t.c (I64_eqr _)) hb
  refine lv_lshl (v := I64 (lshl' a b)) g.ex X.1 hd (I64_of _).symm ?_
  exact K
theorem R_lshr (g : GG Γ) {a b : Int} (hd : decode md.2.1 pc = .ok (.lshr, 1)) (k : Rr Γ d md (pc + 1) L ((1, lshr' a b) :: S) h KR KT) : Rr Γ d md pc L ((0, b) :: (1, a) :: S) h KR KT := by
  intro h0 s m args below meth c H locs ls X hE hH hlo hl hL hS hb
  have K := k h0 s m args below meth c H locs ls X hE hH hlo hl hL (hS.t.t.c (I64_eqr _)) hb
  refine lv_lshr (v := I64 (lshr' a b)) g.ex X.1 hd (I64_of _).symm ?_
  exact K
theorem R_lushr (g : GG Γ) {a b : Int} (hd : decode md.2.1 pc = .ok (.lushr, 1)) (k : Rr Γ d md (pc + 1) L ((1, lushr' a b) :: S) h KR KT) : Rr Γ d md pc L ((0, b) :: (1, a) :: S) h KR KT := by
  intro h0 s m args below meth c H locs ls X hE hH hlo hl hL hS hb
  have K := k h0 s m args below meth c H locs ls X hE hH hlo hl hL (hS.t.t.c (I64_eqr _)) hb
  refine lv_lushr (v := I64 (lushr' a b)) g.ex X.1 hd (I64_of _).symm ?_
  exact K
theorem R_ldiv (g : GG Γ) {a b : Int} (hne : b ≠ 0) (hd : decode md.2.1 pc = .ok (.ldiv, 1)) (k : Rr Γ d md (pc + 1) L ((1, w64 (a.tdiv b)) :: S) h KR KT) : Rr Γ d md pc L ((1, b) :: (1, a) :: S) h KR KT := by
  intro h0 s m args below meth c H locs ls X hE hH hlo hl hL hS hb
  have K := k h0 s m args below meth c H locs ls X hE hH hlo hl hL (hS.t.t.c (w64_r _)) hb
  refine lv_ldiv g.ex X.1 hd (fun q => hne ((I64_inj hS.h (show r64 0 by unfold r64; omega)).mp q)) ?_
  rw [I64_div (show r64 a from hS.t.h) (show r64 b from hS.h)]
  exact K
theorem R_lrem (g : GG Γ) {a b : Int} (hne : b ≠ 0) (hd : decode md.2.1 pc = .ok (.lrem, 1)) (k : Rr Γ d md (pc + 1) L ((1, a.tmod b) :: S) h KR KT) : Rr Γ d md pc L ((1, b) :: (1, a) :: S) h KR KT := by
  intro h0 s m args below meth c H locs ls X hE hH hlo hl hL hS hb
  have K := k h0 s m args below meth c H locs ls X hE hH hlo hl hL (hS.t.t.c (tmod_r64 hS.t.h)) hb
  refine lv_lrem g.ex X.1 hd (fun q => hne ((I64_inj hS.h (show r64 0 by unfold r64; omega)).mp q)) ?_
  rw [I64_rem (show r64 a from hS.t.h) (show r64 b from hS.h)]
  exact K
theorem R_lneg (g : GG Γ) {a : Int} (hd : decode md.2.1 pc = .ok (.lneg, 1)) (k : Rr Γ d md (pc + 1) L ((1, w64 (-a)) :: S) h KR KT) : Rr Γ d md pc L ((1, a) :: S) h KR KT := by
  intro h0 s m args below meth c H locs ls X hE hH hlo hl hL hS hb
  have K := k h0 s m args below meth c H locs ls X hE hH hlo hl hL (hS.t.c (w64_r _)) hb
  refine lv_lneg g.ex X.1 hd ?_
  rw [I64_neg]
  exact K
theorem R_lcmp (g : GG Γ) {a b : Int} (hd : decode md.2.1 pc = .ok (.lcmp, 1)) (k : Rr Γ d md (pc + 1) L ((0, lcmp a b) :: S) h KR KT) : Rr Γ d md pc L ((1, b) :: (1, a) :: S) h KR KT := by
  intro h0 s m args below meth c H locs ls X hE hH hlo hl hL hS hb
  have K := k h0 s m args below meth c H locs ls X hE hH hlo hl hL (hS.t.t.c (lcmp_r _ _)) hb
  refine W.lcmp g.ex X.1 hd ?_
  rw [I32_cmp (show r64 a from hS.t.h) (show r64 b from hS.h)]
  exact K
theorem R_i2l (g : GG Γ) {a : Int} (hd : decode md.2.1 pc = .ok (.i2l, 1)) (k : Rr Γ d md (pc + 1) L ((1, a) :: S) h KR KT) : Rr Γ d md pc L ((0, a) :: S) h KR KT := by
  intro h0 s m args below meth c H locs ls X hE hH hlo hl hL hS hb
  have K := k h0 s m args below meth c H locs ls X hE hH hlo hl hL (hS.t.c (r32_r64 hS.h)) hb
  refine lv_i2l (v := I64 a) g.ex X.1 hd (I32_wide hS.h) ?_
  exact K
theorem R_l2i (g : GG Γ) {a : Int} (hd : decode md.2.1 pc = .ok (.l2i, 1)) (k : Rr Γ d md (pc + 1) L ((0, w32 a) :: S) h KR KT) : Rr Γ d md pc L ((1, a) :: S) h KR KT := by
  intro h0 s m args below meth c H locs ls X hE hH hlo hl hL hS hb
  have K := k h0 s m args below meth c H locs ls X hE hH hlo hl hL (hS.t.c (w32_r _)) hb
  refine lv_l2i (v := I32 (w32 a)) g.ex X.1 hd (I64_cut a) ?_
  exact K
theorem R_i2b (g : GG Γ) {a : Int} (hd : decode md.2.1 pc = .ok (.i2b, 1)) (k : Rr Γ d md (pc + 1) L ((0, w8 a) :: S) h KR KT) : Rr Γ d md pc L ((0, a) :: S) h KR KT := by
  intro h0 s m args below meth c H locs ls X hE hH hlo hl hL hS hb
  have K := k h0 s m args below meth c H locs ls X hE hH hlo hl hL (hS.t.c (w8_r _)) hb
  refine lv_i2b (v := I32 (w8 a)) g.ex X.1 hd (I32_b a) ?_
  exact K
theorem R_i2s (g : GG Γ) {a : Int} (hd : decode md.2.1 pc = .ok (.i2s, 1)) (k : Rr Γ d md (pc + 1) L ((0, w16 a) :: S) h KR KT) : Rr Γ d md pc L ((0, a) :: S) h KR KT := by
  intro h0 s m args below meth c H locs ls X hE hH hlo hl hL hS hb
  have K := k h0 s m args below meth c H locs ls X hE hH hlo hl hL (hS.t.c (w16_r _)) hb
  refine lv_i2s (v := I32 (w16 a)) g.ex X.1 hd (I32_s a) ?_
  exact K
theorem R_i2c (g : GG Γ) {a : Int} (hd : decode md.2.1 pc = .ok (.i2c, 1)) (k : Rr Γ d md (pc + 1) L ((0, i2c a) :: S) h KR KT) : Rr Γ d md pc L ((0, a) :: S) h KR KT := by
  intro h0 s m args below meth c H locs ls X hE hH hlo hl hL hS hb
  have K := k h0 s m args below meth c H locs ls X hE hH hlo hl hL (hS.t.c (I32_eqr _)) hb
  refine lv_i2c (v := I32 (i2c a)) g.ex X.1 hd (I32_of _).symm ?_
  exact K
theorem cat1 (Γ : Gam) {t : Nat} (x : Int) (ht : t ≠ 1) : (cv Γ t x).category = 1 := by
  match t, ht with
  | 0, _ => rfl
  | 2, _ => rfl
  | 3, _ => rfl
  | 4, _ => rfl
  | 5, _ => rfl
  | t + 6, _ =>
    show (if x = 0 then Value.null else Value.ref (ra Γ x)).category = 1
    split <;> rfl
theorem cat2 (Γ : Gam) (x : Int) : (cv Γ 1 x).category = 2 := rfl
theorem R_pop (g : GG Γ) {v : Vl} (hv : v.1 ≠ 1) (hd : decode md.2.1 pc = .ok (.pop, 1)) (k : Rr Γ d md (pc + 1) L S h KR KT) : Rr Γ d md pc L (v :: S) h KR KT := by
  intro h0 s m args below meth c H locs ls X hE hH hlo hl hL hS hb
  have K := k h0 s m args below meth c H locs ls X hE hH hlo hl hL hS.t hb
  refine lv_pop g.ex X.1 hd (cat1 Γ v.2 hv) ?_
  exact K
theorem R_dup (g : GG Γ) {v : Vl} (hv : v.1 ≠ 1) (hd : decode md.2.1 pc = .ok (.dup, 1)) (k : Rr Γ d md (pc + 1) L (v :: v :: S) h KR KT) : Rr Γ d md pc L (v :: S) h KR KT := by
  intro h0 s m args below meth c H locs ls X hE hH hlo hl hL hS hb
  have K := k h0 s m args below meth c H locs ls X hE hH hlo hl hL (hS.c hS.h) hb
  refine lv_dup g.ex X.1 hd (cat1 Γ v.2 hv) ?_
  exact K
theorem R_dup_x1 (g : GG Γ) {v u : Vl} (hv : v.1 ≠ 1) (hu : u.1 ≠ 1) (hd : decode md.2.1 pc = .ok (.dup_x1, 1)) (k : Rr Γ d md (pc + 1) L (v :: u :: v :: S) h KR KT) : Rr Γ d md pc L (v :: u :: S) h KR KT := by
  intro h0 s m args below meth c H locs ls X hE hH hlo hl hL hS hb
  have K := k h0 s m args below meth c H locs ls X hE hH hlo hl hL ((((hS.t.t).c hS.h).c hS.t.h).c hS.h) hb
  refine lv_dup_x1 g.ex X.1 hd (cat1 Γ v.2 hv) (cat1 Γ u.2 hu) ?_
  exact K
theorem R_dup2 (g : GG Γ) {v u : Vl} (hv : v.1 ≠ 1) (hu : u.1 ≠ 1) (hd : decode md.2.1 pc = .ok (.dup2, 1)) (k : Rr Γ d md (pc + 1) L (v :: u :: v :: u :: S) h KR KT) : Rr Γ d md pc L (v :: u :: S) h KR KT := by
  intro h0 s m args below meth c H locs ls X hE hH hlo hl hL hS hb
  have K := k h0 s m args below meth c H locs ls X hE hH hlo hl hL ((hS.c hS.t.h).c hS.h) hb
  refine lv_dup2_11 g.ex X.1 hd (cat1 Γ v.2 hv) (cat1 Γ u.2 hu) ?_
  exact K
theorem R_dup2L (g : GG Γ) {x : Int} (hd : decode md.2.1 pc = .ok (.dup2, 1)) (k : Rr Γ d md (pc + 1) L ((1, x) :: (1, x) :: S) h KR KT) : Rr Γ d md pc L ((1, x) :: S) h KR KT := by
  intro h0 s m args below meth c H locs ls X hE hH hlo hl hL hS hb
  have K := k h0 s m args below meth c H locs ls X hE hH hlo hl hL (hS.c hS.h) hb
  refine lv_dup2_2 g.ex X.1 hd (cat2 Γ x) ?_
  exact K
def cmpI (c : ClassFile.Cond) (a b : Int) : Prop := match c with
  | .eq => a = b
  | .ne => a ≠ b
  | .lt => a < b
  | .ge => a ≥ b
  | .gt => a > b
  | .le => a ≤ b
theorem R_if_eq (g : GG Γ) {a : Int} {off : Int} {tgt : Nat} (hd : decode md.2.1 pc = .ok (.ifCond .eq off, 3)) (ht : (pc : Int) + off = (tgt : Int)) (k1 : cmpI .eq a 0 → Rr Γ d md tgt L S h KR KT) (k2 : ¬ cmpI .eq a 0 → Rr Γ d md (pc + 3) L S h KR KT) : Rr Γ d md pc L ((0, a) :: S) h KR KT := by
  intro h0 s m args below meth c H locs ls X hE hH hlo hl hL hS hb
  have e := I32_inj (show r32 a from hS.h) (show r32 0 by unfold r32; omega)
  refine lv_if_eq g.ex X.1 hd ht (fun q => ?_) (fun q => ?_)
  · exact k1 (e.mp q) h0 s m args below meth c H locs ls X hE hH hlo hl hL hS.t hb
  · exact k2 (fun z => q (e.mpr z)) h0 s m args below meth c H locs ls X hE hH hlo hl hL hS.t hb
theorem R_icmp_eq (g : GG Γ) {a b : Int} {off : Int} {tgt : Nat} (hd : decode md.2.1 pc = .ok (.if_icmp .eq off, 3)) (ht : (pc : Int) + off = (tgt : Int)) (k1 : cmpI .eq a b → Rr Γ d md tgt L S h KR KT) (k2 : ¬ cmpI .eq a b → Rr Γ d md (pc + 3) L S h KR KT) : Rr Γ d md pc L ((0, b) :: (0, a) :: S) h KR KT := by
  intro h0 s m args below meth c H locs ls X hE hH hlo hl hL hS hb
  have e := I32_inj (show r32 a from hS.t.h) (show r32 b from hS.h)
  refine lv_icmp_eq g.ex X.1 hd ht (fun q => ?_) (fun q => ?_)
  · exact k1 (e.mp q) h0 s m args below meth c H locs ls X hE hH hlo hl hL hS.t.t hb
  · exact k2 (fun z => q (e.mpr z)) h0 s m args below meth c H locs ls X hE hH hlo hl hL hS.t.t hb
theorem R_if_ne (g : GG Γ) {a : Int} {off : Int} {tgt : Nat} (hd : decode md.2.1 pc = .ok (.ifCond .ne off, 3)) (ht : (pc : Int) + off = (tgt : Int)) (k1 : cmpI .ne a 0 → Rr Γ d md tgt L S h KR KT) (k2 : ¬ cmpI .ne a 0 → Rr Γ d md (pc + 3) L S h KR KT) : Rr Γ d md pc L ((0, a) :: S) h KR KT := by
  intro h0 s m args below meth c H locs ls X hE hH hlo hl hL hS hb
  have e := not_congr (I32_inj (show r32 a from hS.h) (show r32 0 by unfold r32; omega))
  refine lv_if_ne g.ex X.1 hd ht (fun q => ?_) (fun q => ?_)
  · exact k1 (e.mp q) h0 s m args below meth c H locs ls X hE hH hlo hl hL hS.t hb
  · exact k2 (fun z => e.mpr z q) h0 s m args below meth c H locs ls X hE hH hlo hl hL hS.t hb
theorem R_icmp_ne (g : GG Γ) {a b : Int} {off : Int} {tgt : Nat} (hd : decode md.2.1 pc = .ok (.if_icmp .ne off, 3)) (ht : (pc : Int) + off = (tgt : Int)) (k1 : cmpI .ne a b → Rr Γ d md tgt L S h KR KT) (k2 : ¬ cmpI .ne a b → Rr Γ d md (pc + 3) L S h KR KT) : Rr Γ d md pc L ((0, b) :: (0, a) :: S) h KR KT := by
  intro h0 s m args below meth c H locs ls X hE hH hlo hl hL hS hb
  have e := not_congr (I32_inj (show r32 a from hS.t.h) (show r32 b from hS.h))
  refine lv_icmp_ne g.ex X.1 hd ht (fun q => ?_) (fun q => ?_)
  · exact k1 (e.mp q) h0 s m args below meth c H locs ls X hE hH hlo hl hL hS.t.t hb
  · exact k2 (fun z => e.mpr z q) h0 s m args below meth c H locs ls X hE hH hlo hl hL hS.t.t hb
theorem R_if_lt (g : GG Γ) {a : Int} {off : Int} {tgt : Nat} (hd : decode md.2.1 pc = .ok (.ifCond .lt off, 3)) (ht : (pc : Int) + off = (tgt : Int)) (k1 : cmpI .lt a 0 → Rr Γ d md tgt L S h KR KT) (k2 : ¬ cmpI .lt a 0 → Rr Γ d md (pc + 3) L S h KR KT) : Rr Γ d md pc L ((0, a) :: S) h KR KT := by
  intro h0 s m args below meth c H locs ls X hE hH hlo hl hL hS hb
  have e := I32_lt (show r32 a from hS.h) (show r32 0 by unfold r32; omega)
  refine lv_if_lt g.ex X.1 hd ht (fun q => ?_) (fun q => ?_)
  · exact k1 (e.mp q) h0 s m args below meth c H locs ls X hE hH hlo hl hL hS.t hb
  · exact k2 (fun z => q (e.mpr z)) h0 s m args below meth c H locs ls X hE hH hlo hl hL hS.t hb
theorem R_icmp_lt (g : GG Γ) {a b : Int} {off : Int} {tgt : Nat} (hd : decode md.2.1 pc = .ok (.if_icmp .lt off, 3)) (ht : (pc : Int) + off = (tgt : Int)) (k1 : cmpI .lt a b → Rr Γ d md tgt L S h KR KT) (k2 : ¬ cmpI .lt a b → Rr Γ d md (pc + 3) L S h KR KT) : Rr Γ d md pc L ((0, b) :: (0, a) :: S) h KR KT := by
  intro h0 s m args below meth c H locs ls X hE hH hlo hl hL hS hb
  have e := I32_lt (show r32 a from hS.t.h) (show r32 b from hS.h)
  refine lv_icmp_lt g.ex X.1 hd ht (fun q => ?_) (fun q => ?_)
  · exact k1 (e.mp q) h0 s m args below meth c H locs ls X hE hH hlo hl hL hS.t.t hb
  · exact k2 (fun z => q (e.mpr z)) h0 s m args below meth c H locs ls X hE hH hlo hl hL hS.t.t hb
theorem R_if_ge (g : GG Γ) {a : Int} {off : Int} {tgt : Nat} (hd : decode md.2.1 pc = .ok (.ifCond .ge off, 3)) (ht : (pc : Int) + off = (tgt : Int)) (k1 : cmpI .ge a 0 → Rr Γ d md tgt L S h KR KT) (k2 : ¬ cmpI .ge a 0 → Rr Γ d md (pc + 3) L S h KR KT) : Rr Γ d md pc L ((0, a) :: S) h KR KT := by
  intro h0 s m args below meth c H locs ls X hE hH hlo hl hL hS hb
  have e := I32_le (show r32 0 by unfold r32; omega) (show r32 a from hS.h)
  refine lv_if_ge g.ex X.1 hd ht (fun q => ?_) (fun q => ?_)
  · exact k1 (e.mp q) h0 s m args below meth c H locs ls X hE hH hlo hl hL hS.t hb
  · exact k2 (fun z => q (e.mpr z)) h0 s m args below meth c H locs ls X hE hH hlo hl hL hS.t hb
theorem R_icmp_ge (g : GG Γ) {a b : Int} {off : Int} {tgt : Nat} (hd : decode md.2.1 pc = .ok (.if_icmp .ge off, 3)) (ht : (pc : Int) + off = (tgt : Int)) (k1 : cmpI .ge a b → Rr Γ d md tgt L S h KR KT) (k2 : ¬ cmpI .ge a b → Rr Γ d md (pc + 3) L S h KR KT) : Rr Γ d md pc L ((0, b) :: (0, a) :: S) h KR KT := by
  intro h0 s m args below meth c H locs ls X hE hH hlo hl hL hS hb
  have e := I32_le (show r32 b from hS.h) (show r32 a from hS.t.h)
  refine lv_icmp_ge g.ex X.1 hd ht (fun q => ?_) (fun q => ?_)
  · exact k1 (e.mp q) h0 s m args below meth c H locs ls X hE hH hlo hl hL hS.t.t hb
  · exact k2 (fun z => q (e.mpr z)) h0 s m args below meth c H locs ls X hE hH hlo hl hL hS.t.t hb
theorem R_if_gt (g : GG Γ) {a : Int} {off : Int} {tgt : Nat} (hd : decode md.2.1 pc = .ok (.ifCond .gt off, 3)) (ht : (pc : Int) + off = (tgt : Int)) (k1 : cmpI .gt a 0 → Rr Γ d md tgt L S h KR KT) (k2 : ¬ cmpI .gt a 0 → Rr Γ d md (pc + 3) L S h KR KT) : Rr Γ d md pc L ((0, a) :: S) h KR KT := by
  intro h0 s m args below meth c H locs ls X hE hH hlo hl hL hS hb
  have e := I32_lt (show r32 0 by unfold r32; omega) (show r32 a from hS.h)
  refine lv_if_gt g.ex X.1 hd ht (fun q => ?_) (fun q => ?_)
  · exact k1 (e.mp q) h0 s m args below meth c H locs ls X hE hH hlo hl hL hS.t hb
  · exact k2 (fun z => q (e.mpr z)) h0 s m args below meth c H locs ls X hE hH hlo hl hL hS.t hb
theorem R_icmp_gt (g : GG Γ) {a b : Int} {off : Int} {tgt : Nat} (hd : decode md.2.1 pc = .ok (.if_icmp .gt off, 3)) (ht : (pc : Int) + off = (tgt : Int)) (k1 : cmpI .gt a b → Rr Γ d md tgt L S h KR KT) (k2 : ¬ cmpI .gt a b → Rr Γ d md (pc + 3) L S h KR KT) : Rr Γ d md pc L ((0, b) :: (0, a) :: S) h KR KT := by
  intro h0 s m args below meth c H locs ls X hE hH hlo hl hL hS hb
  have e := I32_lt (show r32 b from hS.h) (show r32 a from hS.t.h)
  refine lv_icmp_gt g.ex X.1 hd ht (fun q => ?_) (fun q => ?_)
  · exact k1 (e.mp q) h0 s m args below meth c H locs ls X hE hH hlo hl hL hS.t.t hb
  · exact k2 (fun z => q (e.mpr z)) h0 s m args below meth c H locs ls X hE hH hlo hl hL hS.t.t hb
theorem R_if_le (g : GG Γ) {a : Int} {off : Int} {tgt : Nat} (hd : decode md.2.1 pc = .ok (.ifCond .le off, 3)) (ht : (pc : Int) + off = (tgt : Int)) (k1 : cmpI .le a 0 → Rr Γ d md tgt L S h KR KT) (k2 : ¬ cmpI .le a 0 → Rr Γ d md (pc + 3) L S h KR KT) : Rr Γ d md pc L ((0, a) :: S) h KR KT := by
  intro h0 s m args below meth c H locs ls X hE hH hlo hl hL hS hb
  have e := I32_le (show r32 a from hS.h) (show r32 0 by unfold r32; omega)
  refine lv_if_le g.ex X.1 hd ht (fun q => ?_) (fun q => ?_)
  · exact k1 (e.mp q) h0 s m args below meth c H locs ls X hE hH hlo hl hL hS.t hb
  · exact k2 (fun z => q (e.mpr z)) h0 s m args below meth c H locs ls X hE hH hlo hl hL hS.t hb
theorem R_icmp_le (g : GG Γ) {a b : Int} {off : Int} {tgt : Nat} (hd : decode md.2.1 pc = .ok (.if_icmp .le off, 3)) (ht : (pc : Int) + off = (tgt : Int)) (k1 : cmpI .le a b → Rr Γ d md tgt L S h KR KT) (k2 : ¬ cmpI .le a b → Rr Γ d md (pc + 3) L S h KR KT) : Rr Γ d md pc L ((0, b) :: (0, a) :: S) h KR KT := by
  intro h0 s m args below meth c H locs ls X hE hH hlo hl hL hS hb
  have e := I32_le (show r32 a from hS.t.h) (show r32 b from hS.h)
  refine lv_icmp_le g.ex X.1 hd ht (fun q => ?_) (fun q => ?_)
  · exact k1 (e.mp q) h0 s m args below meth c H locs ls X hE hH hlo hl hL hS.t.t hb
  · exact k2 (fun z => q (e.mpr z)) h0 s m args below meth c H locs ls X hE hH hlo hl hL hS.t.t hb
theorem R_goto (g : GG Γ) {off : Int} {tgt : Nat} (hd : decode md.2.1 pc = .ok (.goto off, 3)) (ht : (pc : Int) + off = (tgt : Int)) (k : Rr Γ d md tgt L S h KR KT) : Rr Γ d md pc L S h KR KT := by
  intro h0 s m args below meth c H locs ls X hE hH hlo hl hL hS hb
  exact lv_goto g.ex X.1 hd ht (k h0 s m args below meth c H locs ls X hE hH hlo hl hL hS hb)
theorem cv_ref0 (Γ : Gam) (t : Nat) : cv Γ (t + 9) 0 = .null := rfl
theorem cv_refN (Γ : Gam) (t : Nat) {x : Int} (h : x ≠ 0) : cv Γ (t + 9) x = .ref (ra Γ x) := by
  show (if x = 0 then Value.null else Value.ref (ra Γ x)) = _
  rw [if_neg h]
theorem R_ifnull (g : GG Γ) {t : Nat} {a : Int} {off : Int} {tgt : Nat} (hd : decode md.2.1 pc = .ok (.ifnull off, 3)) (ht : (pc : Int) + off = (tgt : Int)) (k1 : a = 0 → Rr Γ d md tgt L S h KR KT) (k2 : ¬ a = 0 → Rr Γ d md (pc + 3) L S h KR KT) : Rr Γ d md pc L ((t + 9, a) :: S) h KR KT := by
  intro h0 s m args below meth c H locs ls X hE hH hlo hl hL hS hb
  by_cases q : a = 0
  · subst q
    exact lv_ifnullN g.ex X.1 hd ht (k1 rfl h0 s m args below meth c H locs ls X hE hH hlo hl hL hS.t hb)
  · show W _ _ _ _ _ _ _ _ _ _ _ _ _ _ _ (F0 m pc ls (cv Γ (t + 9) a :: S.map (cw Γ)))
    rw [cv_refN Γ t q]
    exact lv_ifnull g.ex X.1 hd (k2 q h0 s m args below meth c H locs ls X hE hH hlo hl hL hS.t hb)
theorem R_ifnonnull (g : GG Γ) {t : Nat} {a : Int} {off : Int} {tgt : Nat} (hd : decode md.2.1 pc = .ok (.ifnonnull off, 3)) (ht : (pc : Int) + off = (tgt : Int)) (k1 : ¬ a = 0 → Rr Γ d md tgt L S h KR KT) (k2 : a = 0 → Rr Γ d md (pc + 3) L S h KR KT) : Rr Γ d md pc L ((t + 9, a) :: S) h KR KT := by
  intro h0 s m args below meth c H locs ls X hE hH hlo hl hL hS hb
  by_cases q : a = 0
  · subst q
    exact lv_ifnonnullN g.ex X.1 hd (k2 rfl h0 s m args below meth c H locs ls X hE hH hlo hl hL hS.t hb)
  · show W _ _ _ _ _ _ _ _ _ _ _ _ _ _ _ (F0 m pc ls (cv Γ (t + 9) a :: S.map (cw Γ)))
    rw [cv_refN Γ t q]
    exact lv_ifnonnull g.ex X.1 hd ht (k1 q h0 s m args below meth c H locs ls X hE hH hlo hl hL hS.t hb)
/-- a reference as a place or none -/
def roO (Γ : Gam) (x : Int) : Option Nat := if x = 0 then none else some (ra Γ x)
theorem cv_ro (Γ : Gam) (t : Nat) (x : Int) : cv Γ (t + 9) x = va_rf (roO Γ x) := by
  show (if x = 0 then Value.null else Value.ref (ra Γ x)) = va_rf (if x = 0 then none else some (ra Γ x))
  split <;> rfl
theorem ok_ref {h : Hp} {t : Nat} {x : Int} (k : okv h (t + 9) x) : x = 0 ∨ (0 < x ∧ x < nx h ∧ 0 ≤ kn h x) := by
  match t, k with
  | 0, k => exact k
  | t + 1, k =>
    rcases k with k | ⟨k1, k2, k3⟩
    · exact Or.inl k
    · exact Or.inr ⟨k1, k2, by rw [k3]; omega⟩
theorem ro_inj (g : GG Γ) {H : Heap} (hH : HR Γ h H) {κ : Nat} {a b : Int} (k83 : κ ≠ 83) (ha : okv h (κ + 10) a) (hb : okv h (κ + 10) b) : roO Γ a = roO Γ b ↔ a = b := by
  constructor
  · intro e
    unfold roO at e
    have ha : a = 0 ∨ (0 < a ∧ a < nx h ∧ kn h a = κ) := ha
    have hb : b = 0 ∨ (0 < b ∧ b < nx h ∧ kn h b = κ) := hb
    rcases ha with rfl | ⟨a1, a2, a3⟩ <;> rcases hb with rfl | ⟨b1, b2, b3⟩
    · rfl
    · rw [if_pos rfl, if_neg (by omega)] at e; cases e
    · rw [if_neg (by omega), if_pos rfl] at e; cases e
    · rw [if_neg (by omega), if_neg (by omega)] at e
      exact ra_inj g hH a1 b1 (by omega) (by omega) (by omega) (Option.some.inj e)
  · intro e; rw [e]
theorem R_acmp_eq (g : GG Γ) {κ : Nat} {a b : Int} {off : Int} {tgt : Nat} (k83 : κ + 10 ≠ 93) (hd : decode md.2.1 pc = .ok (.if_acmp .eq off, 3)) (ht : (pc : Int) + off = (tgt : Int)) (k1 : a = b → Rr Γ d md tgt L S h KR KT) (k2 : ¬ a = b → Rr Γ d md (pc + 3) L S h KR KT) : Rr Γ d md pc L ((κ + 10, b) :: (κ + 10, a) :: S) h KR KT := by
  intro h0 s m args below meth c H locs ls X hE hH hlo hl hL hS hb
  have e := ro_inj g hH (κ := κ) (by omega) hS.t.h hS.h
  show W _ _ _ _ _ _ _ _ _ _ _ _ _ _ _ (F0 m pc ls (cv Γ ((κ + 1) + 9) b :: cv Γ ((κ + 1) + 9) a :: S.map (cw Γ)))
  rw [cv_ro, cv_ro]
  refine lv_acmp_eq g.ex X.1 hd ht (fun q => ?_) (fun q => ?_)
  · exact k1 (e.mp q) h0 s m args below meth c H locs ls X hE hH hlo hl hL hS.t.t hb
  · exact k2 (fun z => q (e.mpr z)) h0 s m args below meth c H locs ls X hE hH hlo hl hL hS.t.t hb
theorem R_acmp_ne (g : GG Γ) {κ : Nat} {a b : Int} {off : Int} {tgt : Nat} (k83 : κ + 10 ≠ 93) (hd : decode md.2.1 pc = .ok (.if_acmp .ne off, 3)) (ht : (pc : Int) + off = (tgt : Int)) (k1 : ¬ a = b → Rr Γ d md tgt L S h KR KT) (k2 : a = b → Rr Γ d md (pc + 3) L S h KR KT) : Rr Γ d md pc L ((κ + 10, b) :: (κ + 10, a) :: S) h KR KT := by
  intro h0 s m args below meth c H locs ls X hE hH hlo hl hL hS hb
  have e := ro_inj g hH (κ := κ) (by omega) hS.t.h hS.h
  show W _ _ _ _ _ _ _ _ _ _ _ _ _ _ _ (F0 m pc ls (cv Γ ((κ + 1) + 9) b :: cv Γ ((κ + 1) + 9) a :: S.map (cw Γ)))
  rw [cv_ro, cv_ro]
  refine lv_acmp_ne g.ex X.1 hd ht (fun q => ?_) (fun q => ?_)
  · exact k1 (fun z => q (e.mpr z)) h0 s m args below meth c H locs ls X hE hH hlo hl hL hS.t.t hb
  · exact k2 (e.mp q) h0 s m args below meth c H locs ls X hE hH hlo hl hL hS.t.t hb
theorem mem_cL {i : Nat} {v : Vl} (hm : (i, v) ∈ L) : (i, cw Γ v) ∈ cL Γ L := List.mem_map.mpr ⟨(i, v), hm, rfl⟩
def stL (L : Lc) (i : Nat) (v : Vl) : Lc := (i, v) :: L.filter (fun q => !(q.1 == i) && !(q.1 + 1 == i && q.2.1 == 1))
def stL2 (L : Lc) (i : Nat) (v : Vl) : Lc := (i, v) :: L.filter (fun q => !(q.1 == i) && (!(q.1 == i + 1) && !(q.1 + 1 == i && q.2.1 == 1)))
theorem catb (Γ : Gam) (v : Vl) : ((cw Γ v).category == 2) = (v.1 == 1) := by
  by_cases hv : v.1 = 1
  · show ((cv Γ v.1 v.2).category == 2) = _
    rw [hv]
    rfl
  · show ((cv Γ v.1 v.2).category == 2) = _
    rw [cat1 Γ v.2 hv]
    have : (v.1 == 1) = false := by simpa using hv
    rw [this]
    rfl
theorem cL_stL {i : Nat} {v : Vl} : (i, cw Γ v) :: (cL Γ L).filter (fun q => !(q.1 == i) && !(q.1 + 1 == i && q.2.category == 2)) = cL Γ (stL L i v) := by
  unfold cL stL
  rw [List.filter_map, List.map_cons]
  congr 2
  apply List.filter_congr
  intro q _
  simp only [Function.comp, catb]
theorem cL_stL2 {i : Nat} {v : Vl} : (i, cw Γ v) :: (cL Γ L).filter (fun q => !(q.1 == i) && (!(q.1 == i + 1) && !(q.1 + 1 == i && q.2.category == 2))) = cL Γ (stL2 L i v) := by
  unfold cL stL2
  rw [List.filter_map, List.map_cons]
  congr 2
  apply List.filter_congr
  intro q _
  simp only [Function.comp, catb]
theorem okL.st {i : Nat} {v : Vl} (hL : okL h L) (hv : okv h v.1 v.2) : okL h (stL L i v) := by
  intro q hq
  rcases List.mem_cons.mp hq with rfl | hq
  · exact hv
  · exact hL q (List.mem_filter.mp hq).1
theorem okL.st2 {i : Nat} {v : Vl} (hL : okL h L) (hv : okv h v.1 v.2) : okL h (stL2 L i v) := by
  intro q hq
  rcases List.mem_cons.mp hq with rfl | hq
  · exact hv
  · exact hL q (List.mem_filter.mp hq).1
theorem R_iload (g : GG Γ) {i : Nat} {x : Int} (hm : (i, (0, x)) ∈ L) (hd : decode md.2.1 pc = .ok (.iload i, 2)) (k : Rr Γ d md (pc + 2) L ((0, x) :: S) h KR KT) : Rr Γ d md pc L S h KR KT := by
  intro h0 s m args below meth c H locs ls X hE hH hlo hl hL hS hb
  refine lv_iload g.ex X.1 hd (hl.2.2 _ (mem_cL hm)) ?_
  exact k h0 s m args below meth c H locs ls X hE hH hlo hl hL (hS.c (hL _ hm)) hb
theorem R_iload_n (g : GG Γ) {n : Fin 4} {i : Nat} {x : Int} (hi : (n : Nat) = i) (hm : (i, (0, x)) ∈ L) (hd : decode md.2.1 pc = .ok (.iload_n n, 1)) (k : Rr Γ d md (pc + 1) L ((0, x) :: S) h KR KT) : Rr Γ d md pc L S h KR KT := by
  intro h0 s m args below meth c H locs ls X hE hH hlo hl hL hS hb
  refine lv_iload_n g.ex X.1 hd hi (hl.2.2 _ (mem_cL hm)) ?_
  exact k h0 s m args below meth c H locs ls X hE hH hlo hl hL (hS.c (hL _ hm)) hb
theorem R_lload (g : GG Γ) {i : Nat} {x : Int} (hm : (i, (1, x)) ∈ L) (hd : decode md.2.1 pc = .ok (.lload i, 2)) (k : Rr Γ d md (pc + 2) L ((1, x) :: S) h KR KT) : Rr Γ d md pc L S h KR KT := by
  intro h0 s m args below meth c H locs ls X hE hH hlo hl hL hS hb
  refine lv_lload g.ex X.1 hd (hl.2.2 _ (mem_cL hm)) ?_
  exact k h0 s m args below meth c H locs ls X hE hH hlo hl hL (hS.c (hL _ hm)) hb
theorem R_lload_n (g : GG Γ) {n : Fin 4} {i : Nat} {x : Int} (hi : (n : Nat) = i) (hm : (i, (1, x)) ∈ L) (hd : decode md.2.1 pc = .ok (.lload_n n, 1)) (k : Rr Γ d md (pc + 1) L ((1, x) :: S) h KR KT) : Rr Γ d md pc L S h KR KT := by
  intro h0 s m args below meth c H locs ls X hE hH hlo hl hL hS hb
  refine lv_lload_n g.ex X.1 hd hi (hl.2.2 _ (mem_cL hm)) ?_
  exact k h0 s m args below meth c H locs ls X hE hH hlo hl hL (hS.c (hL _ hm)) hb
theorem R_aload (g : GG Γ) {i t : Nat} {x : Int} (hm : (i, (t + 9, x)) ∈ L) (hd : decode md.2.1 pc = .ok (.aload i, 2)) (k : Rr Γ d md (pc + 2) L ((t + 9, x) :: S) h KR KT) : Rr Γ d md pc L S h KR KT := by
  intro h0 s m args below meth c H locs ls X hE hH hlo hl hL hS hb
  have K := k h0 s m args below meth c H locs ls X hE hH hlo hl hL (hS.c (hL _ hm)) hb
  have hv := hl.2.2 _ (mem_cL (Γ := Γ) hm)
  by_cases q : x = 0
  · subst q
    exact lv_aloadN g.ex X.1 hd hv K
  · have K : W _ _ _ _ _ _ _ _ _ _ _ _ _ _ _ (F0 m (pc + 2) ls (cv Γ (t + 9) x :: S.map (cw Γ))) := K
    have hv : ls[i]? = some (.val (cv Γ (t + 9) x)) := hv
    rw [cv_refN Γ t q] at K hv
    exact lv_aload g.ex X.1 hd hv K
theorem R_aload_n (g : GG Γ) {n : Fin 4} {i t : Nat} {x : Int} (hi : (n : Nat) = i) (hm : (i, (t + 9, x)) ∈ L) (hd : decode md.2.1 pc = .ok (.aload_n n, 1)) (k : Rr Γ d md (pc + 1) L ((t + 9, x) :: S) h KR KT) : Rr Γ d md pc L S h KR KT := by
  intro h0 s m args below meth c H locs ls X hE hH hlo hl hL hS hb
  have K := k h0 s m args below meth c H locs ls X hE hH hlo hl hL (hS.c (hL _ hm)) hb
  have hv := hl.2.2 _ (mem_cL (Γ := Γ) hm)
  by_cases q : x = 0
  · subst q
    exact lv_aload_nN g.ex X.1 hd hi hv K
  · have K : W _ _ _ _ _ _ _ _ _ _ _ _ _ _ _ (F0 m (pc + 1) ls (cv Γ (t + 9) x :: S.map (cw Γ))) := K
    have hv : ls[i]? = some (.val (cv Γ (t + 9) x)) := hv
    rw [cv_refN Γ t q] at K hv
    exact lv_aload_n g.ex X.1 hd hi hv K
theorem R_istore (g : GG Γ) {i : Nat} {x : Int} (hn : i < md.2.2.1) (hd : decode md.2.1 pc = .ok (.istore i, 2)) (k : Rr Γ d md (pc + 2) (stL L i (0, x)) S h KR KT) : Rr Γ d md pc L ((0, x) :: S) h KR KT := by
  intro h0 s m args below meth c H locs ls X hE hH hlo hl hL hS hb
  refine lv_istore g.ex X.1 hd hl hn (cL_stL (v := (0, x))) (fun ls hl => ?_)
  exact k h0 s m args below meth c H locs ls X hE hH hlo hl (hL.st hS.h) hS.t hb
theorem R_istore_n (g : GG Γ) {n : Fin 4} {i : Nat} {x : Int} (hi : (n : Nat) = i) (hn : i < md.2.2.1) (hd : decode md.2.1 pc = .ok (.istore_n n, 1)) (k : Rr Γ d md (pc + 1) (stL L i (0, x)) S h KR KT) : Rr Γ d md pc L ((0, x) :: S) h KR KT := by
  intro h0 s m args below meth c H locs ls X hE hH hlo hl hL hS hb
  refine lv_istore_n g.ex X.1 hd hi hl hn (cL_stL (v := (0, x))) (fun ls hl => ?_)
  exact k h0 s m args below meth c H locs ls X hE hH hlo hl (hL.st hS.h) hS.t hb
theorem R_lstore (g : GG Γ) {i : Nat} {x : Int} (hn : i + 1 < md.2.2.1) (hd : decode md.2.1 pc = .ok (.lstore i, 2)) (k : Rr Γ d md (pc + 2) (stL2 L i (1, x)) S h KR KT) : Rr Γ d md pc L ((1, x) :: S) h KR KT := by
  intro h0 s m args below meth c H locs ls X hE hH hlo hl hL hS hb
  refine lv_lstore g.ex X.1 hd hl hn (cL_stL2 (v := (1, x))) (fun ls hl => ?_)
  exact k h0 s m args below meth c H locs ls X hE hH hlo hl (hL.st2 hS.h) hS.t hb
theorem R_lstore_n (g : GG Γ) {n : Fin 4} {i : Nat} {x : Int} (hi : (n : Nat) = i) (hn : i + 1 < md.2.2.1) (hd : decode md.2.1 pc = .ok (.lstore_n n, 1)) (k : Rr Γ d md (pc + 1) (stL2 L i (1, x)) S h KR KT) : Rr Γ d md pc L ((1, x) :: S) h KR KT := by
  intro h0 s m args below meth c H locs ls X hE hH hlo hl hL hS hb
  refine lv_lstore_n g.ex X.1 hd hi hl hn (cL_stL2 (v := (1, x))) (fun ls hl => ?_)
  exact k h0 s m args below meth c H locs ls X hE hH hlo hl (hL.st2 hS.h) hS.t hb
theorem R_astore (g : GG Γ) {i t : Nat} {x : Int} (hn : i < md.2.2.1) (hd : decode md.2.1 pc = .ok (.astore i, 2)) (k : Rr Γ d md (pc + 2) (stL L i (t + 9, x)) S h KR KT) : Rr Γ d md pc L ((t + 9, x) :: S) h KR KT := by
  intro h0 s m args below meth c H locs ls X hE hH hlo hl hL hS hb
  have e := cL_stL (Γ := Γ) (L := L) (i := i) (v := (t + 9, x))
  by_cases q : x = 0
  · subst q
    refine lv_astoreN g.ex X.1 hd hl hn e (fun ls hl => ?_)
    exact k h0 s m args below meth c H locs ls X hE hH hlo hl (hL.st hS.h) hS.t hb
  · show W _ _ _ _ _ _ _ _ _ _ _ _ _ _ _ (F0 m pc ls (cv Γ (t + 9) x :: S.map (cw Γ)))
    have e : (i, cv Γ (t + 9) x) :: _ = _ := e
    rw [cv_refN Γ t q] at e ⊢
    refine lv_astore g.ex X.1 hd hl hn e (fun ls hl => ?_)
    exact k h0 s m args below meth c H locs ls X hE hH hlo hl (hL.st hS.h) hS.t hb
theorem R_astore_n (g : GG Γ) {n : Fin 4} {i t : Nat} {x : Int} (hi : (n : Nat) = i) (hn : i < md.2.2.1) (hd : decode md.2.1 pc = .ok (.astore_n n, 1)) (k : Rr Γ d md (pc + 1) (stL L i (t + 9, x)) S h KR KT) : Rr Γ d md pc L ((t + 9, x) :: S) h KR KT := by
  intro h0 s m args below meth c H locs ls X hE hH hlo hl hL hS hb
  have e := cL_stL (Γ := Γ) (L := L) (i := i) (v := (t + 9, x))
  by_cases q : x = 0
  · subst q
    refine lv_astore_nN g.ex X.1 hd hi hl hn e (fun ls hl => ?_)
    exact k h0 s m args below meth c H locs ls X hE hH hlo hl (hL.st hS.h) hS.t hb
  · show W _ _ _ _ _ _ _ _ _ _ _ _ _ _ _ (F0 m pc ls (cv Γ (t + 9) x :: S.map (cw Γ)))
    have e : (i, cv Γ (t + 9) x) :: _ = _ := e
    rw [cv_refN Γ t q] at e ⊢
    refine lv_astore_n g.ex X.1 hd hi hl hn e (fun ls hl => ?_)
    exact k h0 s m args below meth c H locs ls X hE hH hlo hl (hL.st hS.h) hS.t hb
theorem R_iinc (g : GG Γ) {i : Nat} {n x : Int} (hm : (i, (0, x)) ∈ L) (hn : i < md.2.2.1) (hd : decode md.2.1 pc = .ok (.iinc i n, 3)) (k : Rr Γ d md (pc + 3) (stL L i (0, w32 (x + n))) S h KR KT) : Rr Γ d md pc L S h KR KT := by
  intro h0 s m args below meth c H locs ls X hE hH hlo hl hL hS hb
  obtain ⟨j, hj⟩ := List.getElem?_of_mem (mem_cL (Γ := Γ) hm)
  refine lv_iinc (v := I32 (w32 (x + n))) g.ex X.1 hd hl (k := j) hj (I32_add x n) hn (cL_stL (v := (0, w32 (x + n)))) (fun ls hl => ?_)
  exact k h0 s m args below meth c H locs ls X hE hH hlo hl (hL.st (show okv h 0 (w32 (x + n)) from w32_r _)) hS hb
end RULES
