/-! BLOCKS: what a row of instructions asks (wpB), so that it is done (blk_sound) -/
abbrev El : Type := Instr × Nat × List Int × List (Nat × List Nat) × MD
abbrev Nxt : Type := Lc → List Vl → Hp → Prop
def lk : Lc → Nat → Vl
  | [], _ => (98, 0)
  | q :: r, i => bif Nat.beq q.1 i then q.2 else lk r i
theorem lk_mem : ∀ {L : Lc} {i : Nat}, (lk L i).1 ≠ 98 → (i, lk L i) ∈ L
  | [], i, h => absurd rfl h
  | q :: r, i, h => by
    unfold lk at h ⊢
    cases e : (Nat.beq q.1 i) with
    | true =>
      rw [e] at h
      have : q.1 = i := Nat.eq_of_beq_eq_true e
      subst this
      exact List.mem_cons_self
    | false =>
      rw [e] at h
      exact List.mem_cons_of_mem _ (lk_mem h)
def kp (L : Lc) (is : List Nat) : Lc := is.map fun i => (i, lk L i)
/-- the locals that are kept are there -/
def kpok (L : Lc) (is : List Nat) : Bool := is.all fun i => !((lk L i).1 == 98)
theorem Rr.keep {Γ : Gam} {d : Nat} {md : MD} {pc : Nat} {L L2 : Lc} {S : List Vl} {h : Hp} {KR KT : Kt} (hs : ∀ q ∈ L2, q ∈ L) (k : Rr Γ d md pc L2 S h KR KT) : Rr Γ d md pc L S h KR KT := by
  intro h0 s m args below meth c H locs ls X hE hH hlo hl hL hS hb
  refine k h0 s m args below meth c H locs ls X hE hH hlo ⟨hl.1, hl.2.1, fun q hq => ?_⟩ (fun q hq => hL q (hs q hq)) hS hb
  obtain ⟨x, hx, rfl⟩ := List.mem_map.mp hq
  exact hl.2.2 _ (mem_cL (hs x hx))
theorem kp_sub {L : Lc} {is : List Nat} (h : kpok L is = true) : ∀ q ∈ kp L is, q ∈ L := by
  intro q hq
  obtain ⟨i, hi, rfl⟩ := List.mem_map.mp hq
  have := List.all_eq_true.mp h i hi
  exact lk_mem (by simpa using this)
def T0 (ts : List (Nat × List Nat)) : Nat × List Nat := ts.headD (0, [])
def T1 (ts : List (Nat × List Nat)) : Nat × List Nat := ts.tail.headD (0, [])
section WP
variable (Γ : Gam) (d : Nat) (md : MD) (KR KT : Kt)
/-- a jump -/
def jmp (t : Nat × List Nat) (L : Lc) (S : List Vl) (h : Hp) : Prop := bif kpok L t.2 then Rr Γ d md t.1 (kp L t.2) S h KR KT else False
end WP
def sPush (t : Nat) (v : Int) (k : Nxt) : Nxt := fun L S h => k L ((t, v) :: S) h
def sLoad (t i : Nat) (k : Nxt) : Nxt := fun L S h => match lk L i with
  | (u, x) => bif u == t then k L ((u, x) :: S) h else False
def sLoadA (i : Nat) (k : Nxt) : Nxt := fun L S h => match lk L i with
  | (u, x) => bif Nat.ble 9 u && !(u == 98) then k L ((u, x) :: S) h else False
def sStore (ml t i : Nat) (k : Nxt) : Nxt := fun L S h => match S with
  | (u, x) :: S2 => bif u == t && Nat.blt i ml then k (stL L i (u, x)) S2 h else False
  | _ => False
def sStore2 (ml i : Nat) (k : Nxt) : Nxt := fun L S h => match S with
  | (u, x) :: S2 => bif u == 1 && Nat.blt (i + 1) ml then k (stL2 L i (u, x)) S2 h else False
  | _ => False
def sStoreA (ml i : Nat) (k : Nxt) : Nxt := fun L S h => match S with
  | (u, x) :: S2 => bif Nat.ble 9 u && Nat.blt i ml then k (stL L i (u, x)) S2 h else False
  | _ => False
def sIinc (ml i : Nat) (n : Int) (k : Nxt) : Nxt := fun L S h => match lk L i with
  | (u, x) => bif u == 0 && Nat.blt i ml then k (stL L i (0, w32 (x + n))) S h else False
def sUn (t r : Nat) (f : Int → Int) (k : Nxt) : Nxt := fun L S h => match S with
  | (u, x) :: S2 => bif u == t then k L ((r, f x) :: S2) h else False
  | _ => False
def sBin (t1 t2 r : Nat) (f : Int → Int → Int) (k : Nxt) : Nxt := fun L S h => match S with
  | (u2, b) :: (u1, a) :: S2 => bif u2 == t2 && u1 == t1 then k L ((r, f a b) :: S2) h else False
  | _ => False
def sDiv (t : Nat) (f : Int → Int → Int) (k : Nxt) : Nxt := fun L S h => match S with
  | (u2, b) :: (u1, a) :: S2 => bif u2 == t && u1 == t then b ≠ 0 ∧ k L ((t, f a b) :: S2) h else False
  | _ => False
def sPop (k : Nxt) : Nxt := fun L S h => match S with
  | (u, _) :: S2 => bif u == 1 then False else k L S2 h
  | _ => False
def sDup (k : Nxt) : Nxt := fun L S h => match S with
  | (u, x) :: S2 => bif u == 1 then False else k L ((u, x) :: (u, x) :: S2) h
  | _ => False
def sDupX1 (k : Nxt) : Nxt := fun L S h => match S with
  | (u, x) :: (v, y) :: S2 => bif u == 1 || v == 1 then False else k L ((u, x) :: (v, y) :: (u, x) :: S2) h
  | _ => False
def sDup2 (k : Nxt) : Nxt := fun L S h => match S with
  | (u, x) :: S1 => bif u == 1 then k L ((u, x) :: (u, x) :: S1) h else match S1 with
    | (v, y) :: S2 => bif v == 1 then False else k L ((u, x) :: (v, y) :: (u, x) :: (v, y) :: S2) h
    | _ => False
  | _ => False
def sCmp (J : Nat × List Nat → Nxt) (ts : List (Nat × List Nat)) (c : ClassFile.Cond) : Nxt := fun L S h => match S with
  | (u2, b) :: (u1, a) :: S2 => bif u2 == 0 && u1 == 0 then (cmpI c a b → J (T0 ts) L S2 h) ∧ (¬ cmpI c a b → J (T1 ts) L S2 h) else False
  | _ => False
def sIf (J : Nat × List Nat → Nxt) (ts : List (Nat × List Nat)) (c : ClassFile.Cond) : Nxt := fun L S h => match S with
  | (u, a) :: S2 => bif u == 0 then (cmpI c a 0 → J (T0 ts) L S2 h) ∧ (¬ cmpI c a 0 → J (T1 ts) L S2 h) else False
  | _ => False
def sNull (J : Nat × List Nat → Nxt) (ts : List (Nat × List Nat)) (y : Bool) : Nxt := fun L S h => match S with
  | (u, a) :: S2 => bif Nat.ble 9 u then (a = 0 → J (bif y then T0 ts else T1 ts) L S2 h) ∧ (¬ a = 0 → J (bif y then T1 ts else T0 ts) L S2 h) else False
  | _ => False
def sAcmp (J : Nat × List Nat → Nxt) (ts : List (Nat × List Nat)) (y : Bool) : Nxt := fun L S h => match S with
  | (u2, b) :: (u1, a) :: S2 => bif (u2 == u1 && Nat.ble 10 u1) && !(u1 == 93) then (a = b → J (bif y then T0 ts else T1 ts) L S2 h) ∧ (¬ a = b → J (bif y then T1 ts else T0 ts) L S2 h) else False
  | _ => False
/-- a field's link: the words of the tables -/
def Fk (own : String) (idx κ f : Nat) : Prop := κ < 29 ∧ f < kF κ ∧ ((Cond.fieldLink own idx (kT κ f).1 (kT κ f).2.1 (kT κ f).2.2.1 ∈ lw_tbl) ∨ (∃ ref, Cond.fieldLink own idx ref (kT κ f).2.1 (kT κ f).2.2.1 ∈ lw_tbl ∧ Cond.sameField ref (kT κ f).1 (kT κ f).2.1 (kT κ f).2.2.1 ∈ lw_tbl) ∨ (∃ host, Cond.fieldLinkNest own idx (kT κ f).1 (kT κ f).2.1 (kT κ f).2.2.1 host ∈ lw_tbl))
/-- .. to write it -/
def Fp (md : MD) (idx κ f : Nat) : Prop := κ < 29 ∧ f < kF κ ∧ ((Cond.fieldLink md.1.cls idx (kT κ f).1 (kT κ f).2.1 (kT κ f).2.2.1 ∈ lw_tbl) ∨ (∃ ref, Cond.fieldLink md.1.cls idx ref (kT κ f).2.1 (kT κ f).2.2.1 ∈ lw_tbl ∧ Cond.sameField ref (kT κ f).1 (kT κ f).2.1 (kT κ f).2.2.1 ∈ lw_tbl)) ∧ ((kT κ f).2.2.2 = false ∨ (md.1.name = "<init>" ∧ (kT κ f).1 = md.1.cls))
def n0 (info : List Int) : Nat := (info.headD 0).toNat
def n1 (info : List Int) : Nat := (info.tail.headD 0).toNat
def n2 (info : List Int) : Nat := (info.tail.tail.headD 0).toNat
def i0 (info : List Int) : Int := info.headD 0
def i1 (info : List Int) : Int := info.tail.headD 0
def sGet (own : String) (idx κ f t : Nat) (k : Nxt) : Nxt := fun L S h => match S with
  | (u, a) :: S2 => bif u == κ + 10 && t == kft κ f then Fk own idx κ f ∧ a ≠ 0 ∧ (okv h t (rd h a f) → k L ((tg t, rd h a f) :: S2) h) else False
  | _ => False
def sPut (md : MD) (idx κ f t : Nat) (k : Nxt) : Nxt := fun L S h => match S with
  | (v, x) :: (u, a) :: S2 => bif u == κ + 10 && t == kft κ f && v == tg t then Fp md idx κ f ∧ a ≠ 0 ∧ (bif t == 3 then (x = 0 ∨ x = 1) ∧ k L S2 (up h a f x) else k L S2 (up h a f x)) else False
  | _ => False
def sLen (κ : Nat) (k : Nxt) : Nxt := fun L S h => match S with
  | (u, a) :: S2 => bif u == κ + 10 && Nat.ble 64 κ && Nat.blt κ 86 then a ≠ 0 ∧ k L ((0, ln h a) :: S2) h else False
  | _ => False
/-- y: the codes of places that the instruction reads -/
def sAld (ok : Nat → Bool) (κ : Nat) (k : Nxt) : Nxt := fun L S h => match S with
  | (v, i) :: (u, a) :: S2 => bif v == 0 && u == κ + 10 && Nat.ble 64 κ && Nat.blt κ 86 && ok (ket κ) then a ≠ 0 ∧ 0 ≤ i ∧ i < ln h a ∧ (okv h (ket κ) (rd h a i) → k L ((tg (ket κ), rd h a i) :: S2) h) else False
  | _ => False
def sAst (c : Nat) (κ : Nat) (f : Int → Int) (k : Nxt) : Nxt := fun L S h => match S with
  | (w, x) :: (v, i) :: (u, a) :: S2 => bif w == tg c && v == 0 && u == κ + 10 && Nat.ble 64 κ && Nat.blt κ 83 && ket κ == c then a ≠ 0 ∧ 0 ≤ i ∧ i < ln h a ∧ (bif c == 3 then (x = 0 ∨ x = 1) ∧ k L S2 (up h a i (f x)) else k L S2 (up h a i (f x))) else False
  | _ => False
def sNew (own : String) (idx κ : Nat) (k : Nxt) : Nxt := fun L S h => (κ < 29 ∧ Cond.classLink own idx (kname κ) ∈ lw_tbl) ∧ (nx h + 1 ≤ NM ∧ us h + kN κ ≤ UM) ∧ (64 ≤ nx h → k L ((κ + 10, nx h) :: S) (mk h κ (kN κ)))
def sNewA (κ : Nat) (k : Nxt) : Nxt := fun L S h => match S with
  | (u, n) :: S2 => bif u == 0 && Nat.ble 64 κ && Nat.blt κ 83 then (0 ≤ n ∧ n ≤ 65536 ∧ nx h + 1 ≤ NM ∧ us h + n ≤ UM) ∧ (64 ≤ nx h → k L ((κ + 10, nx h) :: S2) (mk h κ n)) else False
  | _ => False
/-! calls -/
def Lks (own : String) (idx : Nat) (y : MethodName) : Prop := Cond.methodLink own idx y ∈ lw_tbl ∨ ∃ host, Cond.methodLinkNest own idx y host ∈ lw_tbl
def LkS (own : String) (idx n : Nat) (md2 : MD) : Prop := Cq md2 n ∧ Cond.static md2.1 ∈ lw_tbl ∧ Lks own idx md2.1
def LkV (own : String) (idx κ n : Nat) (md2 : MD) : Prop := κ < 29 ∧ Cq md2 n ∧ Cond.instanceMethod md2.1 ∈ lw_tbl ∧ Cond.selects (kname κ) md2.1 md2.1 ∈ lw_tbl ∧ Lks own idx md2.1
def LkI (own : String) (idx n : Nat) (md2 : MD) : Prop := Cq md2 n ∧ Cond.instanceMethod md2.1 ∈ lw_tbl ∧ md2.1.name = "<init>" ∧ md2.2.2.2.2.2 = [] ∧ md2.2.2.2.1 = none ∧ Lks own idx md2.1
def LkO (own : String) (idx : Nat) : Prop := Cond.methodLink own idx objectInit ∈ lw_tbl ∧ Cond.instanceMethod objectInit ∈ lw_tbl ∧ Cond.code objectInit ⟨#[0xb1]⟩ 1 none ∈ lw_tbl
section WP2
variable (Γ : Gam) (d : Nat) (md : MD) (KR KT : Kt) (pc : Nat)
def thr (L : Lc) (a : Int) (h : Hp) : Prop := bif (tableOf md.2.2.2.2.2).all (fun x => !covers x pc) then KT a h else ∀ κ : Nat, κ < 29 → okv h (κ + 10) a → a ≠ 0 → Th Γ d md pc L h KR KT a
def CC (md2 : MD) (vs : List Vl) (h : Hp) (KR2 KT2 : Kt) : Prop := ∃ d2, d2 + 1 ≤ d ∧ Mx Γ d2 md2 vs h KR2 KT2
def sCallS (own : String) (idx n : Nat) (md2 : MD) (k : Nxt) : Nxt := fun L S h => bif Nat.ble n S.length && Nat.ble (S.drop n).length 40 then LkS own idx n md2 ∧ CC Γ d md2 ((S.take n).reverse) h (fun r h2 => okr md2.2.2.2.2.1 h2 r → k L (rpush md2.2.2.2.2.1 r (S.drop n)) h2) (fun a h2 => thr Γ d md KR KT pc L a h2) else False
def sCallV (own : String) (idx κ n : Nat) (md2 : MD) (k : Nxt) : Nxt := fun L S h => match S.drop n with
  | (u, a) :: S2 => bif u == κ + 10 && Nat.ble S2.length 40 then LkV own idx κ n md2 ∧ a ≠ 0 ∧ CC Γ d md2 ((u, a) :: (S.take n).reverse) h (fun r h2 => okr md2.2.2.2.2.1 h2 r → k L (rpush md2.2.2.2.2.1 r S2) h2) (fun a h2 => thr Γ d md KR KT pc L a h2) else False
  | _ => False
def sCallI (own : String) (idx n : Nat) (md2 : MD) (k : Nxt) : Nxt := fun L S h => match S.drop n with
  | (u, a) :: S2 => bif Nat.ble 10 u && Nat.ble S2.length 40 then LkI own idx n md2 ∧ a ≠ 0 ∧ CC Γ d md2 ((u, a) :: (S.take n).reverse) h (fun r h2 => okr md2.2.2.2.2.1 h2 r → k L (rpush md2.2.2.2.2.1 r S2) h2) (fun a h2 => thr Γ d md KR KT pc L a h2) else False
  | _ => False
def sObjI (own : String) (idx : Nat) (k : Nxt) : Nxt := fun L S h => match S with
  | (u, a) :: S2 => bif Nat.ble 10 u && Nat.ble S2.length 40 then LkO own idx ∧ 1 ≤ d ∧ a ≠ 0 ∧ k L S2 h else False
  | _ => False
end WP2
/-! switches -/
def sTabC (J : Nat × List Nat → Nxt) (x : Int) (L : Lc) (S : List Vl) (h : Hp) : List (Nat × List Nat) → Int → Prop
  | [], _ => True
  | t :: r, lo => (x = lo → J t L S h) ∧ sTabC J x L S h r (lo + 1)
def sTab (J : Nat × List Nat → Nxt) (ts : List (Nat × List Nat)) (lo hi : Int) : Nxt := fun L S h => match S with
  | (u, x) :: S2 => bif u == 0 then (x < lo ∨ hi < x → J (T0 ts) L S2 h) ∧ sTabC J x L S2 h ts.tail lo else False
  | _ => False
/-- the labels of a switch are its offsets -/
def tabOk (pc : Nat) (dflt lo hi : Int) (offs : List Int) (ts : List (Nat × List Nat)) : Bool :=
  decide ((pc : Int) + dflt = ((T0 ts).1 : Int)) && decide (hi - lo + 1 = (offs.length : Int)) && decide (lo ≤ hi) && (ts.tail.map (fun t => (t.1 : Int)) == offs.map (fun o => (pc : Int) + o))
def sLooC (J : Nat × List Nat → Nxt) (x : Int) (L : Lc) (S : List Vl) (h : Hp) (D : Nat × List Nat) : List (Int × Int) → List (Nat × List Nat) → Prop
  | [], _ => J D L S h
  | p :: ps, [] => False
  | p :: ps, t :: ts => (x = p.1 → J t L S h) ∧ (¬ x = p.1 → sLooC J x L S h D ps ts)
def sLoo (J : Nat × List Nat → Nxt) (ts : List (Nat × List Nat)) (ps : List (Int × Int)) : Nxt := fun L S h => match S with
  | (u, x) :: S2 => bif u == 0 then sLooC J x L S2 h (T0 ts) ps ts.tail else False
  | _ => False
def looOk (pc : Nat) (dflt : Int) (ps : List (Int × Int)) (ts : List (Nat × List Nat)) : Bool :=
  ((ps.zip (ps.drop 1)).all (fun (a, next) => a.1 < next.1)) && decide ((pc : Int) + dflt = ((T0 ts).1 : Int)) && (ts.tail.map (fun t => (t.1 : Int)) == ps.map (fun o => (pc : Int) + o.2))
/-! one instruction, a row of them -/
def stE (md : MD) (pc : Nat) (x : El) : Bool := match x.1 with
  | .nop => false
  | .aconst_null => x.2.1 == 1 && Nat.ble 9 (n0 x.2.2.1)
  | .aastore | .anewarray _ | .checkcast _ | .getstatic _ | .multianewarray _ _ | .invokeinterface _ _ => true
  | .iconst n => x.2.1 == 1 && decide (-2147483648 ≤ n ∧ n < 2147483648)
  | .bipush n => x.2.1 == 2 && decide (-128 ≤ n ∧ n < 128)
  | .sipush n => x.2.1 == 3 && decide (-32768 ≤ n ∧ n < 32768)
  | .iload _ | .lload _ | .aload _ | .istore _ | .lstore _ | .astore _ | .newarray _ | .ldc _ => x.2.1 == 2
  | .iinc _ _ | .getfield _ | .putfield _ | .new _ | .ldc2_w _ | .ldc_w _ | .invokestatic _ | .invokevirtual _ | .invokespecial _ => x.2.1 == 3
  | .goto o => x.2.1 == 3 && decide ((pc : Int) + o = ((T0 x.2.2.2.1).1 : Int))
  | .ifCond _ o | .if_icmp _ o | .if_acmp _ o | .ifnull o | .ifnonnull o => x.2.1 == 3 && decide ((pc : Int) + o = ((T0 x.2.2.2.1).1 : Int)) && (T1 x.2.2.2.1).1 == pc + 3
  | .tableswitch dflt lo hi offs => tabOk pc dflt lo hi offs.toList x.2.2.2.1
  | .lookupswitch dflt ps => looOk pc dflt ps.toList x.2.2.2.1
  | .ireturn => x.2.1 == 1 && (match md.2.2.2.1 with | some ty => tyc md.2.2.2.2.1 ty && Nat.blt md.2.2.2.2.1 6 && !(md.2.2.2.2.1 == 1) | none => false)
  | .lreturn => x.2.1 == 1 && (match md.2.2.2.1 with | some .long => md.2.2.2.2.1 == 1 | _ => false)
  | .areturn => x.2.1 == 1 && (match md.2.2.2.1 with | some (.object _) => true | some (.array _) => true | _ => false) && Nat.ble 9 md.2.2.2.2.1 && !(md.2.2.2.2.1 == 99)
  | .return_ => x.2.1 == 1 && md.2.2.2.2.1 == 99 && (match md.2.2.2.1 with | none => true | _ => false)
  | _ => x.2.1 == 1
def decB (md : MD) : Nat → List El → Nat × List Nat → Bool
  | pc, [], fin => pc == fin.1
  | pc, x :: r, fin => decide (decode md.2.1 pc = .ok (x.1, x.2.1)) && stE md pc x && decB md (pc + x.2.1) r fin
section WP3
variable (Γ : Gam) (d : Nat) (md : MD) (KR KT : Kt)
/-- an instruction with a rule of its own: the rule is given where the block is proved -/
def sEsc (pc : Nat) (x : El) (k : Nxt) : Nxt := fun L S h => decode md.2.1 pc = .ok (x.1, x.2.1) → (∀ L S h, k L S h → Rr Γ d md (pc + x.2.1) L S h KR KT) → Rr Γ d md pc L S h KR KT
def stepW (pc : Nat) (x : El) (k : Nxt) : Nxt := match x.1 with
  | .aconst_null => sPush (n0 x.2.2.1) 0 k
  | .iconst n => sPush 0 n k
  | .bipush n => sPush 0 n k
  | .sipush n => sPush 0 n k
  | .lconst n => sPush 1 (n.val : Int) k
  | .ldc i => bif n1 x.2.2.1 == 78 then sEsc Γ d md KR KT pc x k else fun L S h => (r32 (i0 x.2.2.1) ∧ Cond.constant md.1.cls i (I32 (i0 x.2.2.1)) ∈ lw_tbl) ∧ k L ((0, i0 x.2.2.1) :: S) h
  | .ldc_w i => fun L S h => (r32 (i0 x.2.2.1) ∧ Cond.constant md.1.cls i (I32 (i0 x.2.2.1)) ∈ lw_tbl) ∧ k L ((0, i0 x.2.2.1) :: S) h
  | .ldc2_w i => fun L S h => (r64 (i0 x.2.2.1) ∧ Cond.constantLong md.1.cls i (I64 (i0 x.2.2.1)) ∈ lw_tbl) ∧ k L ((1, i0 x.2.2.1) :: S) h
  | .iload i => sLoad 0 i k
  | .iload_n i => sLoad 0 i.val k
  | .lload i => sLoad 1 i k
  | .lload_n i => sLoad 1 i.val k
  | .aload i => sLoadA i k
  | .aload_n i => sLoadA i.val k
  | .istore i => sStore md.2.2.1 0 i k
  | .istore_n i => sStore md.2.2.1 0 i.val k
  | .lstore i => sStore2 md.2.2.1 i k
  | .lstore_n i => sStore2 md.2.2.1 i.val k
  | .astore i => sStoreA md.2.2.1 i k
  | .astore_n i => sStoreA md.2.2.1 i.val k
  | .iinc i n => sIinc md.2.2.1 i n k
  | .iadd => sBin 0 0 0 (fun a b => w32 (a + b)) k
  | .isub => sBin 0 0 0 (fun a b => w32 (a - b)) k
  | .imul => sBin 0 0 0 (fun a b => w32 (a * b)) k
  | .iand => sBin 0 0 0 iand k
  | .ior => sBin 0 0 0 ior k
  | .ixor => sBin 0 0 0 ixor k
  | .ishl => sBin 0 0 0 ishl k
  | .ishr => sBin 0 0 0 ishr k
  | .iushr => sBin 0 0 0 iushr k
  | .idiv => sDiv 0 (fun a b => w32 (a.tdiv b)) k
  | .irem => sDiv 0 (fun a b => a.tmod b) k
  | .ineg => sUn 0 0 (fun a => w32 (-a)) k
  | .ladd => sBin 1 1 1 (fun a b => w64 (a + b)) k
  | .lsub => sBin 1 1 1 (fun a b => w64 (a - b)) k
  | .lmul => sBin 1 1 1 (fun a b => w64 (a * b)) k
  | .land => sBin 1 1 1 land' k
  | .lor => sBin 1 1 1 lor' k
  | .lxor => sBin 1 1 1 lxor' k
  | .lshl => sBin 1 0 1 lshl' k
  | .lshr => sBin 1 0 1 lshr' k
  | .lushr => sBin 1 0 1 lushr' k
  | .ldiv => sDiv 1 (fun a b => w64 (a.tdiv b)) k
  | .lrem => sDiv 1 (fun a b => a.tmod b) k
  | .lneg => sUn 1 1 (fun a => w64 (-a)) k
  | .lcmp => sBin 1 1 0 lcmp k
  | .i2l => sUn 0 1 (fun a => a) k
  | .l2i => sUn 1 0 w32 k
  | .i2b => sUn 0 0 w8 k
  | .i2s => sUn 0 0 w16 k
  | .i2c => sUn 0 0 i2c k
  | .pop => sPop k
  | .dup => sDup k
  | .dup_x1 => sDupX1 k
  | .dup2 => sDup2 k
  | .goto _ => fun L S h => jmp Γ d md KR KT (T0 x.2.2.2.1) L S h
  | .ifCond c _ => sIf (jmp Γ d md KR KT) x.2.2.2.1 c
  | .if_icmp c _ => sCmp (jmp Γ d md KR KT) x.2.2.2.1 c
  | .ifnull _ => sNull (jmp Γ d md KR KT) x.2.2.2.1 true
  | .ifnonnull _ => sNull (jmp Γ d md KR KT) x.2.2.2.1 false
  | .if_acmp .eq _ => sAcmp (jmp Γ d md KR KT) x.2.2.2.1 true
  | .if_acmp .ne _ => sAcmp (jmp Γ d md KR KT) x.2.2.2.1 false
  | .tableswitch _ lo hi _ => sTab (jmp Γ d md KR KT) x.2.2.2.1 lo hi
  | .lookupswitch dflt ps => sLoo (jmp Γ d md KR KT) x.2.2.2.1 ps.toList
  | .getfield i => sGet md.1.cls i (n0 x.2.2.1) (n1 x.2.2.1) (n2 x.2.2.1) k
  | .putfield i => sPut md i (n0 x.2.2.1) (n1 x.2.2.1) (n2 x.2.2.1) k
  | .arraylength => sLen (n0 x.2.2.1) k
  | .iaload => sAld (fun c => c == 0) (n0 x.2.2.1) k
  | .laload => sAld (fun c => c == 1) (n0 x.2.2.1) k
  | .baload => sAld (fun c => c == 2 || c == 3) (n0 x.2.2.1) k
  | .aaload => sAld (fun c => Nat.ble 9 c) (n0 x.2.2.1) k
  | .iastore => sAst 0 (n0 x.2.2.1) (fun v => v) k
  | .lastore => sAst 1 (n0 x.2.2.1) (fun v => v) k
  | .bastore => bif ket (n0 x.2.2.1) == 2 then sAst 2 (n0 x.2.2.1) w8 k else sAst 3 (n0 x.2.2.1) (fun v => v) k
  | .new i => sNew md.1.cls i (n0 x.2.2.1) k
  | .newarray ty => fun L S h => (kat (n0 x.2.2.1) = newarray.typeOf ty ∧ Cond.arrayClass (newarray.typeOf ty) ∈ lw_tbl) ∧ sNewA (n0 x.2.2.1) k L S h
  | .invokestatic i => bif n1 x.2.2.1 == 78 then sEsc Γ d md KR KT pc x k else sCallS Γ d md KR KT pc md.1.cls i (n0 x.2.2.1) x.2.2.2.2 k
  | .invokevirtual i => bif n1 x.2.2.1 == 78 then sEsc Γ d md KR KT pc x k else sCallV Γ d md KR KT pc md.1.cls i (n1 x.2.2.1) (n0 x.2.2.1) x.2.2.2.2 k
  | .invokespecial i => bif n1 x.2.2.1 == 78 then sEsc Γ d md KR KT pc x k else bif n1 x.2.2.1 == 77 then sObjI d md.1.cls i k else sCallI Γ d md KR KT pc md.1.cls i (n0 x.2.2.1) x.2.2.2.2 k
  | .ireturn => fun _ S h => match S with
    | [(u, x)] => bif u == 0 then (bif md.2.2.2.2.1 == 0 then KR x h else okv h md.2.2.2.2.1 x ∧ KR x h) else False
    | _ => False
  | .lreturn => fun _ S h => match S with
    | [(u, x)] => bif u == 1 then KR x h else False
    | _ => False
  | .areturn => fun _ S h => match S with
    | [(u, x)] => bif u == md.2.2.2.2.1 then KR x h else False
    | _ => False
  | .return_ => fun _ S h => match S with
    | [] => KR 0 h
    | _ => False
  | .athrow => fun L S h => match S with
    | (u, a) :: _ => bif Nat.ble 10 u && Nat.blt u 39 then a ≠ 0 ∧ thr Γ d md KR KT pc L a h else False
    | _ => False
  | .aastore => sEsc Γ d md KR KT pc x k
  | .anewarray _ => sEsc Γ d md KR KT pc x k
  | .checkcast _ => sEsc Γ d md KR KT pc x k
  | .getstatic _ => sEsc Γ d md KR KT pc x k
  | .multianewarray _ _ => sEsc Γ d md KR KT pc x k
  | .invokeinterface _ _ => sEsc Γ d md KR KT pc x k
  | _ => fun _ _ _ => False
def wpB : Nat → List El → Nat × List Nat → Nxt
  | _, [], fin => fun L S h => jmp Γ d md KR KT fin L S h
  | pc, x :: r, fin => stepW Γ d md KR KT pc x (wpB (pc + x.2.1) r fin)
end WP3
