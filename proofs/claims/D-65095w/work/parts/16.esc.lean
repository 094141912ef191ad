/-! INSTRUCTIONS WITH RULES OF THEIR OWN -/
/-- n cells of kind κ and length m are made and laid into the array a -/
def mIn (h : Hp) (a κ m : Int) : Nat → Hp
  | 0 => h
  | k + 1 => up (mk (mIn h a κ m k) κ m) a (k : Int) (nx (mIn h a κ m k))
def m2k (h : Hp) (κ2 κ1 n m : Int) : Hp := mIn (mk h κ2 n) (nx h) κ1 m n.toNat
def m2kR (h : Hp) (κ2 κ1 n m : Int) : Prop := 0 ≤ n ∧ n ≤ 65536 ∧ 0 ≤ m ∧ m ≤ 65536 ∧ nx h + 1 + n ≤ NM ∧ us h + n + n * m ≤ UM
def mIn3 (h : Hp) (a κ2 κ1 n m : Int) : Nat → Hp
  | 0 => h
  | k + 1 => up (m2k (mIn3 h a κ2 κ1 n m k) κ2 κ1 n m) a (k : Int) (nx (mIn3 h a κ2 κ1 n m k))
def m3k (h : Hp) (κ3 κ2 κ1 l n m : Int) : Hp := mIn3 (mk h κ3 l) (nx h) κ2 κ1 n m l.toNat
def m3kR (h : Hp) (κ3 κ2 κ1 l n m : Int) : Prop := 0 ≤ l ∧ l ≤ 65536 ∧ 0 ≤ n ∧ n ≤ 65536 ∧ 0 ≤ m ∧ m ≤ 65536 ∧ nx h + 1 + l * (1 + n) ≤ NM ∧ us h + l + l * (n + n * m) ≤ UM
/-- System.arraycopy -/
def cpy (h : Hp) (s sp t tp n : Int) : Hp := (fun x y => if x = t ∧ tp ≤ y ∧ y < tp + n then h.1 s (sp + (y - tp)) else h.1 x y, h.2)
def cpR (h : Hp) (s sp t tp n : Int) : Prop := 0 ≤ sp ∧ 0 ≤ tp ∧ 0 ≤ n ∧ sp + n ≤ ln h s ∧ tp + n ≤ ln h t ∧ 0 < ln h s ∧ 0 < ln h t
/-- clone of an array -/
def cln (h : Hp) (a κ : Int) : Hp := (fun x y => if x = h.2.1 then (if y = -1 then κ else if 0 ≤ y ∧ y < ln h a ∨ y = -2 then h.1 a y else 0) else h.1 x y, h.2.1 + 1, h.2.2 + ln h a)
/-- Arrays.copyOf -/
def cpO (h : Hp) (a n : Int) : Hp := cpy (mk h 82 n) a 0 (nx h) 0 (if ln h a ≤ n then ln h a else n)
def opof (a x y : Int) : Int := if a = 3 then w64 (-y) else if a = 4 then w64 (x + y) else if a = 5 then w64 (x - y) else if a = 6 then w64 (x * y) else if a = 7 then (if x < y then 1 else 0) else if a = 8 then (if y < x then 1 else 0) else x
def sidx (s c : Int) : Int := if s = 20 then (if c = 108 then 0 else if c = 98 then 1 else if c = 112 then 2 else if c = 118 then 3 else if c = 114 then 4 else if c = 120 then 5 else -1)
  else (if c = 111 then 0 else if c = 104 then 1 else if c = 116 then 2 else if c = 107 then 3 else if c = 101 then 4 else if c = 109 then 5 else if c = 102 then 6 else -1)
def schr (s i : Int) : Int := if i = 0 then 111 else if i = 1 then 104 else if i = 2 then 116 else if i = 3 then 107 else if i = 4 then 101 else if i = 5 then 109 else 102
def strOf (t : String) : Option Nat := if t = "lbpvrx" then some 20 else if t = "ohtkemf" then some 21 else if t = "fault" then some 22 else none
def RomF (own : String) (i a t : Nat) : Prop := ∃ q : String × String × String, Cond.fieldLink own i q.1 q.2.1 q.2.2 ∈ lw_tbl ∧ Cond.laysStatic q.1 q.2.1 q.2.2 ∈ lw_tbl ∧ Cond.initialized q.1 ∈ lw_tbl ∧ ∃ κ, t = κ + 10 ∧ (q.1, q.2.1, q.2.2, a, κ) ∈ romT
def RomS (own : String) (i a : Nat) : Prop := ∃ q : String, Cond.stringRef own i q ∈ lw_tbl ∧ (own, i, a) ∈ romQ
def CA (own : String) (i κ : Nat) : Prop := ∃ nm : String, Cond.classLink own i nm ∈ lw_tbl ∧ nm = "[" ++ (kat κ).toString
def AN (own : String) (i κ : Nat) : Prop := ∃ C : String, Cond.classLink own i C ∈ lw_tbl ∧ kat κ = .object C ∧ Cond.arrayOver (.object C) ∈ lw_tbl
/-- a value of a class is a value of Object -/
def subV : List Vl → List Nat → Bool
  | [], [] => true
  | v :: r, t :: s => (t == v.1 || (t == 9 && Nat.ble 10 v.1)) && subV r s
  | _, _ => false
def reT : List Vl → List Nat → List Vl
  | v :: r, t :: s => (t, v.2) :: reT r s
  | _, _ => []
theorem reT_ok {h : Hp} : ∀ {vs : List Vl} {ts : List Nat}, subV vs ts = true → okS h vs → okS h (reT vs ts)
  | [], [], _, _ => fun v hv => by cases hv
  | [], _ :: _, e, _ => by cases e
  | _ :: _, [], e, _ => by cases e
  | v :: r, t :: s, e, k => by
    obtain ⟨e1, e2⟩ := and_t e
    have ih := reT_ok e2 k.t
    have hv := k.h
    show okS h ((t, v.2) :: reT r s)
    refine okS.c ?_ ih
    rcases Bool.or_eq_true _ _ |>.mp e1 with e1 | e1
    · have : t = v.1 := beq_t e1
      subst this
      exact hv
    · obtain ⟨e3, e4⟩ := and_t e1
      have : t = 9 := beq_t e3
      subst this
      obtain ⟨n, hn⟩ : ∃ n, v.1 = n + 9 := ⟨v.1 - 9, by have := Nat.le_of_ble_eq_true e4; omega⟩
      rw [hn] at hv
      exact ok_ref hv
theorem reT_cw (Γ : Gam) : ∀ {vs : List Vl} {ts : List Nat}, subV vs ts = true → (reT vs ts).map (cw Γ) = vs.map (cw Γ)
  | [], [], _ => rfl
  | [], _ :: _, e => by cases e
  | _ :: _, [], e => by cases e
  | v :: r, t :: s, e => by
    obtain ⟨e1, e2⟩ := and_t e
    show cw Γ (t, v.2) :: (reT r s).map (cw Γ) = cw Γ v :: r.map (cw Γ)
    rw [reT_cw Γ e2]
    congr 1
    rcases Bool.or_eq_true _ _ |>.mp e1 with e1 | e1
    · have : t = v.1 := beq_t e1
      subst this
      rfl
    · obtain ⟨e3, e4⟩ := and_t e1
      have : t = 9 := beq_t e3
      subst this
      obtain ⟨n, hn⟩ : ∃ n, v.1 = n + 6 := ⟨v.1 - 6, by have := Nat.le_of_ble_eq_true e4; omega⟩
      show cv Γ 9 v.2 = cv Γ v.1 v.2
      rw [hn]
      rfl
theorem Mx.sub {Γ : Gam} {d : Nat} {md : MD} {vs : List Vl} {ts : List Nat} {h : Hp} {KR KT : Kt} (e : subV vs ts = true) (M : Mx Γ d md (reT vs ts) h KR KT) : Mx Γ d md vs h KR KT := by
  intro hok hbd
  have M := M (reT_ok e hok) hbd
  rw [reT_cw Γ e] at M
  exact M
theorem k_obj {κ : Nat} (h64 : 64 ≤ κ) (h83 : κ < 83) (h10 : 10 ≤ ket κ) (h39 : ket κ < 39) : ∃ C, kat κ = .object C := by
  have : κ = 64 ∨ κ = 65 ∨ κ = 66 ∨ κ = 67 ∨ κ = 68 ∨ κ = 69 ∨ κ = 70 ∨ κ = 71 ∨ κ = 72 ∨ κ = 73 ∨ κ = 74 ∨ κ = 75 ∨ κ = 76 ∨ κ = 77 ∨ κ = 78 ∨ κ = 79 ∨ κ = 80 ∨ κ = 81 ∨ κ = 82 := by omega
  rcases this with rfl | rfl | rfl | rfl | rfl | rfl | rfl | rfl | rfl | rfl | rfl | rfl | rfl | rfl | rfl | rfl | rfl | rfl | rfl <;> first | exact ⟨_, rfl⟩ | exact absurd h10 (by decide) | exact absurd h39 (by decide)
section ESC
variable {Γ : Gam} {d : Nat} {md : MD} {pc : Nat} {L : Lc} {S : List Vl} {h : Hp} {KR KT : Kt} {r : List El} {fin : Nat × List Nat} {info : List Int}
theorem GG.cast (g : GG Γ) {C T : String} (hw : Cond.castable C T ∈ lw_tbl) {s : State} (hW : (gs Γ).WarmedH s.vm) : ∃ c t : ClassId, s.vm.findClass C = some c ∧ s.vm.findClass T = some t ∧ s.vm.assignable c t = true := by
  obtain ⟨a0, h0⟩ := g.2.1
  obtain ⟨c, t, f1, f2, f3⟩ := Cond.castable_spec (h0 _ hw)
  exact ⟨c, t, by rw [hW.alike.findClass]; exact f1, by rw [hW.alike.findClass]; exact f2, by rw [hW.alike.assignable]; exact f3⟩
theorem GG.over (g : GG Γ) {C : String} (hw : Cond.arrayOver (.object C) ∈ lw_tbl) {s : State} (hW : (gs Γ).WarmedH s.vm) (args : Array Value) : (Cond.arrayOver (.object C)).before args s = true := by
  obtain ⟨a0, h0⟩ := g.2.1
  exact va_AO.use (va_AO.moved hW.alike (va_AO.of (h0 _ hw)))
theorem cv_nul (Γ : Gam) (n : Nat) : cv Γ (n + 6) 0 = .null := rfl
/-- a reference laid into an array of references -/
theorem aast_go (g : GG Γ) {κ : Nat} {a i x : Int} (q1 : 64 ≤ κ) (h83 : κ < 83) {C : String} (hC : kat κ = .object C) (h9 : 9 ≤ ket κ) (hd : decode md.2.1 pc = .ok (.aastore, 1)) (ha : a ≠ 0) (i0 : 0 ≤ i) (i1 : i < ln h a)
    (hx : x = 0 ∨ ∃ κv : Nat, κv < 29 ∧ kn h x = κv ∧ 0 < x ∧ x < nx h ∧ ∀ (s : State) (comp : ClassId), (gs Γ).WarmedH s.vm → (∀ κw : Nat, κw < 29 → ket κ = κw + 10 → comp = gC Γ κw) → (ket κ = 9 → (gs Γ).vm.findClass "java/lang/Object" = some comp) → s.vm.assignable (gC Γ κv) comp = true)
    (k : Rr Γ d md (pc + 1) L S (up h a i x) KR KT) : Rr Γ d md pc L ((ket κ, x) :: (0, i) :: (κ + 10, a) :: S) h KR KT := by
  intro h0' s m args below meth c H locs ls X hE hH hlo hl hL hS hb
  obtain ⟨a64, an, ak, l1, qc, -⟩ := HR.arrW g hH q1 h83 (a := a) hS.t.t.h ha (by omega)
  obtain ⟨G1, G2, kA, comp, G3, G4, G5', G6, G7, -⟩ := g.2.2.2.1 κ q1 h83
  obtain ⟨kB, G5⟩ := G5' (by omega)
  have hW := X.2.2.2.2.2.2.1
  have hxe : ext h (up h a i x) := ext.put i0
  have hxo : okv h (ket κ) x := hS.h
  obtain ⟨n6, hn6⟩ : ∃ n, ket κ = n + 6 := ⟨ket κ - 6, by omega⟩
  have fin_ : ∀ H' : Heap, H'[ra Γ a]? = some ((arrV (gA Γ κ) (ln h a).toNat (fun j => cv Γ (ket κ) (rd h a j))).setSlot i.toNat (cv Γ (ket κ) x)) → H'.size = H.size → (∀ q, q ≠ ra Γ a → H'[q]? = H[q]?) →
      W (gp Γ) (gl Γ) (ge Γ) (Rm d h0') s m args below meth c H' (locs ++ [⟨ra Γ a, i.toNat⟩]) (nx h - nx h0').toNat (us h - us h0').toNat (Zt Γ md h0' KR KT below s) (F0 m (pc + 1) ls (S.map (cw Γ))) := by
    intro H' e1 e2 e3
    refine k h0' s m args below meth c H' _ ls X (hE.tr hxe) (HR.setA hH q1 a64 an ak i0 i1 hxo e1 e2 e3) ?_ hl (hL.e hxe) (hS.t.t.t.e hxe) hb
    intro q hq
    rcases List.mem_append.mp hq with q | q
    · exact hlo _ q
    · rw [List.mem_singleton.mp q]; show (gs Γ).heap.size ≤ ra Γ a; rw [ra_new a64]; omega
  have q2 := G1 (ln h a).toNat (fun j => cv Γ (ket κ) (rd h a j))
  rw [hC] at q2
  show W _ _ _ _ _ _ _ _ _ _ _ _ _ _ _ (F0 m pc ls (cv Γ (ket κ) x :: .int (I32 i) :: cv Γ (κ + 1 + 9) a :: S.map (cw Γ)))
  rw [cv_refN Γ _ ha]
  rcases hx with x0 | ⟨κv, hκv, hkn, x1, x2, has⟩
  · subst x0
    have e0 : cv Γ (ket κ) 0 = .null := by rw [hn6]; rfl
    rw [e0]
    rw [e0] at fin_
    refine va_WaastN g.ex X.1 qc (g.arrS hW q2) (fun z => by cases z) (by rw [arrV_size]; exact ixn i0 (by omega) (by omega)) rfl rfl hd (fun H' e1 e2 e3 => ?_)
    rw [ix i0 (by omega)] at e1 ⊢
    exact fin_ H' e1 e2 e3
  · have x0 : x ≠ 0 := by omega
    obtain ⟨-, -, -, ⟨cell, d1, d2, d3, -⟩, -⟩ := HR.obj g hH hκv (a := x) (Or.inr ⟨x1, x2, hkn⟩) x0
    have e0 : cv Γ (ket κ) x = .ref (ra Γ x) := by rw [hn6]; exact if_neg x0
    rw [e0]
    rw [e0] at fin_
    obtain ⟨kA', f1, f2⟩ := hW.alike.2.2 _ _ G3
    obtain ⟨kB', f3, -⟩ := hW.alike.2.2 _ _ G5
    obtain ⟨-, kC, f4, -⟩ := (g.kn_at hκv hW).2
    refine W.aast g.ex X.1 qc (fun _ z => by cases z) (fun z => by cases z) f1 (by rw [f2]; exact G4) (by rw [hC]; rfl) f3 ⟨fun q => ixn i0 (by omega) (show i.toNat < i.toNat + 1 by omega) (Or.inl q), by rw [arrV_size, ix i0 (by omega)]; omega⟩ d1 (fun _ z => by rw [d3] at z; cases z) (by rw [d2]; exact f4) (by rw [d2]; exact has s comp hW G6 G7) rfl rfl hd (fun H' e1 e2 e3 => ?_)
    rw [ix i0 (by omega)] at e1 ⊢
    exact fin_ H' e1 e2 e3
theorem q_aast (g : GG Γ) {κ c t u : Nat} {a i x : Int} (T : AT κ c t u) (o : decB md pc (ee .aastore 1 :: r) fin = true) (e : (Nat.blt κ 83 && (Nat.ble 10 c && Nat.blt c 39)) = true) (ha : a ≠ 0) (i0 : 0 ≤ i) (i1 : i < ln h a) (k : decB md (pc + 1) r fin = true → Rr Γ d md (pc + 1) L S (up h a i x) KR KT) : Rr Γ d md pc L ((t, x) :: (0, i) :: (u, a) :: S) h KR KT := by
  obtain ⟨q1, q2, rfl, rfl, rfl⟩ := T
  obtain ⟨e1, e2⟩ := and_t e
  obtain ⟨e3, e4⟩ := and_t e2
  have h83 := blt_t e1
  have h10 := Nat.le_of_ble_eq_true e3
  have h39 := blt_t e4
  obtain ⟨C, hC⟩ := k_obj q1 h83 h10 h39
  obtain ⟨κv, hv⟩ : ∃ κv, ket κ = κv + 10 := ⟨ket κ - 10, by omega⟩
  have et : tg (ket κ) = ket κ := by rw [hv]; rfl
  rw [et]
  intro h0' s m args below meth c H locs ls X hE hH hlo hl hL hS hb
  have hxo : okv h (κv + 10) x := by rw [← hv]; exact hS.h
  refine aast_go g q1 h83 hC (by omega) (dA o) ha i0 i1 ?_ (k (dB o)) h0' s m args below meth c H locs ls X hE hH hlo hl hL hS hb
  rcases hxo with x0 | ⟨x1, x2, x3⟩
  · exact Or.inl x0
  · refine Or.inr ⟨κv, by omega, x3, x1, x2, fun s comp hW G6 _ => ?_⟩
    rw [G6 κv (by omega) hv]
    exact va_asg _ _
theorem q_aast9 (g : GG Γ) {a i x : Int} (o : decB md pc (ee .aastore 1 :: r) fin = true) (ha : a ≠ 0) (i0 : 0 ≤ i) (i1 : i < ln h a) (hx : x = 0 ∨ kn h x = 24 ∨ kn h x = 27) (k : decB md (pc + 1) r fin = true → Rr Γ d md (pc + 1) L S (up h a i x) KR KT) : Rr Γ d md pc L ((9, x) :: (0, i) :: (92, a) :: S) h KR KT := by
  intro h0' s m args below meth c H locs ls X hE hH hlo hl hL hS hb
  have hxo : okv h 9 x := hS.h
  refine aast_go (κ := 82) g (by decide) (by decide) rfl (by decide) (dA o) ha i0 i1 ?_ (k (dB o)) h0' s m args below meth c H locs ls X hE hH hlo hl hL hS hb
  rcases hxo with x0 | ⟨x1, x2, x3⟩
  · exact Or.inl x0
  · rcases hx with hx | hx | hx
    · exact Or.inl hx
    · refine Or.inr ⟨24, by decide, hx, x1, x2, fun s comp hW _ G7 => ?_⟩
      obtain ⟨c0, t0, f1, f2, f3⟩ := g.cast (wat_in (q := (18, 38)) rfl) hW
      have e1 := (g.kn_at (κ := 24) (by decide) hW).2.1
      have e1 : s.vm.findClass "KeptHouse$Ticket" = some (gC Γ 24) := e1
      cases Option.some.inj (f1.symm.trans e1)
      have e2 := G7 rfl
      rw [← hW.alike.findClass] at e2
      cases Option.some.inj (f2.symm.trans e2)
      exact f3
    · refine Or.inr ⟨27, by decide, hx, x1, x2, fun s comp hW _ G7 => ?_⟩
      obtain ⟨c0, t0, f1, f2, f3⟩ := g.cast (wat_in (q := (18, 39)) rfl) hW
      have e1 := (g.kn_at (κ := 27) (by decide) hW).2.1
      have e1 : s.vm.findClass "KeptHouse$Order" = some (gC Γ 27) := e1
      cases Option.some.inj (f1.symm.trans e1)
      have e2 := G7 rfl
      rw [← hW.alike.findClass] at e2
      cases Option.some.inj (f2.symm.trans e2)
      exact f3
theorem q_anew (g : GG Γ) {i κ u : Nat} {ki n : Int} (T : NA κ u ki) (C : AN md.1.cls i κ) (o : decB md pc (ee (.anewarray i) 3 :: r) fin = true) (e : 0 ≤ n ∧ n ≤ 65536 ∧ nx h + 1 ≤ NM ∧ us h + n ≤ UM) (k : 64 ≤ nx h → decB md (pc + 3) r fin = true → Rr Γ d md (pc + 3) L ((u, nx h) :: S) (mk h ki n) KR KT) : Rr Γ d md pc L ((0, n) :: S) h KR KT := by
  obtain ⟨h64, h83, rfl, rfl⟩ := T
  obtain ⟨C, C1, C2, C3⟩ := C
  obtain ⟨n0, n1, hN, hU⟩ := e
  intro h0 s m args below meth c H locs ls X hE hH hlo hl hL hS hb
  have hW := X.2.2.2.2.2.2.1
  have hx : ext h (mk h κ n) := ext.new n0
  have e0 := hE.1
  have e1 := hE.2.1
  have hn : ¬ I32 n < 0 := fun q => by
    have := (I32_lt (show r32 n by unfold r32; omega) (show r32 0 by unfold r32; omega)).mp q
    omega
  have hi := ix n0 (show n < 2147483648 by omega)
  refine W.anew g.ex X.1 X.2.2.2.2.1 (g.word C1 rfl hW args) (g.over C3 hW args) rfl (dA o) rfl hn ?_ ?_ ?_ (fun cA kA comp f1 f2 f3 f4 => ?_)
  · rw [hi]; omega
  · show (nx h - nx h0).toNat + 1 ≤ (NM - nx h0).toNat
    omega
  · rw [hi]
    show (us h - us h0).toNat + n.toNat ≤ (UM - us h0).toNat
    omega
  · have hcA : cA = gA Γ κ := by
      have q6 : (gs Γ).vm.findClass ("[" ++ (FieldType.object C).toString) = some cA := by rw [← hW.alike.findClass]; exact f1
      have := (g.2.2.2.1 κ h64 h83).2.1
      rw [C2] at this
      exact Option.some.inj (q6.symm.trans this)
    subst hcA
    rw [hi]
    generalize hH1 : H.push ({ cls := gA Γ κ, slots := Array.replicate n.toNat .null, vm := .none } : Cell) = H1
    have z1 : H1.size = H.size + 1 := by rw [← hH1, Array.size_push]
    have e1' : H1[H.size]? = some (arrV (gA Γ κ) n.toNat (fun _ => defaultValue (kat κ))) := by rw [← hH1, Array.getElem?_push_size, ← arrV_new, C2]; rfl
    have o1 : ∀ q : Nat, q < H.size → H1[q]? = H[q]? := fun q hq => by rw [← hH1, Array.getElem?_push, if_neg (Nat.ne_of_lt hq)]
    have hH2 : HR Γ (mk h κ n) H1 := HR.newA hH h64 h83 n0 (by omega) z1 o1 e1'
    have K := k hH.1 (dB o) h0 s m args below meth c H1 locs ls X (hE.tr hx) hH2 hlo hl (hL.e hx) ((hS.t.e hx).c (Or.inr ⟨by have := hH.1; omega, by rw [nx_mk]; omega, kn_mk_new h κ n⟩)) ⟨by rw [nx_mk]; omega, by rw [us_mk]; omega⟩
    have a1 : (nx (mk h κ n) - nx h0).toNat = (nx h - nx h0).toNat + 1 := by rw [nx_mk]; omega
    have a2 : (us (mk h κ n) - us h0).toNat = (us h - us h0).toNat + n.toNat := by rw [us_mk]; omega
    rw [a1, a2] at K
    have K : W _ _ _ _ _ _ _ _ _ _ _ _ _ _ _ (F0 m (pc + 3) ls (cv Γ (κ + 1 + 9) (nx h) :: S.map (cw Γ))) := K
    rw [cv_refN Γ _ (by have := hH.1; omega), ra_nx hH] at K
    exact K
/-- an array of ours, even an empty one -/
theorem HR.arrN (g : GG Γ) {H : Heap} (hH : HR Γ h H) {κ : Nat} (h64 : 64 ≤ κ) (h82 : κ < 82) {a : Int} (ha : okv h (κ + 10) a) (h0 : a ≠ 0) :
    64 ≤ a ∧ a < nx h ∧ kn h a = κ ∧ 0 ≤ ln h a ∧ ln h a < 2147483648 ∧ H[ra Γ a]? = some (arrV (gA Γ κ) (ln h a).toNat (fun j => cv Γ (ket κ) (rd h a j))) ∧ ∀ j : Nat, (j : Int) < ln h a → okv h (ket κ) (rd h a j) := by
  rcases ha with ha | ⟨h1, h2, h3⟩
  · exact absurd ha h0
  · have a64 : 64 ≤ a := by
      rcases Int.lt_or_le a 64 with q | q
      · have e := hH.2.2.2.2 a (-1) (by omega) q
        have := ((g.2.2.2.2.2.2.1 a h1 q κ (by rw [← e]; exact h3)).2 (by omega)).2 (by omega)
        omega
      · exact q
    obtain ⟨κ', e, hc⟩ := hH.2.2.2.1 a a64 h2
    have e' : κ' = κ := by have := e.symm.trans h3; exact Int.ofNat.inj this
    subst e'
    rcases hc with ⟨c1, -⟩ | ⟨-, -, c1, c2, c3, c4⟩
    · omega
    · exact ⟨a64, h2, h3, c1, c2, c3, c4⟩
theorem q_cast0 (g : GG Γ) {i κ u : Nat} {ki x : Int} (T : NA κ u ki) (C : CA md.1.cls i κ) (o : decB md pc (ee (.checkcast i) 3 :: r) fin = true) (e82 : Nat.blt κ 82 = true) (k : decB md (pc + 3) r fin = true → Rr Γ d md (pc + 3) L ((u, x) :: S) h KR KT) : Rr Γ d md pc L ((u, x) :: S) h KR KT := by
  obtain ⟨h64, h83, rfl, rfl⟩ := T
  obtain ⟨nm, C1, rfl⟩ := C
  intro h0 s m args below meth c H locs ls X hE hH hlo hl hL hS hb
  have hW := X.2.2.2.2.2.2.1
  have K := k (dB o) h0 s m args below meth c H locs ls X hE hH hlo hl hL hS hb
  have K : W _ _ _ _ _ _ _ _ _ _ _ _ _ _ _ (F0 m (pc + 3) ls (cv Γ (κ + 1 + 9) x :: S.map (cw Γ))) := K
  show W _ _ _ _ _ _ _ _ _ _ _ _ _ _ _ (F0 m pc ls (cv Γ (κ + 1 + 9) x :: S.map (cw Γ)))
  by_cases x0 : x = 0
  · subst x0
    exact lv_castN g.ex X.1 (dA o) K
  · rw [cv_refN Γ _ x0] at K ⊢
    obtain ⟨-, -, -, -, -, qc, -⟩ := HR.arrN g hH h64 (blt_t e82) hS.h x0
    have hf : s.vm.findClass ("[" ++ (kat κ).toString) = some (gA Γ κ) := by rw [hW.alike.findClass]; exact (g.2.2.2.1 κ h64 h83).2.1
    intro T hT Y
    obtain ⟨vm', X', st⟩ := Y.checkcastYes g.ex X.2.2.2.2.1 (g.word C1 rfl hW args) (by rw [hT]; exact qc) rfl hf (va_asg _ _) (g := F0 m pc ls (.ref (ra Γ x) :: S.map (cw Γ))) rfl rfl (by rw [X.1]; exact dA o)
    obtain ⟨t, a1, b1⟩ := K (T.setVm vm') hT X'
    exact ⟨t, st t a1, b1⟩
theorem q_cast9 (g : GG Γ) {i κ u : Nat} {ki n x : Int} (T : NT κ u ki n) (C : Cond.classLink md.1.cls i (kname κ) ∈ lw_tbl) (o : decB md pc (ee (.checkcast i) 3 :: r) fin = true) (e : x = 0 ∨ kn h x = ki) (k : decB md (pc + 3) r fin = true → Rr Γ d md (pc + 3) L ((u, x) :: S) h KR KT) : Rr Γ d md pc L ((9, x) :: S) h KR KT := by
  obtain ⟨hκ, rfl, rfl, rfl⟩ := T
  intro h0 s m args below meth c H locs ls X hE hH hlo hl hL hS hb
  have hW := X.2.2.2.2.2.2.1
  have hxo : okv h 9 x := hS.h
  have hx1 : okv h (κ + 10) x := by
    rcases e with e | e
    · exact Or.inl e
    · rcases hxo with q | ⟨q1, q2, -⟩
      · exact Or.inl q
      · exact Or.inr ⟨q1, q2, e⟩
  have K := k (dB o) h0 s m args below meth c H locs ls X hE hH hlo hl hL (hS.t.c hx1) hb
  have K : W _ _ _ _ _ _ _ _ _ _ _ _ _ _ _ (F0 m (pc + 3) ls (cv Γ (κ + 1 + 9) x :: S.map (cw Γ))) := K
  show W _ _ _ _ _ _ _ _ _ _ _ _ _ _ _ (F0 m pc ls (cv Γ (0 + 9) x :: S.map (cw Γ)))
  by_cases x0 : x = 0
  · subst x0
    exact lv_castN g.ex X.1 (dA o) K
  · rw [cv_refN Γ _ x0] at K ⊢
    obtain ⟨-, -, -, ⟨cell, d1, d2, d3, -⟩, -⟩ := HR.obj g hH hκ hx1 x0
    have hk := (g.kn_at hκ hW).2
    exact va_castS g.ex X.1 X.2.2.2.2.1 (g.word C rfl hW args) hk ⟨cell, d1, by rw [d3]; rfl, by rw [d2]; exact hk.1⟩ (dA o) K
/-- an array of ours gets other contents -/
theorem HR.putA {H H2 : Heap} (hH : HR Γ h H) {κ : Nat} (h64 : 64 ≤ κ) {a : Int} (a64 : 64 ≤ a) (an : a < nx h) (ak : kn h a = κ) {h2 : Hp} (e0 : h2.2 = h.2) (eo : ∀ b j : Int, b ≠ a → h2.1 b j = h.1 b j) (ek : h2.1 a (-1) = h.1 a (-1)) (el : h2.1 a (-2) = h.1 a (-2))
    (e1 : H2[ra Γ a]? = some (arrV (gA Γ κ) (ln h a).toNat (fun j => cv Γ (ket κ) (rd h2 a j)))) (ok : ∀ j : Nat, (j : Int) < ln h a → okv h (ket κ) (rd h2 a j)) (e2 : H2.size = H.size) (e3 : ∀ q, q ≠ ra Γ a → H2[q]? = H[q]?) : ext h h2 ∧ HR Γ h2 H2 := by
  have hnx : nx h2 = nx h := by show h2.2.1 = h.2.1; rw [e0]
  have hus : us h2 = us h := by show h2.2.2 = h.2.2; rw [e0]
  have hx : ext h h2 := ⟨by omega, by omega, fun b _ _ => by
    by_cases hb : b = a
    · subst hb; exact ⟨ek, el⟩
    · exact ⟨eo b _ hb, eo b _ hb⟩⟩
  refine ⟨hx, by rw [hnx]; exact hH.1, by rw [e2, hnx]; exact hH.2.1, fun q hq => ?_, fun b b64 bn => ?_, fun b j b0 b1 => ?_⟩
  · rw [e3 q (by rw [ra_new a64]; omega)]
    exact hH.2.2.1 q hq
  · rw [hnx] at bn
    by_cases hb : b = a
    · subst hb
      obtain ⟨κ', q1, q2⟩ := hH.2.2.2.1 b b64 bn
      have e' : κ' = κ := by have := q1.symm.trans ak; exact Int.ofNat.inj this
      subst e'
      rcases q2 with ⟨c1, -⟩ | ⟨c1, c2, c3, c4, c5, c6⟩
      · omega
      · have ell : ln h2 b = ln h b := el
        refine ⟨κ', by show h2.1 b (-1) = _; rw [ek]; exact q1, Or.inr ⟨c1, c2, by rw [ell]; exact c3, by rw [ell]; exact c4, by rw [ell]; exact e1, fun j hj => ?_⟩⟩
        rw [ell] at hj
        exact (ok j hj).ext hx
    · refine (hH.2.2.2.1 b b64 bn).keep hx (fun j => eo b j hb) (e3 _ ?_)
      rw [ra_new a64, ra_new b64]
      omega
  · rw [eo b j (by omega)]
    exact hH.2.2.2.2 b j b0 b1
theorem refK_of : ∀ {κ : Nat}, 64 ≤ κ → κ < 83 → 6 ≤ ket κ → refKind (kat κ) = true := by
  intro κ h1 h2 h3
  have : κ = 64 ∨ κ = 65 ∨ κ = 66 ∨ κ = 67 ∨ κ = 68 ∨ κ = 69 ∨ κ = 70 ∨ κ = 71 ∨ κ = 72 ∨ κ = 73 ∨ κ = 74 ∨ κ = 75 ∨ κ = 76 ∨ κ = 77 ∨ κ = 78 ∨ κ = 79 ∨ κ = 80 ∨ κ = 81 ∨ κ = 82 := by omega
  rcases this with rfl | rfl | rfl | rfl | rfl | rfl | rfl | rfl | rfl | rfl | rfl | rfl | rfl | rfl | rfl | rfl | rfl | rfl | rfl <;> first | rfl | exact absurd h3 (by decide)
theorem refK_atyc : ∀ {κ : Nat}, 64 ≤ κ → κ < 83 → ket κ < 6 → refKind (kat κ) = false := by
  intro κ h1 h2 h3
  have : κ = 64 ∨ κ = 65 ∨ κ = 66 ∨ κ = 67 ∨ κ = 68 ∨ κ = 69 ∨ κ = 70 ∨ κ = 71 ∨ κ = 72 ∨ κ = 73 ∨ κ = 74 ∨ κ = 75 ∨ κ = 76 ∨ κ = 77 ∨ κ = 78 ∨ κ = 79 ∨ κ = 80 ∨ κ = 81 ∨ κ = 82 := by omega
  rcases this with rfl | rfl | rfl | rfl | rfl | rfl | rfl | rfl | rfl | rfl | rfl | rfl | rfl | rfl | rfl | rfl | rfl | rfl | rfl <;> first | rfl | exact absurd h3 (by decide)
/-- System.arraycopy, from an array of ours to another of its kind (or itself) -/
theorem copy_go (g : GG Γ) {i κ : Nat} {s1 sp t1 tp n : Int} (h64 : 64 ≤ κ) (h83 : κ < 83) (C : Cond.methodLink md.1.cls i arraycopyName ∈ lw_tbl) (hd : decode md.2.1 pc = .ok (.invokestatic i, 3)) (hs : s1 ≠ 0) (he : t1 ≠ 0) (b : cpR h s1 sp t1 tp n) (hS40 : S.length ≤ 40) (hd1 : 1 ≤ d)
    (hy : refKind (kat κ) = true → ∀ j : Int, sp ≤ j → j < sp + n → rd h s1 j = 0 ∨ ∃ κv : Nat, κv < 29 ∧ kn h (rd h s1 j) = κv ∧ 0 < rd h s1 j ∧ rd h s1 j < nx h ∧ ∀ (s : State) (comp : ClassId), (gs Γ).WarmedH s.vm → (ket κ = 9 → (gs Γ).vm.findClass "java/lang/Object" = some comp) → s.vm.assignable (gC Γ κv) comp = true)
    (k : Rr Γ d md (pc + 3) L S (cpy h s1 sp t1 tp n) KR KT) : Rr Γ d md pc L ((0, n) :: (0, tp) :: (κ + 10, t1) :: (0, sp) :: (κ + 10, s1) :: S) h KR KT := by
  obtain ⟨b1, b2, b3, b4, b5, b6, b7⟩ := b
  intro h0 s m args below meth c H locs ls X hE hH hlo hl hL hS hb
  have hW := X.2.2.2.2.2.2.1
  obtain ⟨s64, sn, sk, sl, sc, sok⟩ := HR.arrW g hH h64 h83 (a := s1) hS.t.t.t.t.h hs b6
  obtain ⟨t64, tn, tk, tl, tc, tok⟩ := HR.arrW g hH h64 h83 (a := t1) hS.t.t.h he b7
  obtain ⟨G1, G2, kA, comp, G3, G4, G5', -, G7, -⟩ := g.2.2.2.1 κ h64 h83
  obtain ⟨kA', f1, f2⟩ := hW.alike.2.2 _ _ G3
  have f3 : kA'.kind = .array comp (kat κ) := by rw [f2]; exact G4
  have nneg : ∀ {z : Int}, 0 ≤ z → z < 2147483648 → ¬ I32 z < 0 := fun h0 h1 q => by
    have := (I32_lt (show r32 _ by unfold r32; omega) (show r32 0 by unfold r32; omega)).mp q
    omega
  have e0 := hE.1
  show W _ _ _ _ _ _ _ _ _ _ _ _ _ _ _ (F0 m pc ls (.int (I32 n) :: .int (I32 tp) :: cv Γ (κ + 1 + 9) t1 :: .int (I32 sp) :: cv Γ (κ + 1 + 9) s1 :: S.map (cw Γ)))
  rw [cv_refN Γ _ he, cv_refN Γ _ hs]
  intro T hT Y
  obtain ⟨vm', X', step⟩ := Y.arraycopy g.ex X.2.2.2.2.1 (g.word C rfl hW args) (g.word (wat_in (q := (1, 131)) rfl) rfl hW args) (g.word (wat_in (q := (1, 130)) rfl) rfl hW args) (g.word (wat_in (q := (1, 6)) rfl) rfl hW args) (src := ra Γ s1) (dst := ra Γ t1) (srcPos := I32 sp) (destPos := I32 tp) (n := I32 n) (by rw [hT]; exact sc) (by rw [hT]; exact tc)
    (fun _ z => by cases z) (fun _ z => by cases z) (fun z => by cases z) (fun z => by cases z) f1 f1 f3 f3 (by cases refKind (kat κ) <;> simp) (nneg b1 (by omega)) (nneg b2 (by omega)) (nneg b3 (by omega))
    (by rw [I32_at (show r32 sp by unfold r32; omega), I32_at (show r32 n by unfold r32; omega), arrV_size]; omega)
    (by rw [I32_at (show r32 tp by unfold r32; omega), I32_at (show r32 n by unfold r32; omega), arrV_size]; omega)
    (fun vm₁ hal j hj => by
      rw [ix b1 (by omega)]
      rw [ix b3 (by omega)] at hj
      have e : (arrV (gA Γ κ) (ln h s1).toNat (fun j => cv Γ (ket κ) (rd h s1 j))).slots.getD (sp.toNat + j) .null = cv Γ (ket κ) (rd h s1 ((sp.toNat + j : Nat) : Int)) := by
        rw [Array.getD_eq_getD_getElem?, arrV_read _ _ (by omega)]
        rfl
      rw [e]
      have ok1 := sok (sp.toNat + j) (by omega)
      refine ⟨(cv_fits (Γ := Γ) (k_atyc κ (by omega) h64) ok1).2, ?_⟩
      cases hr : refKind (kat κ) with
      | false =>
        have hk6 : ket κ < 6 := by
          rcases Nat.lt_or_ge (ket κ) 6 with q | q
          · exact q
          · exact absurd hr (by rw [refK_of h64 h83 q]; decide)
        have : ∃ v, cv Γ (ket κ) (rd h s1 ((sp.toNat + j : Nat) : Int)) = .int v ∨ ∃ v, cv Γ (ket κ) (rd h s1 ((sp.toNat + j : Nat) : Int)) = .long v := by
          generalize ket κ = q at hk6
          match q, hk6 with
          | 0, _ => exact ⟨_, Or.inl rfl⟩
          | 1, _ => exact ⟨0, Or.inr ⟨_, rfl⟩⟩
          | 2, _ => exact ⟨_, Or.inl rfl⟩
          | 3, _ => exact ⟨_, Or.inl rfl⟩
          | 4, _ => exact ⟨_, Or.inl rfl⟩
          | 5, _ => exact ⟨_, Or.inl rfl⟩
        obtain ⟨v, hv | ⟨w, hv⟩⟩ := this <;> rw [hv] <;> exact trivial
      | true =>
        obtain ⟨n6, hn6⟩ : ∃ n, ket κ = n + 6 := by
          rcases Nat.lt_or_ge (ket κ) 6 with q | q
          · exact absurd hr (by rw [refK_atyc h64 h83 q]; decide)
          · exact ⟨ket κ - 6, by omega⟩
        rcases hy hr ((sp.toNat + j : Nat) : Int) (by omega) (by omega) with z | ⟨κv, v1, v2, v3, v4, v5⟩
        · rw [z, hn6]; exact trivial
        · have z0 : rd h s1 ((sp.toNat + j : Nat) : Int) ≠ 0 := by omega
          obtain ⟨-, -, -, ⟨cell, d1, d2, d3, -⟩, -⟩ := HR.obj g hH v1 (Or.inr ⟨v3, v4, v2⟩) z0
          have ec : cv Γ (ket κ) (rd h s1 ((sp.toNat + j : Nat) : Int)) = .ref (ra Γ (rd h s1 ((sp.toNat + j : Nat) : Int))) := by rw [hn6]; exact if_neg z0
          rw [ec]
          obtain ⟨-, kC, f4, -⟩ := (g.kn_at v1 hW).2
          obtain ⟨kC', f5, -⟩ := hal.2.2 _ _ f4
          obtain ⟨kB, G5⟩ := G5' (by omega)
          obtain ⟨kB', f6, -⟩ := hW.alike.2.2 _ _ G5
          obtain ⟨kB'', f7, -⟩ := hal.2.2 _ _ f6
          refine ⟨cell, (show T.heap[_]? = _ by rw [hT]; exact d1), (fun _ z => by rw [d3] at z; cases z), ⟨kC', by rw [d2]; exact f5⟩, ⟨kB'', f7⟩, ?_⟩
          show vm₁.assignable _ _ = true
          rw [hal.assignable, d2]
          exact v5 s comp hW G7)
    (g := F0 m pc ls (.int (I32 n) :: .int (I32 tp) :: .ref (ra Γ t1) :: .int (I32 sp) :: .ref (ra Γ s1) :: S.map (cw Γ))) rfl (by rw [X.2.2.2.1]; exact hl.1) (rest := S.map (cw Γ)) rfl (by rw [X.1]; exact hd) hd1
    (by
      show 2 * 0 + ((S.map (cw Γ)).map fun v => v.category).sum + _ ≤ 400 * d
      have h1 := sumS Γ S
      have h2 : nativeFrameWords "java/lang/System" "arraycopy" 5 + 11 ≤ 320 := by decide
      omega)
  have ecp : copied (arrV (gA Γ κ) (ln h s1).toNat (fun j => cv Γ (ket κ) (rd h s1 j))) (arrV (gA Γ κ) (ln h t1).toNat (fun j => cv Γ (ket κ) (rd h t1 j))) (I32 sp) (I32 tp) (I32 n) = arrV (gA Γ κ) (ln h t1).toNat (fun j => cv Γ (ket κ) (rd (cpy h s1 sp t1 tp n) t1 j)) := by
    unfold copied
    rw [ix b1 (by omega), ix b2 (by omega), ix b3 (by omega)]
    rw [va_copied (fun z => cv Γ (ket κ) z) (gA Γ κ) (gA Γ κ) (fun j => rd h s1 j) (fun j => rd h t1 j) (by omega)]
    congr 1
    funext j
    congr 1
    show (if tp.toNat ≤ j ∧ j < tp.toNat + n.toNat then rd h s1 ((sp.toNat + (j - tp.toNat) : Nat) : Int) else rd h t1 j) = (if t1 = t1 ∧ tp ≤ (j : Int) ∧ (j : Int) < tp + n then h.1 s1 (sp + ((j : Int) - tp)) else h.1 t1 j)
    by_cases q : tp.toNat ≤ j ∧ j < tp.toNat + n.toNat
    · rw [if_pos q, if_pos (by omega)]
      have ee : ((sp.toNat + (j - tp.toNat) : Nat) : Int) = sp + ((j : Int) - tp) := by omega
      show h.1 s1 _ = h.1 s1 _
      rw [ee]
    · rw [if_neg q, if_neg (by omega)]
      rfl
  rw [ecp] at X' step
  have hlt : ra Γ t1 < H.size := (Array.getElem?_eq_some_iff.mp tc).1
  obtain ⟨hx, hH2⟩ := HR.putA hH h64 t64 tn tk (h2 := cpy h s1 sp t1 tp n) rfl (fun b j hb => if_neg (fun q => hb q.1)) (if_neg (by omega)) (if_neg (by omega)) (H2 := H.setIfInBounds (ra Γ t1) (arrV (gA Γ κ) (ln h t1).toNat (fun j => cv Γ (ket κ) (rd (cpy h s1 sp t1 tp n) t1 j)))) (by simp [Array.getElem?_setIfInBounds, hlt])
    (fun j hj => by
      show okv h (ket κ) (if t1 = t1 ∧ tp ≤ (j : Int) ∧ (j : Int) < tp + n then h.1 s1 (sp + ((j : Int) - tp)) else h.1 t1 j)
      by_cases q : tp ≤ (j : Int) ∧ (j : Int) < tp + n
      · rw [if_pos ⟨rfl, q⟩]
        have := sok (sp + ((j : Int) - tp)).toNat (by omega)
        rw [show (((sp + ((j : Int) - tp)).toNat : Nat) : Int) = sp + ((j : Int) - tp) by omega] at this
        exact this
      · rw [if_neg (fun z => q z.2)]
        exact tok j hj) (by simp) (fun q hq => by simp [Array.getElem?_setIfInBounds, Ne.symm hq])
  have K := k h0 s m args below meth c _ (locs ++ ((arrV (gA Γ κ) (ln h s1).toNat (fun j => cv Γ (ket κ) (rd h s1 j))).stretch (I32 sp).toNatClampNeg (I32 n).toNatClampNeg).zipIdx.map fun q => ⟨ra Γ t1, (I32 tp).toNatClampNeg + q.2⟩) ls X (hE.tr hx) hH2 (fun q hq => by
    rcases List.mem_append.mp hq with z | z
    · exact hlo q z
    · obtain ⟨w, -, hw⟩ := List.mem_map.mp z
      rw [← hw]
      show (gs Γ).heap.size ≤ ra Γ t1
      rw [ra_new t64]; omega) hl (hL.e hx) (hS.t.t.t.t.t.e hx) hb
  obtain ⟨t, a1, b1⟩ := K _ (show ((T.setVm vm').setCell (ra Γ t1) _).heap = _ by rw [← hT]; rfl) X'
  exact ⟨t, step t a1, b1⟩
theorem q_copy (g : GG Γ) {i κ c t u : Nat} {kd s1 sp t1 tp n : Int} (T : AT κ c t u) (T2 : NA κ u kd) (C : Cond.methodLink md.1.cls i ⟨"java/lang/System", "arraycopy", "(Ljava/lang/Object;ILjava/lang/Object;II)V"⟩ ∈ lw_tbl) (o : decB md pc (ee (.invokestatic i) 3 :: r) fin = true) (e : (Nat.blt c 6 && Nat.ble S.length 40) = true) (hd1 : 1 ≤ d) (hs : s1 ≠ 0) (he : t1 ≠ 0) (b : cpR h s1 sp t1 tp n) (k : decB md (pc + 3) r fin = true → Rr Γ d md (pc + 3) L S (cpy h s1 sp t1 tp n) KR KT) : Rr Γ d md pc L ((0, n) :: (0, tp) :: (u, t1) :: (0, sp) :: (u, s1) :: S) h KR KT := by
  obtain ⟨q1, q2, rfl, rfl, rfl⟩ := T
  obtain ⟨p1, p2, -, -⟩ := T2
  obtain ⟨e1, e2⟩ := and_t e
  exact copy_go g p1 p2 C (dA o) hs he b (Nat.le_of_ble_eq_true e2) hd1 (fun z => by rw [refK_atyc p1 p2 (blt_t e1)] at z; cases z) (k (dB o))
theorem castO (g : GG Γ) {κv : Nat} (h2 : κv = 24 ∨ κv = 27) (s : State) (comp : ClassId) (hW : (gs Γ).WarmedH s.vm) (G7 : (gs Γ).vm.findClass "java/lang/Object" = some comp) : s.vm.assignable (gC Γ κv) comp = true := by
  rw [← hW.alike.findClass] at G7
  rcases h2 with rfl | rfl
  · obtain ⟨c0, t0, f1, f2, f3⟩ := g.cast (wat_in (q := (18, 38)) rfl) hW
    have e1 : s.vm.findClass "KeptHouse$Ticket" = some (gC Γ 24) := (g.kn_at (κ := 24) (by decide) hW).2.1
    cases Option.some.inj (f1.symm.trans e1)
    cases Option.some.inj (f2.symm.trans G7)
    exact f3
  · obtain ⟨c0, t0, f1, f2, f3⟩ := g.cast (wat_in (q := (18, 39)) rfl) hW
    have e1 : s.vm.findClass "KeptHouse$Order" = some (gC Γ 27) := (g.kn_at (κ := 27) (by decide) hW).2.1
    cases Option.some.inj (f1.symm.trans e1)
    cases Option.some.inj (f2.symm.trans G7)
    exact f3
theorem q_copy9 (g : GG Γ) {i : Nat} {s1 sp t1 tp n : Int} (C : Cond.methodLink md.1.cls i ⟨"java/lang/System", "arraycopy", "(Ljava/lang/Object;ILjava/lang/Object;II)V"⟩ ∈ lw_tbl) (o : decB md pc (ee (.invokestatic i) 3 :: r) fin = true) (e : Nat.ble S.length 40 = true) (hd1 : 1 ≤ d) (hs : s1 ≠ 0) (he : t1 ≠ 0) (b : cpR h s1 sp t1 tp n) (hy : ∀ j : Int, sp ≤ j → j < sp + n → rd h s1 j = 0 ∨ kn h (rd h s1 j) = 24 ∨ kn h (rd h s1 j) = 27) (k : decB md (pc + 3) r fin = true → Rr Γ d md (pc + 3) L S (cpy h s1 sp t1 tp n) KR KT) : Rr Γ d md pc L ((0, n) :: (0, tp) :: (92, t1) :: (0, sp) :: (92, s1) :: S) h KR KT := by
  intro h0 s m args below meth c H locs ls X hE hH hlo hl hL hS hb
  obtain ⟨s64, sn, sk, sl, sc, sok⟩ := HR.arrW g hH (κ := 82) (by decide) (by decide) (a := s1) hS.t.t.t.t.h hs b.2.2.2.2.2.1
  refine copy_go (κ := 82) g (by decide) (by decide) C (dA o) hs he b (Nat.le_of_ble_eq_true e) hd1 (fun _ j j1 j2 => ?_) (k (dB o)) h0 s m args below meth c H locs ls X hE hH hlo hl hL hS hb
  have bb := b
  obtain ⟨b1, b2, b3, b4, b5, b6, b7⟩ := bb
  have ok1 := sok j.toNat (by omega)
  rw [show ((j.toNat : Nat) : Int) = j by omega] at ok1
  have ok1 : okv h 9 (rd h s1 j) := ok1
  rcases ok1 with z | ⟨z1, z2, z3⟩
  · exact Or.inl z
  · rcases hy j j1 j2 with z | z | z
    · exact Or.inl z
    · exact Or.inr ⟨24, by decide, z, z1, z2, fun s comp hW G7 => castO g (Or.inl rfl) s comp hW (G7 rfl)⟩
    · exact Or.inr ⟨27, by decide, z, z1, z2, fun s comp hW G7 => castO g (Or.inr rfl) s comp hW (G7 rfl)⟩
/-- a cell was made, of whatever contents -/
theorem HR.madeG {H H2 : Heap} (hH : HR Γ h H) {h2 : Hp} (hn : nx h2 = nx h + 1) (hx : ext h h2) (ho : ∀ b j : Int, b ≠ nx h → h2.1 b j = h.1 b j) (z : H2.size = H.size + 1) (o : ∀ q, q < H.size → H2[q]? = H[q]?) (hc : CR Γ h2 H2 (nx h)) : HR Γ h2 H2 := by
  have h64 := hH.1
  refine ⟨by omega, by rw [z, hH.2.1, hn]; omega, fun q hq => ?_, fun b b64 bn => ?_, fun b j b0 b1 => ?_⟩
  · rw [o q (by rw [hH.2.1]; omega)]
    exact hH.2.2.1 q hq
  · rw [hn] at bn
    by_cases hb : b = nx h
    · subst hb
      exact hc
    · refine (hH.2.2.2.1 b b64 (by omega)).keep hx (fun j => ho b j hb) (o _ ?_)
      exact hH.lt b64 (by omega)
  · rw [← hH.2.2.2.2 b j b0 b1]
    exact ho b j (by omega)
theorem cln_old {a κ b j : Int} (hb : b ≠ nx h) : (cln h a κ).1 b j = h.1 b j := if_neg hb
theorem cln_kn (h : Hp) (a κ : Int) : (cln h a κ).1 (nx h) (-1) = κ := by
  show (if h.2.1 = h.2.1 then (if (-1 : Int) = -1 then κ else _) else _) = κ
  rw [if_pos rfl, if_pos rfl]
theorem cln_ln (h : Hp) (a κ : Int) : (cln h a κ).1 (nx h) (-2) = ln h a := by
  show (if h.2.1 = h.2.1 then (if (-2 : Int) = -1 then κ else if 0 ≤ (-2 : Int) ∧ (-2 : Int) < ln h a ∨ (-2 : Int) = -2 then h.1 a (-2) else 0) else _) = ln h a
  rw [if_pos rfl, if_neg (by decide), if_pos (Or.inr rfl)]
  rfl
theorem cln_at {a κ j : Int} (h0 : 0 ≤ j) (h1 : j < ln h a) : (cln h a κ).1 (nx h) j = rd h a j := by
  show (if h.2.1 = h.2.1 then (if j = -1 then κ else if 0 ≤ j ∧ j < ln h a ∨ j = -2 then h.1 a j else 0) else _) = h.1 a j
  rw [if_pos rfl, if_neg (by omega), if_pos (Or.inl ⟨h0, h1⟩)]
/-- clone() of an array: AD is the class's name -/
theorem clone_go (g : GG Γ) {i κ t : Nat} {a : Int} {ad : String} (h64 : 64 ≤ κ) (h83 : κ < 83) (C : Cond.methodLink md.1.cls i ⟨ad, "clone", "()Ljava/lang/Object;"⟩ ∈ lw_tbl) (C2 : Cond.sameMethod ad "java/lang/Object" "clone" "()Ljava/lang/Object;" ∈ lw_tbl) (C3 : Cond.selects ad ⟨ad, "clone", "()Ljava/lang/Object;"⟩ ⟨"java/lang/Object", "clone", "()Ljava/lang/Object;"⟩ ∈ lw_tbl) (C4 : Cond.castable ad "java/lang/Cloneable" ∈ lw_tbl) (C5 : ad = "[" ++ (kat κ).toString)
    (hd : decode md.2.1 pc = .ok (.invokevirtual i, 3)) (ha : a ≠ 0) (b : nx h + 1 ≤ NM ∧ us h + ln h a ≤ UM) (hS40 : S.length ≤ 40) (hd1 : 1 ≤ d)
    (hcell : ∀ H, HR Γ h H → okv h (t + 9) a → ∃ cell : Cell, H[ra Γ a]? = some cell ∧ (∀ k, cell.vm ≠ .statics k) ∧ cell.vm ≠ .unknown ∧ cell.cls = gA Γ κ ∧ 0 ≤ ln h a ∧ ln h a < 2147483648 ∧ cell.slots.size = (ln h a).toNat ∧ (∀ j : Nat, (j : Int) < ln h a → cell.slots[j]? = some (cv Γ (ket κ) (rd h a j))) ∧ ∀ j : Nat, (j : Int) < ln h a → okv h (ket κ) (rd h a j))
    (k : 64 ≤ nx h → Rr Γ d md (pc + 3) L ((κ + 10, nx h) :: S) (cln h a κ) KR KT) : Rr Γ d md pc L ((t + 9, a) :: S) h KR KT := by
  obtain ⟨b1, b2⟩ := b
  intro h0 s m args below meth c H locs ls X hE hH hlo hl hL hS hb
  have hW := X.2.2.2.2.2.2.1
  obtain ⟨cell, d1, d2, d3, d4, d5, d6, d7, d8, d9⟩ := hcell H hH hS.h
  obtain ⟨G1, G2, kA, comp, G3, G4, -⟩ := g.2.2.2.1 κ h64 h83
  obtain ⟨kA', f1, f2⟩ := hW.alike.2.2 _ _ G3
  have f3 : kA'.kind = .array comp (kat κ) := by rw [f2]; exact G4
  have hf : s.vm.findClass ad = some (gA Γ κ) := by rw [C5, hW.alike.findClass]; exact G2
  obtain ⟨c0, t0, u1, u2, u3⟩ := g.cast C4 hW
  cases Option.some.inj (u1.symm.trans hf)
  have e0 := hE.1
  have e1 := hE.2.1
  have hx : ext h (cln h a κ) := ⟨by show h.2.1 ≤ h.2.1 + 1; omega, by show h.2.2 ≤ h.2.2 + ln h a; omega, fun q _ hq => ⟨cln_old (by omega), cln_old (by omega)⟩⟩
  have hslots : cell.slots = (arrV (gA Γ κ) (ln h a).toNat (fun j => cv Γ (ket κ) (rd h a j))).slots := by
    apply Array.ext
    · rw [d7, arrV_size]
    · intro j j1 j2
      have q1 := d8 j (by omega)
      have q2 := arrV_read (gA Γ κ) (fun j => cv Γ (ket κ) (rd h a j)) (N := (ln h a).toNat) (j := j) (by omega)
      rw [Array.getElem?_eq_getElem j1] at q1
      rw [Array.getElem?_eq_getElem j2] at q2
      exact Option.some.inj (q1.trans q2.symm)
  show W _ _ _ _ _ _ _ _ _ _ _ _ _ _ _ (F0 m pc ls (cv Γ (t + 9) a :: S.map (cw Γ)))
  rw [cv_refN Γ _ ha]
  intro T hT Y
  obtain ⟨kT, hkT, heT⟩ := Y.warmed.alike.2.2 _ _ f1
  obtain ⟨vm', X', st⟩ := Y.cloneArray g.ex X.2.2.2.2.1 (g.word C rfl hW args) (g.word C2 rfl hW args) (g.word (wat_in (q := (1, 211)) rfl) rfl hW args) (g.word (wat_in (q := (1, 212)) rfl) rfl hW args) (g.word C3 rfl hW args) (a := ra Γ a) (cell := cell) (by rw [hT]; exact d1) d2 d3 (by rw [d4]; exact hf) u2 (by rw [d4]; exact u3)
    (fun j v hv => by
      have j1 : j < (ln h a).toNat := by
        have := (Array.getElem?_eq_some_iff.mp hv).1
        omega
      rw [d8 j (by omega)] at hv
      cases hv
      have hk' : T.vm.classes[cell.cls]? = some kT := by rw [d4]; exact hkT
      have hkk : kT.kind = .array comp (kat κ) := by rw [heT]; exact f3
      have := (cv_fits (Γ := Γ) (k_atyc κ (by omega) h64) (d9 j (by omega))).2
      simpa [State.fitsSlot, State.slotType?, hk', hkk] using this)
    (g := F0 m pc ls (.ref (ra Γ a) :: S.map (cw Γ))) rfl (by rw [X.2.2.2.1]; exact hl.1) (rest := S.map (cw Γ)) rfl (by rw [X.1]; exact hd) hd1
    (by
      show 2 * 0 + ((S.map (cw Γ)).map fun v => v.category).sum + 14 ≤ 400 * d
      have h1 := sumS Γ S
      omega)
    (by show (nx h - nx h0).toNat + 1 ≤ (NM - nx h0).toNat; omega) (by rw [d7]; show (us h - us h0).toNat + (ln h a).toNat ≤ (UM - us h0).toNat; omega) (hloader := by rw [d4]; exact Vm.clonesLoader_of_array f1 f3)
  have ecell : ({ cls := cell.cls, slots := cell.slots } : Cell) = arrV (gA Γ κ) (ln h a).toNat (fun j => cv Γ (ket κ) (rd h a j)) := by rw [hslots, d4]; rfl
  rw [ecell, d7] at X'
  rw [ecell] at st
  generalize hH1 : H.push (arrV (gA Γ κ) (ln h a).toNat (fun j => cv Γ (ket κ) (rd h a j))) = H1
  have z1 : H1.size = H.size + 1 := by rw [← hH1, Array.size_push]
  have e1' : H1[H.size]? = some (arrV (gA Γ κ) (ln h a).toNat (fun j => cv Γ (ket κ) (rd h a j))) := by rw [← hH1, Array.getElem?_push_size]
  have o1 : ∀ q : Nat, q < H.size → H1[q]? = H[q]? := fun q hq => by rw [← hH1, Array.getElem?_push, if_neg (Nat.ne_of_lt hq)]
  have eln : ln (cln h a κ) (nx h) = ln h a := cln_ln h a κ
  have hH2 : HR Γ (cln h a κ) H1 := by
    refine HR.madeG hH rfl hx (fun b j hb => cln_old hb) z1 o1 ⟨κ, cln_kn h a κ, Or.inr ⟨h64, h83, by rw [eln]; exact d5, by rw [eln]; exact d6, ?_, fun j hj => ?_⟩⟩
    · rw [ra_nx hH, e1', eln]
      congr 1
      show ({ cls := gA Γ κ, slots := Array.ofFn (n := (ln h a).toNat) fun j => cv Γ (ket κ) (rd h a j.val), vm := .none } : Cell) = { cls := gA Γ κ, slots := Array.ofFn (n := (ln h a).toNat) fun j => cv Γ (ket κ) (rd (cln h a κ) (nx h) j.val), vm := .none }
      congr 2
      funext j
      congr 1
      exact (cln_at (by omega) (by have := j.isLt; omega)).symm
    · rw [eln] at hj
      rw [show rd (cln h a κ) (nx h) j = rd h a j from cln_at (by omega) hj]
      exact (d9 j hj).ext hx
  have K := k hH.1 h0 s m args below meth c H1 locs ls X (hE.tr hx) hH2 hlo hl (hL.e hx) ((hS.t.e hx).c (Or.inr ⟨by have := hH.1; omega, by show nx h < h.2.1 + 1; show h.2.1 < h.2.1 + 1; omega, cln_kn h a κ⟩)) ⟨by show h.2.1 + 1 ≤ NM; exact b1, by show h.2.2 + ln h a ≤ UM; exact b2⟩
  have a1 : (nx (cln h a κ) - nx h0).toNat = (nx h - nx h0).toNat + 1 := by show (h.2.1 + 1 - nx h0).toNat = (h.2.1 - nx h0).toNat + 1; have : nx h = h.2.1 := rfl; omega
  have a2 : (us (cln h a κ) - us h0).toNat = (us h - us h0).toNat + (ln h a).toNat := by show (h.2.2 + ln h a - us h0).toNat = (h.2.2 - us h0).toNat + (ln h a).toNat; have : us h = h.2.2 := rfl; omega
  rw [a1, a2] at K
  have K : W _ _ _ _ _ _ _ _ _ _ _ _ _ _ _ (F0 m (pc + 3) ls (cv Γ (κ + 1 + 9) (nx h) :: S.map (cw Γ))) := K
  rw [cv_refN Γ _ (by have := hH.1; omega), ra_nx hH] at K
  obtain ⟨t, a1, b1⟩ := K _ (show ((T.setVm vm').pushCell _).heap = H1 by rw [← hH1, ← hT]; rfl) X'
  refine ⟨t, st t ?_, b1⟩
  rw [hT]
  exact a1
theorem romT_lt : ∀ q ∈ romT, 0 < q.2.2.2.1 ∧ q.2.2.2.1 < 64 := by decide
theorem romQ_lt : ∀ q ∈ romQ, 0 < q.2.2 ∧ q.2.2 < 64 := by decide
theorem q_rom (g : GG Γ) {i t a : Nat} {ai : Int} (C : RomF md.1.cls i a t) (ea : ai = (a : Int)) (o : decB md pc (ee (.getstatic i) 3 :: r) fin = true) (k : decB md (pc + 3) r fin = true → Rr Γ d md (pc + 3) L ((t, ai) :: S) h KR KT) : Rr Γ d md pc L S h KR KT := by
  subst ea
  obtain ⟨⟨ref, nm, ds⟩, C1, C2, C3, κ, rfl, C4⟩ := C
  dsimp only at C1 C2 C3 C4
  obtain ⟨-, R2, -, -, -, a0, R3, R4, -⟩ := g.2.2.2.2.2.2.2
  have R2 := R2 _ C4
  have R4 := R4 _ C4
  have hlt := romT_lt _ C4
  dsimp only at R2 R4 hlt
  intro h0 s m args below meth c H locs ls X hE hH hlo hl hL hS hb
  have hW := X.2.2.2.2.2.2.1
  have Z0 : va_Z ref nm ds (.ref (gR Γ a)) (fun q => (gs Γ).heap.size ≤ q) (gs Γ) (gs Γ).heap := va_Zof (show (Cond.laysStatic ref nm ds).before a0 (gs Γ) = true from g.2.1.choose_spec _ C2) (g.word C3 rfl (State.WarmedH.refl _) a0) R4 (fun q hq => by omega)
  obtain ⟨cf, kf, fi, f, q, cell, z1, z2, z3, z4, z5, z6, z7, -⟩ := (va_Z.moved hW.alike Z0).kept (H1 := H) (fun q hq _ => hH.2.2.1 q hq)
  refine W.gets g.ex X.1 X.2.2.2.2.1 (g.word C1 rfl hW args) z1 z2 z3 z4 z5 (fun z => by rw [z] at z6; cases z6) z7 rfl (dA o) ?_
  have h64 := hH.1
  have K := k (dB o) h0 s m args below meth c H locs ls X hE hH hlo hl hL (hS.c (show okv h (κ + 10) (a : Int) from Or.inr ⟨by omega, by omega, by show h.1 (a : Int) (-1) = κ; rw [hH.2.2.2.2 (a : Int) (-1) (by omega) (by omega)]; exact R2⟩)) hb
  have K : W _ _ _ _ _ _ _ _ _ _ _ _ _ _ _ (F0 m (pc + 3) ls (cv Γ (κ + 1 + 9) (a : Int) :: S.map (cw Γ))) := K
  rw [cv_refN Γ _ (by omega), ra_old (by omega), Int.toNat_natCast] at K
  exact K
theorem q_ldcS (g : GG Γ) {i a : Nat} {ai : Int} (C : RomS md.1.cls i a) (ea : ai = (a : Int)) (o : decB md pc (ei (.ldc i) 2 info :: r) fin = true) (k : decB md (pc + 2) r fin = true → Rr Γ d md (pc + 2) L ((140, ai) :: S) h KR KT) : Rr Γ d md pc L S h KR KT := by
  subst ea
  obtain ⟨txt, C1, C4⟩ := C
  obtain ⟨-, -, R2, -, -, a0, -, -, R4, -⟩ := g.2.2.2.2.2.2.2
  have R2 := R2 _ C4
  have R4 := R4 _ C4
  have hlt := romQ_lt _ C4
  dsimp only at R2 R4 hlt
  intro h0 s m args below meth c H locs ls X hE hH hlo hl hL hS hb
  have hW := X.2.2.2.2.2.2.1
  have hown0 : (gs Γ).vm.findClass md.1.cls = some m.cls := by rw [← hW.alike.findClass]; exact X.2.2.2.2.1
  obtain ⟨k2, cf2, i2, a2, hk2, hcf2, hcp2, -, hr2, hev2⟩ := Cond.stringRef_spec hown0 (show (Cond.stringRef md.1.cls i txt).before a0 (gs Γ) = true from g.2.1.choose_spec _ C1)
  cases Option.some.inj (R4.symm.trans hev2)
  have h64 := hH.1
  have K := k (dB o) h0 s m args below meth c H locs ls X hE hH hlo hl hL (hS.c (show okv h (130 + 10) (a : Int) from Or.inr ⟨by omega, by omega, by show h.1 (a : Int) (-1) = _; rw [hH.2.2.2.2 (a : Int) (-1) (by omega) (by omega)]; exact R2⟩)) hb
  have K : W _ _ _ _ _ _ _ _ _ _ _ _ _ _ _ (F0 m (pc + 2) ls (cv Γ (131 + 9) (a : Int) :: S.map (cw Γ))) := K
  rw [cv_refN Γ _ (by omega), ra_old (by omega), Int.toNat_natCast] at K
  intro T hT Y
  obtain ⟨t, a1, b1⟩ := K T hT Y
  refine ⟨t, ?_, b1⟩
  have hWT : (gs Γ).WarmedH T.vm := State.WarmedH.trans hW Y.warmed
  obtain ⟨k', hk', he⟩ := hWT.alike.2.2 _ _ hk2
  have hr' : k'.resolved[i]? = some (some (.string (gR Γ a))) := by
    rcases hWT.entry hk2 hk' i with q | ⟨q, -⟩
    · rw [q]; exact hr2
    · rw [hr2] at q; cases q
  have hdg : decode c.code pc = .ok (.ldc i, 2) := by rw [X.1]; exact dA o
  jvm_step Y.here [g.ex, hdg, ldc.wp_string (e := ge Γ) (s := T) (f := F0 m pc ls (S.map (cw Γ))) Y.here.top hk' (by rw [he]; exact hcf2) hcp2 hr']
  exact a1
theorem q_cloneI (g : GG Γ) {i : Nat} {a : Int} (C : Cond.methodLink md.1.cls i ⟨"[I", "clone", "()Ljava/lang/Object;"⟩ ∈ lw_tbl) (o : decB md pc (ee (.invokevirtual i) 3 :: r) fin = true) (e : Nat.ble S.length 40 = true) (hd1 : 1 ≤ d) (ha : a ≠ 0) (b : nx h + 1 ≤ NM ∧ us h + ln h a ≤ UM) (k : 64 ≤ nx h → decB md (pc + 3) r fin = true → Rr Γ d md (pc + 3) L ((74, nx h) :: S) (cln h a 64) KR KT) : Rr Γ d md pc L ((74, a) :: S) h KR KT := by
  refine clone_go (κ := 64) (t := 65) g (by decide) (by decide) C (wat_in (q := (11, 143)) rfl) (wat_in (q := (11, 144)) rfl) (wat_in (q := (11, 145)) rfl) (by decide +kernel) (dA o) ha b (Nat.le_of_ble_eq_true e) hd1 (fun H hH hok => ?_) (fun q => k q (dB o))
  obtain ⟨-, -, -, c1, c2, c3, c4⟩ := HR.arrN (κ := 64) g hH (by decide) (by decide) hok ha
  exact ⟨_, c3, (fun _ z => by cases z), (fun z => by cases z), rfl, c1, c2, arrV_size _ _ _, fun j hj => arrV_read _ _ (by omega), c4⟩
theorem q_cloneV (g : GG Γ) {i : Nat} (C : Cond.methodLink md.1.cls i ⟨"[LKeptHouse$Op;", "clone", "()Ljava/lang/Object;"⟩ ∈ lw_tbl) (o : decB md pc (ee (.invokevirtual i) 3 :: r) fin = true) (e : Nat.ble S.length 40 = true) (hd1 : 1 ≤ d) (b : nx h + 1 ≤ NM ∧ us h + ln h 17 ≤ UM) (k : 64 ≤ nx h → decB md (pc + 3) r fin = true → Rr Γ d md (pc + 3) L ((81, nx h) :: S) (cln h 17 71) KR KT) : Rr Γ d md pc L ((95, 17) :: S) h KR KT := by
  refine clone_go (κ := 71) (t := 86) (a := 17) g (by decide) (by decide) C (wat_in (q := (1, 210)) rfl) (wat_in (q := (1, 213)) rfl) (wat_in (q := (1, 214)) rfl) (by decide +kernel) (dA o) (by decide) b (Nat.le_of_ble_eq_true e) hd1 (fun H hH hok => ?_) (fun q => k q (dB o))
  obtain ⟨cell, c1, c2, c3, c4, c5, c6, c7, c8⟩ := HR.arr (κ := 85) g hH (by decide) (by decide) hok (by decide)
  refine ⟨cell, c1, c2.1, c3, ?_, c4, c5, c6.2.2 rfl, c7, c8⟩
  obtain ⟨-, -, -, -, -, a0, R3, R4, -⟩ := g.2.2.2.2.2.2.2
  have R4 := R4 ("KeptHouse$Op", "$VALUES", "[LKeptHouse$Op;", 17, 85) (by decide)
  obtain ⟨b, c0, cell0, k0, e1, e2, e3, -, -, e4, -⟩ := Cond.exactly_spec (args := a0) (first := gs Γ) (o := none) (s := gs Γ) (idx := []) (R3 (Cond.exactly (.static "KeptHouse$Op" "$VALUES" "[LKeptHouse$Op;") "[LKeptHouse$Op;") (List.mem_of_getElem? (i := 5) rfl))
  cases R4.symm.trans e1
  have hlt : gR Γ 17 < (gs Γ).heap.size := (Array.getElem?_eq_some_iff.mp e3).1
  have c1 : H[gR Γ 17]? = some cell := c1
  rw [hH.2.2.1 _ hlt, e3] at c1
  cases c1
  rw [e4]
  have e2 : (gs Γ).vm.findClass ("[" ++ (kat 71).toString) = some c0 := e2
  exact Option.some.inj (e2.symm.trans (g.2.2.2.1 71 (by decide) (by decide)).2.1)
end ESC
