/-! THE SMALL MACHINE: its heap. Contents by address and slot (slot -1: the cell's kind, slot -2: its length); the next address; slots used so far. Addresses under 64: cells that were there before the law (constants); 0: null. -/
abbrev Hp : Type := (Int → Int → Int) × Int × Int
def rd (h : Hp) (a i : Int) : Int := h.1 a i
def kn (h : Hp) (a : Int) : Int := h.1 a (-1)
def ln (h : Hp) (a : Int) : Int := h.1 a (-2)
def nx (h : Hp) : Int := h.2.1
def us (h : Hp) : Int := h.2.2
def up (h : Hp) (a i v : Int) : Hp := (fun x y => if x = a ∧ y = i then v else h.1 x y, h.2)
def mk (h : Hp) (κ n : Int) : Hp := (fun x y => if x = h.2.1 then (if y = -1 then κ else if y = -2 then n else 0) else h.1 x y, h.2.1 + 1, h.2.2 + n)
abbrev Vl : Type := Nat × Int
/-- codes of types: 0 int, 1 long, 2 byte, 3 boolean, 4 char, 5 short, 9 any object, 10 + κ a reference to a cell of kind κ -/
def okv (h : Hp) (t : Nat) (x : Int) : Prop := match t with
  | 0 => r32 x
  | 1 => r64 x
  | 2 => -128 ≤ x ∧ x < 128
  | 3 => x = 0 ∨ x = 1
  | 4 => 0 ≤ x ∧ x < 65536
  | 5 => -32768 ≤ x ∧ x < 32768
  | 6 => False
  | 7 => False
  | 8 => False
  | 9 => x = 0 ∨ (0 < x ∧ x < nx h ∧ 0 ≤ kn h x)
  | k + 10 => x = 0 ∨ (0 < x ∧ x < nx h ∧ kn h x = k)
/-- the run: program, launch, env, the law's first state; class numbers, field slots, array classes, addresses of the constants, their contents -/
abbrev Gam : Type := Program × Launch × Env × State × (Nat → ClassId) × (Nat → Nat → Nat) × (Nat → ClassId) × (Nat → Nat) × (Int → Int → Int)
abbrev gp (Γ : Gam) : Program := Γ.1
abbrev gl (Γ : Gam) : Launch := Γ.2.1
abbrev ge (Γ : Gam) : Env := Γ.2.2.1
abbrev gs (Γ : Gam) : State := Γ.2.2.2.1
abbrev gC (Γ : Gam) : Nat → ClassId := Γ.2.2.2.2.1
abbrev gI (Γ : Gam) : Nat → Nat → Nat := Γ.2.2.2.2.2.1
abbrev gA (Γ : Gam) : Nat → ClassId := Γ.2.2.2.2.2.2.1
abbrev gR (Γ : Gam) : Nat → Nat := Γ.2.2.2.2.2.2.2.1
abbrev gm (Γ : Gam) : Int → Int → Int := Γ.2.2.2.2.2.2.2.2
/-- where a cell lies in the machine's heap -/
def ra (Γ : Gam) (a : Int) : Nat := if a < 64 then gR Γ a.toNat else (gs Γ).heap.size + (a.toNat - 64)
def cv (Γ : Gam) (t : Nat) (x : Int) : Value := match t with
  | 0 => .int (I32 x)
  | 1 => .long (I64 x)
  | 2 => .int (I32 x)
  | 3 => .int (I32 x)
  | 4 => .int (I32 x)
  | 5 => .int (I32 x)
  | _ + 6 => if x = 0 then .null else .ref (ra Γ x)
abbrev cw (Γ : Gam) (v : Vl) : Value := cv Γ v.1 v.2
/-- the code that a value has on the stack -/
def tg (t : Nat) : Nat := match t with
  | 2 => 0
  | 3 => 0
  | 4 => 0
  | 5 => 0
  | t => t
theorem cv_tg (Γ : Gam) (t : Nat) (x : Int) : cv Γ (tg t) x = cv Γ t x := by
  match t with
  | 0 => rfl
  | 1 => rfl
  | 2 => rfl
  | 3 => rfl
  | 4 => rfl
  | 5 => rfl
  | t + 6 => rfl
theorem ok_tg {h : Hp} {t : Nat} {x : Int} (k : okv h t x) : okv h (tg t) x := by
  match t, k with
  | 0, k => exact k
  | 1, k => exact k
  | 2, k => show r32 x; unfold okv at k; unfold r32; omega
  | 3, k => show r32 x; unfold okv at k; unfold r32; omega
  | 4, k => show r32 x; unfold okv at k; unfold r32; omega
  | 5, k => show r32 x; unfold okv at k; unfold r32; omega
  | t + 6, k => exact k
/-- the kinds' tables come with the names; here they are variables of the class list -/
theorem rd_up (h : Hp) (a i v b j : Int) : rd (up h a i v) b j = if b = a ∧ j = i then v else rd h b j := rfl
theorem rd_up_eq (h : Hp) (a i v : Int) : rd (up h a i v) a i = v := by simp [rd_up]
theorem rd_up_ne {h : Hp} {a i v b j : Int} (k : ¬ (b = a ∧ j = i)) : rd (up h a i v) b j = rd h b j := by rw [rd_up, if_neg k]
theorem kn_up {h : Hp} {a i v b : Int} (k : 0 ≤ i) : kn (up h a i v) b = kn h b := by show (if b = a ∧ -1 = i then v else h.1 b (-1)) = h.1 b (-1); rw [if_neg (by omega)]
theorem ln_up {h : Hp} {a i v b : Int} (k : 0 ≤ i) : ln (up h a i v) b = ln h b := by show (if b = a ∧ -2 = i then v else h.1 b (-2)) = h.1 b (-2); rw [if_neg (by omega)]
theorem nx_up (h : Hp) (a i v : Int) : nx (up h a i v) = nx h := rfl
theorem us_up (h : Hp) (a i v : Int) : us (up h a i v) = us h := rfl
theorem nx_mk (h : Hp) (κ n : Int) : nx (mk h κ n) = nx h + 1 := rfl
theorem us_mk (h : Hp) (κ n : Int) : us (mk h κ n) = us h + n := rfl
theorem rd_mk_old {h : Hp} {κ n b j : Int} (k : b ≠ nx h) : rd (mk h κ n) b j = rd h b j := by show (if b = h.2.1 then _ else h.1 b j) = h.1 b j; exact if_neg k
theorem kn_mk_old {h : Hp} {κ n b : Int} (k : b ≠ nx h) : kn (mk h κ n) b = kn h b := rd_mk_old k
theorem ln_mk_old {h : Hp} {κ n b : Int} (k : b ≠ nx h) : ln (mk h κ n) b = ln h b := rd_mk_old k
theorem rd_mk_new {h : Hp} {κ n j : Int} (k : 0 ≤ j) : rd (mk h κ n) (nx h) j = 0 := by
  show (if h.2.1 = h.2.1 then (if j = -1 then κ else if j = -2 then n else 0) else h.1 h.2.1 j) = 0
  rw [if_pos rfl, if_neg (by omega), if_neg (by omega)]
theorem kn_mk_new (h : Hp) (κ n : Int) : kn (mk h κ n) (nx h) = κ := by
  show (if h.2.1 = h.2.1 then (if (-1 : Int) = -1 then κ else if (-1 : Int) = -2 then n else 0) else h.1 h.2.1 (-1)) = κ
  rw [if_pos rfl, if_pos rfl]
theorem ln_mk_new (h : Hp) (κ n : Int) : ln (mk h κ n) (nx h) = n := by
  show (if h.2.1 = h.2.1 then (if (-2 : Int) = -1 then κ else if (-2 : Int) = -2 then n else 0) else h.1 h.2.1 (-2)) = n
  rw [if_pos rfl, if_neg (by omega), if_pos rfl]
/-- h2 came out of h: cells stay, of their kinds and lengths -/
def ext (h h2 : Hp) : Prop := nx h ≤ nx h2 ∧ us h ≤ us h2 ∧ ∀ a : Int, 0 < a → a < nx h → kn h2 a = kn h a ∧ ln h2 a = ln h a
theorem ext.rf (h : Hp) : ext h h := ⟨Int.le_refl _, Int.le_refl _, fun _ _ _ => ⟨rfl, rfl⟩⟩
theorem ext.tr {a b c : Hp} (x : ext a b) (y : ext b c) : ext a c :=
  ⟨Int.le_trans x.1 y.1, Int.le_trans x.2.1 y.2.1, fun q h1 h2 => ⟨(y.2.2 q h1 (Int.lt_of_lt_of_le h2 x.1)).1.trans (x.2.2 q h1 h2).1, (y.2.2 q h1 (Int.lt_of_lt_of_le h2 x.1)).2.trans (x.2.2 q h1 h2).2⟩⟩
theorem ext.put {h : Hp} {a i v : Int} (k : 0 ≤ i) : ext h (up h a i v) := ⟨Int.le_refl _, Int.le_refl _, fun _ _ _ => ⟨kn_up k, ln_up k⟩⟩
theorem ext.new {h : Hp} {κ n : Int} (k : 0 ≤ n) : ext h (mk h κ n) := ⟨by rw [nx_mk]; omega, by rw [us_mk]; omega, fun b _ hb => ⟨kn_mk_old (by omega), ln_mk_old (by omega)⟩⟩
theorem okv.ext {h h2 : Hp} {t : Nat} {x : Int} (e : ext h h2) (k : okv h t x) : okv h2 t x := by
  have e1 := e.1
  match t, k with
  | 0, k => exact k
  | 1, k => exact k
  | 2, k => exact k
  | 3, k => exact k
  | 4, k => exact k
  | 5, k => exact k
  | 9, k =>
    rcases k with k | ⟨k1, k2, k3⟩
    · exact Or.inl k
    · exact Or.inr ⟨k1, by omega, by rw [(e.2.2 x k1 k2).1]; exact k3⟩
  | t + 10, k =>
    rcases k with k | ⟨k1, k2, k3⟩
    · exact Or.inl k
    · exact Or.inr ⟨k1, by omega, ((e.2.2 x k1 k2).1).trans k3⟩
