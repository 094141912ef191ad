/-! ROOM, AND WHAT THE WALKS' PREDICATES ARE MADE OF (arrays of arrays, copies, clones, strings) -/
abbrev NM : Int := 608256
abbrev UM : Int := 7228488
/-- n cells of kind κ and length m are made and laid into the array a -/
def mIn (h : Hp) (a κ m : Int) : Nat → Hp
  | 0 => h
  | k + 1 => up (mk (mIn h a κ m k) κ m) a (k : Int) (nx (mIn h a κ m k))
def m2k (h : Hp) (κ2 κ1 n m : Int) : Hp := mIn (mk h κ2 n) (nx h) κ1 m n.toNat
def m2kR (h : Hp) (κ2 κ1 n m : Int) : Prop := 0 ≤ n ∧ n ≤ 65536 ∧ 0 ≤ m ∧ m ≤ 65536 ∧ nx h + 1 + n ≤ NM ∧ us h + n + n * m ≤ UM
def mIn3 (h : Hp) (a κ2 κ1 n m : Int) : Nat → Hp
  | 0 => h
  | k + 1 => up (m2k (mIn3 h a κ2 κ1 n m k) κ2 κ1 n m) a (k : Int) (nx (mIn3 h a κ2 κ1 n m k))
def m3k (h : Hp) (κ3 κ2 κ1 l n m : Int) : Hp := mIn3 (mk h κ3 l) (nx h) κ2 κ1 n m l.toNat
def m3kR (h : Hp) (κ3 κ2 κ1 l n m : Int) : Prop := 0 ≤ l ∧ l ≤ 65536 ∧ 0 ≤ n ∧ n ≤ 65536 ∧ 0 ≤ m ∧ m ≤ 65536 ∧ nx h + 1 + l * (1 + n) ≤ NM ∧ us h + l + l * (n + n * m) ≤ UM
/-- System.arraycopy -/
def cpy (h : Hp) (s sp t tp n : Int) : Hp := (fun x y => if x = t ∧ tp ≤ y ∧ y < tp + n then h.1 s (sp + (y - tp)) else h.1 x y, h.2)
def cpR (h : Hp) (s sp t tp n : Int) : Prop := 0 ≤ sp ∧ 0 ≤ tp ∧ 0 ≤ n ∧ sp + n ≤ ln h s ∧ tp + n ≤ ln h t ∧ 0 < ln h s ∧ 0 < ln h t
/-- clone of an array -/
def cln (h : Hp) (a κ : Int) : Hp := (fun x y => if x = h.2.1 then (if y = -1 then κ else if 0 ≤ y ∧ y < ln h a ∨ y = -2 then h.1 a y else 0) else h.1 x y, h.2.1 + 1, h.2.2 + ln h a)
/-- Arrays.copyOf -/
def cpO (h : Hp) (a n : Int) : Hp := cpy (mk h 82 n) a 0 (nx h) 0 (if ln h a ≤ n then ln h a else n)
def opof (a x y : Int) : Int := if a = 3 then w64 (-y) else if a = 4 then w64 (x + y) else if a = 5 then w64 (x - y) else if a = 6 then w64 (x * y) else if a = 7 then (if x < y then 1 else 0) else if a = 8 then (if y < x then 1 else 0) else x
def sidx (s c : Int) : Int := if s = 20 then (if c = 108 then 0 else if c = 98 then 1 else if c = 112 then 2 else if c = 118 then 3 else if c = 114 then 4 else if c = 120 then 5 else -1)
  else (if c = 111 then 0 else if c = 104 then 1 else if c = 116 then 2 else if c = 107 then 3 else if c = 101 then 4 else if c = 109 then 5 else if c = 102 then 6 else -1)
def schr (s i : Int) : Int := if i = 0 then 111 else if i = 1 then 104 else if i = 2 then 116 else if i = 3 then 107 else if i = 4 then 101 else if i = 5 then 109 else 102
def wp_Arrs_copyOf1 (x0 x1 : Int) (h : Hp) (K : Int → Hp → Prop) : Prop := x0 ≠ 0 ∧ (0 ≤ x1 ∧ x1 ≤ 65536 ∧ nx h + 1 ≤ NM ∧ us h + x1 ≤ UM) ∧ (0 < ln h x0 ∧ 0 < x1) ∧ (∀ j : Int, 0 ≤ j → j < ln h x0 → rd h x0 j = 0 ∨ (rd h x0 j < nx h ∧ (kn h (rd h x0 j) = 24 ∨ kn h (rd h x0 j) = 27))) ∧ K (nx h) (cpO h x0 x1)
