/-! THE WHOLE RELATION -/
/-- cells of space k that lie before cell c -/
def pos (t : Ts) (k c : Int) : Int := si (fun d => bi (t 6 d = k)) c
/-- the layout in use -/
def LayC (L : Int) (h : Hp) (t : Ts) : Prop :=
  ((0 < t 7 0 ∧ t 7 0 ≤ 40) ∧ ∀ c : Int, 0 ≤ c → c < 240 → 0 ≤ t 6 c ∧ t 6 c < t 7 0) ∧
  rd h L 1 = t 7 0 ∧
  (∀ c : Int, 0 ≤ c → c < 240 → rd h (L + 2) c = L + (10 + 3 * t 6 c) ∧ rd h (L + (11 + 3 * t 6 c)) (pos t (t 6 c) c) = c % 48) ∧
  (∀ k : Int, 0 ≤ k → k < t 7 0 → rd h (L + (10 + 3 * k)) 2 = t 9 k ∧ rd h (L + (10 + 3 * k)) 3 = t 8 k / 48 ∧ rd h (L + (10 + 3 * k)) 4 = t 5 (t 8 k) ∧ rd h (L + (10 + 3 * k)) 6 = t 12 k ∧
    (∀ q : Int, 0 ≤ q → q < 4 → rd h (L + (12 + 3 * k)) q = si (fun e => bi (gBd (e % 110) ∧ (if gOne (e % 110) = -1 then (if e % 110 < 54 then 0 else 2) else (if e % 110 < 54 then 1 else 3)) = q ∧ t 3 e = 3 ∧ t 6 (48 * (e / 110) + (if gOne (e % 110) = -1 then gTwo (e % 110) else gOne (e % 110))) = k)) 550)) ∧
  (∀ f : Int, 0 ≤ f → f < 10 → rd h (L + 3) f = (if t 14 f < 0 then 0 else L + (10 + 3 * t 14 f)) ∧ rd h (L + 4) f = t 15 f) ∧
  (0 ≤ rd h L 8 ∧ rd h L 8 ≤ 780) ∧
  (∀ a b : Int, 0 ≤ a → a < b → b < t 7 0 →
    (rd h (L + 7) (40 * a + b) = -1 ∧ ∀ q : Int, 0 ≤ q → q < 4 → t 11 (4 * (40 * a + b) + q) = 0) ∨
    (0 ≤ rd h (L + 7) (40 * a + b) ∧ rd h (L + 7) (40 * a + b) < rd h L 8 ∧ rd h (L + 5) (rd h (L + 7) (40 * a + b)) = 40 * a + b ∧
      ∀ q : Int, 0 ≤ q → q < 4 → rd h (L + 6) (4 * rd h (L + 7) (40 * a + b) + q) = t 11 (4 * (40 * a + b) + q))) ∧
  (∀ p : Int, 0 ≤ p → p < rd h L 8 → ∃ a b : Int, 0 ≤ a ∧ a < b ∧ b < t 7 0 ∧ rd h (L + 5) p = 40 * a + b ∧ rd h (L + 7) (40 * a + b) = p)
/-- a live cell that was made behind the constructors, of a kind -/
def dyn (h : Hp) (p κ : Int) : Prop := 1510 ≤ p ∧ p < nx h ∧ kn h p = κ
/-- the tickets -/
def TickC (H : Int) (h : Hp) (t : Ts) : Prop :=
  (∀ k : Int, 0 ≤ k → k < 16 → (t 80 k = 0 ∧ rd h (H + 37) k = 0) ∨ (t 80 k = 1 ∧ dyn h (rd h (H + 37) k) 24 ∧ rd h (rd h (H + 37) k) 0 = t 85 k ∧ rd h (rd h (H + 37) k) 1 = t 81 k ∧ rd h (rd h (H + 37) k) 2 = t 82 k ∧ rd h (rd h (H + 37) k) 3 = t 83 k ∧ rd h (rd h (H + 37) k) 4 = t 84 k ∧ rd h (rd h (H + 37) k) 5 = t 86 k)) ∧
  (∀ k l : Int, 0 ≤ k → k < l → l < 16 → rd h (H + 37) k = rd h (H + 37) l → rd h (H + 37) k = 0)
/-- a list: its array is long enough, a cell of its own -/
def LstC (a : Int) (h : Hp) : Prop := 0 ≤ rd h a 1 ∧ (rd h a 0 = 23 ∧ rd h a 1 = 0 ∨ dyn h (rd h a 0) 82 ∧ rd h a 1 ≤ ln h (rd h a 0) ∧ ln h (rd h a 0) ≤ 64 ∧ 0 < ln h (rd h a 0) ∧ ∀ k : Int, rd h a 1 ≤ k → k < ln h (rd h a 0) → rd h (rd h a 0) k = 0)
def OrdC (h : Hp) (t : Ts) : Prop :=
  LstC 1336 h ∧ rd h 1336 1 = t 96 0 ∧ ∀ k : Int, 0 ≤ k → k < t 96 0 → dyn h (rd h (rd h 1336 0) k) 27 ∧ rd h (rd h (rd h 1336 0) k) 0 = t 97 k ∧ rd h (rd h (rd h 1336 0) k) 1 = t 98 k ∧ rd h (rd h (rd h 1336 0) k) 2 = t 99 k
/-- a worker: free, or on a way; the tickets not yet visited are those in the house -/
def WorkC (H : Int) (h : Hp) (t : Ts) : Prop := ∀ w : Int, 0 ≤ w → w < 2 →
  LstC (1333 + 2 * w) h ∧
  ((t 92 w < 0 ∧ rd h (1333 + 2 * w) 1 = 0) ∨
   (0 ≤ t 92 w ∧ 0 < t 90 w ∧ t 90 w ≤ 6 ∧ 0 ≤ t 91 w ∧ t 91 w ≤ t 90 w ∧ rd h (1333 + 2 * w) 1 = t 90 w ∧ rd h (1332 + 2 * w) 2 = t 91 w ∧ rd h (1332 + 2 * w) 4 = t 92 w ∧ (t 91 w < t 90 w → rd h (1332 + 2 * w) 3 = t 89 (6 * w + t 91 w)) ∧
    (∀ k : Int, 0 ≤ k → k < t 90 w → dyn h (rd h (rd h (1333 + 2 * w) 0) k) 24) ∧
    (∀ k : Int, t 91 w ≤ k → k < t 90 w → 0 ≤ t 88 (6 * w + k) ∧ t 88 (6 * w + k) < 16 ∧ t 80 (t 88 (6 * w + k)) = 1 ∧ rd h (rd h (1333 + 2 * w) 0) k = rd h (H + 37) (t 88 (6 * w + k)))))
/-- the fault of the last load; the house's heat -/
def FltC (H : Int) (h : Hp) (t : Ts) : Prop := rd h 1314 34 = (if t 36 0 = 0 then -1 else t 34 0) ∧ rd h 1314 35 = (if t 36 0 = 0 then -1 else t 35 0) ∧ rd h H 11 = w32 (t 117 10)
/-- the program's code: a machine with a pile; it comes from a to b and lays F (of the names' values) on the pile -/
def bnd (x : Int) : Int := if x < -1000000000 then -1000000000 else if 1000000000 < x then 1000000000 else x
def cst (row env : Int → Int) (s : Int × List Int) : Int × List Int :=
  match row s.1, s.2 with
  | 0, q => (s.1 + 2, row (s.1 + 1) :: q)
  | 1, q => (s.1 + 2, env (row (s.1 + 1)) :: q)
  | 2, y :: q => (s.1 + 1, -y :: q)
  | 3, y :: x :: q => (s.1 + 1, bnd (x + y) :: q)
  | 4, y :: x :: q => (s.1 + 1, bnd (x - y) :: q)
  | 5, y :: x :: q => (s.1 + 1, bnd (x * y) :: q)
  | 6, y :: x :: q => (s.1 + 1, bi (x < y) :: q)
  | 7, y :: x :: q => (s.1 + 1, bi (y < x) :: q)
  | 8, y :: q => (if y = 0 then row (s.1 + 1) else s.1 + 2, q)
  | 9, q => (row (s.1 + 1), q)
  | _, q => (s.1, q)
def cit (row env : Int → Int) : Nat → Int × List Int → Int × List Int
  | 0, s => s
  | n + 1, s => cit row env n (cst row env s)
/-- the code from a to b lays F env on the pile, within m further places -/
def CodeOK (row : Int → Int) (a b m : Int) (F : (Int → Int) → Int) : Prop := a ≤ b ∧ ∀ (env : Int → Int) (q : List Int), ∃ n : Nat, cit row env n (a, q) = (b, F env :: q) ∧ ∀ j : Nat, j < n → a ≤ (cit row env j (a, q)).1 ∧ (cit row env j (a, q)).1 < b ∧ 0 ≤ row (cit row env j (a, q)).1 ∧ row (cit row env j (a, q)).1 < 10 ∧ ((cit row env j (a, q)).2.length : Int) ≤ (q.length : Int) + m ∧ (row (cit row env j (a, q)).1 = 2 ∨ row (cit row env j (a, q)).1 = 8 → 1 ≤ (cit row env j (a, q)).2.length) ∧ (3 ≤ row (cit row env j (a, q)).1 ∧ row (cit row env j (a, q)).1 < 8 → 2 ≤ (cit row env j (a, q)).2.length)
/-- the twin's rows: signs behind what they are for -/
def rst (w v : Int) (env : Int → Int) (q : List Int) : List Int :=
  match w, q with
  | 0, q => v :: q
  | 1, q => env v :: q
  | 2, y :: q => bnd (-y) :: q
  | 3, z :: y :: x :: q => (if x = 0 then z else y) :: q
  | 42, y :: x :: q => bnd (x * y) :: q
  | 43, y :: x :: q => bnd (x + y) :: q
  | 45, y :: x :: q => bnd (x - y) :: q
  | 60, y :: x :: q => bi (x < y) :: q
  | 62, y :: x :: q => bi (y < x) :: q
  | _, q => q
def rit (ws vs env : Int → Int) (a : Int) : Nat → List Int → List Int
  | 0, q => q
  | n + 1, q => rst (ws (a + n)) (vs (a + n)) env (rit ws vs env a n q)
/-- how many values the sign at a place needs -/
def rneed (w : Int) : Nat := if w = 0 ∨ w = 1 then 0 else if w = 2 then 1 else if w = 3 then 3 else 2
def RpnOK (ws vs : Int → Int) (a b : Int) (F : (Int → Int) → Int) : Prop := a ≤ b ∧ (∀ (env : Int → Int) (q : List Int), rit ws vs env a (b - a).toNat q = F env :: q) ∧ ∀ j : Nat, (j : Int) < b - a → (ws (a + j) = 0 ∨ ws (a + j) = 1 ∨ ws (a + j) = 2 ∨ ws (a + j) = 3 ∨ ws (a + j) = 42 ∨ ws (a + j) = 43 ∨ ws (a + j) = 45 ∨ ws (a + j) = 60 ∨ ws (a + j) = 62) ∧ ∀ env : Int → Int, rneed (ws (a + j)) ≤ (rit ws vs env a j []).length
def ProgC (h : Hp) (t : Ts) : Prop :=
  rd h 622 4 = t 28 0 ∧ 0 ≤ t 28 0 ∧ t 28 0 ≤ 12 ∧ 0 ≤ rd h 622 1 ∧ rd h 622 1 ≤ 800 ∧
  ∀ s : Int, 0 ≤ s → s < t 28 0 → rd h 624 s = t 33 s ∧ 0 ≤ rd h 625 s ∧ (if s + 1 < t 28 0 then rd h 625 (s + 1) else rd h 622 1) ≤ rd h 622 1 ∧
    ∃ F : (Int → Int) → Int, CodeOK (rd h 623) (rd h 625 s) (if s + 1 < t 28 0 then rd h 625 (s + 1) else rd h 622 1) 70 F ∧ RpnOK (t 29) (t 30) (if s = 0 then 0 else t 32 (s - 1)) (t 32 s) F
/-- the special clauses, when the component is up -/
def SpC (H L : Int) (h : Hp) (t : Ts) : Prop := LayC L h t ∧ TickC H h t ∧ OrdC h t ∧ WorkC H h t ∧ FltC H h t ∧ ProgC h t
/-- which house, keys and layout are in use -/
def SwC (H Q L : Int) (h : Hp) : Prop := is_h H ∧ is_k Q ∧ is_l L ∧ rd h 64 7 = H ∧ rd h 64 8 = 1396 - H ∧ rd h 70 1 = Q ∧ rd h 64 11 = 1642 - Q ∧ rd h 64 9 = L ∧ rd h 64 10 = 1946 - L
def RC (H Q L : Int) (h : Hp) (t : Ts) : Prop := Sh h ∧ SwC H Q L h ∧ RD H Q h t ∧ (∀ k : Int, 0 ≤ k → k < 135 → rd h 69 k = 0) ∧ (t 137 0 = 0 → SpC H L h t)
