/-! THE DATA OF BOTH SIDES: abstract states t (variable, index), the component's data RD, the twin's data RT -/
abbrev Ts : Type := Int → Int → Int
def tset (t : Ts) (v j x : Int) : Ts := fun u k => if u = v ∧ k = j then x else t u k
/-- a run of places of one variable -/
def tsr (t : Ts) (v lo hi : Int) (g : Int → Int) : Ts := fun u k => if u = v ∧ lo ≤ k ∧ k < hi then g k else t u k
theorem tset_eq (t : Ts) (v j x : Int) : tset t v j x v j = x := if_pos ⟨rfl, rfl⟩
theorem tset_ne {t : Ts} {v j x u k : Int} (n : ¬ (u = v ∧ k = j)) : tset t v j x u k = t u k := if_neg n
theorem tset_nv {t : Ts} {v j x u k : Int} (n : u ≠ v) : tset t v j x u k = t u k := if_neg (fun q => n q.1)
theorem tsr_nv {t : Ts} {v lo hi u k : Int} {g : Int → Int} (n : u ≠ v) : tsr t v lo hi g u k = t u k := if_neg (fun q => n q.1)
theorem tsr_in {t : Ts} {v lo hi k : Int} {g : Int → Int} (a : lo ≤ k) (b : k < hi) : tsr t v lo hi g v k = g k := if_pos ⟨rfl, a, b⟩
theorem tsr_out {t : Ts} {v lo hi u k : Int} {g : Int → Int} (n : ¬ (lo ≤ k ∧ k < hi)) : tsr t v lo hi g u k = t u k := if_neg (fun q => n q.2)
/-- a run of slots of one cell -/
def upr (h : Hp) (a lo hi : Int) (f : Int → Int) : Hp := (fun x y => if x = a ∧ lo ≤ y ∧ y < hi then f y else h.1 x y, h.2)
theorem rd_upr (h : Hp) (a lo hi b j : Int) (f : Int → Int) : rd (upr h a lo hi f) b j = if b = a ∧ lo ≤ j ∧ j < hi then f j else rd h b j := rfl
theorem upr_nil {h : Hp} {a lo hi : Int} {f : Int → Int} (k : hi ≤ lo) : upr h a lo hi f = h := by
  unfold upr
  have e : (fun x y => if x = a ∧ lo ≤ y ∧ y < hi then f y else h.1 x y) = h.1 := by
    funext x y
    exact if_neg (by omega)
  rw [e]
theorem upr_up {h : Hp} {a lo x v : Int} {f : Int → Int} (k : lo ≤ x) (e : v = f x) : up (upr h a lo x f) a x v = upr h a lo (x + 1) f := by
  unfold up upr
  congr 1
  funext p q
  simp only
  by_cases c : p = a ∧ q = x
  · rw [if_pos c, if_pos (by omega), e, c.2]
  · rw [if_neg c]
    by_cases d : p = a ∧ lo ≤ q ∧ q < x
    · rw [if_pos d, if_pos (by omega)]
    · rw [if_neg d, if_neg (by omega)]
theorem cpy_upr (h : Hp) (s sp t tp n : Int) : cpy h s sp t tp n = upr h t tp (tp + n) (fun y => h.1 s (sp + (y - tp))) := rfl
/-- where the twin's variables lie -/
def alw (v : Int) : Prop := v = 1 ∨ v = 24 ∨ v = 73 ∨ v = 74 ∨ (113 ≤ v ∧ v ≤ 116) ∨ v = 129 ∨ v = 130 ∨ v = 131 ∨ v = 133 ∨ v = 134 ∨ v = 136 ∨ v = 137 ∨ v = 140 ∨ v = 142
/-- which places count in the component: when it is up (but for what stays), and by what is told; 200 is a ghost: how far a minute has come -/
def act (t : Ts) (v j : Int) : Prop :=
  (alw v ∨ t 137 0 = 0) ∧ ((v = 104 ∨ v = 105) → t 103 j = 1) ∧ ((107 ≤ v ∧ v ≤ 110) → t 106 j = 1) ∧ ((v = 76 ∨ v = 77) → t 75 j = 1) ∧ (v = 79 → t 75 (j / 48) = 1 ∧ j % 48 < t 78 (j / 48)) ∧ (v = 131 → t 130 (j / 28) = 1) ∧ (v = 60 → 1 ≤ t 200 0) ∧ ((v = 67 ∨ v = 69) → 2 ≤ t 200 0)
def ctl (v : Int) : Prop := v = 137 ∨ v = 103 ∨ v = 106 ∨ v = 75 ∨ v = 78 ∨ v = 130 ∨ v = 200
theorem act_cg {t t2 : Ts} {v j : Int} (e : ∀ u k, ctl u → t2 u k = t u k) : act t2 v j ↔ act t v j := by
  unfold act
  rw [e 137 0 (by unfold ctl; omega), e 103 j (by unfold ctl; omega), e 106 j (by unfold ctl; omega), e 75 j (by unfold ctl; omega), e 75 (j / 48) (by unfold ctl; omega), e 78 (j / 48) (by unfold ctl; omega), e 130 (j / 28) (by unfold ctl; omega), e 200 0 (by unfold ctl; omega)]
/-- plain variables: they count whenever the component is up -/
def pln (v : Int) : Prop := ¬ (v = 104 ∨ v = 105 ∨ (107 ≤ v ∧ v ≤ 110) ∨ v = 76 ∨ v = 77 ∨ v = 79 ∨ v = 131 ∨ v = 60 ∨ v = 67 ∨ v = 69)
theorem act_up {t : Ts} {v j : Int} (u : t 137 0 = 0) (p : pln v) : act t v j := by unfold pln at p; unfold act; exact ⟨Or.inr u, by omega, by omega, by omega, by omega, by omega, by omega, by omega⟩
def RD (H Q : Int) (h : Hp) (t : Ts) : Prop := ∀ v j : Int, 0 ≤ j → j < dm v → act t v j → h.1 (ca H Q v j) (ci v j) = t v j
theorem RD.get {H Q : Int} {h : Hp} {t : Ts} {a i v j : Int} (r : RD H Q h t) (e : Lc H Q a i v j) (k : act t v j) : rd h a i = t v j := by
  have := r v j e.2.2.1 e.2.2.2 k
  rw [e.1, e.2.1] at this
  exact this
theorem ca_inj {H Q v j u k : Int} (hh : is_h H) (hq : is_k Q) (h0 : 0 ≤ j) (h1 : j < dm v) (k0 : 0 ≤ k) (k1 : k < dm u) (e1 : ca H Q v j = ca H Q u k) (e2 : ci v j = ci u k) : v = u ∧ j = k := by
  have x := at_of (L := 0) hh hq h0 h1
  have y := at_of (L := 0) hh hq k0 k1
  rw [e1, e2] at x
  exact ⟨x.1.symm.trans y.1, x.2.1.symm.trans y.2.1⟩
theorem RD.put {H Q : Int} {h : Hp} {t : Ts} {a i v j x : Int} (hh : is_h H) (hq : is_k Q) (r : RD H Q h t) (e : Lc H Q a i v j) (n : ¬ ctl v) : RD H Q (up h a i x) (tset t v j x) := by
  intro u k k0 k1 ka
  have ka2 : act t u k := (act_cg (t := t) (t2 := tset t v j x) (fun w z hw => tset_nv (fun q : w = v => n (q ▸ hw)))).mp ka
  have h2 := r u k k0 k1 ka2
  show (if ca H Q u k = a ∧ ci u k = i then x else h.1 (ca H Q u k) (ci u k)) = (if u = v ∧ k = j then x else t u k)
  by_cases c : u = v ∧ k = j
  · rw [if_pos c, if_pos (by rw [c.1, c.2]; exact ⟨e.1, e.2.1⟩)]
  · rw [if_neg c, if_neg, h2]
    intro q
    exact c (ca_inj hh hq k0 k1 e.2.2.1 e.2.2.2 (q.1.trans e.1.symm) (q.2.trans e.2.1.symm))
/-- slots that stand for nothing -/
theorem RD.away {H Q : Int} {h h2 : Hp} {t : Ts} (r : RD H Q h t) (e : ∀ v j : Int, 0 ≤ j → j < dm v → h2.1 (ca H Q v j) (ci v j) = h.1 (ca H Q v j) (ci v j)) : RD H Q h2 t := fun v j h0 h1 ka => (e v j h0 h1).trans (r v j h0 h1 ka)
theorem RD.sc {H Q L : Int} {h : Hp} {t : Ts} {a i x : Int} (hh : is_h H) (hq : is_k Q) (r : RD H Q h t) (e : lv H Q L a i < 0) : RD H Q (up h a i x) t :=
  r.away (fun v j h0 h1 => by
    show (if ca H Q v j = a ∧ ci v j = i then x else h.1 (ca H Q v j) (ci v j)) = _
    rw [if_neg]
    intro q
    have y := (at_of (L := L) hh hq h0 h1).1
    rw [q.1, q.2] at y
    have : 0 ≤ v := dm_nn h0 h1
    omega)
theorem fp_lo {a i : Int} (k : a < 64) : fp a i = -7 := by
  have h1 : ck a = 0 := by unfold ck; split <;> (try split) <;> (try split) <;> (try split) <;> (try split) <;> (try split) <;> (try split) <;> first | rfl | omega
  unfold fp fpc
  rw [h1]
  simp
theorem fp_hi {a i : Int} (k : 1510 ≤ a) : fp a i = -7 := by
  have h1 : ck a = 0 := by unfold ck; split <;> (try split) <;> (try split) <;> (try split) <;> (try split) <;> (try split) <;> (try split) <;> first | rfl | omega
  unfold fp fpc
  rw [h1]
  simp
theorem fl_hi {a : Int} (k : 1510 ≤ a) : fl a = 0 := by
  have h1 : ck a = 0 := by unfold ck; split <;> (try split) <;> (try split) <;> (try split) <;> (try split) <;> (try split) <;> (try split) <;> first | rfl | omega
  unfold fl flc
  rw [h1]
  simp
theorem Sh.cg {h h2 : Hp} (s : Sh h) (e1 : ∀ a i : Int, fp a i ≠ -7 → h2.1 a i = h.1 a i) (e2 : ∀ a : Int, a < nx h → ln h2 a = ln h a) (e3 : nx h ≤ nx h2) (e4 : ∀ k : Int, 0 ≤ k → rd h2 18 k = rd h 18 k) : Sh h2 := by
  obtain ⟨s1, s2, s3, s4, s5, s6⟩ := s
  refine ⟨fun a i n => (e1 a i n).trans (s1 a i n), fun a n => ?_, Int.le_trans s3 e3, fun k k0 k1 => (e4 k k0).trans (s4 k k0 k1), (e2 18 (by omega)).trans s5, (e2 23 (by omega)).trans s6⟩
  have : a < 1510 := by
    rcases Int.lt_or_le a 1510 with c | c
    · exact c
    · exact absurd (fl_hi c) n
  rw [e2 a (by omega)]
  exact s2 a n
theorem Sh.up {h : Hp} {a i x : Int} (s : Sh h) (e : fp a i = -7) (k : 0 ≤ i) (l : 64 ≤ a) : Sh (up h a i x) :=
  s.cg (fun b j n => by
    show (if b = a ∧ j = i then x else h.1 b j) = h.1 b j
    rw [if_neg]
    rintro ⟨rfl, rfl⟩
    exact n e) (fun _ _ => ln_up k) (Int.le_refl _) (fun _ _ => rd_up_ne (by omega))
theorem Sh.upr {h : Hp} {a lo hi : Int} {f : Int → Int} (s : Sh h) (e : ∀ i : Int, lo ≤ i → i < hi → fp a i = -7) (k : 0 ≤ lo) (l : 64 ≤ a) : Sh (upr h a lo hi f) :=
  s.cg (fun b j n => by
    show (if b = a ∧ lo ≤ j ∧ j < hi then f j else h.1 b j) = h.1 b j
    rw [if_neg]
    rintro ⟨rfl, q1, q2⟩
    exact n (e j q1 q2)) (fun b _ => if_neg (by omega)) (Int.le_refl _) (fun _ _ => if_neg (by omega))
theorem Sh.mk {h : Hp} {κ n : Int} (s : Sh h) : Sh (mk h κ n) := by
  have s3 := s.2.2.1
  refine s.cg (fun b j k => rd_mk_old ?_) (fun b k => ln_mk_old (by omega)) (by rw [nx_mk]; omega) (fun _ _ => rd_mk_old (by omega))
  intro q
  exact k (fp_hi (by omega))
/-- loops that count up -/
theorem up_ind {α : Type} {P : Int → α → Prop} (n : Int) (I : Int → α → Prop) (step : ∀ x s, x < n → I x s → (∀ s2, I (x + 1) s2 → P (x + 1) s2) → P x s) (fin : ∀ s, I n s → P n s) : ∀ x s, x ≤ n → I x s → P x s := by
  have aux : ∀ (m : Nat) (x : Int) (s : α), n - x = (m : Int) → I x s → P x s := by
    intro m
    induction m with
    | zero => intro x s e i; obtain rfl : x = n := by omega
              exact fin s i
    | succ m ih => intro x s e i; exact step x s (by omega) i (fun s2 i2 => ih (x + 1) s2 (by omega) i2)
  intro x s l i
  exact aux (n - x).toNat x s (by omega) i
/-- loops with a measure -/
theorem ms_ind {α : Type} {P : α → Prop} (μ : α → Nat) (I : α → Prop) (step : ∀ s, I s → (∀ s2, I s2 → μ s2 < μ s → P s2) → P s) : ∀ s, I s → P s := by
  have aux : ∀ (m : Nat) (s : α), μ s < m → I s → P s := by
    intro m
    induction m with
    | zero => intro s e; exact absurd e (Nat.not_lt_zero _)
    | succ m ih => intro s e i; exact step s i (fun s2 i2 l => ih s2 (by omega) i2)
  intro s i
  exact aux (μ s + 1) s (Nat.lt_succ_self _) i
theorem w32_id {x : Int} (a : -2147483648 ≤ x) (b : x < 2147483648) : w32 x = x := w32_of ⟨a, b⟩
theorem w64_id {x : Int} (a : -9223372036854775808 ≤ x) (b : x < 9223372036854775808) : w64 x = x := w64_of ⟨a, b⟩
theorem tdiv_pos {x y : Int} (a : 0 ≤ x) (b : 0 ≤ y) : x.tdiv y = x / y := Int.tdiv_eq_ediv_of_nonneg a
theorem tmod_pos {x y : Int} (a : 0 ≤ x) (b : 0 ≤ y) : x.tmod y = x % y := Int.tmod_eq_emod_of_nonneg a
/-- the twin's variables that count (the rest is scratch) -/
def ess (v : Int) : Prop := 0 ≤ v ∧ ¬ (v = 10 ∨ v = 38 ∨ v = 39 ∨ (46 ≤ v ∧ v ≤ 51) ∨ (93 ≤ v ∧ v ≤ 95) ∨ (126 ≤ v ∧ v ≤ 128) ∨ v = 132 ∨ v = 138 ∨ v = 139 ∨ 144 ≤ v)
def RT (h : Hp) (t : Ts) : Prop := ∀ v j : Int, ess v → 0 ≤ j → j < td v → h.1 (ta v) (ti v j) = t v j
theorem RT.get {h : Hp} {t : Ts} {a i v j : Int} (r : RT h t) (e : Lt a i v j) (k : ess v) : rd h a i = t v j := by
  have := r v j k e.2.2.1 e.2.2.2.1
  rw [e.1, e.2.1] at this
  exact this
