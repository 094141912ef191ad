/-! THE START: the run's data, GG, and the claim out of law_ok -/
def romK : List (Int × Int × Int) := [(1, -1, 128), (2, -1, 128), (3, -1, 128), (4, -1, 128), (5, -1, 128), (6, -1, 128), (7, -1, 128), (8, -1, 128), (9, -1, 128), (10, -1, 128), (11, -1, 129), (12, -1, 129), (13, -1, 129), (14, -1, 129), (15, -1, 129), (16, -1, 129), (17, -1, 85), (18, -1, 83), (20, -1, 130), (21, -1, 130), (22, -1, 130), (23, -1, 82)]
def gmR (a i : Int) : Int := match (romK ++ romV).find? (fun z => z.1 == a && z.2.1 == i) with
  | some z => z.2.2
  | none => if i = -1 then -1 else 0
/-- the contents of the constants and of the script -/
def gm0 (n : Nat) (xs : Nat → Int32) (a i : Int) : Int := if a = 24 then (if i = -1 then 83 else if i = -2 then (n : Int) else (xs i.toNat).toInt) else gmR a i
def h00 (n : Nat) (xs : Nat → Int32) : Hp := (gm0 n xs, 64, 0)
theorem gm0_24 (n : Nat) (xs : Nat → Int32) (a i : Int) (h : a ≠ 24) : gm0 n xs a i = gmR a i := if_neg h
def romA : List Nat := [1, 2, 3, 4, 5, 6, 7, 8, 9, 10, 11, 12, 13, 14, 15, 16, 17, 18, 20, 21, 22, 23, 25, 26]
theorem romV_ok : ∀ z ∈ romV, z.1 ≠ 24 ∧ gmR z.1 z.2.1 = z.2.2 := by decide +kernel
theorem romT_ok : ∀ z ∈ romT, (z.2.2.2.1 : Int) ≠ 24 ∧ gmR (z.2.2.2.1 : Int) (-1) = (z.2.2.2.2 : Int) := by decide +kernel
theorem romQ_ok : ∀ z ∈ romQ, (z.2.2 : Int) ≠ 24 ∧ gmR (z.2.2 : Int) (-1) = 130 := by decide +kernel
theorem rom_keys : ∀ z ∈ romK ++ romV, z.2.1 = -1 → ∃ a ∈ romA, z.1 = (a : Int) := by decide +kernel
theorem gmR_in {a : Int} (h : 0 ≤ gmR a (-1)) : ∃ b ∈ romA, a = (b : Int) := by
  unfold gmR at h
  cases hf : (romK ++ romV).find? (fun z => z.1 == a && z.2.1 == -1) with
  | none => rw [hf] at h; exact absurd h (by show ¬ (0 ≤ (if (-1 : Int) = -1 then (-1 : Int) else 0)); decide)
  | some z =>
    have h1 := List.mem_of_find?_eq_some hf
    have h2 := List.find?_some hf
    simp only [Bool.and_eq_true, beq_iff_eq] at h2
    obtain ⟨b, hb, e⟩ := rom_keys z h1 h2.2
    exact ⟨b, hb, by rw [← h2.1]; exact e⟩
def tmOf : Nat → Term
  | 1 => (.static "KeptHouse$Op" "LAY" "LKeptHouse$Op;")
  | 2 => (.static "KeptHouse$Op" "NAME" "LKeptHouse$Op;")
  | 3 => (.static "KeptHouse$Op" "MINUS" "LKeptHouse$Op;")
  | 4 => (.static "KeptHouse$Op" "ADD" "LKeptHouse$Op;")
  | 5 => (.static "KeptHouse$Op" "TAKE" "LKeptHouse$Op;")
  | 6 => (.static "KeptHouse$Op" "TIMES" "LKeptHouse$Op;")
  | 7 => (.static "KeptHouse$Op" "LESS" "LKeptHouse$Op;")
  | 8 => (.static "KeptHouse$Op" "MORE" "LKeptHouse$Op;")
  | 9 => (.static "KeptHouse$Op" "UNLESS" "LKeptHouse$Op;")
  | 10 => (.static "KeptHouse$Op" "JUMP" "LKeptHouse$Op;")
  | 11 => (.static "KeptHouse$Token" "WORD" "LKeptHouse$Token;")
  | 12 => (.static "KeptHouse$Token" "NUMBER" "LKeptHouse$Token;")
  | 13 => (.static "KeptHouse$Token" "SIGN" "LKeptHouse$Token;")
  | 14 => (.static "KeptHouse$Token" "LONG" "LKeptHouse$Token;")
  | 15 => (.static "KeptHouse$Token" "BAD" "LKeptHouse$Token;")
  | 16 => (.static "KeptHouse$Token" "END" "LKeptHouse$Token;")
  | 17 => (.static "KeptHouse$Op" "$VALUES" "[LKeptHouse$Op;")
  | 18 => (.static "KeptHouse" "COUNTS" "[I")
  | 20 => (.string "KeptHouse$Reader" 82)
  | 21 => (.string "KeptHouse$Reader" 89)
  | 22 => (.string "KeptHouse$Fault" 1)
  | 23 => (.static "java/util/ArrayList" "DEFAULTCAPACITY_EMPTY_ELEMENTDATA" "[Ljava/lang/Object;")
  | 25 => (.field (.string "KeptHouse$Reader" 82) "java/lang/String" "value" "[B")
  | 26 => (.field (.string "KeptHouse$Reader" 89) "java/lang/String" "value" "[B")
  | _ => .int 0
def adOf (args : Array Value) (s : State) (b a : Nat) : Nat := if a = 24 then b else match (tmOf a).eval args s none [] s with
  | some (.ref z) => z
  | _ => 0
section START
variable {args : Array Value} {s : State} {b : Nat}
theorem ad_ev {a : Nat} (h24 : a ≠ 24) (h : ∃ z, (tmOf a).eval args s none [] s = some (.ref z)) : (tmOf a).eval args s none [] s = some (.ref (adOf args s b a)) := by
  obtain ⟨z, hz⟩ := h
  unfold adOf
  rw [if_neg h24, hz]
theorem ex_ev {t : Term} {E : String} (h : (Cond.exactly t E).before args s = true) : ∃ z, t.eval args s none [] s = some (.ref z) ∧ z < s.heap.size := by
  obtain ⟨a, c, cell, k, q1, q2, q3, -⟩ := Cond.exactly_spec (args := args) (first := s) (o := none) (s := s) (idx := []) h
  exact ⟨a, q1, (Array.getElem?_eq_some_iff.mp q3).1⟩
def Nothing : Nat → Prop := fun _ => False

theorem arr_17 (hN : ∀ z ∈ flatC narrow_1, z.before args s = true) (hop : ∀ a : Nat, 1 ≤ a → a ≤ 10 → (tmOf a).eval args s none [] s = some (.ref (adOf args s b a))) : ∃ z, (tmOf 17).eval args s none [] s = some (.ref z) ∧ va_T (.object "KeptHouse$Op") z 10 (fun j => .ref (adOf args s b (j + 1))) Nothing s s.heap := by
  refine va_Tof (tm := tmOf 17) (N := 10) (f := (fun j => .ref (adOf args s b (j + 1)))) (A := Nothing) (by decide) (hN _ (List.mem_of_getElem? (i := 6) rfl)) (va_eqt (hN _ (List.mem_of_getElem? (i := 7) rfl))) (fun j hj => ?_) (fun _ _ z => z)
  have hj2 : j = 0 ∨ j = 1 ∨ j = 2 ∨ j = 3 ∨ j = 4 ∨ j = 5 ∨ j = 6 ∨ j = 7 ∨ j = 8 ∨ j = 9 := by omega
  rcases hj2 with rfl | rfl | rfl | rfl | rfl | rfl | rfl | rfl | rfl | rfl
  · exact va_eqv (hN _ (List.mem_of_getElem? (i := 9) rfl)) (hop 1 (by decide) (by decide))
  · exact va_eqv (hN _ (List.mem_of_getElem? (i := 10) rfl)) (hop 2 (by decide) (by decide))
  · exact va_eqv (hN _ (List.mem_of_getElem? (i := 11) rfl)) (hop 3 (by decide) (by decide))
  · exact va_eqv (hN _ (List.mem_of_getElem? (i := 12) rfl)) (hop 4 (by decide) (by decide))
  · exact va_eqv (hN _ (List.mem_of_getElem? (i := 13) rfl)) (hop 5 (by decide) (by decide))
  · exact va_eqv (hN _ (List.mem_of_getElem? (i := 14) rfl)) (hop 6 (by decide) (by decide))
  · exact va_eqv (hN _ (List.mem_of_getElem? (i := 15) rfl)) (hop 7 (by decide) (by decide))
  · exact va_eqv (hN _ (List.mem_of_getElem? (i := 16) rfl)) (hop 8 (by decide) (by decide))
  · exact va_eqv (hN _ (List.mem_of_getElem? (i := 17) rfl)) (hop 9 (by decide) (by decide))
  · exact va_eqv (hN _ (List.mem_of_getElem? (i := 18) rfl)) (hop 10 (by decide) (by decide))
theorem arr_18 (hN : ∀ z ∈ flatC narrow_1, z.before args s = true) : ∃ z, (tmOf 18).eval args s none [] s = some (.ref z) ∧ va_T .int z 16 (fun j => .int (I32 (gmR 18 j))) Nothing s s.heap := by
  refine va_Tof (tm := tmOf 18) (N := 16) (f := (fun j => .int (I32 (gmR 18 j)))) (A := Nothing) (by decide) (hN _ (List.mem_of_getElem? (i := 181) rfl)) (va_eqt (hN _ (List.mem_of_getElem? (i := 182) rfl))) (fun j hj => ?_) (fun _ _ z => z)
  have hj2 : j = 0 ∨ j = 1 ∨ j = 2 ∨ j = 3 ∨ j = 4 ∨ j = 5 ∨ j = 6 ∨ j = 7 ∨ j = 8 ∨ j = 9 ∨ j = 10 ∨ j = 11 ∨ j = 12 ∨ j = 13 ∨ j = 14 ∨ j = 15 := by omega
  rcases hj2 with rfl | rfl | rfl | rfl | rfl | rfl | rfl | rfl | rfl | rfl | rfl | rfl | rfl | rfl | rfl | rfl
  · exact va_eqt (hN _ (List.mem_of_getElem? (i := 183) rfl))
  · exact va_eqt (hN _ (List.mem_of_getElem? (i := 184) rfl))
  · exact va_eqt (hN _ (List.mem_of_getElem? (i := 185) rfl))
  · exact va_eqt (hN _ (List.mem_of_getElem? (i := 186) rfl))
  · exact va_eqt (hN _ (List.mem_of_getElem? (i := 187) rfl))
  · exact va_eqt (hN _ (List.mem_of_getElem? (i := 188) rfl))
  · exact va_eqt (hN _ (List.mem_of_getElem? (i := 189) rfl))
  · exact va_eqt (hN _ (List.mem_of_getElem? (i := 190) rfl))
  · exact va_eqt (hN _ (List.mem_of_getElem? (i := 191) rfl))
  · exact va_eqt (hN _ (List.mem_of_getElem? (i := 192) rfl))
  · exact va_eqt (hN _ (List.mem_of_getElem? (i := 193) rfl))
  · exact va_eqt (hN _ (List.mem_of_getElem? (i := 194) rfl))
  · exact va_eqt (hN _ (List.mem_of_getElem? (i := 195) rfl))
  · exact va_eqt (hN _ (List.mem_of_getElem? (i := 196) rfl))
  · exact va_eqt (hN _ (List.mem_of_getElem? (i := 197) rfl))
  · exact va_eqt (hN _ (List.mem_of_getElem? (i := 198) rfl))
theorem arr_23 (hN : ∀ z ∈ flatC narrow_1, z.before args s = true) : ∃ z, (tmOf 23).eval args s none [] s = some (.ref z) ∧ va_T (.object "java/lang/Object") z 0 (fun j => .int (I32 (gmR 23 j))) Nothing s s.heap := by
  refine va_Tof (tm := tmOf 23) (N := 0) (f := (fun j => .int (I32 (gmR 23 j)))) (A := Nothing) (by decide) (hN _ (List.mem_of_getElem? (i := 20) rfl)) (va_eqt (hN _ (List.mem_of_getElem? (i := 22) rfl))) (fun j hj => ?_) (fun _ _ z => z)
  omega
theorem arr_25 (hN : ∀ z ∈ flatC narrow_1, z.before args s = true) : ∃ z, (tmOf 25).eval args s none [] s = some (.ref z) ∧ va_T .byte z 6 (fun j => .int (I32 (gmR 25 j))) Nothing s s.heap := by
  refine va_Tof (tm := tmOf 25) (N := 6) (f := (fun j => .int (I32 (gmR 25 j)))) (A := Nothing) (by decide) (hN _ (List.mem_of_getElem? (i := 325) rfl)) (va_eqt (hN _ (List.mem_of_getElem? (i := 326) rfl))) (fun j hj => ?_) (fun _ _ z => z)
  have hj2 : j = 0 ∨ j = 1 ∨ j = 2 ∨ j = 3 ∨ j = 4 ∨ j = 5 := by omega
  rcases hj2 with rfl | rfl | rfl | rfl | rfl | rfl
  · exact va_eqt (hN _ (List.mem_of_getElem? (i := 327) rfl))
  · exact va_eqt (hN _ (List.mem_of_getElem? (i := 328) rfl))
  · exact va_eqt (hN _ (List.mem_of_getElem? (i := 329) rfl))
  · exact va_eqt (hN _ (List.mem_of_getElem? (i := 330) rfl))
  · exact va_eqt (hN _ (List.mem_of_getElem? (i := 331) rfl))
  · exact va_eqt (hN _ (List.mem_of_getElem? (i := 332) rfl))
theorem arr_26 (hN : ∀ z ∈ flatC narrow_1, z.before args s = true) : ∃ z, (tmOf 26).eval args s none [] s = some (.ref z) ∧ va_T .byte z 7 (fun j => .int (I32 (gmR 26 j))) Nothing s s.heap := by
  refine va_Tof (tm := tmOf 26) (N := 7) (f := (fun j => .int (I32 (gmR 26 j)))) (A := Nothing) (by decide) (hN _ (List.mem_of_getElem? (i := 336) rfl)) (va_eqt (hN _ (List.mem_of_getElem? (i := 337) rfl))) (fun j hj => ?_) (fun _ _ z => z)
  have hj2 : j = 0 ∨ j = 1 ∨ j = 2 ∨ j = 3 ∨ j = 4 ∨ j = 5 ∨ j = 6 := by omega
  rcases hj2 with rfl | rfl | rfl | rfl | rfl | rfl | rfl
  · exact va_eqt (hN _ (List.mem_of_getElem? (i := 338) rfl))
  · exact va_eqt (hN _ (List.mem_of_getElem? (i := 339) rfl))
  · exact va_eqt (hN _ (List.mem_of_getElem? (i := 340) rfl))
  · exact va_eqt (hN _ (List.mem_of_getElem? (i := 341) rfl))
  · exact va_eqt (hN _ (List.mem_of_getElem? (i := 342) rfl))
  · exact va_eqt (hN _ (List.mem_of_getElem? (i := 343) rfl))
  · exact va_eqt (hN _ (List.mem_of_getElem? (i := 344) rfl))
/-- every constant has its cell -/
theorem all_ev (hN : ∀ z ∈ flatC narrow_1, z.before args s = true) : ∀ a ∈ romA, (tmOf a).eval args s none [] s = some (.ref (adOf args s b a)) ∧ adOf args s b a < s.heap.size := by
  have one : ∀ {a : Nat}, a ≠ 24 → (∃ z, (tmOf a).eval args s none [] s = some (.ref z) ∧ z < s.heap.size) → (tmOf a).eval args s none [] s = some (.ref (adOf args s b a)) ∧ adOf args s b a < s.heap.size := by
    intro a h24 hh
    obtain ⟨z, h1, h2⟩ := hh
    have e := ad_ev (b := b) h24 ⟨z, h1⟩
    cases Option.some.inj (h1.symm.trans e)
    exact ⟨e, h2⟩
  have arr : ∀ {a n : Nat} {ty : FieldType} {f : Nat → Value}, a ≠ 24 → (∃ z, (tmOf a).eval args s none [] s = some (.ref z) ∧ va_T ty z n f Nothing s s.heap) → (tmOf a).eval args s none [] s = some (.ref (adOf args s b a)) ∧ adOf args s b a < s.heap.size := by
    intro a n ty f h24 hh
    obtain ⟨z, h1, cell, h2, -⟩ := hh
    exact one h24 ⟨z, h1, (Array.getElem?_eq_some_iff.mp h2).1⟩
  intro a ha
  unfold romA at ha
  simp only [List.mem_cons, List.not_mem_nil, or_false] at ha
  rcases ha with rfl | rfl | rfl | rfl | rfl | rfl | rfl | rfl | rfl | rfl | rfl | rfl | rfl | rfl | rfl | rfl | rfl | rfl | rfl | rfl | rfl | rfl | rfl | rfl
  · exact one (by decide) (ex_ev (t := tmOf 1) (hN _ (List.mem_of_getElem? (i := 55) rfl)))
  · exact one (by decide) (ex_ev (t := tmOf 2) (hN _ (List.mem_of_getElem? (i := 63) rfl)))
  · exact one (by decide) (ex_ev (t := tmOf 3) (hN _ (List.mem_of_getElem? (i := 72) rfl)))
  · exact one (by decide) (ex_ev (t := tmOf 4) (hN _ (List.mem_of_getElem? (i := 93) rfl)))
  · exact one (by decide) (ex_ev (t := tmOf 5) (hN _ (List.mem_of_getElem? (i := 105) rfl)))
  · exact one (by decide) (ex_ev (t := tmOf 6) (hN _ (List.mem_of_getElem? (i := 82) rfl)))
  · exact one (by decide) (ex_ev (t := tmOf 7) (hN _ (List.mem_of_getElem? (i := 118) rfl)))
  · exact one (by decide) (ex_ev (t := tmOf 8) (hN _ (List.mem_of_getElem? (i := 132) rfl)))
  · exact one (by decide) (ex_ev (t := tmOf 9) (hN _ (List.mem_of_getElem? (i := 147) rfl)))
  · exact one (by decide) (ex_ev (t := tmOf 10) (hN _ (List.mem_of_getElem? (i := 163) rfl)))
  · exact one (by decide) (ex_ev (t := tmOf 11) (hN _ (List.mem_of_getElem? (i := 30) rfl)))
  · exact one (by decide) (ex_ev (t := tmOf 12) (hN _ (List.mem_of_getElem? (i := 26) rfl)))
  · exact one (by decide) (ex_ev (t := tmOf 13) (hN _ (List.mem_of_getElem? (i := 35) rfl)))
  · exact one (by decide) (ex_ev (t := tmOf 14) (hN _ (List.mem_of_getElem? (i := 23) rfl)))
  · exact one (by decide) (ex_ev (t := tmOf 15) (hN _ (List.mem_of_getElem? (i := 41) rfl)))
  · exact one (by decide) (ex_ev (t := tmOf 16) (hN _ (List.mem_of_getElem? (i := 2) rfl)))
  · exact one (by decide) (ex_ev (t := tmOf 17) (hN _ (List.mem_of_getElem? (i := 5) rfl)))
  · exact arr (by decide) (arr_18 hN)
  · exact one (by decide) (ex_ev (t := tmOf 20) (hN _ (List.mem_of_getElem? (i := 323) rfl)))
  · exact one (by decide) (ex_ev (t := tmOf 21) (hN _ (List.mem_of_getElem? (i := 334) rfl)))
  · exact one (by decide) (ex_ev (t := tmOf 22) (hN _ (List.mem_of_getElem? (i := 314) rfl)))
  · exact one (by decide) (ex_ev (t := tmOf 23) (hN _ (List.mem_of_getElem? (i := 21) rfl)))
  · exact arr (by decide) (arr_25 hN)
  · exact arr (by decide) (arr_26 hN)
def romP : List (Nat × Nat) := [(1, 2), (1, 3), (1, 4), (1, 5), (1, 6), (1, 7), (1, 8), (1, 9), (1, 10), (2, 3), (2, 4), (2, 5), (2, 6), (2, 7), (2, 8), (2, 9), (2, 10), (3, 4), (3, 5), (3, 6), (3, 7), (3, 8), (3, 9), (3, 10), (4, 5), (4, 6), (4, 7), (4, 8), (4, 9), (4, 10), (5, 6), (5, 7), (5, 8), (5, 9), (5, 10), (6, 7), (6, 8), (6, 9), (6, 10), (7, 8), (7, 9), (7, 10), (8, 9), (8, 10), (9, 10), (11, 12), (11, 13), (11, 14), (11, 15), (11, 16), (12, 13), (12, 14), (12, 15), (12, 16), (13, 14), (13, 15), (13, 16), (14, 15), (14, 16), (15, 16), (20, 21), (20, 22), (21, 22)]
theorem all_ne (hN : ∀ z ∈ flatC narrow_1, z.before args s = true) : ∀ z ∈ romP, adOf args s b z.1 ≠ adOf args s b z.2 := by
  have ev := all_ev (b := b) hN
  have ne : ∀ {x y : Nat}, x ∈ romA → y ∈ romA → (Cond.not (.eq (tmOf x) (tmOf y))).before args s = true ∨ (Cond.not (.eq (tmOf y) (tmOf x))).before args s = true → adOf args s b x ≠ adOf args s b y := by
    intro x y hx hy h
    rcases h with h | h
    · exact va_neR h (ev x hx).1 (ev y hy).1
    · exact Ne.symm (va_neR h (ev y hy).1 (ev x hx).1)
  intro z hz
  unfold romP at hz
  simp only [List.mem_cons, List.not_mem_nil, or_false] at hz
  rcases hz with rfl | rfl | rfl | rfl | rfl | rfl | rfl | rfl | rfl | rfl | rfl | rfl | rfl | rfl | rfl | rfl | rfl | rfl | rfl | rfl | rfl | rfl | rfl | rfl | rfl | rfl | rfl | rfl | rfl | rfl | rfl | rfl | rfl | rfl | rfl | rfl | rfl | rfl | rfl | rfl | rfl | rfl | rfl | rfl | rfl | rfl | rfl | rfl | rfl | rfl | rfl | rfl | rfl | rfl | rfl | rfl | rfl | rfl | rfl | rfl | rfl | rfl | rfl
  · exact ne (by decide) (by decide) (Or.inl (hN _ (List.mem_of_getElem? (i := 71) rfl)))
  · exact ne (by decide) (by decide) (Or.inl (hN _ (List.mem_of_getElem? (i := 80) rfl)))
  · exact ne (by decide) (by decide) (Or.inl (hN _ (List.mem_of_getElem? (i := 101) rfl)))
  · exact ne (by decide) (by decide) (Or.inl (hN _ (List.mem_of_getElem? (i := 113) rfl)))
  · exact ne (by decide) (by decide) (Or.inl (hN _ (List.mem_of_getElem? (i := 90) rfl)))
  · exact ne (by decide) (by decide) (Or.inl (hN _ (List.mem_of_getElem? (i := 126) rfl)))
  · exact ne (by decide) (by decide) (Or.inl (hN _ (List.mem_of_getElem? (i := 140) rfl)))
  · exact ne (by decide) (by decide) (Or.inl (hN _ (List.mem_of_getElem? (i := 155) rfl)))
  · exact ne (by decide) (by decide) (Or.inl (hN _ (List.mem_of_getElem? (i := 171) rfl)))
  · exact ne (by decide) (by decide) (Or.inl (hN _ (List.mem_of_getElem? (i := 81) rfl)))
  · exact ne (by decide) (by decide) (Or.inl (hN _ (List.mem_of_getElem? (i := 102) rfl)))
  · exact ne (by decide) (by decide) (Or.inl (hN _ (List.mem_of_getElem? (i := 114) rfl)))
  · exact ne (by decide) (by decide) (Or.inl (hN _ (List.mem_of_getElem? (i := 91) rfl)))
  · exact ne (by decide) (by decide) (Or.inl (hN _ (List.mem_of_getElem? (i := 127) rfl)))
  · exact ne (by decide) (by decide) (Or.inl (hN _ (List.mem_of_getElem? (i := 141) rfl)))
  · exact ne (by decide) (by decide) (Or.inl (hN _ (List.mem_of_getElem? (i := 156) rfl)))
  · exact ne (by decide) (by decide) (Or.inl (hN _ (List.mem_of_getElem? (i := 172) rfl)))
  · exact ne (by decide) (by decide) (Or.inl (hN _ (List.mem_of_getElem? (i := 103) rfl)))
  · exact ne (by decide) (by decide) (Or.inl (hN _ (List.mem_of_getElem? (i := 115) rfl)))
  · exact ne (by decide) (by decide) (Or.inl (hN _ (List.mem_of_getElem? (i := 92) rfl)))
  · exact ne (by decide) (by decide) (Or.inl (hN _ (List.mem_of_getElem? (i := 128) rfl)))
  · exact ne (by decide) (by decide) (Or.inl (hN _ (List.mem_of_getElem? (i := 142) rfl)))
  · exact ne (by decide) (by decide) (Or.inl (hN _ (List.mem_of_getElem? (i := 157) rfl)))
  · exact ne (by decide) (by decide) (Or.inl (hN _ (List.mem_of_getElem? (i := 173) rfl)))
  · exact ne (by decide) (by decide) (Or.inl (hN _ (List.mem_of_getElem? (i := 117) rfl)))
  · exact ne (by decide) (by decide) (Or.inr (hN _ (List.mem_of_getElem? (i := 104) rfl)))
  · exact ne (by decide) (by decide) (Or.inl (hN _ (List.mem_of_getElem? (i := 130) rfl)))
  · exact ne (by decide) (by decide) (Or.inl (hN _ (List.mem_of_getElem? (i := 144) rfl)))
  · exact ne (by decide) (by decide) (Or.inl (hN _ (List.mem_of_getElem? (i := 159) rfl)))
  · exact ne (by decide) (by decide) (Or.inl (hN _ (List.mem_of_getElem? (i := 175) rfl)))
  · exact ne (by decide) (by decide) (Or.inr (hN _ (List.mem_of_getElem? (i := 116) rfl)))
  · exact ne (by decide) (by decide) (Or.inl (hN _ (List.mem_of_getElem? (i := 131) rfl)))
  · exact ne (by decide) (by decide) (Or.inl (hN _ (List.mem_of_getElem? (i := 145) rfl)))
  · exact ne (by decide) (by decide) (Or.inl (hN _ (List.mem_of_getElem? (i := 160) rfl)))
  · exact ne (by decide) (by decide) (Or.inl (hN _ (List.mem_of_getElem? (i := 176) rfl)))
  · exact ne (by decide) (by decide) (Or.inl (hN _ (List.mem_of_getElem? (i := 129) rfl)))
  · exact ne (by decide) (by decide) (Or.inl (hN _ (List.mem_of_getElem? (i := 143) rfl)))
  · exact ne (by decide) (by decide) (Or.inl (hN _ (List.mem_of_getElem? (i := 158) rfl)))
  · exact ne (by decide) (by decide) (Or.inl (hN _ (List.mem_of_getElem? (i := 174) rfl)))
  · exact ne (by decide) (by decide) (Or.inl (hN _ (List.mem_of_getElem? (i := 146) rfl)))
  · exact ne (by decide) (by decide) (Or.inl (hN _ (List.mem_of_getElem? (i := 161) rfl)))
  · exact ne (by decide) (by decide) (Or.inl (hN _ (List.mem_of_getElem? (i := 177) rfl)))
  · exact ne (by decide) (by decide) (Or.inl (hN _ (List.mem_of_getElem? (i := 162) rfl)))
  · exact ne (by decide) (by decide) (Or.inl (hN _ (List.mem_of_getElem? (i := 178) rfl)))
  · exact ne (by decide) (by decide) (Or.inl (hN _ (List.mem_of_getElem? (i := 179) rfl)))
  · exact ne (by decide) (by decide) (Or.inr (hN _ (List.mem_of_getElem? (i := 34) rfl)))
  · exact ne (by decide) (by decide) (Or.inl (hN _ (List.mem_of_getElem? (i := 40) rfl)))
  · exact ne (by decide) (by decide) (Or.inr (hN _ (List.mem_of_getElem? (i := 33) rfl)))
  · exact ne (by decide) (by decide) (Or.inl (hN _ (List.mem_of_getElem? (i := 46) rfl)))
  · exact ne (by decide) (by decide) (Or.inr (hN _ (List.mem_of_getElem? (i := 32) rfl)))
  · exact ne (by decide) (by decide) (Or.inl (hN _ (List.mem_of_getElem? (i := 39) rfl)))
  · exact ne (by decide) (by decide) (Or.inr (hN _ (List.mem_of_getElem? (i := 29) rfl)))
  · exact ne (by decide) (by decide) (Or.inl (hN _ (List.mem_of_getElem? (i := 45) rfl)))
  · exact ne (by decide) (by decide) (Or.inr (hN _ (List.mem_of_getElem? (i := 28) rfl)))
  · exact ne (by decide) (by decide) (Or.inr (hN _ (List.mem_of_getElem? (i := 38) rfl)))
  · exact ne (by decide) (by decide) (Or.inl (hN _ (List.mem_of_getElem? (i := 47) rfl)))
  · exact ne (by decide) (by decide) (Or.inr (hN _ (List.mem_of_getElem? (i := 37) rfl)))
  · exact ne (by decide) (by decide) (Or.inl (hN _ (List.mem_of_getElem? (i := 44) rfl)))
  · exact ne (by decide) (by decide) (Or.inr (hN _ (List.mem_of_getElem? (i := 25) rfl)))
  · exact ne (by decide) (by decide) (Or.inr (hN _ (List.mem_of_getElem? (i := 43) rfl)))
  · exact ne (by decide) (by decide) (Or.inl (hN _ (List.mem_of_getElem? (i := 346) rfl)))
  · exact ne (by decide) (by decide) (Or.inr (hN _ (List.mem_of_getElem? (i := 333) rfl)))
  · exact ne (by decide) (by decide) (Or.inr (hN _ (List.mem_of_getElem? (i := 345) rfl)))
theorem rom_kinds : ∀ x ∈ romA, ∀ y ∈ romA, gmR (x : Int) (-1) = gmR (y : Int) (-1) → gmR (x : Int) (-1) ≠ 83 → x = y ∨ (x, y) ∈ romP ∨ (y, x) ∈ romP ∨ (x = 25 ∧ y = 26) ∨ (x = 26 ∧ y = 25) := by decide +kernel
end START

def cnOf : Nat → String
  | 68 => "[B"
  | 69 => "[I"
  | 70 => "[[B"
  | 71 => "KeptHouse$Op"
  | 72 => "KeptHouse$Account"
  | 73 => "KeptHouse$Part"
  | 74 => "KeptHouse$Ticket"
  | 75 => "KeptHouse$Door"
  | 76 => "KeptHouse$Card"
  | 77 => "KeptHouse$Point"
  | 78 => "KeptHouse$Space"
  | 79 => "KeptHouse$Circuit"
  | 80 => "KeptHouse$Worker"
  | 81 => "KeptHouse$Desk"
  | 82 => "java/lang/Object"
  | _ => ""

theorem arr_ex {args : Array Value} {s : State} (hts : ∀ z ∈ lw_tbl, z.before args s = true) : ∀ κ : Nat, ∃ cA : ClassId, 64 ≤ κ → κ < 83 → ArrOfT s cA (kat κ) ∧ s.vm.findClass ("[" ++ (kat κ).toString) = some cA ∧ ∃ (kA : Class) (comp : ClassId), s.vm.classes[cA]? = some kA ∧ kA.kind = .array comp (kat κ) ∧ (6 ≤ ket κ → s.vm.findClass (cnOf κ) = some comp) := by
  intro κ
  have prim : ∀ {ty : FieldType}, kat κ = ty → ¬ 6 ≤ ket κ → (Cond.arrayClass ty).before args s = true → ∃ cA : ClassId, ArrOfT s cA (kat κ) ∧ s.vm.findClass ("[" ++ (kat κ).toString) = some cA ∧ ∃ (kA : Class) (comp : ClassId), s.vm.classes[cA]? = some kA ∧ kA.kind = .array comp (kat κ) ∧ (6 ≤ ket κ → s.vm.findClass (cnOf κ) = some comp) := by
    intro ty e h6 h
    obtain ⟨c, k, comp, h1, h2, h3⟩ := Cond.arrayClass_spec h
    rw [e]
    exact ⟨c, fun N z => ⟨(fun _ q => by cases q), k, h2, comp, h3⟩, h1, k, comp, h2, h3, fun q => absurd q h6⟩
  have obj : ∀ {C : String}, kat κ = .object C → cnOf κ = C → (Cond.arrayOver (.object C)).before args s = true → ∃ cA : ClassId, ArrOfT s cA (kat κ) ∧ s.vm.findClass ("[" ++ (kat κ).toString) = some cA ∧ ∃ (kA : Class) (comp : ClassId), s.vm.classes[cA]? = some kA ∧ kA.kind = .array comp (kat κ) ∧ (6 ≤ ket κ → s.vm.findClass (cnOf κ) = some comp) := by
    intro C e e2 h
    obtain ⟨comp, c, k, h0, -, h2, h3, h1⟩ := Cond.arrayOver_spec h
    rw [e, e2]
    exact ⟨c, fun N z => ⟨(fun _ q => by cases q), k, h2, comp, h3⟩, h1, k, comp, h2, h3, fun _ => h0⟩
  have arr : ∀ {t : FieldType}, kat κ = .array t → cnOf κ = (FieldType.array t).toString → (Cond.arrayOver (.array t)).before args s = true → ∃ cA : ClassId, ArrOfT s cA (kat κ) ∧ s.vm.findClass ("[" ++ (kat κ).toString) = some cA ∧ ∃ (kA : Class) (comp : ClassId), s.vm.classes[cA]? = some kA ∧ kA.kind = .array comp (kat κ) ∧ (6 ≤ ket κ → s.vm.findClass (cnOf κ) = some comp) := by
    intro t e e2 h
    obtain ⟨comp, c, k, h0, -, h2, h3, h1⟩ := arrayOverA_spec h
    rw [e, e2]
    exact ⟨c, fun N z => ⟨(fun _ q => by cases q), k, h2, comp, h3⟩, h1, k, comp, h2, h3, fun _ => h0⟩
  by_cases hκ : 64 ≤ κ ∧ κ < 83
  · have hk : κ = 64 ∨ κ = 65 ∨ κ = 66 ∨ κ = 67 ∨ κ = 68 ∨ κ = 69 ∨ κ = 70 ∨ κ = 71 ∨ κ = 72 ∨ κ = 73 ∨ κ = 74 ∨ κ = 75 ∨ κ = 76 ∨ κ = 77 ∨ κ = 78 ∨ κ = 79 ∨ κ = 80 ∨ κ = 81 ∨ κ = 82 := by omega
    have : ∃ cA : ClassId, ArrOfT s cA (kat κ) ∧ s.vm.findClass ("[" ++ (kat κ).toString) = some cA ∧ ∃ (kA : Class) (comp : ClassId), s.vm.classes[cA]? = some kA ∧ kA.kind = .array comp (kat κ) ∧ (6 ≤ ket κ → s.vm.findClass (cnOf κ) = some comp) := by
      rcases hk with rfl | rfl | rfl | rfl | rfl | rfl | rfl | rfl | rfl | rfl | rfl | rfl | rfl | rfl | rfl | rfl | rfl | rfl | rfl
      · exact prim rfl (by decide) (hts _ (wat_in (q := (2, 3)) rfl))
      · exact prim rfl (by decide) (hts _ (wat_in (q := (1, 72)) rfl))
      · exact prim rfl (by decide) (hts _ (wat_in (q := (1, 117)) rfl))
      · exact prim rfl (by decide) (hts _ (wat_in (q := (1, 86)) rfl))
      · exact arr rfl (by decide +kernel) (hts _ (wat_in (q := (1, 95)) rfl))
      · exact arr rfl (by decide +kernel) (hts _ (wat_in (q := (2, 41)) rfl))
      · exact arr rfl (by decide +kernel) (hts _ (wat_in (q := (1, 94)) rfl))
      · exact obj rfl rfl (hts _ (wat_in (q := (1, 215)) rfl))
      · exact obj rfl rfl (hts _ (wat_in (q := (2, 43)) rfl))
      · exact obj rfl rfl (hts _ (wat_in (q := (2, 45)) rfl))
      · exact obj rfl rfl (hts _ (wat_in (q := (2, 47)) rfl))
      · exact obj rfl rfl (hts _ (wat_in (q := (2, 49)) rfl))
      · exact obj rfl rfl (hts _ (wat_in (q := (2, 51)) rfl))
      · exact obj rfl rfl (hts _ (wat_in (q := (2, 53)) rfl))
      · exact obj rfl rfl (hts _ (wat_in (q := (3, 99)) rfl))
      · exact obj rfl rfl (hts _ (wat_in (q := (3, 216)) rfl))
      · exact obj rfl rfl (hts _ (wat_in (q := (3, 218)) rfl))
      · exact obj rfl rfl (hts _ (wat_in (q := (4, 51)) rfl))
      · exact obj rfl rfl (hts _ (wat_in (q := (11, 104)) rfl))
    obtain ⟨cA, h⟩ := this
    exact ⟨cA, fun _ _ => h⟩
  · exact ⟨0, fun h1 h2 => absurd ⟨h1, h2⟩ hκ⟩
theorem cn_cls : ∀ κ : Nat, κ < 83 → 64 ≤ κ → ∀ κv : Nat, κv < 29 → ket κ = κv + 10 → cnOf κ = kname κv := by decide +kernel
theorem cn_arr : ∀ κ : Nat, κ < 83 → 64 ≤ κ → ∀ κv : Nat, κv < 83 → 64 ≤ κv → ket κ = κv + 10 → cnOf κ = "[" ++ (kat κv).toString := by decide +kernel
theorem cn_obj : ∀ κ : Nat, κ < 83 → 64 ≤ κ → ket κ = 9 → cnOf κ = "java/lang/Object" := by decide +kernel

def kdOf : Nat → Nat
  | 1 => 128
  | 2 => 128
  | 3 => 128
  | 4 => 128
  | 5 => 128
  | 6 => 128
  | 7 => 128
  | 8 => 128
  | 9 => 128
  | 10 => 128
  | 11 => 129
  | 12 => 129
  | 13 => 129
  | 14 => 129
  | 15 => 129
  | 16 => 129
  | 17 => 85
  | 18 => 83
  | 20 => 130
  | 21 => 130
  | 22 => 130
  | 23 => 82
  | 25 => 84
  | 26 => 84
  | _ => 0
theorem kd_ok : ∀ z ∈ romA, gmR (z : Int) (-1) = (kdOf z : Int) ∧ z ≠ 24 ∧ 64 ≤ kdOf z ∧ (kdOf z < 86 → z = 17 ∨ z = 18 ∨ z = 23 ∨ z = 25 ∨ z = 26) := by decide +kernel
theorem op_le : ∀ z ∈ romA, kdOf z = 128 → z ≤ 10 := by decide
theorem op_in {a : Nat} (h1 : 1 ≤ a) (h2 : a ≤ 10) : a ∈ romA := by
  have : a = 1 ∨ a = 2 ∨ a = 3 ∨ a = 4 ∨ a = 5 ∨ a = 6 ∨ a = 7 ∨ a = 8 ∨ a = 9 ∨ a = 10 := by omega
  rcases this with rfl | rfl | rfl | rfl | rfl | rfl | rfl | rfl | rfl | rfl <;> decide
theorem kd_op {a : Nat} (h1 : 1 ≤ a) (h2 : a ≤ 10) : kdOf a = 128 := by
  have : a = 1 ∨ a = 2 ∨ a = 3 ∨ a = 4 ∨ a = 5 ∨ a = 6 ∨ a = 7 ∨ a = 8 ∨ a = 9 ∨ a = 10 := by omega
  rcases this with rfl | rfl | rfl | rfl | rfl | rfl | rfl | rfl | rfl | rfl <;> rfl
theorem small18 : ∀ j : Nat, j < 16 → r32 (gmR 18 (j : Int)) := by unfold r32; decide +kernel
theorem small25 : ∀ j : Nat, j < 6 → -128 ≤ gmR 25 (j : Int) ∧ gmR 25 (j : Int) < 128 := by decide +kernel
theorem small26 : ∀ j : Nat, j < 7 → -128 ≤ gmR 26 (j : Int) ∧ gmR 26 (j : Int) < 128 := by decide +kernel
theorem romT_tm : ∀ z ∈ romT, z.2.2.2.1 ∈ romA ∧ Term.static z.1 z.2.1 z.2.2.1 = tmOf z.2.2.2.1 := by
  unfold romT
  simp only [List.forall_mem_cons]
  refine ⟨⟨by decide, rfl⟩, ⟨by decide, rfl⟩, ⟨by decide, rfl⟩, ⟨by decide, rfl⟩, ⟨by decide, rfl⟩, ⟨by decide, rfl⟩, ⟨by decide, rfl⟩, ⟨by decide, rfl⟩, ⟨by decide, rfl⟩, ⟨by decide, rfl⟩, ⟨by decide, rfl⟩, ⟨by decide, rfl⟩, ⟨by decide, rfl⟩, ⟨by decide, rfl⟩, ⟨by decide, rfl⟩, ⟨by decide, rfl⟩, ⟨by decide, rfl⟩, ⟨by decide, rfl⟩, ⟨by decide, rfl⟩, fun _ h => nomatch h⟩
theorem romQ_tm {args : Array Value} {s : State} {ad : Nat → Nat} (hN : ∀ z ∈ flatC narrow_1, z.before args s = true) : ∀ z ∈ romQ, z.2.2 ∈ romA ∧ ((∀ w ∈ romA, (tmOf w).eval args s none [] s = some (.ref (ad w))) → (Term.string z.1 z.2.1).eval args s none [] s = some (.ref (ad z.2.2))) := by
  unfold romQ
  simp only [List.forall_mem_cons]
  refine ⟨⟨by decide, fun h => h 20 (by decide)⟩, ⟨by decide, fun h => h 21 (by decide)⟩, ⟨by decide, fun h => h 22 (by decide)⟩, ⟨by decide, fun h => va_eqR (hN _ (List.mem_of_getElem? (i := 360) rfl)) (h 21 (by decide))⟩, fun _ h => nomatch h⟩
theorem size17 {args : Array Value} {s : State} {z : Nat} (hN : ∀ z ∈ flatC narrow_1, z.before args s = true) (hz : (tmOf 17).eval args s none [] s = some (.ref z)) {cell : Cell} (hc : s.heap[z]? = some cell) : cell.slots.size ≤ 10 := by
  have h : (Cond.all (tmOf 17) (.le (.index 0) (.int 9))).before args s = true := hN _ (List.mem_of_getElem? (i := 8) rfl)
  simp only [Cond.before, Cond.holds, Cond.value, hz, beq_iff_eq] at h
  cases ha : s.arrayAt? z with
  | none => simp [ha] at h
  | some c' =>
    cases Option.some.inj (hc.symm.trans (State.arrayAt?_spec ha).1)
    simp only [ha] at h
    rcases Nat.lt_or_ge 10 cell.slots.size with q | q
    · have := Example.SumArray.foldl_all _ _ (fun _ => rfl) (fun x _ hx => by
        cases x with
        | none => rfl
        | some b => cases b <;> first | rfl | exact absurd rfl hx) cell.slots.size h 10 q
      exfalso
      revert this
      simp [Cond.value, Term.eval]
      try decide
    · exact q
theorem wv_of {Γ : Gam} {κ : Nat} {a : Int} {N : Nat} {f : Nat → Value} (hT : va_T (kat κ) (ra Γ a) N f Nothing (gs Γ) (gs Γ).heap) (e2 : gm Γ a (-2) = (N : Int)) (hN : N < 2147483648) (e3 : ∀ j : Nat, j < N → f j = cv Γ (ket κ) (gm Γ a j)) (e4 : ∀ j : Nat, j < N → okv (gm Γ, 64, 0) (ket κ) (gm Γ a j)) (e5 : κ = 85 → ∀ cell : Cell, (gs Γ).heap[ra Γ a]? = some cell → cell.slots.size = N) : WV Γ (gm Γ, 64, 0) (gs Γ).heap κ a := by
  obtain ⟨cell, c1, c2, c3, c4, c5, c6, -⟩ := hT
  have el : ln (gm Γ, 64, 0) a = (N : Int) := e2
  refine ⟨cell, c1, c2, c3, by rw [el]; omega, by rw [el]; omega, ⟨by rw [el]; exact c4, by rw [el, c5]; exact Int32.ofInt_eq_ofNat.symm, fun q => by rw [el]; exact e5 q cell c1⟩, fun j hj => ?_, fun j hj => ?_⟩
  · rw [el] at hj
    rw [c6 j (by omega), e3 j (by omega)]
    rfl
  · rw [el] at hj
    exact e4 j (by omega)
theorem rv {a k v : Int} (h : (a, k, v) ∈ romV) (n : Nat) (xs : Nat → Int32) : gm0 n xs a k = v := by
  have := romV_ok _ h
  rw [gm0_24 n xs a k this.1]
  exact this.2
set_option maxHeartbeats 4000000 in
theorem GG_ex {p : Program} {l : Launch} {e : Env} {s : State} {b n : Nat} {xs : Nat → Int32} (hx : p.tables.exec = Jvm.exec) (hst : l.stackTraces = false) (hts : ∀ w ∈ lw_tbl, w.before #[.ref b] s = true) (hN : ∀ w ∈ flatC narrow_1, w.before #[.ref b] s = true) (hX : va_X b n xs s s.heap) (hn : n ≤ 28673) :
    ∃ Γ : Gam, gp Γ = p ∧ gl Γ = l ∧ ge Γ = e ∧ gs Γ = s ∧ gm Γ = gm0 n xs ∧ gR Γ 24 = b ∧ GG Γ := by
  have hkn : ∀ κ : Nat, ∃ z : ClassId × (Nat → Nat), κ < 29 → u_Kn s (kname κ) (kT κ) (kF κ) z.1 z.2 := by
    intro κ
    by_cases hκ : κ < 29
    · obtain ⟨cC, iS, h⟩ := u_known (ws := lw_tbl) (C := kname κ) (T := kT κ) (N := kF κ) (n := kN κ) hts (fun w hw => by
        obtain ⟨k, hk, rfl⟩ := List.mem_map.mp hw
        exact wat_in (k_pos κ hκ k (List.mem_range.mp hk))) (hts _ (wat_in (k_posI κ hκ)))
      exact ⟨(cC, iS), fun _ => h⟩
    · exact ⟨(0, fun _ => 0), fun q => absurd q hκ⟩
  obtain ⟨gCI, hCI⟩ := Classical.axiomOfChoice hkn
  obtain ⟨gA', hA⟩ := Classical.axiomOfChoice (arr_ex hts)
  have EV := all_ev (b := b) hN
  have NE := all_ne (b := b) hN
  have evT : ∀ {z : Nat}, z ∈ romA → (tmOf z).eval #[.ref b] s none [] s = some (.ref (adOf #[.ref b] s b z)) := fun hz => (EV _ hz).1
  have h24 : adOf #[.ref b] s b 24 = b := if_pos rfl
  obtain ⟨scr, x1, x2, x3, x4, x5⟩ := id hX
  have hb : b < s.heap.size := (Array.getElem?_eq_some_iff.mp x1).1
  have raN : ∀ {z : Nat}, z < 64 → ra ((p, l, e, s, fun κ => (gCI κ).1, fun κ => (gCI κ).2, gA', adOf #[.ref b] s b, gm0 n xs) : Gam) (z : Int) = adOf #[.ref b] s b z := by
    intro z hz
    rw [ra_old (by omega), Int.toNat_natCast]
  refine ⟨(p, l, e, s, fun κ => (gCI κ).1, fun κ => (gCI κ).2, gA', adOf #[.ref b] s b, gm0 n xs), rfl, rfl, rfl, rfl, rfl, h24, hx, ⟨#[.ref b], hts⟩, fun κ hκ => hCI κ hκ, fun κ h64 h83 => ?_, ?_, ?_, ?_, ?_⟩
  · obtain ⟨a1, a2, kA, comp, a3, a4, a5⟩ := hA κ h64 h83
    refine ⟨a1, a2, kA, comp, a3, a4, fun h6 => Vm.classAt_of_findClass (a5 h6), fun κv hv ek => ?_, fun ek => ?_, fun κv k1 k2 ek => ?_⟩
    · have h := a5 (by omega)
      rw [cn_cls κ h83 h64 κv hv ek] at h
      exact Option.some.inj (h.symm.trans (hCI κv hv).2.1)
    · have h := a5 (by omega)
      rw [cn_obj κ h83 h64 ek] at h
      exact h
    · have h := a5 (by omega)
      rw [cn_arr κ h83 h64 κv k2 k1 ek] at h
      exact Option.some.inj (h.symm.trans (hA κv k1 k2).2.1)
  · intro a a0 a1 hk
    show adOf #[.ref b] s b a.toNat < s.heap.size
    by_cases ha : a = 24
    · subst ha
      show adOf #[.ref b] s b 24 < _
      rw [h24]
      exact hb
    · have hk : 0 ≤ gm0 n xs a (-1) := hk
      rw [gm0_24 n xs a _ ha] at hk
      obtain ⟨z, hz, rfl⟩ := gmR_in hk
      rw [Int.toNat_natCast]
      exact (EV z hz).2
  · intro x y x0 x1' y0 y1' hk hkk h83 hR
    have hk : 0 ≤ gm0 n xs x (-1) := hk
    have hkk : gm0 n xs x (-1) = gm0 n xs y (-1) := hkk
    have h83 : gm0 n xs x (-1) ≠ 83 := h83
    have hR : adOf #[.ref b] s b x.toNat = adOf #[.ref b] s b y.toNat := hR
    have e24 : gm0 n xs 24 (-1) = 83 := rfl
    have hx24 : x ≠ 24 := fun q => h83 (by rw [q]; exact e24)
    have hy24 : y ≠ 24 := fun q => h83 (by rw [hkk, q]; exact e24)
    rw [gm0_24 n xs x _ hx24] at hk hkk h83
    rw [gm0_24 n xs y _ hy24] at hkk
    obtain ⟨i, hi, rfl⟩ := gmR_in hk
    obtain ⟨j, hj, rfl⟩ := gmR_in (show 0 ≤ gmR y (-1) by rw [← hkk]; exact hk)
    rw [Int.toNat_natCast, Int.toNat_natCast] at hR
    have apart : adOf #[.ref b] s b 25 ≠ adOf #[.ref b] s b 26 := by
      intro q
      obtain ⟨z1, e1, cell, d1, -, -, -, d2, -⟩ := arr_25 hN
      obtain ⟨z2, e2, cell', d1', -, -, -, d2', -⟩ := arr_26 hN
      cases Option.some.inj (e1.symm.trans (evT (z := 25) (by decide)))
      cases Option.some.inj (e2.symm.trans (evT (z := 26) (by decide)))
      rw [q] at d1
      cases Option.some.inj (d1.symm.trans d1')
      have := d2.symm.trans d2'
      revert this
      decide
    rcases rom_kinds i hi j hj hkk h83 with q | q | q | ⟨rfl, rfl⟩ | ⟨rfl, rfl⟩
    · rw [q]
    · exact absurd hR (NE _ q)
    · exact absurd hR.symm (NE _ q)
    · exact absurd hR apart
    · exact absurd hR.symm apart
  · intro a a0 a1 κ hk
    by_cases ha : a = 24
    · subst ha
      have hκ : κ = 83 := by
        have : gm0 n xs 24 (-1) = (κ : Int) := hk
        have e : gm0 n xs 24 (-1) = 83 := rfl
        omega
      subst hκ
      refine ⟨by decide, fun _ => ⟨wv_of (N := n) (f := fun j => .int (xs j)) ⟨scr, ?_, x2, x3, by omega, ?_, x5, fun z => z⟩ rfl (by omega) (fun j hj => ?_) (fun j hj => ?_) (fun q => absurd q (by decide)), fun q => absurd q (by decide)⟩⟩
      · rw [show ra _ (24 : Int) = adOf #[.ref b] s b 24 from raN (z := 24) (by decide), h24]
        exact x1
      · rw [x4]
      · show Value.int (xs j) = Value.int (I32 (gm0 n xs 24 (j : Int)))
        have e : gm0 n xs 24 (j : Int) = (xs j).toInt := by
          show (if (j : Int) = -1 then (83 : Int) else if (j : Int) = -2 then (n : Int) else (xs (j : Int).toNat).toInt) = _
          rw [if_neg (by omega), if_neg (by omega), Int.toNat_natCast]
        rw [e, I32_of]
      · show r32 (gm0 n xs 24 (j : Int))
        have e : gm0 n xs 24 (j : Int) = (xs j).toInt := by
          show (if (j : Int) = -1 then (83 : Int) else if (j : Int) = -2 then (n : Int) else (xs (j : Int).toNat).toInt) = _
          rw [if_neg (by omega), if_neg (by omega), Int.toNat_natCast]
        rw [e]
        exact I32_eqr _
    · have hk : gm0 n xs a (-1) = (κ : Int) := hk
      rw [gm0_24 n xs a _ ha] at hk
      obtain ⟨z, hz, rfl⟩ := gmR_in (show 0 ≤ gmR a (-1) by omega)
      obtain ⟨k1, k2, k3, k4⟩ := kd_ok z hz
      have hκ : κ = kdOf z := by omega
      refine ⟨by omega, fun h86 => ?_⟩
      rcases k4 (by omega) with rfl | rfl | rfl | rfl | rfl
      · have hκ : κ = 85 := hκ
        subst hκ
        obtain ⟨t, t1, t2⟩ := arr_17 (b := b) hN (fun a a1 a2 => evT (op_in a1 a2))
        cases Option.some.inj (t1.symm.trans (evT (z := 17) (by decide)))
        refine ⟨wv_of (N := 10) (by rw [raN (z := 17) (by decide)]; exact t2) (rv (a := 17) (k := -2) (v := 10) (by decide) n xs) (by decide) (fun j hj => ?_) (fun j hj => ?_) (fun _ cell hc => ?_), fun q => absurd q (by decide)⟩
        · have ev : gm0 n xs ((17 : Nat) : Int) (j : Int) = (j : Int) + 1 := by
            have : j = 0 ∨ j = 1 ∨ j = 2 ∨ j = 3 ∨ j = 4 ∨ j = 5 ∨ j = 6 ∨ j = 7 ∨ j = 8 ∨ j = 9 := by omega
            rcases this with rfl | rfl | rfl | rfl | rfl | rfl | rfl | rfl | rfl | rfl <;> exact rv (by decide) n xs
          show Value.ref (adOf #[.ref b] s b (j + 1)) = cv _ (129 + 9) (gm0 n xs ((17 : Nat) : Int) (j : Int))
          rw [ev, cv_refN _ _ (by omega), show ((j : Int) + 1) = ((j + 1 : Nat) : Int) by omega, raN (by omega)]
        · have ev : gm0 n xs ((17 : Nat) : Int) (j : Int) = (j : Int) + 1 := by
            have : j = 0 ∨ j = 1 ∨ j = 2 ∨ j = 3 ∨ j = 4 ∨ j = 5 ∨ j = 6 ∨ j = 7 ∨ j = 8 ∨ j = 9 := by omega
            rcases this with rfl | rfl | rfl | rfl | rfl | rfl | rfl | rfl | rfl | rfl <;> exact rv (by decide) n xs
          show okv (gm0 n xs, 64, 0) (128 + 10) (gm0 n xs ((17 : Nat) : Int) (j : Int))
          rw [ev]
          refine Or.inr ⟨by omega, by show (j : Int) + 1 < 64; omega, ?_⟩
          show gm0 n xs ((j : Int) + 1) (-1) = ((128 : Nat) : Int)
          rw [gm0_24 n xs _ _ (by omega), show ((j : Int) + 1) = ((j + 1 : Nat) : Int) by omega, (kd_ok (j + 1) (op_in (by omega) (by omega))).1, kd_op (by omega) (by omega)]
        · rw [raN (z := 17) (by decide)] at hc
          have h1 := size17 hN (evT (z := 17) (by decide)) hc
          obtain ⟨cell', c1, -, -, c4, -⟩ := t2
          cases Option.some.inj (hc.symm.trans c1)
          omega
      · have hκ : κ = 83 := hκ
        subst hκ
        obtain ⟨t, t1, t2⟩ := arr_18 hN
        cases Option.some.inj (t1.symm.trans (evT (z := 18) (by decide)))
        refine ⟨wv_of (N := 16) (by rw [raN (z := 18) (by decide)]; exact t2) (rv (a := 18) (k := -2) (v := 16) (by decide) n xs) (by decide) (fun j hj => ?_) (fun j hj => ?_) (fun q => absurd q (by decide)), fun q => absurd q (by decide)⟩
        · show Value.int (I32 (gmR 18 (j : Int))) = Value.int (I32 (gm0 n xs 18 (j : Int)))
          rw [gm0_24 n xs _ _ (by decide)]
        · show r32 (gm0 n xs 18 (j : Int))
          rw [gm0_24 n xs _ _ (by decide)]
          exact small18 j (by omega)
      · have hκ : κ = 82 := hκ
        subst hκ
        obtain ⟨t, t1, t2⟩ := arr_23 hN
        cases Option.some.inj (t1.symm.trans (evT (z := 23) (by decide)))
        exact ⟨wv_of (N := 0) (by rw [raN (z := 23) (by decide)]; exact t2) (rv (a := 23) (k := -2) (v := 0) (by decide) n xs) (by decide) (fun j hj => by omega) (fun j hj => by omega) (fun q => absurd q (by decide)), fun _ => ⟨rfl, rv (a := 23) (k := -2) (v := 0) (by decide) n xs⟩⟩
      · have hκ : κ = 84 := hκ
        subst hκ
        obtain ⟨t, t1, t2⟩ := arr_25 hN
        cases Option.some.inj (t1.symm.trans (evT (z := 25) (by decide)))
        refine ⟨wv_of (N := 6) (by rw [raN (z := 25) (by decide)]; exact t2) (rv (a := 25) (k := -2) (v := 6) (by decide) n xs) (by decide) (fun j hj => ?_) (fun j hj => ?_) (fun q => absurd q (by decide)), fun q => absurd q (by decide)⟩
        · show Value.int (I32 (gmR 25 (j : Int))) = Value.int (I32 (gm0 n xs 25 (j : Int)))
          rw [gm0_24 n xs _ _ (by decide)]
        · show -128 ≤ gm0 n xs 25 (j : Int) ∧ gm0 n xs 25 (j : Int) < 128
          rw [gm0_24 n xs _ _ (by decide)]
          exact small25 j (by omega)
      · have hκ : κ = 84 := hκ
        subst hκ
        obtain ⟨t, t1, t2⟩ := arr_26 hN
        cases Option.some.inj (t1.symm.trans (evT (z := 26) (by decide)))
        refine ⟨wv_of (N := 7) (by rw [raN (z := 26) (by decide)]; exact t2) (rv (a := 26) (k := -2) (v := 7) (by decide) n xs) (by decide) (fun j hj => ?_) (fun j hj => ?_) (fun q => absurd q (by decide)), fun q => absurd q (by decide)⟩
        · show Value.int (I32 (gmR 26 (j : Int))) = Value.int (I32 (gm0 n xs 26 (j : Int)))
          rw [gm0_24 n xs _ _ (by decide)]
        · show -128 ≤ gm0 n xs 26 (j : Int) ∧ gm0 n xs 26 (j : Int) < 128
          rw [gm0_24 n xs _ _ (by decide)]
          exact small26 j (by omega)
  · refine ⟨hst, fun z hz => ?_, fun z hz => ?_, fun z hz => ?_, fun a a0 a1 hk => ?_, #[.ref b], hN, fun z hz => ?_, fun z hz => ?_, evT (z := 25) (by decide), evT (z := 26) (by decide)⟩
    · have := romT_ok z hz
      show gm0 n xs _ _ = _
      rw [gm0_24 n xs _ _ this.1]
      exact this.2
    · have := romQ_ok z hz
      show gm0 n xs _ _ = _
      rw [gm0_24 n xs _ _ this.1]
      exact this.2
    · have := romV_ok z hz
      show gm0 n xs _ _ = _
      rw [gm0_24 n xs _ _ this.1]
      exact this.2
    · have hk : gm0 n xs a (-1) = 128 := hk
      by_cases ha : a = 24
      · subst ha
        exact absurd hk (by show ¬ ((83 : Int) = 128); decide)
      · rw [gm0_24 n xs a _ ha] at hk
        obtain ⟨z, hz, rfl⟩ := gmR_in (show 0 ≤ gmR a (-1) by omega)
        have h1 := (kd_ok z hz).1
        have := op_le z hz (by omega)
        omega
    · obtain ⟨h1, h2⟩ := romT_tm z hz
      rw [h2]
      exact evT h1
    · obtain ⟨h1, h2⟩ := romQ_tm hN z hz
      exact h2 (fun w hw => evT hw)

