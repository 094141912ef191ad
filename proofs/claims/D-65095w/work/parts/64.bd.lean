/-! SIMPLE BOUNDS (printed) -/
def bdv (v : Int) : Prop := (2 ≤ v ∧ v ≤ 5) ∨ (16 ≤ v ∧ v ≤ 27) ∨ (34 ≤ v ∧ v ≤ 37) ∨ (40 ≤ v ∧ v ≤ 41) ∨ (43 ≤ v ∧ v ≤ 44) ∨ (52 ≤ v ∧ v ≤ 78) ∨ (80 ≤ v ∧ v ≤ 92) ∨ (96 ≤ v ∧ v ≤ 119) ∨ (129 ≤ v ∧ v ≤ 131) ∨ (133 ≤ v ∧ v ≤ 137) ∨ (140 ≤ v ∧ v ≤ 143)
def bl0 (v : Int) : Int := (if v < 112 then (if v < 40 then (if v < 19 then (if v < 17 then 0 else (if v < 18 then (-400) else 0)) else (if v < 23 then (if v < 20 then 1 else 0) else (if v < 24 then 1 else 0))) else (if v < 87 then (if v < 41 then (-40000) else (if v < 86 then 0 else (-1))) else (if v < 96 then (if v < 92 then 0 else (-1)) else (if v < 111 then 0 else (-1))))) else (if v < 134 then (if v < 129 then (if v < 117 then 0 else (if v < 118 then (-2147483648) else 0)) else (if v < 131 then (if v < 130 then (-128) else 0) else (if v < 133 then (-128) else 0))) else (if v < 140 then (if v < 136 then 1 else (if v < 137 then (-1) else 0)) else (if v < 142 then (if v < 141 then (-128) else 0) else (if v < 143 then (-128) else 0)))))
def bsm (v : Int) : Int := if v = 40 then 20000 else 0
def bh0 (v : Int) : Int := (if v < 77 then (if v < 44 then (if v < 23 then (if v < 17 then (if v < 4 then (if v < 3 then 2000000 else 3) else (if v < 5 then 0 else (if v < 16 then 15 else 20))) else (if v < 20 then (if v < 18 then 500 else (if v < 19 then 200 else 500)) else (if v < 21 then 9 else (if v < 22 then 20000 else 1000)))) else (if v < 35 then (if v < 26 then (if v < 24 then 100000 else (if v < 25 then 127 else 196)) else (if v < 27 then 127 else (if v < 34 then 196 else 6))) else (if v < 40 then (if v < 36 then 196 else (if v < 37 then 1 else 300)) else (if v < 41 then 40000 else (if v < 43 then 0 else 1000))))) else (if v < 63 then (if v < 56 then (if v < 53 then (if v < 52 then 100 else 1) else (if v < 54 then 1000 else (if v < 55 then 3000 else 0))) else (if v < 59 then (if v < 57 then 2000 else (if v < 58 then 1 else 20000)) else (if v < 61 then 1 else (if v < 62 then 2000 else 20000)))) else (if v < 71 then (if v < 68 then (if v < 66 then 1 else (if v < 67 then 20000 else 1)) else (if v < 69 then 0 else (if v < 70 then 4 else 0))) else (if v < 74 then (if v < 72 then 1 else (if v < 73 then 0 else 17)) else (if v < 75 then 2000000 else (if v < 76 then 1 else 6)))))) else (if v < 106 then (if v < 89 then (if v < 83 then (if v < 80 then (if v < 78 then 10 else 0) else (if v < 81 then 1 else (if v < 82 then 4 else 47))) else (if v < 86 then (if v < 84 then 3 else (if v < 85 then 2000000 else 1000000000)) else (if v < 87 then 1 else (if v < 88 then 1000000001 else 15)))) else (if v < 99 then (if v < 96 then (if v < 90 then 3000000 else (if v < 92 then 6 else 3000000)) else (if v < 97 then 8 else (if v < 98 then 2 else 9))) else (if v < 102 then (if v < 100 then 3000000 else (if v < 101 then 100000000 else 99)) else (if v < 104 then 1 else (if v < 105 then 4 else 109))))) else (if v < 118 then (if v < 112 then (if v < 108 then (if v < 107 then 1 else 1048575) else (if v < 110 then 23 else (if v < 111 then 1 else 239))) else (if v < 115 then (if v < 113 then 0 else (if v < 114 then 2000000 else 39)) else (if v < 116 then 19 else (if v < 117 then 4 else 2147483648)))) else (if v < 136 then (if v < 131 then (if v < 129 then 100000000 else (if v < 130 then 127 else 1)) else (if v < 133 then 127 else (if v < 135 then 1 else 200))) else (if v < 141 then (if v < 137 then 1000 else (if v < 140 then 1 else 127)) else (if v < 142 then 4100 else (if v < 143 then 127 else 4100)))))))
def bsl (v : Int) : Int := (if v < 80 then (if v < 56 then (if v < 40 then (if v < 4 then 0 else (if v < 5 then 1 else 0)) else (if v < 43 then (if v < 41 then 20000 else 500) else (if v < 55 then 0 else 1))) else (if v < 71 then (if v < 69 then (if v < 68 then 0 else 1) else (if v < 70 then 0 else 1)) else (if v < 73 then (if v < 72 then 0 else 18) else (if v < 78 then 0 else 1)))) else (if v < 112 then (if v < 87 then (if v < 85 then 0 else (if v < 86 then 3 else 0)) else (if v < 100 then (if v < 88 then 3 else 0) else (if v < 101 then 1 else 0))) else (if v < 119 then (if v < 117 then (if v < 113 then 1 else 0) else (if v < 118 then 15000 else 2000)) else (if v < 134 then (if v < 129 then 10 else 0) else (if v < 135 then 20 else 0)))))
theorem bsm_nn (v : Int) : 0 ≤ bsm v := by unfold bsm; split <;> decide
theorem bsl_nn (v : Int) : 0 ≤ bsl v := by unfold bsl; repeat' split
                                           all_goals decide
def Bd (n : Int) (t : Ts) : Prop := (0 ≤ n ∧ n ≤ 491760) ∧ ∀ v j : Int, bdv v → 0 ≤ j → j < td v → bl0 v - bsm v * n ≤ t v j ∧ t v j ≤ bh0 v + bsl v * n
theorem Bd.mono {n m : Int} {t : Ts} (g : Bd n t) (k : n ≤ m) (l : m ≤ 491760) : Bd m t := by
  refine ⟨⟨by have := g.1; omega, l⟩, fun v j hv j0 j1 => ?_⟩
  have w := g.2 v j hv j0 j1
  have a := Int.mul_le_mul_of_nonneg_left k (bsm_nn v)
  have b := Int.mul_le_mul_of_nonneg_left k (bsl_nn v)
  omega
theorem Bd.put {n : Int} {t : Ts} {v j x : Int} (g : Bd n t) (a : bl0 v - bsm v * n ≤ x) (b : x ≤ bh0 v + bsl v * n) : Bd n (tset t v j x) := by
  refine ⟨g.1, fun u k hu k0 k1 => ?_⟩
  by_cases c : u = v ∧ k = j
  · obtain ⟨rfl, rfl⟩ := c
    rw [tset_eq]
    exact ⟨a, b⟩
  · rw [tset_ne c]
    exact g.2 u k hu k0 k1
theorem Bd.pun {n : Int} {t : Ts} {v j x : Int} (g : Bd n t) (m : ¬ bdv v) : Bd n (tset t v j x) := by
  refine ⟨g.1, fun u k hu k0 k1 => ?_⟩
  rw [tset_nv (show u ≠ v from fun q => m (q ▸ hu))]
  exact g.2 u k hu k0 k1
theorem Bd.putr {n : Int} {t : Ts} {v lo hi : Int} {f : Int → Int} (g : Bd n t) (a : ∀ k : Int, lo ≤ k → k < hi → 0 ≤ k → k < td v → bl0 v - bsm v * n ≤ f k ∧ f k ≤ bh0 v + bsl v * n) : Bd n (tsr t v lo hi f) := by
  refine ⟨g.1, fun u k hu k0 k1 => ?_⟩
  by_cases c : u = v ∧ lo ≤ k ∧ k < hi
  · obtain ⟨rfl, q1, q2⟩ := c
    rw [tsr_in q1 q2]
    exact a k q1 q2 k0 k1
  · have e : tsr t v lo hi f u k = t u k := if_neg c
    rw [e]
    exact g.2 u k hu k0 k1
theorem Bd.purn {n : Int} {t : Ts} {v lo hi : Int} {f : Int → Int} (g : Bd n t) (m : ¬ bdv v) : Bd n (tsr t v lo hi f) := by
  refine ⟨g.1, fun u k hu k0 k1 => ?_⟩
  rw [tsr_nv (show u ≠ v from fun q => m (q ▸ hu))]
  exact g.2 u k hu k0 k1
theorem b_2 {n : Int} {t : Ts} (g : Bd n t) : 0 ≤ t 2 0 ∧ t 2 0 ≤ 2000000 := by
  have w := g.2 2 0 (by unfold bdv; omega) (by decide) (by decide +kernel)
  rw [show bl0 2 = 0 by decide +kernel, show bsm 2 = 0 by decide +kernel, show bh0 2 = 2000000 by decide +kernel, show bsl 2 = 0 by decide +kernel] at w
  omega
theorem bp_2 {n : Int} {t : Ts} {j x : Int} (g : Bd n t) (a : 0 ≤ x) (b : x ≤ 2000000) : Bd n (tset t 2 j x) := g.put (by rw [show bl0 2 = 0 by decide +kernel, show bsm 2 = 0 by decide +kernel]; omega) (by rw [show bh0 2 = 2000000 by decide +kernel, show bsl 2 = 0 by decide +kernel]; omega)
theorem b_3 {n : Int} {t : Ts} {i : Int} (g : Bd n t) (i0 : 0 ≤ i) (i1 : i < 4400) : 0 ≤ t 3 i ∧ t 3 i ≤ 3 := by
  have w := g.2 3 i (by unfold bdv; omega) i0 (lt_eq i1 (show td 3 = 4400 by decide +kernel))
  rw [show bl0 3 = 0 by decide +kernel, show bsm 3 = 0 by decide +kernel, show bh0 3 = 3 by decide +kernel, show bsl 3 = 0 by decide +kernel] at w
  omega
theorem bp_3 {n : Int} {t : Ts} {j x : Int} (g : Bd n t) (a : 0 ≤ x) (b : x ≤ 3) : Bd n (tset t 3 j x) := g.put (by rw [show bl0 3 = 0 by decide +kernel, show bsm 3 = 0 by decide +kernel]; omega) (by rw [show bh0 3 = 3 by decide +kernel, show bsl 3 = 0 by decide +kernel]; omega)
theorem br_3 {n : Int} {t : Ts} {lo hi : Int} {f : Int → Int} (g : Bd n t) (a : ∀ k : Int, lo ≤ k → k < hi → 0 ≤ k → k < 4400 → 0 ≤ f k ∧ f k ≤ 3) : Bd n (tsr t 3 lo hi f) := g.putr (fun k p q k0 k1 => by
  rw [show bl0 3 = 0 by decide +kernel, show bsm 3 = 0 by decide +kernel, show bh0 3 = 3 by decide +kernel, show bsl 3 = 0 by decide +kernel]
  have w := a k p q k0 (by rw [show td 3 = 4400 by decide +kernel] at k1; exact k1)
  omega)
theorem b_4 {n : Int} {t : Ts} (g : Bd n t) : 0 ≤ t 4 0 ∧ t 4 0 ≤ 0 + 1 * n := by
  have w := g.2 4 0 (by unfold bdv; omega) (by decide) (by decide +kernel)
  rw [show bl0 4 = 0 by decide +kernel, show bsm 4 = 0 by decide +kernel, show bh0 4 = 0 by decide +kernel, show bsl 4 = 1 by decide +kernel] at w
  omega
theorem bp_4 {n : Int} {t : Ts} {j x : Int} (g : Bd n t) (a : 0 ≤ x) (b : x ≤ 0 + 1 * n) : Bd n (tset t 4 j x) := g.put (by rw [show bl0 4 = 0 by decide +kernel, show bsm 4 = 0 by decide +kernel]; omega) (by rw [show bh0 4 = 0 by decide +kernel, show bsl 4 = 1 by decide +kernel]; omega)
theorem b_5 {n : Int} {t : Ts} {i : Int} (g : Bd n t) (i0 : 0 ≤ i) (i1 : i < 240) : 0 ≤ t 5 i ∧ t 5 i ≤ 15 := by
  have w := g.2 5 i (by unfold bdv; omega) i0 (lt_eq i1 (show td 5 = 240 by decide +kernel))
  rw [show bl0 5 = 0 by decide +kernel, show bsm 5 = 0 by decide +kernel, show bh0 5 = 15 by decide +kernel, show bsl 5 = 0 by decide +kernel] at w
  omega
theorem bp_5 {n : Int} {t : Ts} {j x : Int} (g : Bd n t) (a : 0 ≤ x) (b : x ≤ 15) : Bd n (tset t 5 j x) := g.put (by rw [show bl0 5 = 0 by decide +kernel, show bsm 5 = 0 by decide +kernel]; omega) (by rw [show bh0 5 = 15 by decide +kernel, show bsl 5 = 0 by decide +kernel]; omega)
theorem br_5 {n : Int} {t : Ts} {lo hi : Int} {f : Int → Int} (g : Bd n t) (a : ∀ k : Int, lo ≤ k → k < hi → 0 ≤ k → k < 240 → 0 ≤ f k ∧ f k ≤ 15) : Bd n (tsr t 5 lo hi f) := g.putr (fun k p q k0 k1 => by
  rw [show bl0 5 = 0 by decide +kernel, show bsm 5 = 0 by decide +kernel, show bh0 5 = 15 by decide +kernel, show bsl 5 = 0 by decide +kernel]
  have w := a k p q k0 (by rw [show td 5 = 240 by decide +kernel] at k1; exact k1)
  omega)
theorem b_16 {n : Int} {t : Ts} {i : Int} (g : Bd n t) (i0 : 0 ≤ i) (i1 : i < 240) : 0 ≤ t 16 i ∧ t 16 i ≤ 20 := by
  have w := g.2 16 i (by unfold bdv; omega) i0 (lt_eq i1 (show td 16 = 240 by decide +kernel))
  rw [show bl0 16 = 0 by decide +kernel, show bsm 16 = 0 by decide +kernel, show bh0 16 = 20 by decide +kernel, show bsl 16 = 0 by decide +kernel] at w
  omega
theorem bp_16 {n : Int} {t : Ts} {j x : Int} (g : Bd n t) (a : 0 ≤ x) (b : x ≤ 20) : Bd n (tset t 16 j x) := g.put (by rw [show bl0 16 = 0 by decide +kernel, show bsm 16 = 0 by decide +kernel]; omega) (by rw [show bh0 16 = 20 by decide +kernel, show bsl 16 = 0 by decide +kernel]; omega)
theorem br_16 {n : Int} {t : Ts} {lo hi : Int} {f : Int → Int} (g : Bd n t) (a : ∀ k : Int, lo ≤ k → k < hi → 0 ≤ k → k < 240 → 0 ≤ f k ∧ f k ≤ 20) : Bd n (tsr t 16 lo hi f) := g.putr (fun k p q k0 k1 => by
  rw [show bl0 16 = 0 by decide +kernel, show bsm 16 = 0 by decide +kernel, show bh0 16 = 20 by decide +kernel, show bsl 16 = 0 by decide +kernel]
  have w := a k p q k0 (by rw [show td 16 = 240 by decide +kernel] at k1; exact k1)
  omega)
theorem b_17 {n : Int} {t : Ts} {i : Int} (g : Bd n t) (i0 : 0 ≤ i) (i1 : i < 24) : -400 ≤ t 17 i ∧ t 17 i ≤ 500 := by
  have w := g.2 17 i (by unfold bdv; omega) i0 (lt_eq i1 (show td 17 = 24 by decide +kernel))
  rw [show bl0 17 = -400 by decide +kernel, show bsm 17 = 0 by decide +kernel, show bh0 17 = 500 by decide +kernel, show bsl 17 = 0 by decide +kernel] at w
  omega
theorem bp_17 {n : Int} {t : Ts} {j x : Int} (g : Bd n t) (a : -400 ≤ x) (b : x ≤ 500) : Bd n (tset t 17 j x) := g.put (by rw [show bl0 17 = -400 by decide +kernel, show bsm 17 = 0 by decide +kernel]; omega) (by rw [show bh0 17 = 500 by decide +kernel, show bsl 17 = 0 by decide +kernel]; omega)
theorem br_17 {n : Int} {t : Ts} {lo hi : Int} {f : Int → Int} (g : Bd n t) (a : ∀ k : Int, lo ≤ k → k < hi → 0 ≤ k → k < 24 → -400 ≤ f k ∧ f k ≤ 500) : Bd n (tsr t 17 lo hi f) := g.putr (fun k p q k0 k1 => by
  rw [show bl0 17 = -400 by decide +kernel, show bsm 17 = 0 by decide +kernel, show bh0 17 = 500 by decide +kernel, show bsl 17 = 0 by decide +kernel]
  have w := a k p q k0 (by rw [show td 17 = 24 by decide +kernel] at k1; exact k1)
  omega)
theorem b_18 {n : Int} {t : Ts} {i : Int} (g : Bd n t) (i0 : 0 ≤ i) (i1 : i < 96) : 0 ≤ t 18 i ∧ t 18 i ≤ 200 := by
  have w := g.2 18 i (by unfold bdv; omega) i0 (lt_eq i1 (show td 18 = 96 by decide +kernel))
  rw [show bl0 18 = 0 by decide +kernel, show bsm 18 = 0 by decide +kernel, show bh0 18 = 200 by decide +kernel, show bsl 18 = 0 by decide +kernel] at w
  omega
theorem bp_18 {n : Int} {t : Ts} {j x : Int} (g : Bd n t) (a : 0 ≤ x) (b : x ≤ 200) : Bd n (tset t 18 j x) := g.put (by rw [show bl0 18 = 0 by decide +kernel, show bsm 18 = 0 by decide +kernel]; omega) (by rw [show bh0 18 = 200 by decide +kernel, show bsl 18 = 0 by decide +kernel]; omega)
theorem br_18 {n : Int} {t : Ts} {lo hi : Int} {f : Int → Int} (g : Bd n t) (a : ∀ k : Int, lo ≤ k → k < hi → 0 ≤ k → k < 96 → 0 ≤ f k ∧ f k ≤ 200) : Bd n (tsr t 18 lo hi f) := g.putr (fun k p q k0 k1 => by
  rw [show bl0 18 = 0 by decide +kernel, show bsm 18 = 0 by decide +kernel, show bh0 18 = 200 by decide +kernel, show bsl 18 = 0 by decide +kernel]
  have w := a k p q k0 (by rw [show td 18 = 96 by decide +kernel] at k1; exact k1)
  omega)
theorem b_19 {n : Int} {t : Ts} {i : Int} (g : Bd n t) (i0 : 0 ≤ i) (i1 : i < 11) : 1 ≤ t 19 i ∧ t 19 i ≤ 500 := by
  have w := g.2 19 i (by unfold bdv; omega) i0 (lt_eq i1 (show td 19 = 11 by decide +kernel))
  rw [show bl0 19 = 1 by decide +kernel, show bsm 19 = 0 by decide +kernel, show bh0 19 = 500 by decide +kernel, show bsl 19 = 0 by decide +kernel] at w
  omega
theorem bp_19 {n : Int} {t : Ts} {j x : Int} (g : Bd n t) (a : 1 ≤ x) (b : x ≤ 500) : Bd n (tset t 19 j x) := g.put (by rw [show bl0 19 = 1 by decide +kernel, show bsm 19 = 0 by decide +kernel]; omega) (by rw [show bh0 19 = 500 by decide +kernel, show bsl 19 = 0 by decide +kernel]; omega)
theorem br_19 {n : Int} {t : Ts} {lo hi : Int} {f : Int → Int} (g : Bd n t) (a : ∀ k : Int, lo ≤ k → k < hi → 0 ≤ k → k < 11 → 1 ≤ f k ∧ f k ≤ 500) : Bd n (tsr t 19 lo hi f) := g.putr (fun k p q k0 k1 => by
  rw [show bl0 19 = 1 by decide +kernel, show bsm 19 = 0 by decide +kernel, show bh0 19 = 500 by decide +kernel, show bsl 19 = 0 by decide +kernel]
  have w := a k p q k0 (by rw [show td 19 = 11 by decide +kernel] at k1; exact k1)
  omega)
theorem b_20 {n : Int} {t : Ts} {i : Int} (g : Bd n t) (i0 : 0 ≤ i) (i1 : i < 11) : 0 ≤ t 20 i ∧ t 20 i ≤ 9 := by
  have w := g.2 20 i (by unfold bdv; omega) i0 (lt_eq i1 (show td 20 = 11 by decide +kernel))
  rw [show bl0 20 = 0 by decide +kernel, show bsm 20 = 0 by decide +kernel, show bh0 20 = 9 by decide +kernel, show bsl 20 = 0 by decide +kernel] at w
  omega
theorem bp_20 {n : Int} {t : Ts} {j x : Int} (g : Bd n t) (a : 0 ≤ x) (b : x ≤ 9) : Bd n (tset t 20 j x) := g.put (by rw [show bl0 20 = 0 by decide +kernel, show bsm 20 = 0 by decide +kernel]; omega) (by rw [show bh0 20 = 9 by decide +kernel, show bsl 20 = 0 by decide +kernel]; omega)
theorem br_20 {n : Int} {t : Ts} {lo hi : Int} {f : Int → Int} (g : Bd n t) (a : ∀ k : Int, lo ≤ k → k < hi → 0 ≤ k → k < 11 → 0 ≤ f k ∧ f k ≤ 9) : Bd n (tsr t 20 lo hi f) := g.putr (fun k p q k0 k1 => by
  rw [show bl0 20 = 0 by decide +kernel, show bsm 20 = 0 by decide +kernel, show bh0 20 = 9 by decide +kernel, show bsl 20 = 0 by decide +kernel]
  have w := a k p q k0 (by rw [show td 20 = 11 by decide +kernel] at k1; exact k1)
  omega)
theorem b_21 {n : Int} {t : Ts} (g : Bd n t) : 0 ≤ t 21 0 ∧ t 21 0 ≤ 20000 := by
  have w := g.2 21 0 (by unfold bdv; omega) (by decide) (by decide +kernel)
  rw [show bl0 21 = 0 by decide +kernel, show bsm 21 = 0 by decide +kernel, show bh0 21 = 20000 by decide +kernel, show bsl 21 = 0 by decide +kernel] at w
  omega
theorem bp_21 {n : Int} {t : Ts} {j x : Int} (g : Bd n t) (a : 0 ≤ x) (b : x ≤ 20000) : Bd n (tset t 21 j x) := g.put (by rw [show bl0 21 = 0 by decide +kernel, show bsm 21 = 0 by decide +kernel]; omega) (by rw [show bh0 21 = 20000 by decide +kernel, show bsl 21 = 0 by decide +kernel]; omega)
theorem b_22 {n : Int} {t : Ts} {i : Int} (g : Bd n t) (i0 : 0 ≤ i) (i1 : i < 3) : 0 ≤ t 22 i ∧ t 22 i ≤ 1000 := by
  have w := g.2 22 i (by unfold bdv; omega) i0 (lt_eq i1 (show td 22 = 3 by decide +kernel))
  rw [show bl0 22 = 0 by decide +kernel, show bsm 22 = 0 by decide +kernel, show bh0 22 = 1000 by decide +kernel, show bsl 22 = 0 by decide +kernel] at w
  omega
theorem bp_22 {n : Int} {t : Ts} {j x : Int} (g : Bd n t) (a : 0 ≤ x) (b : x ≤ 1000) : Bd n (tset t 22 j x) := g.put (by rw [show bl0 22 = 0 by decide +kernel, show bsm 22 = 0 by decide +kernel]; omega) (by rw [show bh0 22 = 1000 by decide +kernel, show bsl 22 = 0 by decide +kernel]; omega)
theorem br_22 {n : Int} {t : Ts} {lo hi : Int} {f : Int → Int} (g : Bd n t) (a : ∀ k : Int, lo ≤ k → k < hi → 0 ≤ k → k < 3 → 0 ≤ f k ∧ f k ≤ 1000) : Bd n (tsr t 22 lo hi f) := g.putr (fun k p q k0 k1 => by
  rw [show bl0 22 = 0 by decide +kernel, show bsm 22 = 0 by decide +kernel, show bh0 22 = 1000 by decide +kernel, show bsl 22 = 0 by decide +kernel]
  have w := a k p q k0 (by rw [show td 22 = 3 by decide +kernel] at k1; exact k1)
  omega)
theorem b_23 {n : Int} {t : Ts} {i : Int} (g : Bd n t) (i0 : 0 ≤ i) (i1 : i < 3) : 1 ≤ t 23 i ∧ t 23 i ≤ 100000 := by
  have w := g.2 23 i (by unfold bdv; omega) i0 (lt_eq i1 (show td 23 = 3 by decide +kernel))
  rw [show bl0 23 = 1 by decide +kernel, show bsm 23 = 0 by decide +kernel, show bh0 23 = 100000 by decide +kernel, show bsl 23 = 0 by decide +kernel] at w
  omega
theorem bp_23 {n : Int} {t : Ts} {j x : Int} (g : Bd n t) (a : 1 ≤ x) (b : x ≤ 100000) : Bd n (tset t 23 j x) := g.put (by rw [show bl0 23 = 1 by decide +kernel, show bsm 23 = 0 by decide +kernel]; omega) (by rw [show bh0 23 = 100000 by decide +kernel, show bsl 23 = 0 by decide +kernel]; omega)
theorem br_23 {n : Int} {t : Ts} {lo hi : Int} {f : Int → Int} (g : Bd n t) (a : ∀ k : Int, lo ≤ k → k < hi → 0 ≤ k → k < 3 → 1 ≤ f k ∧ f k ≤ 100000) : Bd n (tsr t 23 lo hi f) := g.putr (fun k p q k0 k1 => by
  rw [show bl0 23 = 1 by decide +kernel, show bsm 23 = 0 by decide +kernel, show bh0 23 = 100000 by decide +kernel, show bsl 23 = 0 by decide +kernel]
  have w := a k p q k0 (by rw [show td 23 = 3 by decide +kernel] at k1; exact k1)
  omega)
theorem b_24 {n : Int} {t : Ts} {i : Int} (g : Bd n t) (i0 : 0 ≤ i) (i1 : i < 196) : 0 ≤ t 24 i ∧ t 24 i ≤ 127 := by
  have w := g.2 24 i (by unfold bdv; omega) i0 (lt_eq i1 (show td 24 = 196 by decide +kernel))
  rw [show bl0 24 = 0 by decide +kernel, show bsm 24 = 0 by decide +kernel, show bh0 24 = 127 by decide +kernel, show bsl 24 = 0 by decide +kernel] at w
  omega
theorem bp_24 {n : Int} {t : Ts} {j x : Int} (g : Bd n t) (a : 0 ≤ x) (b : x ≤ 127) : Bd n (tset t 24 j x) := g.put (by rw [show bl0 24 = 0 by decide +kernel, show bsm 24 = 0 by decide +kernel]; omega) (by rw [show bh0 24 = 127 by decide +kernel, show bsl 24 = 0 by decide +kernel]; omega)
theorem br_24 {n : Int} {t : Ts} {lo hi : Int} {f : Int → Int} (g : Bd n t) (a : ∀ k : Int, lo ≤ k → k < hi → 0 ≤ k → k < 196 → 0 ≤ f k ∧ f k ≤ 127) : Bd n (tsr t 24 lo hi f) := g.putr (fun k p q k0 k1 => by
  rw [show bl0 24 = 0 by decide +kernel, show bsm 24 = 0 by decide +kernel, show bh0 24 = 127 by decide +kernel, show bsl 24 = 0 by decide +kernel]
  have w := a k p q k0 (by rw [show td 24 = 196 by decide +kernel] at k1; exact k1)
  omega)
theorem b_25 {n : Int} {t : Ts} (g : Bd n t) : 0 ≤ t 25 0 ∧ t 25 0 ≤ 196 := by
  have w := g.2 25 0 (by unfold bdv; omega) (by decide) (by decide +kernel)
  rw [show bl0 25 = 0 by decide +kernel, show bsm 25 = 0 by decide +kernel, show bh0 25 = 196 by decide +kernel, show bsl 25 = 0 by decide +kernel] at w
  omega
theorem bp_25 {n : Int} {t : Ts} {j x : Int} (g : Bd n t) (a : 0 ≤ x) (b : x ≤ 196) : Bd n (tset t 25 j x) := g.put (by rw [show bl0 25 = 0 by decide +kernel, show bsm 25 = 0 by decide +kernel]; omega) (by rw [show bh0 25 = 196 by decide +kernel, show bsl 25 = 0 by decide +kernel]; omega)
theorem b_26 {n : Int} {t : Ts} {i : Int} (g : Bd n t) (i0 : 0 ≤ i) (i1 : i < 196) : 0 ≤ t 26 i ∧ t 26 i ≤ 127 := by
  have w := g.2 26 i (by unfold bdv; omega) i0 (lt_eq i1 (show td 26 = 196 by decide +kernel))
  rw [show bl0 26 = 0 by decide +kernel, show bsm 26 = 0 by decide +kernel, show bh0 26 = 127 by decide +kernel, show bsl 26 = 0 by decide +kernel] at w
  omega
theorem bp_26 {n : Int} {t : Ts} {j x : Int} (g : Bd n t) (a : 0 ≤ x) (b : x ≤ 127) : Bd n (tset t 26 j x) := g.put (by rw [show bl0 26 = 0 by decide +kernel, show bsm 26 = 0 by decide +kernel]; omega) (by rw [show bh0 26 = 127 by decide +kernel, show bsl 26 = 0 by decide +kernel]; omega)
theorem br_26 {n : Int} {t : Ts} {lo hi : Int} {f : Int → Int} (g : Bd n t) (a : ∀ k : Int, lo ≤ k → k < hi → 0 ≤ k → k < 196 → 0 ≤ f k ∧ f k ≤ 127) : Bd n (tsr t 26 lo hi f) := g.putr (fun k p q k0 k1 => by
  rw [show bl0 26 = 0 by decide +kernel, show bsm 26 = 0 by decide +kernel, show bh0 26 = 127 by decide +kernel, show bsl 26 = 0 by decide +kernel]
  have w := a k p q k0 (by rw [show td 26 = 196 by decide +kernel] at k1; exact k1)
  omega)
theorem b_27 {n : Int} {t : Ts} (g : Bd n t) : 0 ≤ t 27 0 ∧ t 27 0 ≤ 196 := by
  have w := g.2 27 0 (by unfold bdv; omega) (by decide) (by decide +kernel)
  rw [show bl0 27 = 0 by decide +kernel, show bsm 27 = 0 by decide +kernel, show bh0 27 = 196 by decide +kernel, show bsl 27 = 0 by decide +kernel] at w
  omega
theorem bp_27 {n : Int} {t : Ts} {j x : Int} (g : Bd n t) (a : 0 ≤ x) (b : x ≤ 196) : Bd n (tset t 27 j x) := g.put (by rw [show bl0 27 = 0 by decide +kernel, show bsm 27 = 0 by decide +kernel]; omega) (by rw [show bh0 27 = 196 by decide +kernel, show bsl 27 = 0 by decide +kernel]; omega)
theorem b_34 {n : Int} {t : Ts} (g : Bd n t) : 0 ≤ t 34 0 ∧ t 34 0 ≤ 6 := by
  have w := g.2 34 0 (by unfold bdv; omega) (by decide) (by decide +kernel)
  rw [show bl0 34 = 0 by decide +kernel, show bsm 34 = 0 by decide +kernel, show bh0 34 = 6 by decide +kernel, show bsl 34 = 0 by decide +kernel] at w
  omega
theorem bp_34 {n : Int} {t : Ts} {j x : Int} (g : Bd n t) (a : 0 ≤ x) (b : x ≤ 6) : Bd n (tset t 34 j x) := g.put (by rw [show bl0 34 = 0 by decide +kernel, show bsm 34 = 0 by decide +kernel]; omega) (by rw [show bh0 34 = 6 by decide +kernel, show bsl 34 = 0 by decide +kernel]; omega)
theorem b_35 {n : Int} {t : Ts} (g : Bd n t) : 0 ≤ t 35 0 ∧ t 35 0 ≤ 196 := by
  have w := g.2 35 0 (by unfold bdv; omega) (by decide) (by decide +kernel)
  rw [show bl0 35 = 0 by decide +kernel, show bsm 35 = 0 by decide +kernel, show bh0 35 = 196 by decide +kernel, show bsl 35 = 0 by decide +kernel] at w
  omega
theorem bp_35 {n : Int} {t : Ts} {j x : Int} (g : Bd n t) (a : 0 ≤ x) (b : x ≤ 196) : Bd n (tset t 35 j x) := g.put (by rw [show bl0 35 = 0 by decide +kernel, show bsm 35 = 0 by decide +kernel]; omega) (by rw [show bh0 35 = 196 by decide +kernel, show bsl 35 = 0 by decide +kernel]; omega)
theorem b_36 {n : Int} {t : Ts} (g : Bd n t) : 0 ≤ t 36 0 ∧ t 36 0 ≤ 1 := by
  have w := g.2 36 0 (by unfold bdv; omega) (by decide) (by decide +kernel)
  rw [show bl0 36 = 0 by decide +kernel, show bsm 36 = 0 by decide +kernel, show bh0 36 = 1 by decide +kernel, show bsl 36 = 0 by decide +kernel] at w
  omega
theorem bp_36 {n : Int} {t : Ts} {j x : Int} (g : Bd n t) (a : 0 ≤ x) (b : x ≤ 1) : Bd n (tset t 36 j x) := g.put (by rw [show bl0 36 = 0 by decide +kernel, show bsm 36 = 0 by decide +kernel]; omega) (by rw [show bh0 36 = 1 by decide +kernel, show bsl 36 = 0 by decide +kernel]; omega)
theorem b_37 {n : Int} {t : Ts} {i : Int} (g : Bd n t) (i0 : 0 ≤ i) (i1 : i < 16) : 0 ≤ t 37 i ∧ t 37 i ≤ 300 := by
  have w := g.2 37 i (by unfold bdv; omega) i0 (lt_eq i1 (show td 37 = 16 by decide +kernel))
  rw [show bl0 37 = 0 by decide +kernel, show bsm 37 = 0 by decide +kernel, show bh0 37 = 300 by decide +kernel, show bsl 37 = 0 by decide +kernel] at w
  omega
theorem bp_37 {n : Int} {t : Ts} {j x : Int} (g : Bd n t) (a : 0 ≤ x) (b : x ≤ 300) : Bd n (tset t 37 j x) := g.put (by rw [show bl0 37 = 0 by decide +kernel, show bsm 37 = 0 by decide +kernel]; omega) (by rw [show bh0 37 = 300 by decide +kernel, show bsl 37 = 0 by decide +kernel]; omega)
theorem br_37 {n : Int} {t : Ts} {lo hi : Int} {f : Int → Int} (g : Bd n t) (a : ∀ k : Int, lo ≤ k → k < hi → 0 ≤ k → k < 16 → 0 ≤ f k ∧ f k ≤ 300) : Bd n (tsr t 37 lo hi f) := g.putr (fun k p q k0 k1 => by
  rw [show bl0 37 = 0 by decide +kernel, show bsm 37 = 0 by decide +kernel, show bh0 37 = 300 by decide +kernel, show bsl 37 = 0 by decide +kernel]
  have w := a k p q k0 (by rw [show td 37 = 16 by decide +kernel] at k1; exact k1)
  omega)
theorem b_40 {n : Int} {t : Ts} {i : Int} (g : Bd n t) (i0 : 0 ≤ i) (i1 : i < 240) : -40000 - 20000 * n ≤ t 40 i ∧ t 40 i ≤ 40000 + 20000 * n := by
  have w := g.2 40 i (by unfold bdv; omega) i0 (lt_eq i1 (show td 40 = 240 by decide +kernel))
  rw [show bl0 40 = -40000 by decide +kernel, show bsm 40 = 20000 by decide +kernel, show bh0 40 = 40000 by decide +kernel, show bsl 40 = 20000 by decide +kernel] at w
  omega
theorem bp_40 {n : Int} {t : Ts} {j x : Int} (g : Bd n t) (a : -40000 - 20000 * n ≤ x) (b : x ≤ 40000 + 20000 * n) : Bd n (tset t 40 j x) := g.put (by rw [show bl0 40 = -40000 by decide +kernel, show bsm 40 = 20000 by decide +kernel]; omega) (by rw [show bh0 40 = 40000 by decide +kernel, show bsl 40 = 20000 by decide +kernel]; omega)
theorem br_40 {n : Int} {t : Ts} {lo hi : Int} {f : Int → Int} (g : Bd n t) (a : ∀ k : Int, lo ≤ k → k < hi → 0 ≤ k → k < 240 → -40000 - 20000 * n ≤ f k ∧ f k ≤ 40000 + 20000 * n) : Bd n (tsr t 40 lo hi f) := g.putr (fun k p q k0 k1 => by
  rw [show bl0 40 = -40000 by decide +kernel, show bsm 40 = 20000 by decide +kernel, show bh0 40 = 40000 by decide +kernel, show bsl 40 = 20000 by decide +kernel]
  have w := a k p q k0 (by rw [show td 40 = 240 by decide +kernel] at k1; exact k1)
  omega)
theorem b_41 {n : Int} {t : Ts} {i : Int} (g : Bd n t) (i0 : 0 ≤ i) (i1 : i < 240) : 0 ≤ t 41 i ∧ t 41 i ≤ 0 + 500 * n := by
  have w := g.2 41 i (by unfold bdv; omega) i0 (lt_eq i1 (show td 41 = 240 by decide +kernel))
  rw [show bl0 41 = 0 by decide +kernel, show bsm 41 = 0 by decide +kernel, show bh0 41 = 0 by decide +kernel, show bsl 41 = 500 by decide +kernel] at w
  omega
theorem bp_41 {n : Int} {t : Ts} {j x : Int} (g : Bd n t) (a : 0 ≤ x) (b : x ≤ 0 + 500 * n) : Bd n (tset t 41 j x) := g.put (by rw [show bl0 41 = 0 by decide +kernel, show bsm 41 = 0 by decide +kernel]; omega) (by rw [show bh0 41 = 0 by decide +kernel, show bsl 41 = 500 by decide +kernel]; omega)
theorem br_41 {n : Int} {t : Ts} {lo hi : Int} {f : Int → Int} (g : Bd n t) (a : ∀ k : Int, lo ≤ k → k < hi → 0 ≤ k → k < 240 → 0 ≤ f k ∧ f k ≤ 0 + 500 * n) : Bd n (tsr t 41 lo hi f) := g.putr (fun k p q k0 k1 => by
  rw [show bl0 41 = 0 by decide +kernel, show bsm 41 = 0 by decide +kernel, show bh0 41 = 0 by decide +kernel, show bsl 41 = 500 by decide +kernel]
  have w := a k p q k0 (by rw [show td 41 = 240 by decide +kernel] at k1; exact k1)
  omega)
theorem b_43 {n : Int} {t : Ts} {i : Int} (g : Bd n t) (i0 : 0 ≤ i) (i1 : i < 240) : 0 ≤ t 43 i ∧ t 43 i ≤ 1000 := by
  have w := g.2 43 i (by unfold bdv; omega) i0 (lt_eq i1 (show td 43 = 240 by decide +kernel))
  rw [show bl0 43 = 0 by decide +kernel, show bsm 43 = 0 by decide +kernel, show bh0 43 = 1000 by decide +kernel, show bsl 43 = 0 by decide +kernel] at w
  omega
theorem bp_43 {n : Int} {t : Ts} {j x : Int} (g : Bd n t) (a : 0 ≤ x) (b : x ≤ 1000) : Bd n (tset t 43 j x) := g.put (by rw [show bl0 43 = 0 by decide +kernel, show bsm 43 = 0 by decide +kernel]; omega) (by rw [show bh0 43 = 1000 by decide +kernel, show bsl 43 = 0 by decide +kernel]; omega)
theorem br_43 {n : Int} {t : Ts} {lo hi : Int} {f : Int → Int} (g : Bd n t) (a : ∀ k : Int, lo ≤ k → k < hi → 0 ≤ k → k < 240 → 0 ≤ f k ∧ f k ≤ 1000) : Bd n (tsr t 43 lo hi f) := g.putr (fun k p q k0 k1 => by
  rw [show bl0 43 = 0 by decide +kernel, show bsm 43 = 0 by decide +kernel, show bh0 43 = 1000 by decide +kernel, show bsl 43 = 0 by decide +kernel]
  have w := a k p q k0 (by rw [show td 43 = 240 by decide +kernel] at k1; exact k1)
  omega)
theorem b_44 {n : Int} {t : Ts} {i : Int} (g : Bd n t) (i0 : 0 ≤ i) (i1 : i < 240) : 0 ≤ t 44 i ∧ t 44 i ≤ 100 := by
  have w := g.2 44 i (by unfold bdv; omega) i0 (lt_eq i1 (show td 44 = 240 by decide +kernel))
  rw [show bl0 44 = 0 by decide +kernel, show bsm 44 = 0 by decide +kernel, show bh0 44 = 100 by decide +kernel, show bsl 44 = 0 by decide +kernel] at w
  omega
theorem bp_44 {n : Int} {t : Ts} {j x : Int} (g : Bd n t) (a : 0 ≤ x) (b : x ≤ 100) : Bd n (tset t 44 j x) := g.put (by rw [show bl0 44 = 0 by decide +kernel, show bsm 44 = 0 by decide +kernel]; omega) (by rw [show bh0 44 = 100 by decide +kernel, show bsl 44 = 0 by decide +kernel]; omega)
theorem br_44 {n : Int} {t : Ts} {lo hi : Int} {f : Int → Int} (g : Bd n t) (a : ∀ k : Int, lo ≤ k → k < hi → 0 ≤ k → k < 240 → 0 ≤ f k ∧ f k ≤ 100) : Bd n (tsr t 44 lo hi f) := g.putr (fun k p q k0 k1 => by
  rw [show bl0 44 = 0 by decide +kernel, show bsm 44 = 0 by decide +kernel, show bh0 44 = 100 by decide +kernel, show bsl 44 = 0 by decide +kernel]
  have w := a k p q k0 (by rw [show td 44 = 240 by decide +kernel] at k1; exact k1)
  omega)
theorem b_52 {n : Int} {t : Ts} (g : Bd n t) : 0 ≤ t 52 0 ∧ t 52 0 ≤ 1 := by
  have w := g.2 52 0 (by unfold bdv; omega) (by decide) (by decide +kernel)
  rw [show bl0 52 = 0 by decide +kernel, show bsm 52 = 0 by decide +kernel, show bh0 52 = 1 by decide +kernel, show bsl 52 = 0 by decide +kernel] at w
  omega
theorem bp_52 {n : Int} {t : Ts} {j x : Int} (g : Bd n t) (a : 0 ≤ x) (b : x ≤ 1) : Bd n (tset t 52 j x) := g.put (by rw [show bl0 52 = 0 by decide +kernel, show bsm 52 = 0 by decide +kernel]; omega) (by rw [show bh0 52 = 1 by decide +kernel, show bsl 52 = 0 by decide +kernel]; omega)
theorem b_53 {n : Int} {t : Ts} (g : Bd n t) : 0 ≤ t 53 0 ∧ t 53 0 ≤ 1000 := by
  have w := g.2 53 0 (by unfold bdv; omega) (by decide) (by decide +kernel)
  rw [show bl0 53 = 0 by decide +kernel, show bsm 53 = 0 by decide +kernel, show bh0 53 = 1000 by decide +kernel, show bsl 53 = 0 by decide +kernel] at w
  omega
theorem bp_53 {n : Int} {t : Ts} {j x : Int} (g : Bd n t) (a : 0 ≤ x) (b : x ≤ 1000) : Bd n (tset t 53 j x) := g.put (by rw [show bl0 53 = 0 by decide +kernel, show bsm 53 = 0 by decide +kernel]; omega) (by rw [show bh0 53 = 1000 by decide +kernel, show bsl 53 = 0 by decide +kernel]; omega)
theorem b_54 {n : Int} {t : Ts} (g : Bd n t) : 0 ≤ t 54 0 ∧ t 54 0 ≤ 3000 := by
  have w := g.2 54 0 (by unfold bdv; omega) (by decide) (by decide +kernel)
  rw [show bl0 54 = 0 by decide +kernel, show bsm 54 = 0 by decide +kernel, show bh0 54 = 3000 by decide +kernel, show bsl 54 = 0 by decide +kernel] at w
  omega
theorem bp_54 {n : Int} {t : Ts} {j x : Int} (g : Bd n t) (a : 0 ≤ x) (b : x ≤ 3000) : Bd n (tset t 54 j x) := g.put (by rw [show bl0 54 = 0 by decide +kernel, show bsm 54 = 0 by decide +kernel]; omega) (by rw [show bh0 54 = 3000 by decide +kernel, show bsl 54 = 0 by decide +kernel]; omega)
theorem b_55 {n : Int} {t : Ts} (g : Bd n t) : 0 ≤ t 55 0 ∧ t 55 0 ≤ 0 + 1 * n := by
  have w := g.2 55 0 (by unfold bdv; omega) (by decide) (by decide +kernel)
  rw [show bl0 55 = 0 by decide +kernel, show bsm 55 = 0 by decide +kernel, show bh0 55 = 0 by decide +kernel, show bsl 55 = 1 by decide +kernel] at w
  omega
theorem bp_55 {n : Int} {t : Ts} {j x : Int} (g : Bd n t) (a : 0 ≤ x) (b : x ≤ 0 + 1 * n) : Bd n (tset t 55 j x) := g.put (by rw [show bl0 55 = 0 by decide +kernel, show bsm 55 = 0 by decide +kernel]; omega) (by rw [show bh0 55 = 0 by decide +kernel, show bsl 55 = 1 by decide +kernel]; omega)
theorem b_56 {n : Int} {t : Ts} {i : Int} (g : Bd n t) (i0 : 0 ≤ i) (i1 : i < 11) : 0 ≤ t 56 i ∧ t 56 i ≤ 2000 := by
  have w := g.2 56 i (by unfold bdv; omega) i0 (lt_eq i1 (show td 56 = 11 by decide +kernel))
  rw [show bl0 56 = 0 by decide +kernel, show bsm 56 = 0 by decide +kernel, show bh0 56 = 2000 by decide +kernel, show bsl 56 = 0 by decide +kernel] at w
  omega
theorem bp_56 {n : Int} {t : Ts} {j x : Int} (g : Bd n t) (a : 0 ≤ x) (b : x ≤ 2000) : Bd n (tset t 56 j x) := g.put (by rw [show bl0 56 = 0 by decide +kernel, show bsm 56 = 0 by decide +kernel]; omega) (by rw [show bh0 56 = 2000 by decide +kernel, show bsl 56 = 0 by decide +kernel]; omega)
theorem br_56 {n : Int} {t : Ts} {lo hi : Int} {f : Int → Int} (g : Bd n t) (a : ∀ k : Int, lo ≤ k → k < hi → 0 ≤ k → k < 11 → 0 ≤ f k ∧ f k ≤ 2000) : Bd n (tsr t 56 lo hi f) := g.putr (fun k p q k0 k1 => by
  rw [show bl0 56 = 0 by decide +kernel, show bsm 56 = 0 by decide +kernel, show bh0 56 = 2000 by decide +kernel, show bsl 56 = 0 by decide +kernel]
  have w := a k p q k0 (by rw [show td 56 = 11 by decide +kernel] at k1; exact k1)
  omega)
theorem b_57 {n : Int} {t : Ts} {i : Int} (g : Bd n t) (i0 : 0 ≤ i) (i1 : i < 11) : 0 ≤ t 57 i ∧ t 57 i ≤ 1 := by
  have w := g.2 57 i (by unfold bdv; omega) i0 (lt_eq i1 (show td 57 = 11 by decide +kernel))
  rw [show bl0 57 = 0 by decide +kernel, show bsm 57 = 0 by decide +kernel, show bh0 57 = 1 by decide +kernel, show bsl 57 = 0 by decide +kernel] at w
  omega
theorem bp_57 {n : Int} {t : Ts} {j x : Int} (g : Bd n t) (a : 0 ≤ x) (b : x ≤ 1) : Bd n (tset t 57 j x) := g.put (by rw [show bl0 57 = 0 by decide +kernel, show bsm 57 = 0 by decide +kernel]; omega) (by rw [show bh0 57 = 1 by decide +kernel, show bsl 57 = 0 by decide +kernel]; omega)
theorem br_57 {n : Int} {t : Ts} {lo hi : Int} {f : Int → Int} (g : Bd n t) (a : ∀ k : Int, lo ≤ k → k < hi → 0 ≤ k → k < 11 → 0 ≤ f k ∧ f k ≤ 1) : Bd n (tsr t 57 lo hi f) := g.putr (fun k p q k0 k1 => by
  rw [show bl0 57 = 0 by decide +kernel, show bsm 57 = 0 by decide +kernel, show bh0 57 = 1 by decide +kernel, show bsl 57 = 0 by decide +kernel]
  have w := a k p q k0 (by rw [show td 57 = 11 by decide +kernel] at k1; exact k1)
  omega)
theorem b_58 {n : Int} {t : Ts} {i : Int} (g : Bd n t) (i0 : 0 ≤ i) (i1 : i < 11) : 0 ≤ t 58 i ∧ t 58 i ≤ 20000 := by
  have w := g.2 58 i (by unfold bdv; omega) i0 (lt_eq i1 (show td 58 = 11 by decide +kernel))
  rw [show bl0 58 = 0 by decide +kernel, show bsm 58 = 0 by decide +kernel, show bh0 58 = 20000 by decide +kernel, show bsl 58 = 0 by decide +kernel] at w
  omega
theorem bp_58 {n : Int} {t : Ts} {j x : Int} (g : Bd n t) (a : 0 ≤ x) (b : x ≤ 20000) : Bd n (tset t 58 j x) := g.put (by rw [show bl0 58 = 0 by decide +kernel, show bsm 58 = 0 by decide +kernel]; omega) (by rw [show bh0 58 = 20000 by decide +kernel, show bsl 58 = 0 by decide +kernel]; omega)
theorem br_58 {n : Int} {t : Ts} {lo hi : Int} {f : Int → Int} (g : Bd n t) (a : ∀ k : Int, lo ≤ k → k < hi → 0 ≤ k → k < 11 → 0 ≤ f k ∧ f k ≤ 20000) : Bd n (tsr t 58 lo hi f) := g.putr (fun k p q k0 k1 => by
  rw [show bl0 58 = 0 by decide +kernel, show bsm 58 = 0 by decide +kernel, show bh0 58 = 20000 by decide +kernel, show bsl 58 = 0 by decide +kernel]
  have w := a k p q k0 (by rw [show td 58 = 11 by decide +kernel] at k1; exact k1)
  omega)
theorem b_59 {n : Int} {t : Ts} {i : Int} (g : Bd n t) (i0 : 0 ≤ i) (i1 : i < 11) : 0 ≤ t 59 i ∧ t 59 i ≤ 1 := by
  have w := g.2 59 i (by unfold bdv; omega) i0 (lt_eq i1 (show td 59 = 11 by decide +kernel))
  rw [show bl0 59 = 0 by decide +kernel, show bsm 59 = 0 by decide +kernel, show bh0 59 = 1 by decide +kernel, show bsl 59 = 0 by decide +kernel] at w
  omega
theorem bp_59 {n : Int} {t : Ts} {j x : Int} (g : Bd n t) (a : 0 ≤ x) (b : x ≤ 1) : Bd n (tset t 59 j x) := g.put (by rw [show bl0 59 = 0 by decide +kernel, show bsm 59 = 0 by decide +kernel]; omega) (by rw [show bh0 59 = 1 by decide +kernel, show bsl 59 = 0 by decide +kernel]; omega)
theorem br_59 {n : Int} {t : Ts} {lo hi : Int} {f : Int → Int} (g : Bd n t) (a : ∀ k : Int, lo ≤ k → k < hi → 0 ≤ k → k < 11 → 0 ≤ f k ∧ f k ≤ 1) : Bd n (tsr t 59 lo hi f) := g.putr (fun k p q k0 k1 => by
  rw [show bl0 59 = 0 by decide +kernel, show bsm 59 = 0 by decide +kernel, show bh0 59 = 1 by decide +kernel, show bsl 59 = 0 by decide +kernel]
  have w := a k p q k0 (by rw [show td 59 = 11 by decide +kernel] at k1; exact k1)
  omega)
theorem b_60 {n : Int} {t : Ts} {i : Int} (g : Bd n t) (i0 : 0 ≤ i) (i1 : i < 11) : 0 ≤ t 60 i ∧ t 60 i ≤ 1 := by
  have w := g.2 60 i (by unfold bdv; omega) i0 (lt_eq i1 (show td 60 = 11 by decide +kernel))
  rw [show bl0 60 = 0 by decide +kernel, show bsm 60 = 0 by decide +kernel, show bh0 60 = 1 by decide +kernel, show bsl 60 = 0 by decide +kernel] at w
  omega
theorem bp_60 {n : Int} {t : Ts} {j x : Int} (g : Bd n t) (a : 0 ≤ x) (b : x ≤ 1) : Bd n (tset t 60 j x) := g.put (by rw [show bl0 60 = 0 by decide +kernel, show bsm 60 = 0 by decide +kernel]; omega) (by rw [show bh0 60 = 1 by decide +kernel, show bsl 60 = 0 by decide +kernel]; omega)
theorem br_60 {n : Int} {t : Ts} {lo hi : Int} {f : Int → Int} (g : Bd n t) (a : ∀ k : Int, lo ≤ k → k < hi → 0 ≤ k → k < 11 → 0 ≤ f k ∧ f k ≤ 1) : Bd n (tsr t 60 lo hi f) := g.putr (fun k p q k0 k1 => by
  rw [show bl0 60 = 0 by decide +kernel, show bsm 60 = 0 by decide +kernel, show bh0 60 = 1 by decide +kernel, show bsl 60 = 0 by decide +kernel]
  have w := a k p q k0 (by rw [show td 60 = 11 by decide +kernel] at k1; exact k1)
  omega)
theorem b_61 {n : Int} {t : Ts} (g : Bd n t) : 0 ≤ t 61 0 ∧ t 61 0 ≤ 2000 := by
  have w := g.2 61 0 (by unfold bdv; omega) (by decide) (by decide +kernel)
  rw [show bl0 61 = 0 by decide +kernel, show bsm 61 = 0 by decide +kernel, show bh0 61 = 2000 by decide +kernel, show bsl 61 = 0 by decide +kernel] at w
  omega
theorem bp_61 {n : Int} {t : Ts} {j x : Int} (g : Bd n t) (a : 0 ≤ x) (b : x ≤ 2000) : Bd n (tset t 61 j x) := g.put (by rw [show bl0 61 = 0 by decide +kernel, show bsm 61 = 0 by decide +kernel]; omega) (by rw [show bh0 61 = 2000 by decide +kernel, show bsl 61 = 0 by decide +kernel]; omega)
theorem b_62 {n : Int} {t : Ts} (g : Bd n t) : 0 ≤ t 62 0 ∧ t 62 0 ≤ 20000 := by
  have w := g.2 62 0 (by unfold bdv; omega) (by decide) (by decide +kernel)
  rw [show bl0 62 = 0 by decide +kernel, show bsm 62 = 0 by decide +kernel, show bh0 62 = 20000 by decide +kernel, show bsl 62 = 0 by decide +kernel] at w
  omega
theorem bp_62 {n : Int} {t : Ts} {j x : Int} (g : Bd n t) (a : 0 ≤ x) (b : x ≤ 20000) : Bd n (tset t 62 j x) := g.put (by rw [show bl0 62 = 0 by decide +kernel, show bsm 62 = 0 by decide +kernel]; omega) (by rw [show bh0 62 = 20000 by decide +kernel, show bsl 62 = 0 by decide +kernel]; omega)
theorem b_63 {n : Int} {t : Ts} (g : Bd n t) : 0 ≤ t 63 0 ∧ t 63 0 ≤ 1 := by
  have w := g.2 63 0 (by unfold bdv; omega) (by decide) (by decide +kernel)
  rw [show bl0 63 = 0 by decide +kernel, show bsm 63 = 0 by decide +kernel, show bh0 63 = 1 by decide +kernel, show bsl 63 = 0 by decide +kernel] at w
  omega
theorem bp_63 {n : Int} {t : Ts} {j x : Int} (g : Bd n t) (a : 0 ≤ x) (b : x ≤ 1) : Bd n (tset t 63 j x) := g.put (by rw [show bl0 63 = 0 by decide +kernel, show bsm 63 = 0 by decide +kernel]; omega) (by rw [show bh0 63 = 1 by decide +kernel, show bsl 63 = 0 by decide +kernel]; omega)
theorem b_64 {n : Int} {t : Ts} (g : Bd n t) : 0 ≤ t 64 0 ∧ t 64 0 ≤ 1 := by
  have w := g.2 64 0 (by unfold bdv; omega) (by decide) (by decide +kernel)
  rw [show bl0 64 = 0 by decide +kernel, show bsm 64 = 0 by decide +kernel, show bh0 64 = 1 by decide +kernel, show bsl 64 = 0 by decide +kernel] at w
  omega
theorem bp_64 {n : Int} {t : Ts} {j x : Int} (g : Bd n t) (a : 0 ≤ x) (b : x ≤ 1) : Bd n (tset t 64 j x) := g.put (by rw [show bl0 64 = 0 by decide +kernel, show bsm 64 = 0 by decide +kernel]; omega) (by rw [show bh0 64 = 1 by decide +kernel, show bsl 64 = 0 by decide +kernel]; omega)
theorem b_65 {n : Int} {t : Ts} (g : Bd n t) : 0 ≤ t 65 0 ∧ t 65 0 ≤ 1 := by
  have w := g.2 65 0 (by unfold bdv; omega) (by decide) (by decide +kernel)
  rw [show bl0 65 = 0 by decide +kernel, show bsm 65 = 0 by decide +kernel, show bh0 65 = 1 by decide +kernel, show bsl 65 = 0 by decide +kernel] at w
  omega
theorem bp_65 {n : Int} {t : Ts} {j x : Int} (g : Bd n t) (a : 0 ≤ x) (b : x ≤ 1) : Bd n (tset t 65 j x) := g.put (by rw [show bl0 65 = 0 by decide +kernel, show bsm 65 = 0 by decide +kernel]; omega) (by rw [show bh0 65 = 1 by decide +kernel, show bsl 65 = 0 by decide +kernel]; omega)
theorem b_66 {n : Int} {t : Ts} (g : Bd n t) : 0 ≤ t 66 0 ∧ t 66 0 ≤ 20000 := by
  have w := g.2 66 0 (by unfold bdv; omega) (by decide) (by decide +kernel)
  rw [show bl0 66 = 0 by decide +kernel, show bsm 66 = 0 by decide +kernel, show bh0 66 = 20000 by decide +kernel, show bsl 66 = 0 by decide +kernel] at w
  omega
theorem bp_66 {n : Int} {t : Ts} {j x : Int} (g : Bd n t) (a : 0 ≤ x) (b : x ≤ 20000) : Bd n (tset t 66 j x) := g.put (by rw [show bl0 66 = 0 by decide +kernel, show bsm 66 = 0 by decide +kernel]; omega) (by rw [show bh0 66 = 20000 by decide +kernel, show bsl 66 = 0 by decide +kernel]; omega)
theorem b_67 {n : Int} {t : Ts} (g : Bd n t) : 0 ≤ t 67 0 ∧ t 67 0 ≤ 1 := by
  have w := g.2 67 0 (by unfold bdv; omega) (by decide) (by decide +kernel)
  rw [show bl0 67 = 0 by decide +kernel, show bsm 67 = 0 by decide +kernel, show bh0 67 = 1 by decide +kernel, show bsl 67 = 0 by decide +kernel] at w
  omega
theorem bp_67 {n : Int} {t : Ts} {j x : Int} (g : Bd n t) (a : 0 ≤ x) (b : x ≤ 1) : Bd n (tset t 67 j x) := g.put (by rw [show bl0 67 = 0 by decide +kernel, show bsm 67 = 0 by decide +kernel]; omega) (by rw [show bh0 67 = 1 by decide +kernel, show bsl 67 = 0 by decide +kernel]; omega)
theorem b_68 {n : Int} {t : Ts} (g : Bd n t) : 0 ≤ t 68 0 ∧ t 68 0 ≤ 0 + 1 * n := by
  have w := g.2 68 0 (by unfold bdv; omega) (by decide) (by decide +kernel)
  rw [show bl0 68 = 0 by decide +kernel, show bsm 68 = 0 by decide +kernel, show bh0 68 = 0 by decide +kernel, show bsl 68 = 1 by decide +kernel] at w
  omega
theorem bp_68 {n : Int} {t : Ts} {j x : Int} (g : Bd n t) (a : 0 ≤ x) (b : x ≤ 0 + 1 * n) : Bd n (tset t 68 j x) := g.put (by rw [show bl0 68 = 0 by decide +kernel, show bsm 68 = 0 by decide +kernel]; omega) (by rw [show bh0 68 = 0 by decide +kernel, show bsl 68 = 1 by decide +kernel]; omega)
theorem b_69 {n : Int} {t : Ts} {i : Int} (g : Bd n t) (i0 : 0 ≤ i) (i1 : i < 10) : 0 ≤ t 69 i ∧ t 69 i ≤ 4 := by
  have w := g.2 69 i (by unfold bdv; omega) i0 (lt_eq i1 (show td 69 = 10 by decide +kernel))
  rw [show bl0 69 = 0 by decide +kernel, show bsm 69 = 0 by decide +kernel, show bh0 69 = 4 by decide +kernel, show bsl 69 = 0 by decide +kernel] at w
  omega
theorem bp_69 {n : Int} {t : Ts} {j x : Int} (g : Bd n t) (a : 0 ≤ x) (b : x ≤ 4) : Bd n (tset t 69 j x) := g.put (by rw [show bl0 69 = 0 by decide +kernel, show bsm 69 = 0 by decide +kernel]; omega) (by rw [show bh0 69 = 4 by decide +kernel, show bsl 69 = 0 by decide +kernel]; omega)
theorem br_69 {n : Int} {t : Ts} {lo hi : Int} {f : Int → Int} (g : Bd n t) (a : ∀ k : Int, lo ≤ k → k < hi → 0 ≤ k → k < 10 → 0 ≤ f k ∧ f k ≤ 4) : Bd n (tsr t 69 lo hi f) := g.putr (fun k p q k0 k1 => by
  rw [show bl0 69 = 0 by decide +kernel, show bsm 69 = 0 by decide +kernel, show bh0 69 = 4 by decide +kernel, show bsl 69 = 0 by decide +kernel]
  have w := a k p q k0 (by rw [show td 69 = 10 by decide +kernel] at k1; exact k1)
  omega)
theorem b_70 {n : Int} {t : Ts} {i : Int} (g : Bd n t) (i0 : 0 ≤ i) (i1 : i < 10) : 0 ≤ t 70 i ∧ t 70 i ≤ 0 + 1 * n := by
  have w := g.2 70 i (by unfold bdv; omega) i0 (lt_eq i1 (show td 70 = 10 by decide +kernel))
  rw [show bl0 70 = 0 by decide +kernel, show bsm 70 = 0 by decide +kernel, show bh0 70 = 0 by decide +kernel, show bsl 70 = 1 by decide +kernel] at w
  omega
theorem bp_70 {n : Int} {t : Ts} {j x : Int} (g : Bd n t) (a : 0 ≤ x) (b : x ≤ 0 + 1 * n) : Bd n (tset t 70 j x) := g.put (by rw [show bl0 70 = 0 by decide +kernel, show bsm 70 = 0 by decide +kernel]; omega) (by rw [show bh0 70 = 0 by decide +kernel, show bsl 70 = 1 by decide +kernel]; omega)
theorem br_70 {n : Int} {t : Ts} {lo hi : Int} {f : Int → Int} (g : Bd n t) (a : ∀ k : Int, lo ≤ k → k < hi → 0 ≤ k → k < 10 → 0 ≤ f k ∧ f k ≤ 0 + 1 * n) : Bd n (tsr t 70 lo hi f) := g.putr (fun k p q k0 k1 => by
  rw [show bl0 70 = 0 by decide +kernel, show bsm 70 = 0 by decide +kernel, show bh0 70 = 0 by decide +kernel, show bsl 70 = 1 by decide +kernel]
  have w := a k p q k0 (by rw [show td 70 = 10 by decide +kernel] at k1; exact k1)
  omega)
theorem b_71 {n : Int} {t : Ts} {i : Int} (g : Bd n t) (i0 : 0 ≤ i) (i1 : i < 18) : 0 ≤ t 71 i ∧ t 71 i ≤ 1 := by
  have w := g.2 71 i (by unfold bdv; omega) i0 (lt_eq i1 (show td 71 = 18 by decide +kernel))
  rw [show bl0 71 = 0 by decide +kernel, show bsm 71 = 0 by decide +kernel, show bh0 71 = 1 by decide +kernel, show bsl 71 = 0 by decide +kernel] at w
  omega
theorem bp_71 {n : Int} {t : Ts} {j x : Int} (g : Bd n t) (a : 0 ≤ x) (b : x ≤ 1) : Bd n (tset t 71 j x) := g.put (by rw [show bl0 71 = 0 by decide +kernel, show bsm 71 = 0 by decide +kernel]; omega) (by rw [show bh0 71 = 1 by decide +kernel, show bsl 71 = 0 by decide +kernel]; omega)
theorem br_71 {n : Int} {t : Ts} {lo hi : Int} {f : Int → Int} (g : Bd n t) (a : ∀ k : Int, lo ≤ k → k < hi → 0 ≤ k → k < 18 → 0 ≤ f k ∧ f k ≤ 1) : Bd n (tsr t 71 lo hi f) := g.putr (fun k p q k0 k1 => by
  rw [show bl0 71 = 0 by decide +kernel, show bsm 71 = 0 by decide +kernel, show bh0 71 = 1 by decide +kernel, show bsl 71 = 0 by decide +kernel]
  have w := a k p q k0 (by rw [show td 71 = 18 by decide +kernel] at k1; exact k1)
  omega)
theorem b_72 {n : Int} {t : Ts} (g : Bd n t) : 0 ≤ t 72 0 ∧ t 72 0 ≤ 0 + 18 * n := by
  have w := g.2 72 0 (by unfold bdv; omega) (by decide) (by decide +kernel)
  rw [show bl0 72 = 0 by decide +kernel, show bsm 72 = 0 by decide +kernel, show bh0 72 = 0 by decide +kernel, show bsl 72 = 18 by decide +kernel] at w
  omega
theorem bp_72 {n : Int} {t : Ts} {j x : Int} (g : Bd n t) (a : 0 ≤ x) (b : x ≤ 0 + 18 * n) : Bd n (tset t 72 j x) := g.put (by rw [show bl0 72 = 0 by decide +kernel, show bsm 72 = 0 by decide +kernel]; omega) (by rw [show bh0 72 = 0 by decide +kernel, show bsl 72 = 18 by decide +kernel]; omega)
theorem b_73 {n : Int} {t : Ts} {i : Int} (g : Bd n t) (i0 : 0 ≤ i) (i1 : i < 32) : 0 ≤ t 73 i ∧ t 73 i ≤ 17 := by
  have w := g.2 73 i (by unfold bdv; omega) i0 (lt_eq i1 (show td 73 = 32 by decide +kernel))
  rw [show bl0 73 = 0 by decide +kernel, show bsm 73 = 0 by decide +kernel, show bh0 73 = 17 by decide +kernel, show bsl 73 = 0 by decide +kernel] at w
  omega
theorem bp_73 {n : Int} {t : Ts} {j x : Int} (g : Bd n t) (a : 0 ≤ x) (b : x ≤ 17) : Bd n (tset t 73 j x) := g.put (by rw [show bl0 73 = 0 by decide +kernel, show bsm 73 = 0 by decide +kernel]; omega) (by rw [show bh0 73 = 17 by decide +kernel, show bsl 73 = 0 by decide +kernel]; omega)
theorem br_73 {n : Int} {t : Ts} {lo hi : Int} {f : Int → Int} (g : Bd n t) (a : ∀ k : Int, lo ≤ k → k < hi → 0 ≤ k → k < 32 → 0 ≤ f k ∧ f k ≤ 17) : Bd n (tsr t 73 lo hi f) := g.putr (fun k p q k0 k1 => by
  rw [show bl0 73 = 0 by decide +kernel, show bsm 73 = 0 by decide +kernel, show bh0 73 = 17 by decide +kernel, show bsl 73 = 0 by decide +kernel]
  have w := a k p q k0 (by rw [show td 73 = 32 by decide +kernel] at k1; exact k1)
  omega)
theorem b_74 {n : Int} {t : Ts} {i : Int} (g : Bd n t) (i0 : 0 ≤ i) (i1 : i < 32) : 0 ≤ t 74 i ∧ t 74 i ≤ 2000000 := by
  have w := g.2 74 i (by unfold bdv; omega) i0 (lt_eq i1 (show td 74 = 32 by decide +kernel))
  rw [show bl0 74 = 0 by decide +kernel, show bsm 74 = 0 by decide +kernel, show bh0 74 = 2000000 by decide +kernel, show bsl 74 = 0 by decide +kernel] at w
  omega
theorem bp_74 {n : Int} {t : Ts} {j x : Int} (g : Bd n t) (a : 0 ≤ x) (b : x ≤ 2000000) : Bd n (tset t 74 j x) := g.put (by rw [show bl0 74 = 0 by decide +kernel, show bsm 74 = 0 by decide +kernel]; omega) (by rw [show bh0 74 = 2000000 by decide +kernel, show bsl 74 = 0 by decide +kernel]; omega)
theorem br_74 {n : Int} {t : Ts} {lo hi : Int} {f : Int → Int} (g : Bd n t) (a : ∀ k : Int, lo ≤ k → k < hi → 0 ≤ k → k < 32 → 0 ≤ f k ∧ f k ≤ 2000000) : Bd n (tsr t 74 lo hi f) := g.putr (fun k p q k0 k1 => by
  rw [show bl0 74 = 0 by decide +kernel, show bsm 74 = 0 by decide +kernel, show bh0 74 = 2000000 by decide +kernel, show bsl 74 = 0 by decide +kernel]
  have w := a k p q k0 (by rw [show td 74 = 32 by decide +kernel] at k1; exact k1)
  omega)
theorem b_75 {n : Int} {t : Ts} {i : Int} (g : Bd n t) (i0 : 0 ≤ i) (i1 : i < 8) : 0 ≤ t 75 i ∧ t 75 i ≤ 1 := by
  have w := g.2 75 i (by unfold bdv; omega) i0 (lt_eq i1 (show td 75 = 8 by decide +kernel))
  rw [show bl0 75 = 0 by decide +kernel, show bsm 75 = 0 by decide +kernel, show bh0 75 = 1 by decide +kernel, show bsl 75 = 0 by decide +kernel] at w
  omega
theorem bp_75 {n : Int} {t : Ts} {j x : Int} (g : Bd n t) (a : 0 ≤ x) (b : x ≤ 1) : Bd n (tset t 75 j x) := g.put (by rw [show bl0 75 = 0 by decide +kernel, show bsm 75 = 0 by decide +kernel]; omega) (by rw [show bh0 75 = 1 by decide +kernel, show bsl 75 = 0 by decide +kernel]; omega)
theorem br_75 {n : Int} {t : Ts} {lo hi : Int} {f : Int → Int} (g : Bd n t) (a : ∀ k : Int, lo ≤ k → k < hi → 0 ≤ k → k < 8 → 0 ≤ f k ∧ f k ≤ 1) : Bd n (tsr t 75 lo hi f) := g.putr (fun k p q k0 k1 => by
  rw [show bl0 75 = 0 by decide +kernel, show bsm 75 = 0 by decide +kernel, show bh0 75 = 1 by decide +kernel, show bsl 75 = 0 by decide +kernel]
  have w := a k p q k0 (by rw [show td 75 = 8 by decide +kernel] at k1; exact k1)
  omega)
theorem b_76 {n : Int} {t : Ts} {i : Int} (g : Bd n t) (i0 : 0 ≤ i) (i1 : i < 8) : 0 ≤ t 76 i ∧ t 76 i ≤ 6 := by
  have w := g.2 76 i (by unfold bdv; omega) i0 (lt_eq i1 (show td 76 = 8 by decide +kernel))
  rw [show bl0 76 = 0 by decide +kernel, show bsm 76 = 0 by decide +kernel, show bh0 76 = 6 by decide +kernel, show bsl 76 = 0 by decide +kernel] at w
  omega
theorem bp_76 {n : Int} {t : Ts} {j x : Int} (g : Bd n t) (a : 0 ≤ x) (b : x ≤ 6) : Bd n (tset t 76 j x) := g.put (by rw [show bl0 76 = 0 by decide +kernel, show bsm 76 = 0 by decide +kernel]; omega) (by rw [show bh0 76 = 6 by decide +kernel, show bsl 76 = 0 by decide +kernel]; omega)
theorem br_76 {n : Int} {t : Ts} {lo hi : Int} {f : Int → Int} (g : Bd n t) (a : ∀ k : Int, lo ≤ k → k < hi → 0 ≤ k → k < 8 → 0 ≤ f k ∧ f k ≤ 6) : Bd n (tsr t 76 lo hi f) := g.putr (fun k p q k0 k1 => by
  rw [show bl0 76 = 0 by decide +kernel, show bsm 76 = 0 by decide +kernel, show bh0 76 = 6 by decide +kernel, show bsl 76 = 0 by decide +kernel]
  have w := a k p q k0 (by rw [show td 76 = 8 by decide +kernel] at k1; exact k1)
  omega)
theorem b_77 {n : Int} {t : Ts} {i : Int} (g : Bd n t) (i0 : 0 ≤ i) (i1 : i < 8) : 0 ≤ t 77 i ∧ t 77 i ≤ 10 := by
  have w := g.2 77 i (by unfold bdv; omega) i0 (lt_eq i1 (show td 77 = 8 by decide +kernel))
  rw [show bl0 77 = 0 by decide +kernel, show bsm 77 = 0 by decide +kernel, show bh0 77 = 10 by decide +kernel, show bsl 77 = 0 by decide +kernel] at w
  omega
theorem bp_77 {n : Int} {t : Ts} {j x : Int} (g : Bd n t) (a : 0 ≤ x) (b : x ≤ 10) : Bd n (tset t 77 j x) := g.put (by rw [show bl0 77 = 0 by decide +kernel, show bsm 77 = 0 by decide +kernel]; omega) (by rw [show bh0 77 = 10 by decide +kernel, show bsl 77 = 0 by decide +kernel]; omega)
theorem br_77 {n : Int} {t : Ts} {lo hi : Int} {f : Int → Int} (g : Bd n t) (a : ∀ k : Int, lo ≤ k → k < hi → 0 ≤ k → k < 8 → 0 ≤ f k ∧ f k ≤ 10) : Bd n (tsr t 77 lo hi f) := g.putr (fun k p q k0 k1 => by
  rw [show bl0 77 = 0 by decide +kernel, show bsm 77 = 0 by decide +kernel, show bh0 77 = 10 by decide +kernel, show bsl 77 = 0 by decide +kernel]
  have w := a k p q k0 (by rw [show td 77 = 8 by decide +kernel] at k1; exact k1)
  omega)
theorem b_78 {n : Int} {t : Ts} {i : Int} (g : Bd n t) (i0 : 0 ≤ i) (i1 : i < 8) : 0 ≤ t 78 i ∧ t 78 i ≤ 0 + 1 * n := by
  have w := g.2 78 i (by unfold bdv; omega) i0 (lt_eq i1 (show td 78 = 8 by decide +kernel))
  rw [show bl0 78 = 0 by decide +kernel, show bsm 78 = 0 by decide +kernel, show bh0 78 = 0 by decide +kernel, show bsl 78 = 1 by decide +kernel] at w
  omega
theorem bp_78 {n : Int} {t : Ts} {j x : Int} (g : Bd n t) (a : 0 ≤ x) (b : x ≤ 0 + 1 * n) : Bd n (tset t 78 j x) := g.put (by rw [show bl0 78 = 0 by decide +kernel, show bsm 78 = 0 by decide +kernel]; omega) (by rw [show bh0 78 = 0 by decide +kernel, show bsl 78 = 1 by decide +kernel]; omega)
theorem br_78 {n : Int} {t : Ts} {lo hi : Int} {f : Int → Int} (g : Bd n t) (a : ∀ k : Int, lo ≤ k → k < hi → 0 ≤ k → k < 8 → 0 ≤ f k ∧ f k ≤ 0 + 1 * n) : Bd n (tsr t 78 lo hi f) := g.putr (fun k p q k0 k1 => by
  rw [show bl0 78 = 0 by decide +kernel, show bsm 78 = 0 by decide +kernel, show bh0 78 = 0 by decide +kernel, show bsl 78 = 1 by decide +kernel]
  have w := a k p q k0 (by rw [show td 78 = 8 by decide +kernel] at k1; exact k1)
  omega)
theorem b_80 {n : Int} {t : Ts} {i : Int} (g : Bd n t) (i0 : 0 ≤ i) (i1 : i < 16) : 0 ≤ t 80 i ∧ t 80 i ≤ 1 := by
  have w := g.2 80 i (by unfold bdv; omega) i0 (lt_eq i1 (show td 80 = 16 by decide +kernel))
  rw [show bl0 80 = 0 by decide +kernel, show bsm 80 = 0 by decide +kernel, show bh0 80 = 1 by decide +kernel, show bsl 80 = 0 by decide +kernel] at w
  omega
theorem bp_80 {n : Int} {t : Ts} {j x : Int} (g : Bd n t) (a : 0 ≤ x) (b : x ≤ 1) : Bd n (tset t 80 j x) := g.put (by rw [show bl0 80 = 0 by decide +kernel, show bsm 80 = 0 by decide +kernel]; omega) (by rw [show bh0 80 = 1 by decide +kernel, show bsl 80 = 0 by decide +kernel]; omega)
theorem br_80 {n : Int} {t : Ts} {lo hi : Int} {f : Int → Int} (g : Bd n t) (a : ∀ k : Int, lo ≤ k → k < hi → 0 ≤ k → k < 16 → 0 ≤ f k ∧ f k ≤ 1) : Bd n (tsr t 80 lo hi f) := g.putr (fun k p q k0 k1 => by
  rw [show bl0 80 = 0 by decide +kernel, show bsm 80 = 0 by decide +kernel, show bh0 80 = 1 by decide +kernel, show bsl 80 = 0 by decide +kernel]
  have w := a k p q k0 (by rw [show td 80 = 16 by decide +kernel] at k1; exact k1)
  omega)
theorem b_81 {n : Int} {t : Ts} {i : Int} (g : Bd n t) (i0 : 0 ≤ i) (i1 : i < 16) : 0 ≤ t 81 i ∧ t 81 i ≤ 4 := by
  have w := g.2 81 i (by unfold bdv; omega) i0 (lt_eq i1 (show td 81 = 16 by decide +kernel))
  rw [show bl0 81 = 0 by decide +kernel, show bsm 81 = 0 by decide +kernel, show bh0 81 = 4 by decide +kernel, show bsl 81 = 0 by decide +kernel] at w
  omega
theorem bp_81 {n : Int} {t : Ts} {j x : Int} (g : Bd n t) (a : 0 ≤ x) (b : x ≤ 4) : Bd n (tset t 81 j x) := g.put (by rw [show bl0 81 = 0 by decide +kernel, show bsm 81 = 0 by decide +kernel]; omega) (by rw [show bh0 81 = 4 by decide +kernel, show bsl 81 = 0 by decide +kernel]; omega)
theorem br_81 {n : Int} {t : Ts} {lo hi : Int} {f : Int → Int} (g : Bd n t) (a : ∀ k : Int, lo ≤ k → k < hi → 0 ≤ k → k < 16 → 0 ≤ f k ∧ f k ≤ 4) : Bd n (tsr t 81 lo hi f) := g.putr (fun k p q k0 k1 => by
  rw [show bl0 81 = 0 by decide +kernel, show bsm 81 = 0 by decide +kernel, show bh0 81 = 4 by decide +kernel, show bsl 81 = 0 by decide +kernel]
  have w := a k p q k0 (by rw [show td 81 = 16 by decide +kernel] at k1; exact k1)
  omega)
theorem b_82 {n : Int} {t : Ts} {i : Int} (g : Bd n t) (i0 : 0 ≤ i) (i1 : i < 16) : 0 ≤ t 82 i ∧ t 82 i ≤ 47 := by
  have w := g.2 82 i (by unfold bdv; omega) i0 (lt_eq i1 (show td 82 = 16 by decide +kernel))
  rw [show bl0 82 = 0 by decide +kernel, show bsm 82 = 0 by decide +kernel, show bh0 82 = 47 by decide +kernel, show bsl 82 = 0 by decide +kernel] at w
  omega
theorem bp_82 {n : Int} {t : Ts} {j x : Int} (g : Bd n t) (a : 0 ≤ x) (b : x ≤ 47) : Bd n (tset t 82 j x) := g.put (by rw [show bl0 82 = 0 by decide +kernel, show bsm 82 = 0 by decide +kernel]; omega) (by rw [show bh0 82 = 47 by decide +kernel, show bsl 82 = 0 by decide +kernel]; omega)
theorem br_82 {n : Int} {t : Ts} {lo hi : Int} {f : Int → Int} (g : Bd n t) (a : ∀ k : Int, lo ≤ k → k < hi → 0 ≤ k → k < 16 → 0 ≤ f k ∧ f k ≤ 47) : Bd n (tsr t 82 lo hi f) := g.putr (fun k p q k0 k1 => by
  rw [show bl0 82 = 0 by decide +kernel, show bsm 82 = 0 by decide +kernel, show bh0 82 = 47 by decide +kernel, show bsl 82 = 0 by decide +kernel]
  have w := a k p q k0 (by rw [show td 82 = 16 by decide +kernel] at k1; exact k1)
  omega)
theorem b_83 {n : Int} {t : Ts} {i : Int} (g : Bd n t) (i0 : 0 ≤ i) (i1 : i < 16) : 0 ≤ t 83 i ∧ t 83 i ≤ 3 := by
  have w := g.2 83 i (by unfold bdv; omega) i0 (lt_eq i1 (show td 83 = 16 by decide +kernel))
  rw [show bl0 83 = 0 by decide +kernel, show bsm 83 = 0 by decide +kernel, show bh0 83 = 3 by decide +kernel, show bsl 83 = 0 by decide +kernel] at w
  omega
theorem bp_83 {n : Int} {t : Ts} {j x : Int} (g : Bd n t) (a : 0 ≤ x) (b : x ≤ 3) : Bd n (tset t 83 j x) := g.put (by rw [show bl0 83 = 0 by decide +kernel, show bsm 83 = 0 by decide +kernel]; omega) (by rw [show bh0 83 = 3 by decide +kernel, show bsl 83 = 0 by decide +kernel]; omega)
theorem br_83 {n : Int} {t : Ts} {lo hi : Int} {f : Int → Int} (g : Bd n t) (a : ∀ k : Int, lo ≤ k → k < hi → 0 ≤ k → k < 16 → 0 ≤ f k ∧ f k ≤ 3) : Bd n (tsr t 83 lo hi f) := g.putr (fun k p q k0 k1 => by
  rw [show bl0 83 = 0 by decide +kernel, show bsm 83 = 0 by decide +kernel, show bh0 83 = 3 by decide +kernel, show bsl 83 = 0 by decide +kernel]
  have w := a k p q k0 (by rw [show td 83 = 16 by decide +kernel] at k1; exact k1)
  omega)
theorem b_84 {n : Int} {t : Ts} {i : Int} (g : Bd n t) (i0 : 0 ≤ i) (i1 : i < 16) : 0 ≤ t 84 i ∧ t 84 i ≤ 2000000 := by
  have w := g.2 84 i (by unfold bdv; omega) i0 (lt_eq i1 (show td 84 = 16 by decide +kernel))
  rw [show bl0 84 = 0 by decide +kernel, show bsm 84 = 0 by decide +kernel, show bh0 84 = 2000000 by decide +kernel, show bsl 84 = 0 by decide +kernel] at w
  omega
theorem bp_84 {n : Int} {t : Ts} {j x : Int} (g : Bd n t) (a : 0 ≤ x) (b : x ≤ 2000000) : Bd n (tset t 84 j x) := g.put (by rw [show bl0 84 = 0 by decide +kernel, show bsm 84 = 0 by decide +kernel]; omega) (by rw [show bh0 84 = 2000000 by decide +kernel, show bsl 84 = 0 by decide +kernel]; omega)
theorem br_84 {n : Int} {t : Ts} {lo hi : Int} {f : Int → Int} (g : Bd n t) (a : ∀ k : Int, lo ≤ k → k < hi → 0 ≤ k → k < 16 → 0 ≤ f k ∧ f k ≤ 2000000) : Bd n (tsr t 84 lo hi f) := g.putr (fun k p q k0 k1 => by
  rw [show bl0 84 = 0 by decide +kernel, show bsm 84 = 0 by decide +kernel, show bh0 84 = 2000000 by decide +kernel, show bsl 84 = 0 by decide +kernel]
  have w := a k p q k0 (by rw [show td 84 = 16 by decide +kernel] at k1; exact k1)
  omega)
theorem b_85 {n : Int} {t : Ts} {i : Int} (g : Bd n t) (i0 : 0 ≤ i) (i1 : i < 16) : 0 ≤ t 85 i ∧ t 85 i ≤ 1000000000 + 3 * n := by
  have w := g.2 85 i (by unfold bdv; omega) i0 (lt_eq i1 (show td 85 = 16 by decide +kernel))
  rw [show bl0 85 = 0 by decide +kernel, show bsm 85 = 0 by decide +kernel, show bh0 85 = 1000000000 by decide +kernel, show bsl 85 = 3 by decide +kernel] at w
  omega
theorem bp_85 {n : Int} {t : Ts} {j x : Int} (g : Bd n t) (a : 0 ≤ x) (b : x ≤ 1000000000 + 3 * n) : Bd n (tset t 85 j x) := g.put (by rw [show bl0 85 = 0 by decide +kernel, show bsm 85 = 0 by decide +kernel]; omega) (by rw [show bh0 85 = 1000000000 by decide +kernel, show bsl 85 = 3 by decide +kernel]; omega)
theorem br_85 {n : Int} {t : Ts} {lo hi : Int} {f : Int → Int} (g : Bd n t) (a : ∀ k : Int, lo ≤ k → k < hi → 0 ≤ k → k < 16 → 0 ≤ f k ∧ f k ≤ 1000000000 + 3 * n) : Bd n (tsr t 85 lo hi f) := g.putr (fun k p q k0 k1 => by
  rw [show bl0 85 = 0 by decide +kernel, show bsm 85 = 0 by decide +kernel, show bh0 85 = 1000000000 by decide +kernel, show bsl 85 = 3 by decide +kernel]
  have w := a k p q k0 (by rw [show td 85 = 16 by decide +kernel] at k1; exact k1)
  omega)
theorem b_86 {n : Int} {t : Ts} {i : Int} (g : Bd n t) (i0 : 0 ≤ i) (i1 : i < 16) : -1 ≤ t 86 i ∧ t 86 i ≤ 1 := by
  have w := g.2 86 i (by unfold bdv; omega) i0 (lt_eq i1 (show td 86 = 16 by decide +kernel))
  rw [show bl0 86 = -1 by decide +kernel, show bsm 86 = 0 by decide +kernel, show bh0 86 = 1 by decide +kernel, show bsl 86 = 0 by decide +kernel] at w
  omega
theorem bp_86 {n : Int} {t : Ts} {j x : Int} (g : Bd n t) (a : -1 ≤ x) (b : x ≤ 1) : Bd n (tset t 86 j x) := g.put (by rw [show bl0 86 = -1 by decide +kernel, show bsm 86 = 0 by decide +kernel]; omega) (by rw [show bh0 86 = 1 by decide +kernel, show bsl 86 = 0 by decide +kernel]; omega)
theorem br_86 {n : Int} {t : Ts} {lo hi : Int} {f : Int → Int} (g : Bd n t) (a : ∀ k : Int, lo ≤ k → k < hi → 0 ≤ k → k < 16 → -1 ≤ f k ∧ f k ≤ 1) : Bd n (tsr t 86 lo hi f) := g.putr (fun k p q k0 k1 => by
  rw [show bl0 86 = -1 by decide +kernel, show bsm 86 = 0 by decide +kernel, show bh0 86 = 1 by decide +kernel, show bsl 86 = 0 by decide +kernel]
  have w := a k p q k0 (by rw [show td 86 = 16 by decide +kernel] at k1; exact k1)
  omega)
theorem b_87 {n : Int} {t : Ts} (g : Bd n t) : 0 ≤ t 87 0 ∧ t 87 0 ≤ 1000000001 + 3 * n := by
  have w := g.2 87 0 (by unfold bdv; omega) (by decide) (by decide +kernel)
  rw [show bl0 87 = 0 by decide +kernel, show bsm 87 = 0 by decide +kernel, show bh0 87 = 1000000001 by decide +kernel, show bsl 87 = 3 by decide +kernel] at w
  omega
theorem bp_87 {n : Int} {t : Ts} {j x : Int} (g : Bd n t) (a : 0 ≤ x) (b : x ≤ 1000000001 + 3 * n) : Bd n (tset t 87 j x) := g.put (by rw [show bl0 87 = 0 by decide +kernel, show bsm 87 = 0 by decide +kernel]; omega) (by rw [show bh0 87 = 1000000001 by decide +kernel, show bsl 87 = 3 by decide +kernel]; omega)
theorem b_88 {n : Int} {t : Ts} {i : Int} (g : Bd n t) (i0 : 0 ≤ i) (i1 : i < 12) : 0 ≤ t 88 i ∧ t 88 i ≤ 15 := by
  have w := g.2 88 i (by unfold bdv; omega) i0 (lt_eq i1 (show td 88 = 12 by decide +kernel))
  rw [show bl0 88 = 0 by decide +kernel, show bsm 88 = 0 by decide +kernel, show bh0 88 = 15 by decide +kernel, show bsl 88 = 0 by decide +kernel] at w
  omega
theorem bp_88 {n : Int} {t : Ts} {j x : Int} (g : Bd n t) (a : 0 ≤ x) (b : x ≤ 15) : Bd n (tset t 88 j x) := g.put (by rw [show bl0 88 = 0 by decide +kernel, show bsm 88 = 0 by decide +kernel]; omega) (by rw [show bh0 88 = 15 by decide +kernel, show bsl 88 = 0 by decide +kernel]; omega)
theorem br_88 {n : Int} {t : Ts} {lo hi : Int} {f : Int → Int} (g : Bd n t) (a : ∀ k : Int, lo ≤ k → k < hi → 0 ≤ k → k < 12 → 0 ≤ f k ∧ f k ≤ 15) : Bd n (tsr t 88 lo hi f) := g.putr (fun k p q k0 k1 => by
  rw [show bl0 88 = 0 by decide +kernel, show bsm 88 = 0 by decide +kernel, show bh0 88 = 15 by decide +kernel, show bsl 88 = 0 by decide +kernel]
  have w := a k p q k0 (by rw [show td 88 = 12 by decide +kernel] at k1; exact k1)
  omega)
theorem b_89 {n : Int} {t : Ts} {i : Int} (g : Bd n t) (i0 : 0 ≤ i) (i1 : i < 12) : 0 ≤ t 89 i ∧ t 89 i ≤ 3000000 := by
  have w := g.2 89 i (by unfold bdv; omega) i0 (lt_eq i1 (show td 89 = 12 by decide +kernel))
  rw [show bl0 89 = 0 by decide +kernel, show bsm 89 = 0 by decide +kernel, show bh0 89 = 3000000 by decide +kernel, show bsl 89 = 0 by decide +kernel] at w
  omega
theorem bp_89 {n : Int} {t : Ts} {j x : Int} (g : Bd n t) (a : 0 ≤ x) (b : x ≤ 3000000) : Bd n (tset t 89 j x) := g.put (by rw [show bl0 89 = 0 by decide +kernel, show bsm 89 = 0 by decide +kernel]; omega) (by rw [show bh0 89 = 3000000 by decide +kernel, show bsl 89 = 0 by decide +kernel]; omega)
theorem br_89 {n : Int} {t : Ts} {lo hi : Int} {f : Int → Int} (g : Bd n t) (a : ∀ k : Int, lo ≤ k → k < hi → 0 ≤ k → k < 12 → 0 ≤ f k ∧ f k ≤ 3000000) : Bd n (tsr t 89 lo hi f) := g.putr (fun k p q k0 k1 => by
  rw [show bl0 89 = 0 by decide +kernel, show bsm 89 = 0 by decide +kernel, show bh0 89 = 3000000 by decide +kernel, show bsl 89 = 0 by decide +kernel]
  have w := a k p q k0 (by rw [show td 89 = 12 by decide +kernel] at k1; exact k1)
  omega)
theorem b_90 {n : Int} {t : Ts} {i : Int} (g : Bd n t) (i0 : 0 ≤ i) (i1 : i < 2) : 0 ≤ t 90 i ∧ t 90 i ≤ 6 := by
  have w := g.2 90 i (by unfold bdv; omega) i0 (lt_eq i1 (show td 90 = 2 by decide +kernel))
  rw [show bl0 90 = 0 by decide +kernel, show bsm 90 = 0 by decide +kernel, show bh0 90 = 6 by decide +kernel, show bsl 90 = 0 by decide +kernel] at w
  omega
theorem bp_90 {n : Int} {t : Ts} {j x : Int} (g : Bd n t) (a : 0 ≤ x) (b : x ≤ 6) : Bd n (tset t 90 j x) := g.put (by rw [show bl0 90 = 0 by decide +kernel, show bsm 90 = 0 by decide +kernel]; omega) (by rw [show bh0 90 = 6 by decide +kernel, show bsl 90 = 0 by decide +kernel]; omega)
theorem br_90 {n : Int} {t : Ts} {lo hi : Int} {f : Int → Int} (g : Bd n t) (a : ∀ k : Int, lo ≤ k → k < hi → 0 ≤ k → k < 2 → 0 ≤ f k ∧ f k ≤ 6) : Bd n (tsr t 90 lo hi f) := g.putr (fun k p q k0 k1 => by
  rw [show bl0 90 = 0 by decide +kernel, show bsm 90 = 0 by decide +kernel, show bh0 90 = 6 by decide +kernel, show bsl 90 = 0 by decide +kernel]
  have w := a k p q k0 (by rw [show td 90 = 2 by decide +kernel] at k1; exact k1)
  omega)
theorem b_91 {n : Int} {t : Ts} {i : Int} (g : Bd n t) (i0 : 0 ≤ i) (i1 : i < 2) : 0 ≤ t 91 i ∧ t 91 i ≤ 6 := by
  have w := g.2 91 i (by unfold bdv; omega) i0 (lt_eq i1 (show td 91 = 2 by decide +kernel))
  rw [show bl0 91 = 0 by decide +kernel, show bsm 91 = 0 by decide +kernel, show bh0 91 = 6 by decide +kernel, show bsl 91 = 0 by decide +kernel] at w
  omega
theorem bp_91 {n : Int} {t : Ts} {j x : Int} (g : Bd n t) (a : 0 ≤ x) (b : x ≤ 6) : Bd n (tset t 91 j x) := g.put (by rw [show bl0 91 = 0 by decide +kernel, show bsm 91 = 0 by decide +kernel]; omega) (by rw [show bh0 91 = 6 by decide +kernel, show bsl 91 = 0 by decide +kernel]; omega)
theorem br_91 {n : Int} {t : Ts} {lo hi : Int} {f : Int → Int} (g : Bd n t) (a : ∀ k : Int, lo ≤ k → k < hi → 0 ≤ k → k < 2 → 0 ≤ f k ∧ f k ≤ 6) : Bd n (tsr t 91 lo hi f) := g.putr (fun k p q k0 k1 => by
  rw [show bl0 91 = 0 by decide +kernel, show bsm 91 = 0 by decide +kernel, show bh0 91 = 6 by decide +kernel, show bsl 91 = 0 by decide +kernel]
  have w := a k p q k0 (by rw [show td 91 = 2 by decide +kernel] at k1; exact k1)
  omega)
theorem b_92 {n : Int} {t : Ts} {i : Int} (g : Bd n t) (i0 : 0 ≤ i) (i1 : i < 2) : -1 ≤ t 92 i ∧ t 92 i ≤ 3000000 := by
  have w := g.2 92 i (by unfold bdv; omega) i0 (lt_eq i1 (show td 92 = 2 by decide +kernel))
  rw [show bl0 92 = -1 by decide +kernel, show bsm 92 = 0 by decide +kernel, show bh0 92 = 3000000 by decide +kernel, show bsl 92 = 0 by decide +kernel] at w
  omega
theorem bp_92 {n : Int} {t : Ts} {j x : Int} (g : Bd n t) (a : -1 ≤ x) (b : x ≤ 3000000) : Bd n (tset t 92 j x) := g.put (by rw [show bl0 92 = -1 by decide +kernel, show bsm 92 = 0 by decide +kernel]; omega) (by rw [show bh0 92 = 3000000 by decide +kernel, show bsl 92 = 0 by decide +kernel]; omega)
theorem br_92 {n : Int} {t : Ts} {lo hi : Int} {f : Int → Int} (g : Bd n t) (a : ∀ k : Int, lo ≤ k → k < hi → 0 ≤ k → k < 2 → -1 ≤ f k ∧ f k ≤ 3000000) : Bd n (tsr t 92 lo hi f) := g.putr (fun k p q k0 k1 => by
  rw [show bl0 92 = -1 by decide +kernel, show bsm 92 = 0 by decide +kernel, show bh0 92 = 3000000 by decide +kernel, show bsl 92 = 0 by decide +kernel]
  have w := a k p q k0 (by rw [show td 92 = 2 by decide +kernel] at k1; exact k1)
  omega)
theorem b_96 {n : Int} {t : Ts} (g : Bd n t) : 0 ≤ t 96 0 ∧ t 96 0 ≤ 8 := by
  have w := g.2 96 0 (by unfold bdv; omega) (by decide) (by decide +kernel)
  rw [show bl0 96 = 0 by decide +kernel, show bsm 96 = 0 by decide +kernel, show bh0 96 = 8 by decide +kernel, show bsl 96 = 0 by decide +kernel] at w
  omega
theorem bp_96 {n : Int} {t : Ts} {j x : Int} (g : Bd n t) (a : 0 ≤ x) (b : x ≤ 8) : Bd n (tset t 96 j x) := g.put (by rw [show bl0 96 = 0 by decide +kernel, show bsm 96 = 0 by decide +kernel]; omega) (by rw [show bh0 96 = 8 by decide +kernel, show bsl 96 = 0 by decide +kernel]; omega)
theorem b_97 {n : Int} {t : Ts} {i : Int} (g : Bd n t) (i0 : 0 ≤ i) (i1 : i < 8) : 0 ≤ t 97 i ∧ t 97 i ≤ 2 := by
  have w := g.2 97 i (by unfold bdv; omega) i0 (lt_eq i1 (show td 97 = 8 by decide +kernel))
  rw [show bl0 97 = 0 by decide +kernel, show bsm 97 = 0 by decide +kernel, show bh0 97 = 2 by decide +kernel, show bsl 97 = 0 by decide +kernel] at w
  omega
theorem bp_97 {n : Int} {t : Ts} {j x : Int} (g : Bd n t) (a : 0 ≤ x) (b : x ≤ 2) : Bd n (tset t 97 j x) := g.put (by rw [show bl0 97 = 0 by decide +kernel, show bsm 97 = 0 by decide +kernel]; omega) (by rw [show bh0 97 = 2 by decide +kernel, show bsl 97 = 0 by decide +kernel]; omega)
theorem br_97 {n : Int} {t : Ts} {lo hi : Int} {f : Int → Int} (g : Bd n t) (a : ∀ k : Int, lo ≤ k → k < hi → 0 ≤ k → k < 8 → 0 ≤ f k ∧ f k ≤ 2) : Bd n (tsr t 97 lo hi f) := g.putr (fun k p q k0 k1 => by
  rw [show bl0 97 = 0 by decide +kernel, show bsm 97 = 0 by decide +kernel, show bh0 97 = 2 by decide +kernel, show bsl 97 = 0 by decide +kernel]
  have w := a k p q k0 (by rw [show td 97 = 8 by decide +kernel] at k1; exact k1)
  omega)
theorem b_98 {n : Int} {t : Ts} {i : Int} (g : Bd n t) (i0 : 0 ≤ i) (i1 : i < 8) : 0 ≤ t 98 i ∧ t 98 i ≤ 9 := by
  have w := g.2 98 i (by unfold bdv; omega) i0 (lt_eq i1 (show td 98 = 8 by decide +kernel))
  rw [show bl0 98 = 0 by decide +kernel, show bsm 98 = 0 by decide +kernel, show bh0 98 = 9 by decide +kernel, show bsl 98 = 0 by decide +kernel] at w
  omega
theorem bp_98 {n : Int} {t : Ts} {j x : Int} (g : Bd n t) (a : 0 ≤ x) (b : x ≤ 9) : Bd n (tset t 98 j x) := g.put (by rw [show bl0 98 = 0 by decide +kernel, show bsm 98 = 0 by decide +kernel]; omega) (by rw [show bh0 98 = 9 by decide +kernel, show bsl 98 = 0 by decide +kernel]; omega)
theorem br_98 {n : Int} {t : Ts} {lo hi : Int} {f : Int → Int} (g : Bd n t) (a : ∀ k : Int, lo ≤ k → k < hi → 0 ≤ k → k < 8 → 0 ≤ f k ∧ f k ≤ 9) : Bd n (tsr t 98 lo hi f) := g.putr (fun k p q k0 k1 => by
  rw [show bl0 98 = 0 by decide +kernel, show bsm 98 = 0 by decide +kernel, show bh0 98 = 9 by decide +kernel, show bsl 98 = 0 by decide +kernel]
  have w := a k p q k0 (by rw [show td 98 = 8 by decide +kernel] at k1; exact k1)
  omega)
theorem b_99 {n : Int} {t : Ts} {i : Int} (g : Bd n t) (i0 : 0 ≤ i) (i1 : i < 8) : 0 ≤ t 99 i ∧ t 99 i ≤ 3000000 := by
  have w := g.2 99 i (by unfold bdv; omega) i0 (lt_eq i1 (show td 99 = 8 by decide +kernel))
  rw [show bl0 99 = 0 by decide +kernel, show bsm 99 = 0 by decide +kernel, show bh0 99 = 3000000 by decide +kernel, show bsl 99 = 0 by decide +kernel] at w
  omega
theorem bp_99 {n : Int} {t : Ts} {j x : Int} (g : Bd n t) (a : 0 ≤ x) (b : x ≤ 3000000) : Bd n (tset t 99 j x) := g.put (by rw [show bl0 99 = 0 by decide +kernel, show bsm 99 = 0 by decide +kernel]; omega) (by rw [show bh0 99 = 3000000 by decide +kernel, show bsl 99 = 0 by decide +kernel]; omega)
theorem br_99 {n : Int} {t : Ts} {lo hi : Int} {f : Int → Int} (g : Bd n t) (a : ∀ k : Int, lo ≤ k → k < hi → 0 ≤ k → k < 8 → 0 ≤ f k ∧ f k ≤ 3000000) : Bd n (tsr t 99 lo hi f) := g.putr (fun k p q k0 k1 => by
  rw [show bl0 99 = 0 by decide +kernel, show bsm 99 = 0 by decide +kernel, show bh0 99 = 3000000 by decide +kernel, show bsl 99 = 0 by decide +kernel]
  have w := a k p q k0 (by rw [show td 99 = 8 by decide +kernel] at k1; exact k1)
  omega)
theorem b_100 {n : Int} {t : Ts} {i : Int} (g : Bd n t) (i0 : 0 ≤ i) (i1 : i < 3) : 0 ≤ t 100 i ∧ t 100 i ≤ 100000000 + 1 * n := by
  have w := g.2 100 i (by unfold bdv; omega) i0 (lt_eq i1 (show td 100 = 3 by decide +kernel))
  rw [show bl0 100 = 0 by decide +kernel, show bsm 100 = 0 by decide +kernel, show bh0 100 = 100000000 by decide +kernel, show bsl 100 = 1 by decide +kernel] at w
  omega
theorem bp_100 {n : Int} {t : Ts} {j x : Int} (g : Bd n t) (a : 0 ≤ x) (b : x ≤ 100000000 + 1 * n) : Bd n (tset t 100 j x) := g.put (by rw [show bl0 100 = 0 by decide +kernel, show bsm 100 = 0 by decide +kernel]; omega) (by rw [show bh0 100 = 100000000 by decide +kernel, show bsl 100 = 1 by decide +kernel]; omega)
theorem br_100 {n : Int} {t : Ts} {lo hi : Int} {f : Int → Int} (g : Bd n t) (a : ∀ k : Int, lo ≤ k → k < hi → 0 ≤ k → k < 3 → 0 ≤ f k ∧ f k ≤ 100000000 + 1 * n) : Bd n (tsr t 100 lo hi f) := g.putr (fun k p q k0 k1 => by
  rw [show bl0 100 = 0 by decide +kernel, show bsm 100 = 0 by decide +kernel, show bh0 100 = 100000000 by decide +kernel, show bsl 100 = 1 by decide +kernel]
  have w := a k p q k0 (by rw [show td 100 = 3 by decide +kernel] at k1; exact k1)
  omega)
theorem b_101 {n : Int} {t : Ts} {i : Int} (g : Bd n t) (i0 : 0 ≤ i) (i1 : i < 3) : 0 ≤ t 101 i ∧ t 101 i ≤ 99 := by
  have w := g.2 101 i (by unfold bdv; omega) i0 (lt_eq i1 (show td 101 = 3 by decide +kernel))
  rw [show bl0 101 = 0 by decide +kernel, show bsm 101 = 0 by decide +kernel, show bh0 101 = 99 by decide +kernel, show bsl 101 = 0 by decide +kernel] at w
  omega
theorem bp_101 {n : Int} {t : Ts} {j x : Int} (g : Bd n t) (a : 0 ≤ x) (b : x ≤ 99) : Bd n (tset t 101 j x) := g.put (by rw [show bl0 101 = 0 by decide +kernel, show bsm 101 = 0 by decide +kernel]; omega) (by rw [show bh0 101 = 99 by decide +kernel, show bsl 101 = 0 by decide +kernel]; omega)
theorem br_101 {n : Int} {t : Ts} {lo hi : Int} {f : Int → Int} (g : Bd n t) (a : ∀ k : Int, lo ≤ k → k < hi → 0 ≤ k → k < 3 → 0 ≤ f k ∧ f k ≤ 99) : Bd n (tsr t 101 lo hi f) := g.putr (fun k p q k0 k1 => by
  rw [show bl0 101 = 0 by decide +kernel, show bsm 101 = 0 by decide +kernel, show bh0 101 = 99 by decide +kernel, show bsl 101 = 0 by decide +kernel]
  have w := a k p q k0 (by rw [show td 101 = 3 by decide +kernel] at k1; exact k1)
  omega)
theorem b_102 {n : Int} {t : Ts} {i : Int} (g : Bd n t) (i0 : 0 ≤ i) (i1 : i < 3) : 0 ≤ t 102 i ∧ t 102 i ≤ 1 := by
  have w := g.2 102 i (by unfold bdv; omega) i0 (lt_eq i1 (show td 102 = 3 by decide +kernel))
  rw [show bl0 102 = 0 by decide +kernel, show bsm 102 = 0 by decide +kernel, show bh0 102 = 1 by decide +kernel, show bsl 102 = 0 by decide +kernel] at w
  omega
theorem bp_102 {n : Int} {t : Ts} {j x : Int} (g : Bd n t) (a : 0 ≤ x) (b : x ≤ 1) : Bd n (tset t 102 j x) := g.put (by rw [show bl0 102 = 0 by decide +kernel, show bsm 102 = 0 by decide +kernel]; omega) (by rw [show bh0 102 = 1 by decide +kernel, show bsl 102 = 0 by decide +kernel]; omega)
theorem br_102 {n : Int} {t : Ts} {lo hi : Int} {f : Int → Int} (g : Bd n t) (a : ∀ k : Int, lo ≤ k → k < hi → 0 ≤ k → k < 3 → 0 ≤ f k ∧ f k ≤ 1) : Bd n (tsr t 102 lo hi f) := g.putr (fun k p q k0 k1 => by
  rw [show bl0 102 = 0 by decide +kernel, show bsm 102 = 0 by decide +kernel, show bh0 102 = 1 by decide +kernel, show bsl 102 = 0 by decide +kernel]
  have w := a k p q k0 (by rw [show td 102 = 3 by decide +kernel] at k1; exact k1)
  omega)
theorem b_103 {n : Int} {t : Ts} {i : Int} (g : Bd n t) (i0 : 0 ≤ i) (i1 : i < 20) : 0 ≤ t 103 i ∧ t 103 i ≤ 1 := by
  have w := g.2 103 i (by unfold bdv; omega) i0 (lt_eq i1 (show td 103 = 20 by decide +kernel))
  rw [show bl0 103 = 0 by decide +kernel, show bsm 103 = 0 by decide +kernel, show bh0 103 = 1 by decide +kernel, show bsl 103 = 0 by decide +kernel] at w
  omega
theorem bp_103 {n : Int} {t : Ts} {j x : Int} (g : Bd n t) (a : 0 ≤ x) (b : x ≤ 1) : Bd n (tset t 103 j x) := g.put (by rw [show bl0 103 = 0 by decide +kernel, show bsm 103 = 0 by decide +kernel]; omega) (by rw [show bh0 103 = 1 by decide +kernel, show bsl 103 = 0 by decide +kernel]; omega)
theorem br_103 {n : Int} {t : Ts} {lo hi : Int} {f : Int → Int} (g : Bd n t) (a : ∀ k : Int, lo ≤ k → k < hi → 0 ≤ k → k < 20 → 0 ≤ f k ∧ f k ≤ 1) : Bd n (tsr t 103 lo hi f) := g.putr (fun k p q k0 k1 => by
  rw [show bl0 103 = 0 by decide +kernel, show bsm 103 = 0 by decide +kernel, show bh0 103 = 1 by decide +kernel, show bsl 103 = 0 by decide +kernel]
  have w := a k p q k0 (by rw [show td 103 = 20 by decide +kernel] at k1; exact k1)
  omega)
theorem b_104 {n : Int} {t : Ts} {i : Int} (g : Bd n t) (i0 : 0 ≤ i) (i1 : i < 20) : 0 ≤ t 104 i ∧ t 104 i ≤ 4 := by
  have w := g.2 104 i (by unfold bdv; omega) i0 (lt_eq i1 (show td 104 = 20 by decide +kernel))
  rw [show bl0 104 = 0 by decide +kernel, show bsm 104 = 0 by decide +kernel, show bh0 104 = 4 by decide +kernel, show bsl 104 = 0 by decide +kernel] at w
  omega
theorem bp_104 {n : Int} {t : Ts} {j x : Int} (g : Bd n t) (a : 0 ≤ x) (b : x ≤ 4) : Bd n (tset t 104 j x) := g.put (by rw [show bl0 104 = 0 by decide +kernel, show bsm 104 = 0 by decide +kernel]; omega) (by rw [show bh0 104 = 4 by decide +kernel, show bsl 104 = 0 by decide +kernel]; omega)
theorem br_104 {n : Int} {t : Ts} {lo hi : Int} {f : Int → Int} (g : Bd n t) (a : ∀ k : Int, lo ≤ k → k < hi → 0 ≤ k → k < 20 → 0 ≤ f k ∧ f k ≤ 4) : Bd n (tsr t 104 lo hi f) := g.putr (fun k p q k0 k1 => by
  rw [show bl0 104 = 0 by decide +kernel, show bsm 104 = 0 by decide +kernel, show bh0 104 = 4 by decide +kernel, show bsl 104 = 0 by decide +kernel]
  have w := a k p q k0 (by rw [show td 104 = 20 by decide +kernel] at k1; exact k1)
  omega)
theorem b_105 {n : Int} {t : Ts} {i : Int} (g : Bd n t) (i0 : 0 ≤ i) (i1 : i < 20) : 0 ≤ t 105 i ∧ t 105 i ≤ 109 := by
  have w := g.2 105 i (by unfold bdv; omega) i0 (lt_eq i1 (show td 105 = 20 by decide +kernel))
  rw [show bl0 105 = 0 by decide +kernel, show bsm 105 = 0 by decide +kernel, show bh0 105 = 109 by decide +kernel, show bsl 105 = 0 by decide +kernel] at w
  omega
theorem bp_105 {n : Int} {t : Ts} {j x : Int} (g : Bd n t) (a : 0 ≤ x) (b : x ≤ 109) : Bd n (tset t 105 j x) := g.put (by rw [show bl0 105 = 0 by decide +kernel, show bsm 105 = 0 by decide +kernel]; omega) (by rw [show bh0 105 = 109 by decide +kernel, show bsl 105 = 0 by decide +kernel]; omega)
theorem br_105 {n : Int} {t : Ts} {lo hi : Int} {f : Int → Int} (g : Bd n t) (a : ∀ k : Int, lo ≤ k → k < hi → 0 ≤ k → k < 20 → 0 ≤ f k ∧ f k ≤ 109) : Bd n (tsr t 105 lo hi f) := g.putr (fun k p q k0 k1 => by
  rw [show bl0 105 = 0 by decide +kernel, show bsm 105 = 0 by decide +kernel, show bh0 105 = 109 by decide +kernel, show bsl 105 = 0 by decide +kernel]
  have w := a k p q k0 (by rw [show td 105 = 20 by decide +kernel] at k1; exact k1)
  omega)
theorem b_106 {n : Int} {t : Ts} {i : Int} (g : Bd n t) (i0 : 0 ≤ i) (i1 : i < 40) : 0 ≤ t 106 i ∧ t 106 i ≤ 1 := by
  have w := g.2 106 i (by unfold bdv; omega) i0 (lt_eq i1 (show td 106 = 40 by decide +kernel))
  rw [show bl0 106 = 0 by decide +kernel, show bsm 106 = 0 by decide +kernel, show bh0 106 = 1 by decide +kernel, show bsl 106 = 0 by decide +kernel] at w
  omega
theorem bp_106 {n : Int} {t : Ts} {j x : Int} (g : Bd n t) (a : 0 ≤ x) (b : x ≤ 1) : Bd n (tset t 106 j x) := g.put (by rw [show bl0 106 = 0 by decide +kernel, show bsm 106 = 0 by decide +kernel]; omega) (by rw [show bh0 106 = 1 by decide +kernel, show bsl 106 = 0 by decide +kernel]; omega)
theorem br_106 {n : Int} {t : Ts} {lo hi : Int} {f : Int → Int} (g : Bd n t) (a : ∀ k : Int, lo ≤ k → k < hi → 0 ≤ k → k < 40 → 0 ≤ f k ∧ f k ≤ 1) : Bd n (tsr t 106 lo hi f) := g.putr (fun k p q k0 k1 => by
  rw [show bl0 106 = 0 by decide +kernel, show bsm 106 = 0 by decide +kernel, show bh0 106 = 1 by decide +kernel, show bsl 106 = 0 by decide +kernel]
  have w := a k p q k0 (by rw [show td 106 = 40 by decide +kernel] at k1; exact k1)
  omega)
theorem b_107 {n : Int} {t : Ts} {i : Int} (g : Bd n t) (i0 : 0 ≤ i) (i1 : i < 40) : 0 ≤ t 107 i ∧ t 107 i ≤ 1048575 := by
  have w := g.2 107 i (by unfold bdv; omega) i0 (lt_eq i1 (show td 107 = 40 by decide +kernel))
  rw [show bl0 107 = 0 by decide +kernel, show bsm 107 = 0 by decide +kernel, show bh0 107 = 1048575 by decide +kernel, show bsl 107 = 0 by decide +kernel] at w
  omega
theorem bp_107 {n : Int} {t : Ts} {j x : Int} (g : Bd n t) (a : 0 ≤ x) (b : x ≤ 1048575) : Bd n (tset t 107 j x) := g.put (by rw [show bl0 107 = 0 by decide +kernel, show bsm 107 = 0 by decide +kernel]; omega) (by rw [show bh0 107 = 1048575 by decide +kernel, show bsl 107 = 0 by decide +kernel]; omega)
theorem br_107 {n : Int} {t : Ts} {lo hi : Int} {f : Int → Int} (g : Bd n t) (a : ∀ k : Int, lo ≤ k → k < hi → 0 ≤ k → k < 40 → 0 ≤ f k ∧ f k ≤ 1048575) : Bd n (tsr t 107 lo hi f) := g.putr (fun k p q k0 k1 => by
  rw [show bl0 107 = 0 by decide +kernel, show bsm 107 = 0 by decide +kernel, show bh0 107 = 1048575 by decide +kernel, show bsl 107 = 0 by decide +kernel]
  have w := a k p q k0 (by rw [show td 107 = 40 by decide +kernel] at k1; exact k1)
  omega)
theorem b_108 {n : Int} {t : Ts} {i : Int} (g : Bd n t) (i0 : 0 ≤ i) (i1 : i < 40) : 0 ≤ t 108 i ∧ t 108 i ≤ 23 := by
  have w := g.2 108 i (by unfold bdv; omega) i0 (lt_eq i1 (show td 108 = 40 by decide +kernel))
  rw [show bl0 108 = 0 by decide +kernel, show bsm 108 = 0 by decide +kernel, show bh0 108 = 23 by decide +kernel, show bsl 108 = 0 by decide +kernel] at w
  omega
theorem bp_108 {n : Int} {t : Ts} {j x : Int} (g : Bd n t) (a : 0 ≤ x) (b : x ≤ 23) : Bd n (tset t 108 j x) := g.put (by rw [show bl0 108 = 0 by decide +kernel, show bsm 108 = 0 by decide +kernel]; omega) (by rw [show bh0 108 = 23 by decide +kernel, show bsl 108 = 0 by decide +kernel]; omega)
theorem br_108 {n : Int} {t : Ts} {lo hi : Int} {f : Int → Int} (g : Bd n t) (a : ∀ k : Int, lo ≤ k → k < hi → 0 ≤ k → k < 40 → 0 ≤ f k ∧ f k ≤ 23) : Bd n (tsr t 108 lo hi f) := g.putr (fun k p q k0 k1 => by
  rw [show bl0 108 = 0 by decide +kernel, show bsm 108 = 0 by decide +kernel, show bh0 108 = 23 by decide +kernel, show bsl 108 = 0 by decide +kernel]
  have w := a k p q k0 (by rw [show td 108 = 40 by decide +kernel] at k1; exact k1)
  omega)
theorem b_109 {n : Int} {t : Ts} {i : Int} (g : Bd n t) (i0 : 0 ≤ i) (i1 : i < 40) : 0 ≤ t 109 i ∧ t 109 i ≤ 23 := by
  have w := g.2 109 i (by unfold bdv; omega) i0 (lt_eq i1 (show td 109 = 40 by decide +kernel))
  rw [show bl0 109 = 0 by decide +kernel, show bsm 109 = 0 by decide +kernel, show bh0 109 = 23 by decide +kernel, show bsl 109 = 0 by decide +kernel] at w
  omega
theorem bp_109 {n : Int} {t : Ts} {j x : Int} (g : Bd n t) (a : 0 ≤ x) (b : x ≤ 23) : Bd n (tset t 109 j x) := g.put (by rw [show bl0 109 = 0 by decide +kernel, show bsm 109 = 0 by decide +kernel]; omega) (by rw [show bh0 109 = 23 by decide +kernel, show bsl 109 = 0 by decide +kernel]; omega)
theorem br_109 {n : Int} {t : Ts} {lo hi : Int} {f : Int → Int} (g : Bd n t) (a : ∀ k : Int, lo ≤ k → k < hi → 0 ≤ k → k < 40 → 0 ≤ f k ∧ f k ≤ 23) : Bd n (tsr t 109 lo hi f) := g.putr (fun k p q k0 k1 => by
  rw [show bl0 109 = 0 by decide +kernel, show bsm 109 = 0 by decide +kernel, show bh0 109 = 23 by decide +kernel, show bsl 109 = 0 by decide +kernel]
  have w := a k p q k0 (by rw [show td 109 = 40 by decide +kernel] at k1; exact k1)
  omega)
theorem b_110 {n : Int} {t : Ts} {i : Int} (g : Bd n t) (i0 : 0 ≤ i) (i1 : i < 40) : 0 ≤ t 110 i ∧ t 110 i ≤ 1 := by
  have w := g.2 110 i (by unfold bdv; omega) i0 (lt_eq i1 (show td 110 = 40 by decide +kernel))
  rw [show bl0 110 = 0 by decide +kernel, show bsm 110 = 0 by decide +kernel, show bh0 110 = 1 by decide +kernel, show bsl 110 = 0 by decide +kernel] at w
  omega
theorem bp_110 {n : Int} {t : Ts} {j x : Int} (g : Bd n t) (a : 0 ≤ x) (b : x ≤ 1) : Bd n (tset t 110 j x) := g.put (by rw [show bl0 110 = 0 by decide +kernel, show bsm 110 = 0 by decide +kernel]; omega) (by rw [show bh0 110 = 1 by decide +kernel, show bsl 110 = 0 by decide +kernel]; omega)
theorem br_110 {n : Int} {t : Ts} {lo hi : Int} {f : Int → Int} (g : Bd n t) (a : ∀ k : Int, lo ≤ k → k < hi → 0 ≤ k → k < 40 → 0 ≤ f k ∧ f k ≤ 1) : Bd n (tsr t 110 lo hi f) := g.putr (fun k p q k0 k1 => by
  rw [show bl0 110 = 0 by decide +kernel, show bsm 110 = 0 by decide +kernel, show bh0 110 = 1 by decide +kernel, show bsl 110 = 0 by decide +kernel]
  have w := a k p q k0 (by rw [show td 110 = 40 by decide +kernel] at k1; exact k1)
  omega)
theorem b_111 {n : Int} {t : Ts} {i : Int} (g : Bd n t) (i0 : 0 ≤ i) (i1 : i < 40) : -1 ≤ t 111 i ∧ t 111 i ≤ 239 := by
  have w := g.2 111 i (by unfold bdv; omega) i0 (lt_eq i1 (show td 111 = 40 by decide +kernel))
  rw [show bl0 111 = -1 by decide +kernel, show bsm 111 = 0 by decide +kernel, show bh0 111 = 239 by decide +kernel, show bsl 111 = 0 by decide +kernel] at w
  omega
theorem bp_111 {n : Int} {t : Ts} {j x : Int} (g : Bd n t) (a : -1 ≤ x) (b : x ≤ 239) : Bd n (tset t 111 j x) := g.put (by rw [show bl0 111 = -1 by decide +kernel, show bsm 111 = 0 by decide +kernel]; omega) (by rw [show bh0 111 = 239 by decide +kernel, show bsl 111 = 0 by decide +kernel]; omega)
theorem br_111 {n : Int} {t : Ts} {lo hi : Int} {f : Int → Int} (g : Bd n t) (a : ∀ k : Int, lo ≤ k → k < hi → 0 ≤ k → k < 40 → -1 ≤ f k ∧ f k ≤ 239) : Bd n (tsr t 111 lo hi f) := g.putr (fun k p q k0 k1 => by
  rw [show bl0 111 = -1 by decide +kernel, show bsm 111 = 0 by decide +kernel, show bh0 111 = 239 by decide +kernel, show bsl 111 = 0 by decide +kernel]
  have w := a k p q k0 (by rw [show td 111 = 40 by decide +kernel] at k1; exact k1)
  omega)
theorem b_112 {n : Int} {t : Ts} (g : Bd n t) : 0 ≤ t 112 0 ∧ t 112 0 ≤ 0 + 1 * n := by
  have w := g.2 112 0 (by unfold bdv; omega) (by decide) (by decide +kernel)
  rw [show bl0 112 = 0 by decide +kernel, show bsm 112 = 0 by decide +kernel, show bh0 112 = 0 by decide +kernel, show bsl 112 = 1 by decide +kernel] at w
  omega
theorem bp_112 {n : Int} {t : Ts} {j x : Int} (g : Bd n t) (a : 0 ≤ x) (b : x ≤ 0 + 1 * n) : Bd n (tset t 112 j x) := g.put (by rw [show bl0 112 = 0 by decide +kernel, show bsm 112 = 0 by decide +kernel]; omega) (by rw [show bh0 112 = 0 by decide +kernel, show bsl 112 = 1 by decide +kernel]; omega)
theorem b_113 {n : Int} {t : Ts} {i : Int} (g : Bd n t) (i0 : 0 ≤ i) (i1 : i < 64) : 0 ≤ t 113 i ∧ t 113 i ≤ 2000000 := by
  have w := g.2 113 i (by unfold bdv; omega) i0 (lt_eq i1 (show td 113 = 64 by decide +kernel))
  rw [show bl0 113 = 0 by decide +kernel, show bsm 113 = 0 by decide +kernel, show bh0 113 = 2000000 by decide +kernel, show bsl 113 = 0 by decide +kernel] at w
  omega
theorem bp_113 {n : Int} {t : Ts} {j x : Int} (g : Bd n t) (a : 0 ≤ x) (b : x ≤ 2000000) : Bd n (tset t 113 j x) := g.put (by rw [show bl0 113 = 0 by decide +kernel, show bsm 113 = 0 by decide +kernel]; omega) (by rw [show bh0 113 = 2000000 by decide +kernel, show bsl 113 = 0 by decide +kernel]; omega)
theorem br_113 {n : Int} {t : Ts} {lo hi : Int} {f : Int → Int} (g : Bd n t) (a : ∀ k : Int, lo ≤ k → k < hi → 0 ≤ k → k < 64 → 0 ≤ f k ∧ f k ≤ 2000000) : Bd n (tsr t 113 lo hi f) := g.putr (fun k p q k0 k1 => by
  rw [show bl0 113 = 0 by decide +kernel, show bsm 113 = 0 by decide +kernel, show bh0 113 = 2000000 by decide +kernel, show bsl 113 = 0 by decide +kernel]
  have w := a k p q k0 (by rw [show td 113 = 64 by decide +kernel] at k1; exact k1)
  omega)
theorem b_114 {n : Int} {t : Ts} {i : Int} (g : Bd n t) (i0 : 0 ≤ i) (i1 : i < 64) : 0 ≤ t 114 i ∧ t 114 i ≤ 39 := by
  have w := g.2 114 i (by unfold bdv; omega) i0 (lt_eq i1 (show td 114 = 64 by decide +kernel))
  rw [show bl0 114 = 0 by decide +kernel, show bsm 114 = 0 by decide +kernel, show bh0 114 = 39 by decide +kernel, show bsl 114 = 0 by decide +kernel] at w
  omega
theorem bp_114 {n : Int} {t : Ts} {j x : Int} (g : Bd n t) (a : 0 ≤ x) (b : x ≤ 39) : Bd n (tset t 114 j x) := g.put (by rw [show bl0 114 = 0 by decide +kernel, show bsm 114 = 0 by decide +kernel]; omega) (by rw [show bh0 114 = 39 by decide +kernel, show bsl 114 = 0 by decide +kernel]; omega)
theorem br_114 {n : Int} {t : Ts} {lo hi : Int} {f : Int → Int} (g : Bd n t) (a : ∀ k : Int, lo ≤ k → k < hi → 0 ≤ k → k < 64 → 0 ≤ f k ∧ f k ≤ 39) : Bd n (tsr t 114 lo hi f) := g.putr (fun k p q k0 k1 => by
  rw [show bl0 114 = 0 by decide +kernel, show bsm 114 = 0 by decide +kernel, show bh0 114 = 39 by decide +kernel, show bsl 114 = 0 by decide +kernel]
  have w := a k p q k0 (by rw [show td 114 = 64 by decide +kernel] at k1; exact k1)
  omega)
theorem b_115 {n : Int} {t : Ts} {i : Int} (g : Bd n t) (i0 : 0 ≤ i) (i1 : i < 64) : 0 ≤ t 115 i ∧ t 115 i ≤ 19 := by
  have w := g.2 115 i (by unfold bdv; omega) i0 (lt_eq i1 (show td 115 = 64 by decide +kernel))
  rw [show bl0 115 = 0 by decide +kernel, show bsm 115 = 0 by decide +kernel, show bh0 115 = 19 by decide +kernel, show bsl 115 = 0 by decide +kernel] at w
  omega
theorem bp_115 {n : Int} {t : Ts} {j x : Int} (g : Bd n t) (a : 0 ≤ x) (b : x ≤ 19) : Bd n (tset t 115 j x) := g.put (by rw [show bl0 115 = 0 by decide +kernel, show bsm 115 = 0 by decide +kernel]; omega) (by rw [show bh0 115 = 19 by decide +kernel, show bsl 115 = 0 by decide +kernel]; omega)
theorem br_115 {n : Int} {t : Ts} {lo hi : Int} {f : Int → Int} (g : Bd n t) (a : ∀ k : Int, lo ≤ k → k < hi → 0 ≤ k → k < 64 → 0 ≤ f k ∧ f k ≤ 19) : Bd n (tsr t 115 lo hi f) := g.putr (fun k p q k0 k1 => by
  rw [show bl0 115 = 0 by decide +kernel, show bsm 115 = 0 by decide +kernel, show bh0 115 = 19 by decide +kernel, show bsl 115 = 0 by decide +kernel]
  have w := a k p q k0 (by rw [show td 115 = 64 by decide +kernel] at k1; exact k1)
  omega)
theorem b_116 {n : Int} {t : Ts} {i : Int} (g : Bd n t) (i0 : 0 ≤ i) (i1 : i < 64) : 0 ≤ t 116 i ∧ t 116 i ≤ 4 := by
  have w := g.2 116 i (by unfold bdv; omega) i0 (lt_eq i1 (show td 116 = 64 by decide +kernel))
  rw [show bl0 116 = 0 by decide +kernel, show bsm 116 = 0 by decide +kernel, show bh0 116 = 4 by decide +kernel, show bsl 116 = 0 by decide +kernel] at w
  omega
theorem bp_116 {n : Int} {t : Ts} {j x : Int} (g : Bd n t) (a : 0 ≤ x) (b : x ≤ 4) : Bd n (tset t 116 j x) := g.put (by rw [show bl0 116 = 0 by decide +kernel, show bsm 116 = 0 by decide +kernel]; omega) (by rw [show bh0 116 = 4 by decide +kernel, show bsl 116 = 0 by decide +kernel]; omega)
theorem br_116 {n : Int} {t : Ts} {lo hi : Int} {f : Int → Int} (g : Bd n t) (a : ∀ k : Int, lo ≤ k → k < hi → 0 ≤ k → k < 64 → 0 ≤ f k ∧ f k ≤ 4) : Bd n (tsr t 116 lo hi f) := g.putr (fun k p q k0 k1 => by
  rw [show bl0 116 = 0 by decide +kernel, show bsm 116 = 0 by decide +kernel, show bh0 116 = 4 by decide +kernel, show bsl 116 = 0 by decide +kernel]
  have w := a k p q k0 (by rw [show td 116 = 64 by decide +kernel] at k1; exact k1)
  omega)
theorem b_117 {n : Int} {t : Ts} {i : Int} (g : Bd n t) (i0 : 0 ≤ i) (i1 : i < 11) : -2147483648 ≤ t 117 i ∧ t 117 i ≤ 2147483648 + 15000 * n := by
  have w := g.2 117 i (by unfold bdv; omega) i0 (lt_eq i1 (show td 117 = 11 by decide +kernel))
  rw [show bl0 117 = -2147483648 by decide +kernel, show bsm 117 = 0 by decide +kernel, show bh0 117 = 2147483648 by decide +kernel, show bsl 117 = 15000 by decide +kernel] at w
  omega
theorem bp_117 {n : Int} {t : Ts} {j x : Int} (g : Bd n t) (a : -2147483648 ≤ x) (b : x ≤ 2147483648 + 15000 * n) : Bd n (tset t 117 j x) := g.put (by rw [show bl0 117 = -2147483648 by decide +kernel, show bsm 117 = 0 by decide +kernel]; omega) (by rw [show bh0 117 = 2147483648 by decide +kernel, show bsl 117 = 15000 by decide +kernel]; omega)
theorem br_117 {n : Int} {t : Ts} {lo hi : Int} {f : Int → Int} (g : Bd n t) (a : ∀ k : Int, lo ≤ k → k < hi → 0 ≤ k → k < 11 → -2147483648 ≤ f k ∧ f k ≤ 2147483648 + 15000 * n) : Bd n (tsr t 117 lo hi f) := g.putr (fun k p q k0 k1 => by
  rw [show bl0 117 = -2147483648 by decide +kernel, show bsm 117 = 0 by decide +kernel, show bh0 117 = 2147483648 by decide +kernel, show bsl 117 = 15000 by decide +kernel]
  have w := a k p q k0 (by rw [show td 117 = 11 by decide +kernel] at k1; exact k1)
  omega)
theorem b_118 {n : Int} {t : Ts} {i : Int} (g : Bd n t) (i0 : 0 ≤ i) (i1 : i < 11) : 0 ≤ t 118 i ∧ t 118 i ≤ 100000000 + 2000 * n := by
  have w := g.2 118 i (by unfold bdv; omega) i0 (lt_eq i1 (show td 118 = 11 by decide +kernel))
  rw [show bl0 118 = 0 by decide +kernel, show bsm 118 = 0 by decide +kernel, show bh0 118 = 100000000 by decide +kernel, show bsl 118 = 2000 by decide +kernel] at w
  omega
theorem bp_118 {n : Int} {t : Ts} {j x : Int} (g : Bd n t) (a : 0 ≤ x) (b : x ≤ 100000000 + 2000 * n) : Bd n (tset t 118 j x) := g.put (by rw [show bl0 118 = 0 by decide +kernel, show bsm 118 = 0 by decide +kernel]; omega) (by rw [show bh0 118 = 100000000 by decide +kernel, show bsl 118 = 2000 by decide +kernel]; omega)
theorem br_118 {n : Int} {t : Ts} {lo hi : Int} {f : Int → Int} (g : Bd n t) (a : ∀ k : Int, lo ≤ k → k < hi → 0 ≤ k → k < 11 → 0 ≤ f k ∧ f k ≤ 100000000 + 2000 * n) : Bd n (tsr t 118 lo hi f) := g.putr (fun k p q k0 k1 => by
  rw [show bl0 118 = 0 by decide +kernel, show bsm 118 = 0 by decide +kernel, show bh0 118 = 100000000 by decide +kernel, show bsl 118 = 2000 by decide +kernel]
  have w := a k p q k0 (by rw [show td 118 = 11 by decide +kernel] at k1; exact k1)
  omega)
theorem b_119 {n : Int} {t : Ts} {i : Int} (g : Bd n t) (i0 : 0 ≤ i) (i1 : i < 11) : 0 ≤ t 119 i ∧ t 119 i ≤ 100000000 + 10 * n := by
  have w := g.2 119 i (by unfold bdv; omega) i0 (lt_eq i1 (show td 119 = 11 by decide +kernel))
  rw [show bl0 119 = 0 by decide +kernel, show bsm 119 = 0 by decide +kernel, show bh0 119 = 100000000 by decide +kernel, show bsl 119 = 10 by decide +kernel] at w
  omega
theorem bp_119 {n : Int} {t : Ts} {j x : Int} (g : Bd n t) (a : 0 ≤ x) (b : x ≤ 100000000 + 10 * n) : Bd n (tset t 119 j x) := g.put (by rw [show bl0 119 = 0 by decide +kernel, show bsm 119 = 0 by decide +kernel]; omega) (by rw [show bh0 119 = 100000000 by decide +kernel, show bsl 119 = 10 by decide +kernel]; omega)
theorem br_119 {n : Int} {t : Ts} {lo hi : Int} {f : Int → Int} (g : Bd n t) (a : ∀ k : Int, lo ≤ k → k < hi → 0 ≤ k → k < 11 → 0 ≤ f k ∧ f k ≤ 100000000 + 10 * n) : Bd n (tsr t 119 lo hi f) := g.putr (fun k p q k0 k1 => by
  rw [show bl0 119 = 0 by decide +kernel, show bsm 119 = 0 by decide +kernel, show bh0 119 = 100000000 by decide +kernel, show bsl 119 = 10 by decide +kernel]
  have w := a k p q k0 (by rw [show td 119 = 11 by decide +kernel] at k1; exact k1)
  omega)
theorem b_129 {n : Int} {t : Ts} {i : Int} (g : Bd n t) (i0 : 0 ≤ i) (i1 : i < 19200) : -128 ≤ t 129 i ∧ t 129 i ≤ 127 := by
  have w := g.2 129 i (by unfold bdv; omega) i0 (lt_eq i1 (show td 129 = 19200 by decide +kernel))
  rw [show bl0 129 = -128 by decide +kernel, show bsm 129 = 0 by decide +kernel, show bh0 129 = 127 by decide +kernel, show bsl 129 = 0 by decide +kernel] at w
  omega
theorem bp_129 {n : Int} {t : Ts} {j x : Int} (g : Bd n t) (a : -128 ≤ x) (b : x ≤ 127) : Bd n (tset t 129 j x) := g.put (by rw [show bl0 129 = -128 by decide +kernel, show bsm 129 = 0 by decide +kernel]; omega) (by rw [show bh0 129 = 127 by decide +kernel, show bsl 129 = 0 by decide +kernel]; omega)
theorem br_129 {n : Int} {t : Ts} {lo hi : Int} {f : Int → Int} (g : Bd n t) (a : ∀ k : Int, lo ≤ k → k < hi → 0 ≤ k → k < 19200 → -128 ≤ f k ∧ f k ≤ 127) : Bd n (tsr t 129 lo hi f) := g.putr (fun k p q k0 k1 => by
  rw [show bl0 129 = -128 by decide +kernel, show bsm 129 = 0 by decide +kernel, show bh0 129 = 127 by decide +kernel, show bsl 129 = 0 by decide +kernel]
  have w := a k p q k0 (by rw [show td 129 = 19200 by decide +kernel] at k1; exact k1)
  omega)
theorem b_130 {n : Int} {t : Ts} {i : Int} (g : Bd n t) (i0 : 0 ≤ i) (i1 : i < 135) : 0 ≤ t 130 i ∧ t 130 i ≤ 1 := by
  have w := g.2 130 i (by unfold bdv; omega) i0 (lt_eq i1 (show td 130 = 135 by decide +kernel))
  rw [show bl0 130 = 0 by decide +kernel, show bsm 130 = 0 by decide +kernel, show bh0 130 = 1 by decide +kernel, show bsl 130 = 0 by decide +kernel] at w
  omega
theorem bp_130 {n : Int} {t : Ts} {j x : Int} (g : Bd n t) (a : 0 ≤ x) (b : x ≤ 1) : Bd n (tset t 130 j x) := g.put (by rw [show bl0 130 = 0 by decide +kernel, show bsm 130 = 0 by decide +kernel]; omega) (by rw [show bh0 130 = 1 by decide +kernel, show bsl 130 = 0 by decide +kernel]; omega)
theorem br_130 {n : Int} {t : Ts} {lo hi : Int} {f : Int → Int} (g : Bd n t) (a : ∀ k : Int, lo ≤ k → k < hi → 0 ≤ k → k < 135 → 0 ≤ f k ∧ f k ≤ 1) : Bd n (tsr t 130 lo hi f) := g.putr (fun k p q k0 k1 => by
  rw [show bl0 130 = 0 by decide +kernel, show bsm 130 = 0 by decide +kernel, show bh0 130 = 1 by decide +kernel, show bsl 130 = 0 by decide +kernel]
  have w := a k p q k0 (by rw [show td 130 = 135 by decide +kernel] at k1; exact k1)
  omega)
theorem b_131 {n : Int} {t : Ts} {i : Int} (g : Bd n t) (i0 : 0 ≤ i) (i1 : i < 3780) : -128 ≤ t 131 i ∧ t 131 i ≤ 127 := by
  have w := g.2 131 i (by unfold bdv; omega) i0 (lt_eq i1 (show td 131 = 3780 by decide +kernel))
  rw [show bl0 131 = -128 by decide +kernel, show bsm 131 = 0 by decide +kernel, show bh0 131 = 127 by decide +kernel, show bsl 131 = 0 by decide +kernel] at w
  omega
theorem bp_131 {n : Int} {t : Ts} {j x : Int} (g : Bd n t) (a : -128 ≤ x) (b : x ≤ 127) : Bd n (tset t 131 j x) := g.put (by rw [show bl0 131 = -128 by decide +kernel, show bsm 131 = 0 by decide +kernel]; omega) (by rw [show bh0 131 = 127 by decide +kernel, show bsl 131 = 0 by decide +kernel]; omega)
theorem br_131 {n : Int} {t : Ts} {lo hi : Int} {f : Int → Int} (g : Bd n t) (a : ∀ k : Int, lo ≤ k → k < hi → 0 ≤ k → k < 3780 → -128 ≤ f k ∧ f k ≤ 127) : Bd n (tsr t 131 lo hi f) := g.putr (fun k p q k0 k1 => by
  rw [show bl0 131 = -128 by decide +kernel, show bsm 131 = 0 by decide +kernel, show bh0 131 = 127 by decide +kernel, show bsl 131 = 0 by decide +kernel]
  have w := a k p q k0 (by rw [show td 131 = 3780 by decide +kernel] at k1; exact k1)
  omega)
theorem b_133 {n : Int} {t : Ts} (g : Bd n t) : 0 ≤ t 133 0 ∧ t 133 0 ≤ 1 := by
  have w := g.2 133 0 (by unfold bdv; omega) (by decide) (by decide +kernel)
  rw [show bl0 133 = 0 by decide +kernel, show bsm 133 = 0 by decide +kernel, show bh0 133 = 1 by decide +kernel, show bsl 133 = 0 by decide +kernel] at w
  omega
theorem bp_133 {n : Int} {t : Ts} {j x : Int} (g : Bd n t) (a : 0 ≤ x) (b : x ≤ 1) : Bd n (tset t 133 j x) := g.put (by rw [show bl0 133 = 0 by decide +kernel, show bsm 133 = 0 by decide +kernel]; omega) (by rw [show bh0 133 = 1 by decide +kernel, show bsl 133 = 0 by decide +kernel]; omega)
theorem b_134 {n : Int} {t : Ts} (g : Bd n t) : 1 ≤ t 134 0 ∧ t 134 0 ≤ 1 + 20 * n := by
  have w := g.2 134 0 (by unfold bdv; omega) (by decide) (by decide +kernel)
  rw [show bl0 134 = 1 by decide +kernel, show bsm 134 = 0 by decide +kernel, show bh0 134 = 1 by decide +kernel, show bsl 134 = 20 by decide +kernel] at w
  omega
theorem bp_134 {n : Int} {t : Ts} {j x : Int} (g : Bd n t) (a : 1 ≤ x) (b : x ≤ 1 + 20 * n) : Bd n (tset t 134 j x) := g.put (by rw [show bl0 134 = 1 by decide +kernel, show bsm 134 = 0 by decide +kernel]; omega) (by rw [show bh0 134 = 1 by decide +kernel, show bsl 134 = 20 by decide +kernel]; omega)
theorem b_135 {n : Int} {t : Ts} (g : Bd n t) : 1 ≤ t 135 0 ∧ t 135 0 ≤ 200 := by
  have w := g.2 135 0 (by unfold bdv; omega) (by decide) (by decide +kernel)
  rw [show bl0 135 = 1 by decide +kernel, show bsm 135 = 0 by decide +kernel, show bh0 135 = 200 by decide +kernel, show bsl 135 = 0 by decide +kernel] at w
  omega
theorem bp_135 {n : Int} {t : Ts} {j x : Int} (g : Bd n t) (a : 1 ≤ x) (b : x ≤ 200) : Bd n (tset t 135 j x) := g.put (by rw [show bl0 135 = 1 by decide +kernel, show bsm 135 = 0 by decide +kernel]; omega) (by rw [show bh0 135 = 200 by decide +kernel, show bsl 135 = 0 by decide +kernel]; omega)
theorem b_136 {n : Int} {t : Ts} (g : Bd n t) : -1 ≤ t 136 0 ∧ t 136 0 ≤ 1000 := by
  have w := g.2 136 0 (by unfold bdv; omega) (by decide) (by decide +kernel)
  rw [show bl0 136 = -1 by decide +kernel, show bsm 136 = 0 by decide +kernel, show bh0 136 = 1000 by decide +kernel, show bsl 136 = 0 by decide +kernel] at w
  omega
theorem bp_136 {n : Int} {t : Ts} {j x : Int} (g : Bd n t) (a : -1 ≤ x) (b : x ≤ 1000) : Bd n (tset t 136 j x) := g.put (by rw [show bl0 136 = -1 by decide +kernel, show bsm 136 = 0 by decide +kernel]; omega) (by rw [show bh0 136 = 1000 by decide +kernel, show bsl 136 = 0 by decide +kernel]; omega)
theorem b_137 {n : Int} {t : Ts} (g : Bd n t) : 0 ≤ t 137 0 ∧ t 137 0 ≤ 1 := by
  have w := g.2 137 0 (by unfold bdv; omega) (by decide) (by decide +kernel)
  rw [show bl0 137 = 0 by decide +kernel, show bsm 137 = 0 by decide +kernel, show bh0 137 = 1 by decide +kernel, show bsl 137 = 0 by decide +kernel] at w
  omega
theorem bp_137 {n : Int} {t : Ts} {j x : Int} (g : Bd n t) (a : 0 ≤ x) (b : x ≤ 1) : Bd n (tset t 137 j x) := g.put (by rw [show bl0 137 = 0 by decide +kernel, show bsm 137 = 0 by decide +kernel]; omega) (by rw [show bh0 137 = 1 by decide +kernel, show bsl 137 = 0 by decide +kernel]; omega)
theorem b_140 {n : Int} {t : Ts} {i : Int} (g : Bd n t) (i0 : 0 ≤ i) (i1 : i < 4100) : -128 ≤ t 140 i ∧ t 140 i ≤ 127 := by
  have w := g.2 140 i (by unfold bdv; omega) i0 (lt_eq i1 (show td 140 = 4100 by decide +kernel))
  rw [show bl0 140 = -128 by decide +kernel, show bsm 140 = 0 by decide +kernel, show bh0 140 = 127 by decide +kernel, show bsl 140 = 0 by decide +kernel] at w
  omega
theorem bp_140 {n : Int} {t : Ts} {j x : Int} (g : Bd n t) (a : -128 ≤ x) (b : x ≤ 127) : Bd n (tset t 140 j x) := g.put (by rw [show bl0 140 = -128 by decide +kernel, show bsm 140 = 0 by decide +kernel]; omega) (by rw [show bh0 140 = 127 by decide +kernel, show bsl 140 = 0 by decide +kernel]; omega)
theorem br_140 {n : Int} {t : Ts} {lo hi : Int} {f : Int → Int} (g : Bd n t) (a : ∀ k : Int, lo ≤ k → k < hi → 0 ≤ k → k < 4100 → -128 ≤ f k ∧ f k ≤ 127) : Bd n (tsr t 140 lo hi f) := g.putr (fun k p q k0 k1 => by
  rw [show bl0 140 = -128 by decide +kernel, show bsm 140 = 0 by decide +kernel, show bh0 140 = 127 by decide +kernel, show bsl 140 = 0 by decide +kernel]
  have w := a k p q k0 (by rw [show td 140 = 4100 by decide +kernel] at k1; exact k1)
  omega)
theorem b_141 {n : Int} {t : Ts} (g : Bd n t) : 0 ≤ t 141 0 ∧ t 141 0 ≤ 4100 := by
  have w := g.2 141 0 (by unfold bdv; omega) (by decide) (by decide +kernel)
  rw [show bl0 141 = 0 by decide +kernel, show bsm 141 = 0 by decide +kernel, show bh0 141 = 4100 by decide +kernel, show bsl 141 = 0 by decide +kernel] at w
  omega
theorem bp_141 {n : Int} {t : Ts} {j x : Int} (g : Bd n t) (a : 0 ≤ x) (b : x ≤ 4100) : Bd n (tset t 141 j x) := g.put (by rw [show bl0 141 = 0 by decide +kernel, show bsm 141 = 0 by decide +kernel]; omega) (by rw [show bh0 141 = 4100 by decide +kernel, show bsl 141 = 0 by decide +kernel]; omega)
theorem b_142 {n : Int} {t : Ts} {i : Int} (g : Bd n t) (i0 : 0 ≤ i) (i1 : i < 4100) : -128 ≤ t 142 i ∧ t 142 i ≤ 127 := by
  have w := g.2 142 i (by unfold bdv; omega) i0 (lt_eq i1 (show td 142 = 4100 by decide +kernel))
  rw [show bl0 142 = -128 by decide +kernel, show bsm 142 = 0 by decide +kernel, show bh0 142 = 127 by decide +kernel, show bsl 142 = 0 by decide +kernel] at w
  omega
theorem bp_142 {n : Int} {t : Ts} {j x : Int} (g : Bd n t) (a : -128 ≤ x) (b : x ≤ 127) : Bd n (tset t 142 j x) := g.put (by rw [show bl0 142 = -128 by decide +kernel, show bsm 142 = 0 by decide +kernel]; omega) (by rw [show bh0 142 = 127 by decide +kernel, show bsl 142 = 0 by decide +kernel]; omega)
theorem br_142 {n : Int} {t : Ts} {lo hi : Int} {f : Int → Int} (g : Bd n t) (a : ∀ k : Int, lo ≤ k → k < hi → 0 ≤ k → k < 4100 → -128 ≤ f k ∧ f k ≤ 127) : Bd n (tsr t 142 lo hi f) := g.putr (fun k p q k0 k1 => by
  rw [show bl0 142 = -128 by decide +kernel, show bsm 142 = 0 by decide +kernel, show bh0 142 = 127 by decide +kernel, show bsl 142 = 0 by decide +kernel]
  have w := a k p q k0 (by rw [show td 142 = 4100 by decide +kernel] at k1; exact k1)
  omega)
theorem b_143 {n : Int} {t : Ts} (g : Bd n t) : 0 ≤ t 143 0 ∧ t 143 0 ≤ 4100 := by
  have w := g.2 143 0 (by unfold bdv; omega) (by decide) (by decide +kernel)
  rw [show bl0 143 = 0 by decide +kernel, show bsm 143 = 0 by decide +kernel, show bh0 143 = 4100 by decide +kernel, show bsl 143 = 0 by decide +kernel] at w
  omega
theorem bp_143 {n : Int} {t : Ts} {j x : Int} (g : Bd n t) (a : 0 ≤ x) (b : x ≤ 4100) : Bd n (tset t 143 j x) := g.put (by rw [show bl0 143 = 0 by decide +kernel, show bsm 143 = 0 by decide +kernel]; omega) (by rw [show bh0 143 = 4100 by decide +kernel, show bsl 143 = 0 by decide +kernel]; omega)
