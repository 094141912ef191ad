/-! Arrays.copyOf(Object[], int) -/
abbrev md_Arrs_copyOf1 : MD := (⟨"java/util/Arrays", "copyOf", "([Ljava/lang/Object;I)[Ljava/lang/Object;"⟩, prog_59_method_119_code, 2, (some (.array (.object "java/lang/Object"))), 92, [])
def wp_Arrs_copyOf1 (x0 x1 : Int) (h : Hp) (K : Int → Hp → Prop) : Prop := x0 ≠ 0 ∧ (0 ≤ x1 ∧ x1 ≤ 65536 ∧ nx h + 1 ≤ NM ∧ us h + x1 ≤ UM) ∧ (0 < ln h x0 ∧ 0 < x1) ∧ (∀ j : Int, 0 ≤ j → j < ln h x0 → rd h x0 j = 0 ∨ kn h (rd h x0 j) = 24 ∨ kn h (rd h x0 j) = 27) ∧ K (nx h) (cpO h x0 x1)
theorem s_Arrs_copyOf1 {Γ : Gam} (g : GG Γ) {d : Nat} (hd : 6 ≤ d) {x0 x1 : Int} {h : Hp} {K : Int → Hp → Prop} (w : wp_Arrs_copyOf1 x0 x1 h K) : Mx Γ d md_Arrs_copyOf1 [(92, x0), (0, x1)] h K (fun _ _ => False) := sorry
