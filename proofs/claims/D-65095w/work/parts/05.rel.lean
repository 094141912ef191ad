/-! THE RELATION between the small machine's heap and the machine's -/
/-- an array as it is read: its class, its length, its contents -/
def WV (Γ : Gam) (h : Hp) (H : Heap) (κ : Nat) (a : Int) : Prop :=
  ∃ cell : Cell, H[ra Γ a]? = some cell ∧ (gs Γ).isArrayOf cell (kat κ) ∧ cell.vm ≠ .unknown ∧ 0 ≤ ln h a ∧ ln h a < 2147483648 ∧ ((ln h a).toNat ≤ cell.slots.size ∧ cell.slots.size.toInt32 = I32 (ln h a) ∧ (κ = 85 → cell.slots.size = (ln h a).toNat)) ∧ (∀ j : Nat, (j : Int) < ln h a → cell.slots[j]? = some (cv Γ (ket κ) (rd h a j))) ∧ ∀ j : Nat, (j : Int) < ln h a → okv h (ket κ) (rd h a j)
/-- an object's cell: nobody holds its monitor; as many slots as its class has -/
def MF (H : Heap) (q n : Nat) : Prop := ∃ cell : Cell, H[q]? = some cell ∧ cell.monitor.owner = none ∧ cell.monitor.count = 0 ∧ cell.slots.size = n
def CR (Γ : Gam) (h : Hp) (H : Heap) (a : Int) : Prop :=
  ∃ κ : Nat, kn h a = κ ∧ ((κ < 29 ∧ t_OB (ra Γ a) (gC Γ κ) (kF κ) (gI Γ κ) H (fun k => cv Γ (kft κ k) (rd h a k)) ∧ (∀ k, k < kF κ → okv h (kft κ k) (rd h a k)) ∧ MF H (ra Γ a) (kN κ))
    ∨ (64 ≤ κ ∧ κ < 83 ∧ 0 ≤ ln h a ∧ ln h a < 2147483648 ∧ H[ra Γ a]? = some (arrV (gA Γ κ) (ln h a).toNat (fun j => cv Γ (ket κ) (rd h a j))) ∧ ∀ j : Nat, (j : Int) < ln h a → okv h (ket κ) (rd h a j)))
def HR (Γ : Gam) (h : Hp) (H : Heap) : Prop :=
  64 ≤ nx h ∧ H.size = (gs Γ).heap.size + ((nx h).toNat - 64) ∧ (∀ q : Nat, q < (gs Γ).heap.size → H[q]? = (gs Γ).heap[q]?) ∧ (∀ a : Int, 64 ≤ a → a < nx h → CR Γ h H a) ∧ ∀ a i : Int, 0 ≤ a → a < 64 → h.1 a i = gm Γ a i
/-- the constants that were there before: class, field, descriptor, address, kind -/
def romT : List (String × String × String × Nat × Nat) := [("KeptHouse$Op", "LAY", "LKeptHouse$Op;", 1, 128), ("KeptHouse$Op", "NAME", "LKeptHouse$Op;", 2, 128), ("KeptHouse$Op", "MINUS", "LKeptHouse$Op;", 3, 128), ("KeptHouse$Op", "ADD", "LKeptHouse$Op;", 4, 128), ("KeptHouse$Op", "TAKE", "LKeptHouse$Op;", 5, 128), ("KeptHouse$Op", "TIMES", "LKeptHouse$Op;", 6, 128), ("KeptHouse$Op", "LESS", "LKeptHouse$Op;", 7, 128), ("KeptHouse$Op", "MORE", "LKeptHouse$Op;", 8, 128), ("KeptHouse$Op", "UNLESS", "LKeptHouse$Op;", 9, 128), ("KeptHouse$Op", "JUMP", "LKeptHouse$Op;", 10, 128),
  ("KeptHouse$Token", "WORD", "LKeptHouse$Token;", 11, 129), ("KeptHouse$Token", "NUMBER", "LKeptHouse$Token;", 12, 129), ("KeptHouse$Token", "SIGN", "LKeptHouse$Token;", 13, 129), ("KeptHouse$Token", "LONG", "LKeptHouse$Token;", 14, 129), ("KeptHouse$Token", "BAD", "LKeptHouse$Token;", 15, 129), ("KeptHouse$Token", "END", "LKeptHouse$Token;", 16, 129),
  ("KeptHouse$Op", "$VALUES", "[LKeptHouse$Op;", 17, 85), ("KeptHouse", "COUNTS", "[I", 18, 83), ("java/util/ArrayList", "DEFAULTCAPACITY_EMPTY_ELEMENTDATA", "[Ljava/lang/Object;", 23, 82)]
/-- string constants: class, entry, address -/
def romQ : List (String × Nat × Nat) := [("KeptHouse$Reader", 82, 20), ("KeptHouse$Reader", 89, 21), ("KeptHouse$Fault", 1, 22), ("KeptHouse$Life", 242, 21)]
def romV : List (Int × Int × Int) := [(1, 0, 0), (2, 0, 1), (3, 0, 2), (4, 0, 3), (5, 0, 4), (6, 0, 5), (7, 0, 6), (8, 0, 7), (9, 0, 8), (10, 0, 9), (17, -2, 10), (17, 0, 1), (17, 1, 2), (17, 2, 3), (17, 3, 4), (17, 4, 5), (17, 5, 6), (17, 6, 7), (17, 7, 8), (17, 8, 9), (17, 9, 10), (18, -2, 16), (18, 0, 0), (18, 1, 5), (18, 2, 5), (18, 3, 10), (18, 4, 2), (18, 5, 4), (18, 6, 8), (18, 7, 2), (18, 8, 10), (18, 9, 1), (18, 10, 1), (18, 11, 3), (18, 12, 16), (18, 13, 20), (18, 14, 40), (18, 15, 8), (20, 0, 25), (20, 1, 0), (21, 0, 26), (21, 1, 0), (25, -1, 84), (25, -2, 6), (26, -1, 84), (26, -2, 7), (23, -2, 0), (25, 0, 108), (25, 1, 98), (25, 2, 112), (25, 3, 118), (25, 4, 114), (25, 5, 120), (26, 0, 111), (26, 1, 104), (26, 2, 116), (26, 3, 107), (26, 4, 101), (26, 5, 109), (26, 6, 102)]
/-- what the premises say of the constants -/
def Rom (Γ : Gam) : Prop := (gl Γ).stackTraces = false ∧ (∀ q ∈ romT, gm Γ (q.2.2.2.1 : Int) (-1) = (q.2.2.2.2 : Int)) ∧ (∀ q ∈ romQ, gm Γ (q.2.2 : Int) (-1) = 130) ∧ (∀ q ∈ romV, gm Γ q.1 q.2.1 = q.2.2) ∧ (∀ a : Int, 0 < a → a < 64 → gm Γ a (-1) = 128 → a ≤ 10) ∧
  ∃ a0 : Array Value, (∀ w ∈ flatC narrow_1, w.before a0 (gs Γ) = true) ∧ (∀ q ∈ romT, (Term.static q.1 q.2.1 q.2.2.1).eval a0 (gs Γ) none [] (gs Γ) = some (.ref (gR Γ q.2.2.2.1))) ∧ (∀ q ∈ romQ, (Term.string q.1 q.2.1).eval a0 (gs Γ) none [] (gs Γ) = some (.ref (gR Γ q.2.2))) ∧
  (Term.field (.string "KeptHouse$Reader" 82) "java/lang/String" "value" "[B").eval a0 (gs Γ) none [] (gs Γ) = some (.ref (gR Γ 25)) ∧ (Term.field (.string "KeptHouse$Reader" 89) "java/lang/String" "value" "[B").eval a0 (gs Γ) none [] (gs Γ) = some (.ref (gR Γ 26))
/-- what is known of the run -/
def GG (Γ : Gam) : Prop :=
  (gp Γ).tables.exec = Jvm.exec ∧ (∃ a0, ∀ w ∈ lw_tbl, w.before a0 (gs Γ) = true) ∧ (∀ κ, κ < 29 → u_Kn (gs Γ) (kname κ) (kT κ) (kF κ) (gC Γ κ) (gI Γ κ)) ∧
  (∀ κ, 64 ≤ κ → κ < 83 → ArrOfT (gs Γ) (gA Γ κ) (kat κ) ∧ (gs Γ).vm.findClass ("[" ++ (kat κ).toString) = some (gA Γ κ) ∧ ∃ (kA : Class) (comp : ClassId), (gs Γ).vm.classes[gA Γ κ]? = some kA ∧ kA.kind = .array comp (kat κ) ∧ (6 ≤ ket κ → ∃ kB : Class, (gs Γ).vm.classes[comp]? = some kB) ∧ (∀ κv : Nat, κv < 29 → ket κ = κv + 10 → comp = gC Γ κv) ∧ (ket κ = 9 → (gs Γ).vm.findClass "java/lang/Object" = some comp) ∧ (∀ κv : Nat, 64 ≤ κv → κv < 83 → ket κ = κv + 10 → comp = gA Γ κv)) ∧
  (∀ a : Int, 0 < a → a < 64 → 0 ≤ gm Γ a (-1) → gR Γ a.toNat < (gs Γ).heap.size) ∧
  (∀ a b : Int, 0 < a → a < 64 → 0 < b → b < 64 → 0 ≤ gm Γ a (-1) → gm Γ a (-1) = gm Γ b (-1) → gm Γ a (-1) ≠ 83 → gR Γ a.toNat = gR Γ b.toNat → a = b) ∧
  (∀ a : Int, 0 < a → a < 64 → ∀ κ : Nat, gm Γ a (-1) = κ → 64 ≤ κ ∧ (κ < 86 → WV Γ (gm Γ, 64, 0) (gs Γ).heap κ a ∧ (κ < 83 → κ = 82 ∧ gm Γ a (-2) = 0))) ∧ Rom Γ
theorem GG.ex {Γ : Gam} (g : GG Γ) : (gp Γ).tables.exec = Jvm.exec := g.1
/-- the tables' words at every state of the run -/
def keepW (w : Cond) : Bool := (w.onTables && w.keeps) || (match w with | .arrayClass _ => true | _ => false)
theorem GG.word {Γ : Gam} (g : GG Γ) {w : Cond} (hw : w ∈ lw_tbl) (hk : keepW w = true) {U : State} (hW : (gs Γ).WarmedH U.vm) (a : Array Value) : w.before a U = true := by
  obtain ⟨a0, h0⟩ := g.2.1
  refine word_at hW ?_ (h0 w hw)
  unfold keepW at hk
  rcases Bool.or_eq_true _ _ |>.mp hk with h | h
  · exact Or.inl h
  · split at h
    · exact Or.inr ⟨_, rfl⟩
    · cases h
theorem ra_new {Γ : Gam} {a : Int} (h : 64 ≤ a) : ra Γ a = (gs Γ).heap.size + (a.toNat - 64) := by unfold ra; rw [if_neg (by omega)]
theorem ra_old {Γ : Gam} {a : Int} (h : a < 64) : ra Γ a = gR Γ a.toNat := by unfold ra; rw [if_pos h]
theorem ra_inj {Γ : Gam} (g : GG Γ) {h : Hp} {H : Heap} (hH : HR Γ h H) {a b : Int} (ha : 0 < a) (hb : 0 < b) (ka : 0 ≤ kn h a) (kab : kn h a = kn h b) (k83 : kn h a ≠ 83) (e : ra Γ a = ra Γ b) : a = b := by
  have kb : 0 ≤ kn h b := by rw [← kab]; exact ka
  obtain ⟨-, -, -, -, hr⟩ := hH
  obtain ⟨-, -, -, -, g5, g6, -⟩ := g
  by_cases h1 : a < 64 <;> by_cases h2 : b < 64
  · rw [ra_old h1, ra_old h2] at e
    exact g6 a b ha h1 hb h2 (by rw [← hr a (-1) (by omega) h1]; exact ka) (by rw [← hr a (-1) (by omega) h1, ← hr b (-1) (by omega) h2]; exact kab) (by rw [← hr a (-1) (by omega) h1]; exact k83) e
  · rw [ra_old h1, ra_new (by omega)] at e
    have := g5 a ha h1 (by rw [← hr a (-1) (by omega) h1]; exact ka)
    omega
  · rw [ra_new (by omega), ra_old h2] at e
    have := g5 b hb h2 (by rw [← hr b (-1) (by omega) h2]; exact kb)
    omega
  · rw [ra_new (by omega), ra_new (by omega)] at e
    omega
theorem HR.lt {Γ : Gam} {h : Hp} {H : Heap} (hH : HR Γ h H) {a : Int} (h1 : 64 ≤ a) (h2 : a < nx h) : ra Γ a < H.size := by
  rw [ra_new h1, hH.2.1]; omega
/-- a reference to a kind that is a class: a cell of ours -/
theorem HR.obj {Γ : Gam} (g : GG Γ) {h : Hp} {H : Heap} (hH : HR Γ h H) {κ : Nat} (hκ : κ < 29) {a : Int} (ha : okv h (κ + 10) a) (h0 : a ≠ 0) :
    64 ≤ a ∧ a < nx h ∧ kn h a = κ ∧ t_OB (ra Γ a) (gC Γ κ) (kF κ) (gI Γ κ) H (fun k => cv Γ (kft κ k) (rd h a k)) ∧ ∀ k, k < kF κ → okv h (kft κ k) (rd h a k) := by
  rcases ha with ha | ⟨h1, h2, h3⟩
  · exact absurd ha h0
  · have h64 : 64 ≤ a := by
      rcases Int.lt_or_le a 64 with q | q
      · have e := hH.2.2.2.2 a (-1) (by omega) q
        have := (g.2.2.2.2.2.2.1 a h1 q κ (by rw [← e]; exact h3)).1
        omega
      · exact q
    obtain ⟨κ', e, hc⟩ := hH.2.2.2.1 a h64 h2
    have e' : κ' = κ := by have := e.symm.trans h3; exact Int.ofNat.inj this
    subst e'
    rcases hc with ⟨-, c1, c2, -⟩ | ⟨c1, -⟩
    · exact ⟨h64, h2, h3, c1, c2⟩
    · omega
/-- a reference to an array that can be written -/
theorem HR.arrW {Γ : Gam} (g : GG Γ) {h : Hp} {H : Heap} (hH : HR Γ h H) {κ : Nat} (h64 : 64 ≤ κ) (h83 : κ < 83) {a : Int} (ha : okv h (κ + 10) a) (h0 : a ≠ 0) (hl : 0 < ln h a) :
    64 ≤ a ∧ a < nx h ∧ kn h a = κ ∧ ln h a < 2147483648 ∧ H[ra Γ a]? = some (arrV (gA Γ κ) (ln h a).toNat (fun j => cv Γ (ket κ) (rd h a j))) ∧ ∀ j : Nat, (j : Int) < ln h a → okv h (ket κ) (rd h a j) := by
  rcases ha with ha | ⟨h1, h2, h3⟩
  · exact absurd ha h0
  · have a64 : 64 ≤ a := by
      rcases Int.lt_or_le a 64 with q | q
      · have e := hH.2.2.2.2 a (-1) (by omega) q
        have := ((g.2.2.2.2.2.2.1 a h1 q κ (by rw [← e]; exact h3)).2 (by omega)).2 h83
        have e2 : ln h a = gm Γ a (-2) := hH.2.2.2.2 a (-2) (by omega) q
        omega
      · exact q
    obtain ⟨κ', e, hc⟩ := hH.2.2.2.1 a a64 h2
    have e' : κ' = κ := by have := e.symm.trans h3; exact Int.ofNat.inj this
    subst e'
    rcases hc with ⟨c1, -⟩ | ⟨-, -, c1, c2, c3, c4⟩
    · omega
    · exact ⟨a64, h2, h3, c2, c3, c4⟩
theorem okv.rom {Γ : Gam} {h : Hp} {t : Nat} {x : Int} (hn : 64 ≤ nx h) (hr : ∀ a i : Int, 0 ≤ a → a < 64 → h.1 a i = gm Γ a i) (k : okv (gm Γ, 64, 0) t x) : okv h t x := by
  match t, k with
  | 0, k => exact k
  | 1, k => exact k
  | 2, k => exact k
  | 3, k => exact k
  | 4, k => exact k
  | 5, k => exact k
  | 9, k =>
    rcases k with k | ⟨k1, k2, k3⟩
    · exact Or.inl k
    · have k2 : x < 64 := k2
      exact Or.inr ⟨k1, by omega, by show 0 ≤ h.1 x (-1); rw [hr x (-1) (by omega) k2]; exact k3⟩
  | t + 10, k =>
    rcases k with k | ⟨k1, k2, k3⟩
    · exact Or.inl k
    · have k2 : x < 64 := k2
      exact Or.inr ⟨k1, by omega, by show h.1 x (-1) = _; rw [hr x (-1) (by omega) k2]; exact k3⟩
/-- any array, as it is read -/
theorem HR.arr {Γ : Gam} (g : GG Γ) {h : Hp} {H : Heap} (hH : HR Γ h H) {κ : Nat} (h64 : 64 ≤ κ) (h86 : κ < 86) {a : Int} (ha : okv h (κ + 10) a) (h0 : a ≠ 0) : WV Γ h H κ a := by
  rcases ha with ha | ⟨h1, h2, h3⟩
  · exact absurd ha h0
  · rcases Int.lt_or_le a 64 with q | q
    · have e := hH.2.2.2.2 a (-1) (by omega) q
      have e2 : ln h a = gm Γ a (-2) := hH.2.2.2.2 a (-2) (by omega) q
      obtain ⟨cell, c1, c2, c3, c4, c5, c6, c7, c8⟩ := ((g.2.2.2.2.2.2.1 a h1 q κ (by rw [← e]; exact h3)).2 h86).1
      have c4 : 0 ≤ gm Γ a (-2) := c4
      have c5 : gm Γ a (-2) < 2147483648 := c5
      have c6 : ((gm Γ a (-2)).toNat ≤ cell.slots.size ∧ cell.slots.size.toInt32 = I32 (gm Γ a (-2)) ∧ (κ = 85 → cell.slots.size = (gm Γ a (-2)).toNat)) := c6
      have hlt : ra Γ a < (gs Γ).heap.size := (Array.getElem?_eq_some_iff.mp c1).1
      refine ⟨cell, by rw [hH.2.2.1 _ hlt]; exact c1, c2, c3, by omega, by omega, by rw [e2]; exact c6, fun j hj => ?_, fun j hj => ?_⟩
      · rw [c7 j (by show (j : Int) < gm Γ a (-2); omega)]
        show some (cv Γ (ket κ) (gm Γ a j)) = some (cv Γ (ket κ) (h.1 a j))
        rw [hH.2.2.2.2 a j (by omega) q]
      · have := c8 j (by show (j : Int) < gm Γ a (-2); omega)
        have := okv.rom hH.1 hH.2.2.2.2 this
        show okv h (ket κ) (h.1 a j)
        rw [hH.2.2.2.2 a j (by omega) q]
        exact this
    · obtain ⟨κ', e, hc⟩ := hH.2.2.2.1 a q h2
      have e' : κ' = κ := by have := e.symm.trans h3; exact Int.ofNat.inj this
      subst e'
      rcases hc with ⟨c1, -⟩ | ⟨-, h83, c1, c2, c3, c4⟩
      · omega
      · refine ⟨_, c3, (g.2.2.2.1 _ h64 h83).1 _ _, (fun q => by cases q), c1, c2, ⟨by rw [arrV_size]; exact Nat.le_refl _, by rw [arrV_size]; show Int32.ofNat _ = Int32.ofInt _; rw [← Int32.ofInt_eq_ofNat, Int.toNat_of_nonneg c1], fun _ => arrV_size _ _ _⟩, fun j hj => ?_, c4⟩
        rw [arrV_read _ _ (by omega)]
