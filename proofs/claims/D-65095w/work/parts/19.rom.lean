/-! STRINGS AND ENUM CONSTANTS: what their methods answer -/
theorem ix_step {P K : Int → Prop} {h : Hp} {x0 x3 x4 k v : Int} (hP : ∀ x5, ((x5 ≥ x3 → K (-1)) ∧ (¬ (x5 ≥ x3) → x0 ≠ 0 ∧ (0 ≤ x5 ∧ x5 < ln h x0) ∧ ((rd h x0 x5) ≠ x4 → ∀ y, y = (w32 (x5 + 1)) → P y) ∧ (¬ ((rd h x0 x5) ≠ x4) → K x5))) → P x5)
    (h0 : x0 ≠ 0) (hl : x3 = ln h x0) (k0 : 0 ≤ k) (k1 : k < x3) (k2 : x3 ≤ 100) (hv : rd h x0 k = v) (hK : v = x4 → K k) (hn : v ≠ x4 → P (k + 1)) : P k := by
  refine hP k ⟨fun c => absurd k1 (by omega), fun _ => ⟨h0, ⟨k0, by omega⟩, fun hne y hy => ?_, fun he => ?_⟩⟩
  · subst hy
    rw [w32_of (by unfold r32; omega)]
    exact hn (by rw [← hv]; exact hne)
  · exact hK (by rw [← hv]; exact Decidable.not_not.mp he)
theorem w8_at {c v : Int} (c0 : ¬ c < 0) (c1 : ¬ c > 255) (v0 : 0 ≤ v) (v1 : v < 128) (e : v = w8 c) : c = v := by
  unfold w8 at e
  omega
theorem idx20 {h : Hp} {c : Int} (H0 : rd h 20 0 = 25) (H1 : rd h 20 1 = 0) (hl : ln h 25 = 6) (e0 : rd h 25 0 = 108) (e1 : rd h 25 1 = 98) (e2 : rd h 25 2 = 112) (e3 : rd h 25 3 = 118) (e4 : rd h 25 4 = 114) (e5 : rd h 25 5 = 120) : wp_String_indexOf1 20 c h (fun r => r = sidx 20 c) := by
  refine ⟨Or.inl rfl, Or.inl rfl, Or.inl rfl, fun hn => absurd H1 hn, fun _ => ⟨fun e => absurd e (by decide), fun _ => ⟨Or.inl rfl, by rw [H0]; decide, Or.inl rfl, by rw [H1]; decide, ?_⟩⟩⟩
  rw [H0, H1, hl]
  have hs : ishr 6 0 = 6 := by decide
  dsimp only
  rw [hs]
  have hout : (∀ z : Int, z ∈ ([108, 98, 112, 118, 114, 120] : List Int) → c ≠ z) → (-1 : Int) = sidx 20 c := by
    intro hz
    unfold sidx
    rw [if_pos rfl]
    rw [if_neg (hz 108 (by decide)), if_neg (hz 98 (by decide)), if_neg (hz 112 (by decide)), if_neg (hz 118 (by decide)), if_neg (hz 114 (by decide)), if_neg (hz 120 (by decide))]
  refine ⟨fun hlt => ⟨fun e => absurd rfl e, fun _ => hout (fun z hz e => ?_)⟩, fun hge => ⟨fun hgt => ⟨fun e => absurd rfl e, fun _ => hout (fun z hz e => ?_)⟩, fun hle => ⟨fun _ => ?_, fun e => absurd (by decide) e⟩⟩⟩
  · simp only [List.mem_cons, List.not_mem_nil, or_false] at hz
    omega
  · simp only [List.mem_cons, List.not_mem_nil, or_false] at hz
    omega
  refine ⟨fun e => absurd e (by decide), fun _ => ⟨by decide, ?_⟩⟩
  rw [hl]
  refine ⟨fun e => absurd e (by decide), fun _ => ⟨fun _ => ?_, fun e => absurd (by decide) e⟩⟩
  intro x4 hx4
  subst hx4
  intro P hP
  refine ix_step (k := 0) hP (by decide) hl.symm (by decide) (by decide) (by decide) e0 (fun e => ?_) (fun n0 => ?_)
  · have := w8_at hge hle (by decide) (by decide) e
    subst this
    rfl
  refine ix_step (k := 1) hP (by decide) hl.symm (by decide) (by decide) (by decide) e1 (fun e => ?_) (fun n1 => ?_)
  · have := w8_at hge hle (by decide) (by decide) e
    subst this
    rfl
  refine ix_step (k := 2) hP (by decide) hl.symm (by decide) (by decide) (by decide) e2 (fun e => ?_) (fun n2 => ?_)
  · have := w8_at hge hle (by decide) (by decide) e
    subst this
    rfl
  refine ix_step (k := 3) hP (by decide) hl.symm (by decide) (by decide) (by decide) e3 (fun e => ?_) (fun n3 => ?_)
  · have := w8_at hge hle (by decide) (by decide) e
    subst this
    rfl
  refine ix_step (k := 4) hP (by decide) hl.symm (by decide) (by decide) (by decide) e4 (fun e => ?_) (fun n4 => ?_)
  · have := w8_at hge hle (by decide) (by decide) e
    subst this
    rfl
  refine ix_step (k := 5) hP (by decide) hl.symm (by decide) (by decide) (by decide) e5 (fun e => ?_) (fun n5 => ?_)
  · have := w8_at hge hle (by decide) (by decide) e
    subst this
    rfl
  refine hP 6 ⟨fun _ => hout (fun z hz e => ?_), fun c => absurd (show (6 : Int) ≥ 6 by decide) c⟩
  simp only [List.mem_cons, List.not_mem_nil, or_false] at hz
  subst e
  rcases hz with rfl | rfl | rfl | rfl | rfl | rfl
  · exact n0 (by decide)
  · exact n1 (by decide)
  · exact n2 (by decide)
  · exact n3 (by decide)
  · exact n4 (by decide)
  · exact n5 (by decide)
theorem idx21 {h : Hp} {c : Int} (H0 : rd h 21 0 = 26) (H1 : rd h 21 1 = 0) (hl : ln h 26 = 7) (e0 : rd h 26 0 = 111) (e1 : rd h 26 1 = 104) (e2 : rd h 26 2 = 116) (e3 : rd h 26 3 = 107) (e4 : rd h 26 4 = 101) (e5 : rd h 26 5 = 109) (e6 : rd h 26 6 = 102) : wp_String_indexOf1 21 c h (fun r => r = sidx 21 c) := by
  refine ⟨Or.inr rfl, Or.inr rfl, Or.inr rfl, fun hn => absurd H1 hn, fun _ => ⟨fun e => absurd e (by decide), fun _ => ⟨Or.inr rfl, by rw [H0]; decide, Or.inr rfl, by rw [H1]; decide, ?_⟩⟩⟩
  rw [H0, H1, hl]
  have hs : ishr 7 0 = 7 := by decide
  dsimp only
  rw [hs]
  have hout : (∀ z : Int, z ∈ ([111, 104, 116, 107, 101, 109, 102] : List Int) → c ≠ z) → (-1 : Int) = sidx 21 c := by
    intro hz
    unfold sidx
    rw [if_neg (by decide)]
    rw [if_neg (hz 111 (by decide)), if_neg (hz 104 (by decide)), if_neg (hz 116 (by decide)), if_neg (hz 107 (by decide)), if_neg (hz 101 (by decide)), if_neg (hz 109 (by decide)), if_neg (hz 102 (by decide))]
  refine ⟨fun hlt => ⟨fun e => absurd rfl e, fun _ => hout (fun z hz e => ?_)⟩, fun hge => ⟨fun hgt => ⟨fun e => absurd rfl e, fun _ => hout (fun z hz e => ?_)⟩, fun hle => ⟨fun _ => ?_, fun e => absurd (by decide) e⟩⟩⟩
  · simp only [List.mem_cons, List.not_mem_nil, or_false] at hz
    omega
  · simp only [List.mem_cons, List.not_mem_nil, or_false] at hz
    omega
  refine ⟨fun e => absurd e (by decide), fun _ => ⟨by decide, ?_⟩⟩
  rw [hl]
  refine ⟨fun e => absurd e (by decide), fun _ => ⟨fun _ => ?_, fun e => absurd (by decide) e⟩⟩
  intro x4 hx4
  subst hx4
  intro P hP
  refine ix_step (k := 0) hP (by decide) hl.symm (by decide) (by decide) (by decide) e0 (fun e => ?_) (fun n0 => ?_)
  · have := w8_at hge hle (by decide) (by decide) e
    subst this
    rfl
  refine ix_step (k := 1) hP (by decide) hl.symm (by decide) (by decide) (by decide) e1 (fun e => ?_) (fun n1 => ?_)
  · have := w8_at hge hle (by decide) (by decide) e
    subst this
    rfl
  refine ix_step (k := 2) hP (by decide) hl.symm (by decide) (by decide) (by decide) e2 (fun e => ?_) (fun n2 => ?_)
  · have := w8_at hge hle (by decide) (by decide) e
    subst this
    rfl
  refine ix_step (k := 3) hP (by decide) hl.symm (by decide) (by decide) (by decide) e3 (fun e => ?_) (fun n3 => ?_)
  · have := w8_at hge hle (by decide) (by decide) e
    subst this
    rfl
  refine ix_step (k := 4) hP (by decide) hl.symm (by decide) (by decide) (by decide) e4 (fun e => ?_) (fun n4 => ?_)
  · have := w8_at hge hle (by decide) (by decide) e
    subst this
    rfl
  refine ix_step (k := 5) hP (by decide) hl.symm (by decide) (by decide) (by decide) e5 (fun e => ?_) (fun n5 => ?_)
  · have := w8_at hge hle (by decide) (by decide) e
    subst this
    rfl
  refine ix_step (k := 6) hP (by decide) hl.symm (by decide) (by decide) (by decide) e6 (fun e => ?_) (fun n6 => ?_)
  · have := w8_at hge hle (by decide) (by decide) e
    subst this
    rfl
  refine hP 7 ⟨fun _ => hout (fun z hz e => ?_), fun c => absurd (show (7 : Int) ≥ 7 by decide) c⟩
  simp only [List.mem_cons, List.not_mem_nil, or_false] at hz
  subst e
  rcases hz with rfl | rfl | rfl | rfl | rfl | rfl | rfl
  · exact n0 (by decide)
  · exact n1 (by decide)
  · exact n2 (by decide)
  · exact n3 (by decide)
  · exact n4 (by decide)
  · exact n5 (by decide)
  · exact n6 (by decide)
theorem chr21 {h : Hp} {c : Int} (H0 : rd h 21 0 = 26) (H1 : rd h 21 1 = 0) (hl : ln h 26 = 7) (e0 : rd h 26 0 = 111) (e1 : rd h 26 1 = 104) (e2 : rd h 26 2 = 116) (e3 : rd h 26 3 = 107) (e4 : rd h 26 4 = 101) (e5 : rd h 26 5 = 109) (e6 : rd h 26 6 = 102) (b : 0 ≤ c ∧ c < 7) : wp_String_charAt 21 c h (fun r => r = schr 21 c) := by
  refine ⟨Or.inr rfl, Or.inr rfl, fun hn => absurd H1 hn, fun _ => ⟨fun e => absurd e (by decide), fun _ => ?_⟩⟩
  rw [H0]
  refine ⟨by decide, ?_⟩
  rw [hl]
  refine ⟨b, b, ?_⟩
  have : c = 0 ∨ c = 1 ∨ c = 2 ∨ c = 3 ∨ c = 4 ∨ c = 5 ∨ c = 6 := by omega
  rcases this with rfl | rfl | rfl | rfl | rfl | rfl | rfl
  · rw [e0]; exact ⟨by decide, by decide, by decide⟩
  · rw [e1]; exact ⟨by decide, by decide, by decide⟩
  · rw [e2]; exact ⟨by decide, by decide, by decide⟩
  · rw [e3]; exact ⟨by decide, by decide, by decide⟩
  · rw [e4]; exact ⟨by decide, by decide, by decide⟩
  · rw [e5]; exact ⟨by decide, by decide, by decide⟩
  · rw [e6]; exact ⟨by decide, by decide, by decide⟩
section ROM
variable {Γ : Gam} {d : Nat} {md : MD} {pc : Nat} {L : Lc} {S : List Vl} {h : Hp} {KR KT : Kt} {r : List El} {fin : Nat × List Nat} {idx : Nat}
theorem q_indexOf (g : GG Γ) {a c : Int} (C : Cond.methodLink md.1.cls idx ⟨"java/lang/String", "indexOf", "(I)I"⟩ ∈ lw_tbl) (o : decB md pc (ee (.invokevirtual idx) 3 :: r) fin = true) (ea : a = 20 ∨ a = 21) (e : Nat.ble S.length 40 = true) (hd : 5 + 1 ≤ d) (k : decB md (pc + 3) r fin = true → Rr Γ d md (pc + 3) L ((0, sidx a c) :: S) h KR KT) : Rr Γ d md pc L ((0, c) :: (140, a) :: S) h KR KT := by
  intro h0 s m args below meth cc H locs ls X hE hH hlo hl hL hS hb
  have w : wp_String_indexOf1 a c h (fun r => r = sidx a c) := by
    rcases ea with rfl | rfl
    · exact idx20 (g.val hH (by decide) (by decide) (by decide)) (g.val hH (by decide) (by decide) (by decide)) (g.val hH (by decide) (by decide) (by decide)) (g.val hH (by decide) (by decide) (by decide)) (g.val hH (by decide) (by decide) (by decide)) (g.val hH (by decide) (by decide) (by decide)) (g.val hH (by decide) (by decide) (by decide)) (g.val hH (by decide) (by decide) (by decide)) (g.val hH (by decide) (by decide) (by decide))
    · exact idx21 (g.val hH (by decide) (by decide) (by decide)) (g.val hH (by decide) (by decide) (by decide)) (g.val hH (by decide) (by decide) (by decide)) (g.val hH (by decide) (by decide) (by decide)) (g.val hH (by decide) (by decide) (by decide)) (g.val hH (by decide) (by decide) (by decide)) (g.val hH (by decide) (by decide) (by decide)) (g.val hH (by decide) (by decide) (by decide)) (g.val hH (by decide) (by decide) (by decide)) (g.val hH (by decide) (by decide) (by decide))
  exact (R_virtRom g (t := 131) (vs := [(0, c)]) (ne20 ea) (s_String_indexOf1 g (Nat.le_refl 5) (ne20 ea) w) hd (Nat.le_of_ble_eq_true e) cq_String_indexOf1 (wat_in (q := (5, 192)) rfl) (wat_in (q := (5, 193)) rfl) C (g.str2 ea) (dA o) (fun x h2 _ _ q => by
    obtain ⟨rfl, rfl⟩ := q
    exact k (dB o)) (fun _ _ _ _ _ _ _ q => q.elim)) h0 s m args below meth cc H locs ls X hE hH hlo hl hL hS hb
theorem q_charAt (g : GG Γ) {a c : Int} (C : Cond.methodLink md.1.cls idx ⟨"java/lang/String", "charAt", "(I)C"⟩ ∈ lw_tbl) (o : decB md pc (ee (.invokevirtual idx) 3 :: r) fin = true) (ea : a = 21) (b : 0 ≤ c ∧ c < 7) (e : Nat.ble S.length 40 = true) (hd : 5 + 1 ≤ d) (k : decB md (pc + 3) r fin = true → Rr Γ d md (pc + 3) L ((0, schr a c) :: S) h KR KT) : Rr Γ d md pc L ((0, c) :: (140, a) :: S) h KR KT := by
  subst ea
  intro h0 s m args below meth cc H locs ls X hE hH hlo hl hL hS hb
  have w : wp_String_charAt 21 c h (fun r => r = schr 21 c) := chr21 (g.val hH (by decide) (by decide) (by decide)) (g.val hH (by decide) (by decide) (by decide)) (g.val hH (by decide) (by decide) (by decide)) (g.val hH (by decide) (by decide) (by decide)) (g.val hH (by decide) (by decide) (by decide)) (g.val hH (by decide) (by decide) (by decide)) (g.val hH (by decide) (by decide) (by decide)) (g.val hH (by decide) (by decide) (by decide)) (g.val hH (by decide) (by decide) (by decide)) (g.val hH (by decide) (by decide) (by decide)) b
  exact (R_virtRom g (t := 131) (vs := [(0, c)]) (by decide) (s_String_charAt g (Nat.le_refl 5) (by decide) w) hd (Nat.le_of_ble_eq_true e) cq_String_charAt (wat_in (q := (9, 112)) rfl) (wat_in (q := (9, 113)) rfl) C (g.str2 (Or.inr rfl)) (dA o) (fun x h2 _ _ q => by
    obtain ⟨rfl, rfl⟩ := q
    exact k (dB o)) (fun _ _ _ _ _ _ _ q => q.elim)) h0 s m args below meth cc H locs ls X hE hH hlo hl hL hS hb
theorem cz_Enum_ordinal : Cq0 md_Enum_ordinal 0 := ⟨Nat.le_of_ble_eq_true rfl, wat_in (q := (6, 90)) rfl, rfl, ⟨by decide, by decide⟩, rfl⟩
theorem cz_Op1_of : Cq0 md_Op1_of 2 := ⟨Nat.le_of_ble_eq_true rfl, wat_in (q := (9, 142)) rfl, rfl, ⟨by decide, by decide⟩, rfl⟩
theorem cz_Op10_of : Cq0 md_Op10_of 2 := ⟨Nat.le_of_ble_eq_true rfl, wat_in (q := (9, 145)) rfl, rfl, ⟨by decide, by decide⟩, rfl⟩
theorem cz_Op2_of : Cq0 md_Op2_of 2 := ⟨Nat.le_of_ble_eq_true rfl, wat_in (q := (9, 148)) rfl, rfl, ⟨by decide, by decide⟩, rfl⟩
theorem cz_Op3_of : Cq0 md_Op3_of 2 := ⟨Nat.le_of_ble_eq_true rfl, wat_in (q := (9, 151)) rfl, rfl, ⟨by decide, by decide⟩, rfl⟩
theorem cz_Op4_of : Cq0 md_Op4_of 2 := ⟨Nat.le_of_ble_eq_true rfl, wat_in (q := (9, 154)) rfl, rfl, ⟨by decide, by decide⟩, rfl⟩
theorem cz_Op5_of : Cq0 md_Op5_of 2 := ⟨Nat.le_of_ble_eq_true rfl, wat_in (q := (9, 157)) rfl, rfl, ⟨by decide, by decide⟩, rfl⟩
theorem cz_Op6_of : Cq0 md_Op6_of 2 := ⟨Nat.le_of_ble_eq_true rfl, wat_in (q := (9, 160)) rfl, rfl, ⟨by decide, by decide⟩, rfl⟩
theorem cz_Op7_of : Cq0 md_Op7_of 2 := ⟨Nat.le_of_ble_eq_true rfl, wat_in (q := (9, 163)) rfl, rfl, ⟨by decide, by decide⟩, rfl⟩
theorem cz_Op8_of : Cq0 md_Op8_of 2 := ⟨Nat.le_of_ble_eq_true rfl, wat_in (q := (9, 166)) rfl, rfl, ⟨by decide, by decide⟩, rfl⟩
theorem cz_Op9_of : Cq0 md_Op9_of 2 := ⟨Nat.le_of_ble_eq_true rfl, wat_in (q := (9, 169)) rfl, rfl, ⟨by decide, by decide⟩, rfl⟩
theorem op_cases {a : Int} (a1 : 1 ≤ a ∧ a ≤ 10) : a = 1 ∨ a = 2 ∨ a = 3 ∨ a = 4 ∨ a = 5 ∨ a = 6 ∨ a = 7 ∨ a = 8 ∨ a = 9 ∨ a = 10 := by omega
theorem lcmp_ge (x y : Int) : (lcmp x y ≥ 0 ↔ ¬ x < y) ∧ (lcmp x y ≤ 0 ↔ ¬ y < x) := by
  unfold lcmp
  split
  · omega
  · split <;> omega
theorem q_ordinal (g : GG Γ) {a : Int} (C : Cond.methodLink md.1.cls idx ⟨"KeptHouse$Op", "ordinal", "()I"⟩ ∈ lw_tbl) (o : decB md pc (ee (.invokevirtual idx) 3 :: r) fin = true) (ha : a ≠ 0) (e : Nat.ble S.length 40 = true) (hd : 2 + 1 ≤ d) (k : decB md (pc + 3) r fin = true → Rr Γ d md (pc + 3) L ((0, a - 1) :: S) h KR KT) : Rr Γ d md pc L ((138, a) :: S) h KR KT := by
  intro h0 s m args below meth cc H locs ls X hE hH hlo hl hL hS hb
  have go : ∀ {C' : String}, Cond.selects C' ⟨"KeptHouse$Op", "ordinal", "()I"⟩ ⟨"java/lang/Enum", "ordinal", "()I"⟩ ∈ lw_tbl → va_O C' (ra Γ a) (Old Γ) (gs Γ) (gs Γ).heap → rd h a 0 = a - 1 → W (gp Γ) (gl Γ) (ge Γ) (Rm d h0) s m args below meth cc H locs (nx h - nx h0).toNat (us h - us h0).toNat (Zt Γ md h0 KR KT below s) (F0 m pc ls (((138, a) :: S).map (cw Γ))) := by
    intro C' hsel hO ev
    have w : wp_Enum_ordinal a h (fun r => r = a - 1) := ev
    exact (R_virtUp g (t := 129) (vs := []) (x := ⟨"KeptHouse$Op", "ordinal", "()I"⟩) (owner := "java/lang/Enum") (ts := [138]) ha rfl (b_Enum_ordinal g (Nat.le_refl 2) ha w) (Nat.le_refl 1) (by decide +kernel) hd (Nat.le_of_ble_eq_true e) cz_Enum_ordinal (wat_in (q := (6, 89)) rfl) hsel C (wat_in (q := (6, 77)) rfl) (wat_in (q := (6, 78)) rfl) ⟨by decide, by decide⟩ rfl hO (dA o) (fun x h2 _ _ q => by
      obtain ⟨rfl, rfl⟩ := q
      exact k (dB o))) h0 s m args below meth cc H locs ls X hE hH hlo hl hL hS hb
  rcases op_cases (g.op10 hH hS.h ha) with rfl | rfl | rfl | rfl | rfl | rfl | rfl | rfl | rfl | rfl
  · exact go (wat_in (q := (6, 79)) rfl) (g.romO (C := "KeptHouse$Op") (n := "LAY") (ds := "LKeptHouse$Op;") (a := 1) (κ := 128) (by decide) (List.mem_of_getElem? (i := 55) rfl)) (g.val hH (by decide) (by decide) (by decide))
  · exact go (wat_in (q := (6, 81)) rfl) (g.romO (C := "KeptHouse$Op") (n := "NAME") (ds := "LKeptHouse$Op;") (a := 2) (κ := 128) (by decide) (List.mem_of_getElem? (i := 63) rfl)) (g.val hH (by decide) (by decide) (by decide))
  · exact go (wat_in (q := (6, 82)) rfl) (g.romO (C := "KeptHouse$Op") (n := "MINUS") (ds := "LKeptHouse$Op;") (a := 3) (κ := 128) (by decide) (List.mem_of_getElem? (i := 72) rfl)) (g.val hH (by decide) (by decide) (by decide))
  · exact go (wat_in (q := (6, 83)) rfl) (g.romO (C := "KeptHouse$Op") (n := "ADD") (ds := "LKeptHouse$Op;") (a := 4) (κ := 128) (by decide) (List.mem_of_getElem? (i := 93) rfl)) (g.val hH (by decide) (by decide) (by decide))
  · exact go (wat_in (q := (6, 84)) rfl) (g.romO (C := "KeptHouse$Op") (n := "TAKE") (ds := "LKeptHouse$Op;") (a := 5) (κ := 128) (by decide) (List.mem_of_getElem? (i := 105) rfl)) (g.val hH (by decide) (by decide) (by decide))
  · exact go (wat_in (q := (6, 85)) rfl) (g.romO (C := "KeptHouse$Op") (n := "TIMES") (ds := "LKeptHouse$Op;") (a := 6) (κ := 128) (by decide) (List.mem_of_getElem? (i := 82) rfl)) (g.val hH (by decide) (by decide) (by decide))
  · exact go (wat_in (q := (6, 86)) rfl) (g.romO (C := "KeptHouse$Op") (n := "LESS") (ds := "LKeptHouse$Op;") (a := 7) (κ := 128) (by decide) (List.mem_of_getElem? (i := 118) rfl)) (g.val hH (by decide) (by decide) (by decide))
  · exact go (wat_in (q := (6, 87)) rfl) (g.romO (C := "KeptHouse$Op") (n := "MORE") (ds := "LKeptHouse$Op;") (a := 8) (κ := 128) (by decide) (List.mem_of_getElem? (i := 132) rfl)) (g.val hH (by decide) (by decide) (by decide))
  · exact go (wat_in (q := (6, 88)) rfl) (g.romO (C := "KeptHouse$Op") (n := "UNLESS") (ds := "LKeptHouse$Op;") (a := 9) (κ := 128) (by decide) (List.mem_of_getElem? (i := 147) rfl)) (g.val hH (by decide) (by decide) (by decide))
  · exact go (wat_in (q := (6, 80)) rfl) (g.romO (C := "KeptHouse$Op") (n := "JUMP") (ds := "LKeptHouse$Op;") (a := 10) (κ := 128) (by decide) (List.mem_of_getElem? (i := 163) rfl)) (g.val hH (by decide) (by decide) (by decide))
theorem q_opof (g : GG Γ) {a x y : Int} (C : Cond.methodLink md.1.cls idx ⟨"KeptHouse$Op", "of", "(JJ)J"⟩ ∈ lw_tbl) (o : decB md pc (ee (.invokevirtual idx) 3 :: r) fin = true) (ha : a ≠ 0) (e : Nat.ble S.length 40 = true) (hd : 3 ≤ d) (k : decB md (pc + 3) r fin = true → Rr Γ d md (pc + 3) L ((1, opof a x y) :: S) h KR KT) : Rr Γ d md pc L ((1, y) :: (1, x) :: (138, a) :: S) h KR KT := by
  intro h0 s m args below meth cc H locs ls X hE hH hlo hl hL hS hb
  have go : ∀ {C' : String} {md2 : MD}, Rr Γ 2 md2 0 [(0, (9, a)), (1, (1, x)), (3, (1, y))] [] h (fun r h1 => h1 = h ∧ r = opof a x y) (fun _ _ => False) → 5 ≤ md2.2.2.1 → plainName md2.1.cls = true → Cq0 md2 2 → md2.2.2.2.2.1 = 1 → Cond.instanceMethod md2.1 ∈ lw_tbl → Cond.selects C' ⟨"KeptHouse$Op", "of", "(JJ)J"⟩ md2.1 ∈ lw_tbl → va_O C' (ra Γ a) (Old Γ) (gs Γ) (gs Γ).heap → W (gp Γ) (gl Γ) (ge Γ) (Rm d h0) s m args below meth cc H locs (nx h - nx h0).toNat (us h - us h0).toNat (Zt Γ md h0 KR KT below s) (F0 m pc ls (((1, y) :: (1, x) :: (138, a) :: S).map (cw Γ))) := by
    intro C' md2 M h5 hy hq h1 hin hsel hO
    exact (R_virtUp g (t := 129) (vs := [(1, x), (1, y)]) (x := ⟨"KeptHouse$Op", "of", "(JJ)J"⟩) (owner := "KeptHouse$Op") (ts := [9, 1, 1]) ha rfl M h5 hy hd (Nat.le_of_ble_eq_true e) hq hin hsel C (wat_in (q := (9, 139)) rfl) (wat_in (q := (9, 138)) rfl) ⟨by decide, by decide⟩ rfl hO (dA o) (fun z h2 _ _ q => by
      obtain ⟨rfl, rfl⟩ := q
      rw [rpush_ne h1 (by decide)]
      exact k (dB o))) h0 s m args below meth cc H locs ls X hE hH hlo hl hL hS hb
  rcases op_cases (g.op10 hH hS.t.t.h ha) with rfl | rfl | rfl | rfl | rfl | rfl | rfl | rfl | rfl | rfl
  · exact go (b_Op1_of g (Nat.le_refl 2) (by decide) (show wp_Op1_of 1 x y (fun r => r = opof 1 x y) from rfl)) (by decide) (by decide +kernel) cz_Op1_of rfl (wat_in (q := (9, 141)) rfl) (wat_in (q := (9, 140)) rfl) (g.romO (C := "KeptHouse$Op") (n := "LAY") (ds := "LKeptHouse$Op;") (a := 1) (κ := 128) (by decide) (List.mem_of_getElem? (i := 55) rfl))
  · exact go (b_Op2_of g (Nat.le_refl 2) (by decide) (show wp_Op2_of 2 x y (fun r => r = opof 2 x y) from rfl)) (by decide) (by decide +kernel) cz_Op2_of rfl (wat_in (q := (9, 147)) rfl) (wat_in (q := (9, 146)) rfl) (g.romO (C := "KeptHouse$Op") (n := "NAME") (ds := "LKeptHouse$Op;") (a := 2) (κ := 128) (by decide) (List.mem_of_getElem? (i := 63) rfl))
  · exact go (b_Op3_of g (Nat.le_refl 2) (by decide) (show wp_Op3_of 3 x y (fun r => r = opof 3 x y) from rfl)) (by decide) (by decide +kernel) cz_Op3_of rfl (wat_in (q := (9, 150)) rfl) (wat_in (q := (9, 149)) rfl) (g.romO (C := "KeptHouse$Op") (n := "MINUS") (ds := "LKeptHouse$Op;") (a := 3) (κ := 128) (by decide) (List.mem_of_getElem? (i := 72) rfl))
  · exact go (b_Op4_of g (Nat.le_refl 2) (by decide) (show wp_Op4_of 4 x y (fun r => r = opof 4 x y) from rfl)) (by decide) (by decide +kernel) cz_Op4_of rfl (wat_in (q := (9, 153)) rfl) (wat_in (q := (9, 152)) rfl) (g.romO (C := "KeptHouse$Op") (n := "ADD") (ds := "LKeptHouse$Op;") (a := 4) (κ := 128) (by decide) (List.mem_of_getElem? (i := 93) rfl))
  · exact go (b_Op5_of g (Nat.le_refl 2) (by decide) (show wp_Op5_of 5 x y (fun r => r = opof 5 x y) from rfl)) (by decide) (by decide +kernel) cz_Op5_of rfl (wat_in (q := (9, 156)) rfl) (wat_in (q := (9, 155)) rfl) (g.romO (C := "KeptHouse$Op") (n := "TAKE") (ds := "LKeptHouse$Op;") (a := 5) (κ := 128) (by decide) (List.mem_of_getElem? (i := 105) rfl))
  · exact go (b_Op6_of g (Nat.le_refl 2) (by decide) (show wp_Op6_of 6 x y (fun r => r = opof 6 x y) from rfl)) (by decide) (by decide +kernel) cz_Op6_of rfl (wat_in (q := (9, 159)) rfl) (wat_in (q := (9, 158)) rfl) (g.romO (C := "KeptHouse$Op") (n := "TIMES") (ds := "LKeptHouse$Op;") (a := 6) (κ := 128) (by decide) (List.mem_of_getElem? (i := 82) rfl))
  · exact go (b_Op7_of g (Nat.le_refl 2) (by decide) (show wp_Op7_of 7 x y (fun r => r = opof 7 x y) from ⟨fun c => by show (0 : Int) = if x < y then 1 else 0; rw [if_neg ((lcmp_ge x y).1.mp c)], fun c => by show (1 : Int) = if x < y then 1 else 0; rw [if_pos (Decidable.not_not.mp (fun q => c ((lcmp_ge x y).1.mpr q)))]⟩)) (by decide) (by decide +kernel) cz_Op7_of rfl (wat_in (q := (9, 162)) rfl) (wat_in (q := (9, 161)) rfl) (g.romO (C := "KeptHouse$Op") (n := "LESS") (ds := "LKeptHouse$Op;") (a := 7) (κ := 128) (by decide) (List.mem_of_getElem? (i := 118) rfl))
  · exact go (b_Op8_of g (Nat.le_refl 2) (by decide) (show wp_Op8_of 8 x y (fun r => r = opof 8 x y) from ⟨fun c => by show (0 : Int) = if y < x then 1 else 0; rw [if_neg ((lcmp_ge x y).2.mp c)], fun c => by show (1 : Int) = if y < x then 1 else 0; rw [if_pos (Decidable.not_not.mp (fun q => c ((lcmp_ge x y).2.mpr q)))]⟩)) (by decide) (by decide +kernel) cz_Op8_of rfl (wat_in (q := (9, 165)) rfl) (wat_in (q := (9, 164)) rfl) (g.romO (C := "KeptHouse$Op") (n := "MORE") (ds := "LKeptHouse$Op;") (a := 8) (κ := 128) (by decide) (List.mem_of_getElem? (i := 132) rfl))
  · exact go (b_Op9_of g (Nat.le_refl 2) (by decide) (show wp_Op9_of 9 x y (fun r => r = opof 9 x y) from rfl)) (by decide) (by decide +kernel) cz_Op9_of rfl (wat_in (q := (9, 168)) rfl) (wat_in (q := (9, 167)) rfl) (g.romO (C := "KeptHouse$Op") (n := "UNLESS") (ds := "LKeptHouse$Op;") (a := 9) (κ := 128) (by decide) (List.mem_of_getElem? (i := 147) rfl))
  · exact go (b_Op10_of g (Nat.le_refl 2) (by decide) (show wp_Op10_of 10 x y (fun r => r = opof 10 x y) from rfl)) (by decide) (by decide +kernel) cz_Op10_of rfl (wat_in (q := (9, 144)) rfl) (wat_in (q := (9, 143)) rfl) (g.romO (C := "KeptHouse$Op") (n := "JUMP") (ds := "LKeptHouse$Op;") (a := 10) (κ := 128) (by decide) (List.mem_of_getElem? (i := 163) rfl))
end ROM
