/-! THE SOUNDNESS OF wpB -/
theorem bif_t {b : Bool} {P : Prop} (h : bif b then P else False) : b = true ∧ P := by
  cases b
  · exact h.elim
  · exact ⟨rfl, h⟩
theorem bif_or {b : Bool} {P Q : Prop} (h : bif b then P else Q) : (b = true ∧ P) ∨ Q := by
  cases b
  · exact Or.inr h
  · exact Or.inl ⟨rfl, h⟩
theorem bif_f {b : Bool} {P : Prop} (h : bif b then False else P) : b = false ∧ P := by
  cases b
  · exact ⟨rfl, h⟩
  · exact h.elim
theorem and_t {a b : Bool} (h : (a && b) = true) : a = true ∧ b = true := by simpa using h
theorem beq_t {a b : Nat} (h : (a == b) = true) : a = b := by simpa using h
theorem beq_f {a b : Nat} (h : (a == b) = false) : a ≠ b := by simpa using h
theorem ble_t {a b : Nat} (h : Nat.ble a b = true) : a ≤ b := Nat.le_of_ble_eq_true h
theorem blt_t {a b : Nat} (h : Nat.blt a b = true) : a < b := Nat.le_of_ble_eq_true h
section SOUND
variable {Γ : Gam} {d : Nat} {md : MD} {pc : Nat} {h : Hp} {KR KT : Kt} {k : Nxt} {len : Nat}
abbrev Hk (Γ : Gam) (d : Nat) (md : MD) (KR KT : Kt) (pc : Nat) (k : Nxt) : Prop := ∀ L S h, k L S h → Rr Γ d md pc L S h KR KT
theorem jmp_s {t : Nat × List Nat} {L : Lc} {S : List Vl} (hw : jmp Γ d md KR KT t L S h) : Rr Γ d md t.1 L S h KR KT := by
  obtain ⟨h1, h2⟩ := bif_t hw
  clear hw
  exact Rr.keep (kp_sub h1) h2
theorem s_Bin {t1 t2 r : Nat} {f : Int → Int → Int} (hk : Hk Γ d md KR KT (pc + 1) k) (rule : ∀ {a b : Int} {L : Lc} {S : List Vl} {h : Hp}, Rr Γ d md (pc + 1) L ((r, f a b) :: S) h KR KT → Rr Γ d md pc L ((t2, b) :: (t1, a) :: S) h KR KT) {L : Lc} {S : List Vl} : sBin t1 t2 r f k L S h → Rr Γ d md pc L S h KR KT := by
  intro hw
  match S, hw with
  | (u2, b) :: (u1, a) :: S2, hw =>
    obtain ⟨e, hv⟩ := bif_t hw
    clear hw
    obtain ⟨e1, e2⟩ := and_t e
    cases beq_t e1; cases beq_t e2
    exact rule (hk _ _ _ hv)
  | [], hw => exact hw.elim
  | [(_, _)], hw => exact hw.elim
theorem s_Div {t : Nat} {f : Int → Int → Int} (hk : Hk Γ d md KR KT (pc + 1) k) (rule : ∀ {a b : Int} {L : Lc} {S : List Vl} {h : Hp}, b ≠ 0 → Rr Γ d md (pc + 1) L ((t, f a b) :: S) h KR KT → Rr Γ d md pc L ((t, b) :: (t, a) :: S) h KR KT) {L : Lc} {S : List Vl} : sDiv t f k L S h → Rr Γ d md pc L S h KR KT := by
  intro hw
  match S, hw with
  | (u2, b) :: (u1, a) :: S2, hw =>
    obtain ⟨e, hv⟩ := bif_t hw
    clear hw
    obtain ⟨e1, e2⟩ := and_t e
    cases beq_t e1; cases beq_t e2
    exact rule hv.1 (hk _ _ _ hv.2)
  | [], hw => exact hw.elim
  | [(_, _)], hw => exact hw.elim
theorem s_Un {t r : Nat} {f : Int → Int} (hk : Hk Γ d md KR KT (pc + 1) k) (rule : ∀ {a : Int} {L : Lc} {S : List Vl} {h : Hp}, Rr Γ d md (pc + 1) L ((r, f a) :: S) h KR KT → Rr Γ d md pc L ((t, a) :: S) h KR KT) {L : Lc} {S : List Vl} : sUn t r f k L S h → Rr Γ d md pc L S h KR KT := by
  intro hw
  match S, hw with
  | (u, a) :: S2, hw =>
    obtain ⟨e, hv⟩ := bif_t hw
    clear hw
    cases beq_t e
    exact rule (hk _ _ _ hv)
  | [], hw => exact hw.elim
theorem s_Load {t i : Nat} (ht : t ≠ 98) (hk : Hk Γ d md KR KT (pc + len) k) (rule : ∀ {x : Int} {L : Lc} {S : List Vl} {h : Hp}, (i, (t, x)) ∈ L → Rr Γ d md (pc + len) L ((t, x) :: S) h KR KT → Rr Γ d md pc L S h KR KT) {L : Lc} {S : List Vl} : sLoad t i k L S h → Rr Γ d md pc L S h KR KT := by
  intro hw
  unfold sLoad at hw
  generalize e : lk L i = v at hw
  obtain ⟨u, x⟩ := v
  obtain ⟨e1, hv⟩ := bif_t hw
  clear hw
  cases beq_t e1
  have := lk_mem (L := L) (i := i) (by rw [e]; exact ht)
  rw [e] at this
  exact rule this (hk _ _ _ hv)
theorem s_LoadA {i : Nat} (hk : Hk Γ d md KR KT (pc + len) k) (rule : ∀ {t : Nat} {x : Int} {L : Lc} {S : List Vl} {h : Hp}, (i, (t + 9, x)) ∈ L → Rr Γ d md (pc + len) L ((t + 9, x) :: S) h KR KT → Rr Γ d md pc L S h KR KT) {L : Lc} {S : List Vl} : sLoadA i k L S h → Rr Γ d md pc L S h KR KT := by
  intro hw
  unfold sLoadA at hw
  generalize e : lk L i = v at hw
  obtain ⟨u, x⟩ := v
  obtain ⟨e1, hv⟩ := bif_t hw
  clear hw
  obtain ⟨e2, e3⟩ := and_t e1
  obtain ⟨t, rfl⟩ : ∃ t, u = t + 9 := ⟨u - 9, by have := ble_t e2; omega⟩
  have := lk_mem (L := L) (i := i) (by rw [e]; simpa using e3)
  rw [e] at this
  exact rule this (hk _ _ _ hv)
theorem s_Store {t i : Nat} (hk : Hk Γ d md KR KT (pc + len) k) (rule : ∀ {x : Int} {L : Lc} {S : List Vl} {h : Hp}, i < md.2.2.1 → Rr Γ d md (pc + len) (stL L i (t, x)) S h KR KT → Rr Γ d md pc L ((t, x) :: S) h KR KT) {L : Lc} {S : List Vl} : sStore md.2.2.1 t i k L S h → Rr Γ d md pc L S h KR KT := by
  intro hw
  match S, hw with
  | (u, a) :: S2, hw =>
    obtain ⟨e, hv⟩ := bif_t hw
    clear hw
    obtain ⟨e1, e2⟩ := and_t e
    cases beq_t e1
    exact rule (blt_t e2) (hk _ _ _ hv)
  | [], hw => exact hw.elim
theorem s_Store2 {i : Nat} (hk : Hk Γ d md KR KT (pc + len) k) (rule : ∀ {x : Int} {L : Lc} {S : List Vl} {h : Hp}, i + 1 < md.2.2.1 → Rr Γ d md (pc + len) (stL2 L i (1, x)) S h KR KT → Rr Γ d md pc L ((1, x) :: S) h KR KT) {L : Lc} {S : List Vl} : sStore2 md.2.2.1 i k L S h → Rr Γ d md pc L S h KR KT := by
  intro hw
  match S, hw with
  | (u, a) :: S2, hw =>
    obtain ⟨e, hv⟩ := bif_t hw
    clear hw
    obtain ⟨e1, e2⟩ := and_t e
    cases beq_t e1
    exact rule (blt_t e2) (hk _ _ _ hv)
  | [], hw => exact hw.elim
theorem s_StoreA {i : Nat} (hk : Hk Γ d md KR KT (pc + len) k) (rule : ∀ {t : Nat} {x : Int} {L : Lc} {S : List Vl} {h : Hp}, i < md.2.2.1 → Rr Γ d md (pc + len) (stL L i (t + 9, x)) S h KR KT → Rr Γ d md pc L ((t + 9, x) :: S) h KR KT) {L : Lc} {S : List Vl} : sStoreA md.2.2.1 i k L S h → Rr Γ d md pc L S h KR KT := by
  intro hw
  match S, hw with
  | (u, a) :: S2, hw =>
    obtain ⟨e, hv⟩ := bif_t hw
    clear hw
    obtain ⟨e1, e2⟩ := and_t e
    obtain ⟨t, rfl⟩ : ∃ t, u = t + 9 := ⟨u - 9, by have := ble_t e1; omega⟩
    exact rule (blt_t e2) (hk _ _ _ hv)
  | [], hw => exact hw.elim
theorem s_Iinc (g : GG Γ) {i : Nat} {n : Int} (hd : decode md.2.1 pc = .ok (.iinc i n, 3)) (hk : Hk Γ d md KR KT (pc + 3) k) {L : Lc} {S : List Vl} : sIinc md.2.2.1 i n k L S h → Rr Γ d md pc L S h KR KT := by
  intro hw
  unfold sIinc at hw
  generalize e : lk L i = v at hw
  obtain ⟨u, x⟩ := v
  obtain ⟨e1, hv⟩ := bif_t hw
  clear hw
  obtain ⟨e2, e3⟩ := and_t e1
  cases beq_t e2
  have := lk_mem (L := L) (i := i) (by rw [e]; exact (by decide : (0 : Nat) ≠ 98))
  rw [e] at this
  exact R_iinc g this (blt_t e3) hd (hk _ _ _ hv)
theorem s_Pop (g : GG Γ) (hd : decode md.2.1 pc = .ok (.pop, 1)) (hk : Hk Γ d md KR KT (pc + 1) k) {L : Lc} {S : List Vl} : sPop k L S h → Rr Γ d md pc L S h KR KT := by
  intro hw
  match S, hw with
  | (u, a) :: S2, hw =>
    obtain ⟨e, hv⟩ := bif_f hw
    clear hw
    exact R_pop g (beq_f e) hd (hk _ _ _ hv)
  | [], hw => exact hw.elim
theorem s_Dup (g : GG Γ) (hd : decode md.2.1 pc = .ok (.dup, 1)) (hk : Hk Γ d md KR KT (pc + 1) k) {L : Lc} {S : List Vl} : sDup k L S h → Rr Γ d md pc L S h KR KT := by
  intro hw
  match S, hw with
  | (u, a) :: S2, hw =>
    obtain ⟨e, hv⟩ := bif_f hw
    clear hw
    exact R_dup g (beq_f e) hd (hk _ _ _ hv)
  | [], hw => exact hw.elim
theorem s_DupX1 (g : GG Γ) (hd : decode md.2.1 pc = .ok (.dup_x1, 1)) (hk : Hk Γ d md KR KT (pc + 1) k) {L : Lc} {S : List Vl} : sDupX1 k L S h → Rr Γ d md pc L S h KR KT := by
  intro hw
  match S, hw with
  | (u, a) :: (v, b) :: S2, hw =>
    obtain ⟨e, hv⟩ := bif_f hw
    clear hw
    have e : (u == 1) = false ∧ (v == 1) = false := by simpa using e
    exact R_dup_x1 g (beq_f e.1) (beq_f e.2) hd (hk _ _ _ hv)
  | [], hw => exact hw.elim
  | [(_, _)], hw => exact hw.elim
theorem s_Dup2 (g : GG Γ) (hd : decode md.2.1 pc = .ok (.dup2, 1)) (hk : Hk Γ d md KR KT (pc + 1) k) {L : Lc} {S : List Vl} : sDup2 k L S h → Rr Γ d md pc L S h KR KT := by
  intro hw
  match S, hw with
  | (u, a) :: S1, hw =>
    cases e : (u == 1) with
    | true =>
      have hw : (bif u == 1 then k L ((u, a) :: (u, a) :: S1) h else _) := hw
      rw [e] at hw
      cases beq_t e
      exact R_dup2L g hd (hk _ _ _ hw)
    | false =>
      have hw : (bif u == 1 then k L ((u, a) :: (u, a) :: S1) h else _) := hw
      rw [e] at hw
      match S1, hw with
      | (v, b) :: S2, hw =>
        obtain ⟨e2, hv⟩ := bif_f hw
        clear hw
        exact R_dup2 g (beq_f e) (beq_f e2) hd (hk _ _ _ hv)
      | [], hw => exact hw.elim
  | [], hw => exact hw.elim
theorem s_Cmp {ts : List (Nat × List Nat)} {c : ClassFile.Cond} {t : Nat} (ht : (T1 ts).1 = pc + 3) (h0 : (T0 ts).1 = t)
    (rule : ∀ {a b : Int} {L : Lc} {S : List Vl} {h : Hp}, (cmpI c a b → Rr Γ d md t L S h KR KT) → (¬ cmpI c a b → Rr Γ d md (pc + 3) L S h KR KT) → Rr Γ d md pc L ((0, b) :: (0, a) :: S) h KR KT) {L : Lc} {S : List Vl} : sCmp (jmp Γ d md KR KT) ts c L S h → Rr Γ d md pc L S h KR KT := by
  intro hw
  match S, hw with
  | (u2, b) :: (u1, a) :: S2, hw =>
    obtain ⟨e, hv⟩ := bif_t hw
    clear hw
    obtain ⟨e1, e2⟩ := and_t e
    cases beq_t e1; cases beq_t e2
    exact rule (fun q => by rw [← h0]; exact jmp_s (hv.1 q)) (fun q => by rw [← ht]; exact jmp_s (hv.2 q))
  | [], hw => exact hw.elim
  | [(_, _)], hw => exact hw.elim
theorem s_If {ts : List (Nat × List Nat)} {c : ClassFile.Cond} {t : Nat} (ht : (T1 ts).1 = pc + 3) (h0 : (T0 ts).1 = t)
    (rule : ∀ {a : Int} {L : Lc} {S : List Vl} {h : Hp}, (cmpI c a 0 → Rr Γ d md t L S h KR KT) → (¬ cmpI c a 0 → Rr Γ d md (pc + 3) L S h KR KT) → Rr Γ d md pc L ((0, a) :: S) h KR KT) {L : Lc} {S : List Vl} : sIf (jmp Γ d md KR KT) ts c L S h → Rr Γ d md pc L S h KR KT := by
  intro hw
  match S, hw with
  | (u1, a) :: S2, hw =>
    obtain ⟨e, hv⟩ := bif_t hw
    clear hw
    cases beq_t e
    exact rule (fun q => by rw [← h0]; exact jmp_s (hv.1 q)) (fun q => by rw [← ht]; exact jmp_s (hv.2 q))
  | [], hw => exact hw.elim
theorem s_Null {ts : List (Nat × List Nat)} {y : Bool} {t : Nat} (ht : (T1 ts).1 = pc + 3) (h0 : (T0 ts).1 = t)
    (rule : ∀ {u : Nat} {a : Int} {L : Lc} {S : List Vl} {h : Hp}, (a = 0 → Rr Γ d md (bif y then t else pc + 3) L S h KR KT) → (¬ a = 0 → Rr Γ d md (bif y then pc + 3 else t) L S h KR KT) → Rr Γ d md pc L ((u + 9, a) :: S) h KR KT) {L : Lc} {S : List Vl} : sNull (jmp Γ d md KR KT) ts y L S h → Rr Γ d md pc L S h KR KT := by
  intro hw
  match S, hw with
  | (u1, a) :: S2, hw =>
    obtain ⟨e, hv⟩ := bif_t hw
    clear hw
    obtain ⟨u, rfl⟩ : ∃ t, u1 = t + 9 := ⟨u1 - 9, by have := ble_t e; omega⟩
    refine rule (fun q => ?_) (fun q => ?_)
    · have := jmp_s (hv.1 q)
      cases y
      · rw [← ht]; exact this
      · rw [← h0]; exact this
    · have := jmp_s (hv.2 q)
      cases y
      · rw [← h0]; exact this
      · rw [← ht]; exact this
  | [], hw => exact hw.elim
theorem s_Acmp {ts : List (Nat × List Nat)} {y : Bool} {t : Nat} (ht : (T1 ts).1 = pc + 3) (h0 : (T0 ts).1 = t)
    (rule : ∀ {κ : Nat} {a b : Int} {L : Lc} {S : List Vl} {h : Hp}, κ + 10 ≠ 93 → (a = b → Rr Γ d md (bif y then t else pc + 3) L S h KR KT) → (¬ a = b → Rr Γ d md (bif y then pc + 3 else t) L S h KR KT) → Rr Γ d md pc L ((κ + 10, b) :: (κ + 10, a) :: S) h KR KT) {L : Lc} {S : List Vl} : sAcmp (jmp Γ d md KR KT) ts y L S h → Rr Γ d md pc L S h KR KT := by
  intro hw
  match S, hw with
  | (u2, b) :: (u1, a) :: S2, hw =>
    obtain ⟨e, hv⟩ := bif_t hw
    clear hw
    obtain ⟨e, e3⟩ := and_t e
    obtain ⟨e1, e2⟩ := and_t e
    have e1 : u2 = u1 := beq_t e1
    subst e1
    obtain ⟨u, rfl⟩ : ∃ t, u2 = t + 10 := ⟨u2 - 10, by have := ble_t e2; omega⟩
    refine rule (by simpa using e3) (fun q => ?_) (fun q => ?_)
    · have := jmp_s (hv.1 q)
      cases y
      · rw [← ht]; exact this
      · rw [← h0]; exact this
    · have := jmp_s (hv.2 q)
      cases y
      · rw [← h0]; exact this
      · rw [← ht]; exact this
  | [], hw => exact hw.elim
  | [(_, _)], hw => exact hw.elim
theorem s_Get (g : GG Γ) {i κ f t : Nat} (hd : decode md.2.1 pc = .ok (.getfield i, 3)) (hk : Hk Γ d md KR KT (pc + 3) k) {L : Lc} {S : List Vl} : sGet md.1.cls i κ f t k L S h → Rr Γ d md pc L S h KR KT := by
  intro hw
  match S, hw with
  | (u, a) :: S2, hw =>
    obtain ⟨e, ⟨hκ, hf, hl⟩, ha, hv⟩ := bif_t hw
    clear hw
    obtain ⟨e1, e2⟩ := and_t e
    cases beq_t e1; cases beq_t e2
    rcases hl with hl | ⟨ref, h1, h2⟩ | ⟨host, h1⟩
    · exact R_getfield g hκ hf hl (Or.inl rfl) ha hd (fun o => hk _ _ _ (hv o))
    · exact R_getfield g hκ hf h1 (Or.inr h2) ha hd (fun o => hk _ _ _ (hv o))
    · exact R_getfieldN g hκ hf h1 ha hd (fun o => hk _ _ _ (hv o))
  | [], hw => exact hw.elim
theorem okv_un {h : Hp} {t : Nat} {x : Int} (hb : t = 3 → x = 0 ∨ x = 1) (h2 : t ≠ 2) (h4 : t ≠ 4) (h5 : t ≠ 5) (k : okv h (tg t) x) : okv h t x := by
  by_cases h3 : t = 3
  · subst h3; exact hb rfl
  · have : tg t = t := by
      unfold tg
      split <;> first | rfl | omega
    rw [this] at k
    exact k
theorem kft_ne : ∀ κ, κ < 29 → ∀ f, f < kF κ → kft κ f ≠ 2 ∧ kft κ f ≠ 4 ∧ kft κ f ≠ 5 := by decide +kernel
theorem s_Put (g : GG Γ) {i κ f t : Nat} (hd : decode md.2.1 pc = .ok (.putfield i, 3)) (hk : Hk Γ d md KR KT (pc + 3) k) {L : Lc} {S : List Vl} : sPut md i κ f t k L S h → Rr Γ d md pc L S h KR KT := by
  intro hw
  match S, hw with
  | (v, x) :: (u, a) :: S2, hw =>
    obtain ⟨e, ⟨hκ, hf, hl, hfin⟩, ha, hv⟩ := bif_t hw
    clear hw
    obtain ⟨hb, hz⟩ : (t = 3 → x = 0 ∨ x = 1) ∧ k L S2 (up h a f x) := by
      cases e3 : (t == 3) with
      | true => rw [e3] at hv; exact ⟨fun _ => hv.1, hv.2⟩
      | false => rw [e3] at hv; exact ⟨fun q => absurd q (beq_f e3), hv⟩
    clear hv
    obtain ⟨e, e3⟩ := and_t e
    obtain ⟨e1, e2⟩ := and_t e
    cases beq_t e1; cases beq_t e2; cases beq_t e3
    obtain ⟨n2, n4, n5⟩ := kft_ne κ hκ f hf
    rcases hl with hl | ⟨ref, h1, h2⟩
    · exact R_putfield g hκ hf hl (Or.inl rfl) hfin rfl (okv_un hb n2 n4 n5) ha hd (hk _ _ _ hz)
    · exact R_putfield g hκ hf h1 (Or.inr h2) hfin rfl (okv_un hb n2 n4 n5) ha hd (hk _ _ _ hz)
  | [], hw => exact hw.elim
  | [(_, _)], hw => exact hw.elim
theorem s_Len (g : GG Γ) {κ : Nat} (hd : decode md.2.1 pc = .ok (.arraylength, 1)) (hk : Hk Γ d md KR KT (pc + 1) k) {L : Lc} {S : List Vl} : sLen κ k L S h → Rr Γ d md pc L S h KR KT := by
  intro hw
  match S, hw with
  | (u, a) :: S2, hw =>
    obtain ⟨e, ha, hv⟩ := bif_t hw
    clear hw
    obtain ⟨e, e3⟩ := and_t e
    obtain ⟨e1, e2⟩ := and_t e
    cases beq_t e1
    exact R_alen g (ble_t e2) (blt_t e3) ha hd (hk _ _ _ hv)
  | [], hw => exact hw.elim
theorem s_Ald {ok : Nat → Bool} {κ : Nat} (hk : Hk Γ d md KR KT (pc + 1) k) (rule : ∀ {a i : Int} {L : Lc} {S : List Vl} {h : Hp}, 64 ≤ κ → κ < 86 → ok (ket κ) = true → a ≠ 0 → 0 ≤ i → i < ln h a → (okv h (ket κ) (rd h a i) → Rr Γ d md (pc + 1) L ((tg (ket κ), rd h a i) :: S) h KR KT) → Rr Γ d md pc L ((0, i) :: (κ + 10, a) :: S) h KR KT) {L : Lc} {S : List Vl} : sAld ok κ k L S h → Rr Γ d md pc L S h KR KT := by
  intro hw
  match S, hw with
  | (v, i) :: (u, a) :: S2, hw =>
    obtain ⟨e, ha, hi0, hi1, hv⟩ := bif_t hw
    clear hw
    obtain ⟨e, e5⟩ := and_t e
    obtain ⟨e, e4⟩ := and_t e
    obtain ⟨e, e3⟩ := and_t e
    obtain ⟨e1, e2⟩ := and_t e
    cases beq_t e1; cases beq_t e2
    exact rule (ble_t e3) (blt_t e4) e5 ha hi0 hi1 (fun o => hk _ _ _ (hv o))
  | [], hw => exact hw.elim
  | [(_, _)], hw => exact hw.elim
theorem s_Ast {c κ : Nat} {f : Int → Int} (hk : Hk Γ d md KR KT (pc + 1) k) (rule : ∀ {a i x : Int} {L : Lc} {S : List Vl} {h : Hp}, 64 ≤ κ → κ < 83 → ket κ = c → a ≠ 0 → 0 ≤ i → i < ln h a → (c = 3 → x = 0 ∨ x = 1) → Rr Γ d md (pc + 1) L S (up h a i (f x)) KR KT → Rr Γ d md pc L ((tg c, x) :: (0, i) :: (κ + 10, a) :: S) h KR KT) {L : Lc} {S : List Vl} : sAst c κ f k L S h → Rr Γ d md pc L S h KR KT := by
  intro hw
  match S, hw with
  | (w, x) :: (v, i) :: (u, a) :: S2, hw =>
    obtain ⟨e, ha, hi0, hi1, hv⟩ := bif_t hw
    clear hw
    obtain ⟨hz, hy⟩ : (c = 3 → x = 0 ∨ x = 1) ∧ k L S2 (up h a i (f x)) := by
      cases e3 : (c == 3) with
      | true => rw [e3] at hv; exact ⟨fun _ => hv.1, hv.2⟩
      | false => rw [e3] at hv; exact ⟨fun q => absurd q (beq_f e3), hv⟩
    clear hv
    obtain ⟨e, e6⟩ := and_t e
    obtain ⟨e, e5⟩ := and_t e
    obtain ⟨e, e4⟩ := and_t e
    obtain ⟨e, e3⟩ := and_t e
    obtain ⟨e1, e2⟩ := and_t e
    cases beq_t e1; cases beq_t e2; cases beq_t e3
    exact rule (ble_t e4) (blt_t e5) (beq_t e6) ha hi0 hi1 hz (hk _ _ _ hy)
  | [], hw => exact hw.elim
  | [(_, _)], hw => exact hw.elim
  | [(_, _), (_, _)], hw => exact hw.elim
theorem kat_of {κ c : Nat} (h64 : 64 ≤ κ) (h86 : κ < 86) (hc : ket κ = c) : (c = 0 → kat κ = .int) ∧ (c = 1 → kat κ = .long) ∧ (c = 2 → kat κ = .byte) ∧ (c = 3 → kat κ = .boolean) ∧ (9 ≤ c → (kat κ).isReference = true) := by
  subst hc
  have : ∀ κ, κ < 86 → 64 ≤ κ → (ket κ = 0 → kat κ = .int) ∧ (ket κ = 1 → kat κ = .long) ∧ (ket κ = 2 → kat κ = .byte) ∧ (ket κ = 3 → kat κ = .boolean) ∧ (9 ≤ ket κ → (kat κ).isReference = true) := by decide +kernel
  exact this κ h86 h64
theorem s_New (g : GG Γ) {i κ : Nat} (hd : decode md.2.1 pc = .ok (.new i, 3)) (hk : Hk Γ d md KR KT (pc + 3) k) {L : Lc} {S : List Vl} : sNew md.1.cls i κ k L S h → Rr Γ d md pc L S h KR KT := by
  rintro ⟨⟨hκ, hl⟩, ⟨hn, hu⟩, hw⟩
  exact R_new g hκ hl hn hu hd (fun q => hk _ _ _ (hw q))
theorem s_NewA (g : GG Γ) {κ : Nat} {ty : ArrayType} (hty : kat κ = newarray.typeOf ty) (hw0 : Cond.arrayClass (newarray.typeOf ty) ∈ lw_tbl) (hd : decode md.2.1 pc = .ok (.newarray ty, 2)) (hk : Hk Γ d md KR KT (pc + 2) k) {L : Lc} {S : List Vl} : sNewA κ k L S h → Rr Γ d md pc L S h KR KT := by
  intro hw
  match S, hw with
  | (u, n) :: S2, hw =>
    obtain ⟨e, ⟨n0, n1, hN, hU⟩, hv⟩ := bif_t hw
    clear hw
    obtain ⟨e, e3⟩ := and_t e
    obtain ⟨e1, e2⟩ := and_t e
    cases beq_t e1
    exact R_newa g (ble_t e2) (blt_t e3) hty hw0 n0 n1 hN hU hd (fun q => hk _ _ _ (hv q))
  | [], hw => exact hw.elim
theorem thr_s {L : Lc} {a : Int} {κ : Nat} (hκ : κ < 29) (ha : okv h (κ + 10) a) (h0 : a ≠ 0) (hw : thr Γ d md KR KT pc L a h) : Th Γ d md pc L h KR KT a := by
  unfold thr at hw
  cases e : (tableOf md.2.2.2.2.2).all (fun x => !covers x pc) with
  | true =>
    rw [e] at hw
    exact Th_out e hκ ha h0 hw
  | false =>
    rw [e] at hw
    exact hw κ hκ ha h0
theorem s_CallS (g : GG Γ) {i n : Nat} {md2 : MD} (hd : decode md.2.1 pc = .ok (.invokestatic i, 3)) (hk : Hk Γ d md KR KT (pc + 3) k) {L : Lc} {S : List Vl} : sCallS Γ d md KR KT pc md.1.cls i n md2 k L S h → Rr Γ d md pc L S h KR KT := by
  intro hw
  obtain ⟨e, ⟨hq, hst, hlk⟩, d2, hd2, M⟩ := bif_t hw
  clear hw
  obtain ⟨e1, e2⟩ := and_t e
  have hl : ((S.take n).reverse).length = n := by have := ble_t e1; rw [List.length_reverse, List.length_take]; omega
  have eS : S = ((S.take n).reverse).reverse ++ S.drop n := by rw [List.reverse_reverse, List.take_append_drop]
  rw [eS]
  rw [← hl] at hq
  rcases hlk with hlk | ⟨host, hlk⟩
  · exact R_invokestatic g M hd2 (ble_t e2) hq hst hlk hd (fun r h2 _ o q => hk _ _ _ (q o)) (fun a h2 κ _ hκ ha h0 q => thr_s hκ ha h0 q)
  · exact R_invokestaticN g M hd2 (ble_t e2) hq hst hlk hd (fun r h2 _ o q => hk _ _ _ (q o)) (fun a h2 κ _ hκ ha h0 q => thr_s hκ ha h0 q)
theorem s_CallV (g : GG Γ) {i κ n : Nat} {md2 : MD} (hd : decode md.2.1 pc = .ok (.invokevirtual i, 3)) (hk : Hk Γ d md KR KT (pc + 3) k) {L : Lc} {S : List Vl} : sCallV Γ d md KR KT pc md.1.cls i κ n md2 k L S h → Rr Γ d md pc L S h KR KT := by
  intro hw
  unfold sCallV at hw
  generalize eD : S.drop n = D at hw
  match D, hw with
  | (u, a) :: S2, hw =>
    obtain ⟨e, ⟨hκ, hq, hin, hsel, hlk⟩, ha, d2, hd2, M⟩ := bif_t hw
    clear hw
    obtain ⟨e1, e2⟩ := and_t e
    cases beq_t e1
    have hn : n ≤ S.length := by
      have := congrArg List.length eD
      rw [List.length_drop] at this
      simp at this
      omega
    have hl : ((S.take n).reverse).length = n := by rw [List.length_reverse, List.length_take]; omega
    have eS : S = ((S.take n).reverse).reverse ++ (κ + 10, a) :: S2 := by rw [List.reverse_reverse, ← eD, List.take_append_drop]
    rw [eS]
    rw [← hl] at hq
    rcases hlk with hlk | ⟨host, hlk⟩
    · exact R_invokevirtual g hκ ha M hd2 (ble_t e2) hq hin hsel hlk hd (fun r h2 _ o q => hk _ _ _ (q o)) (fun a h2 κ _ hκ ha h0 q => thr_s hκ ha h0 q)
    · exact R_invokevirtualN g hκ ha M hd2 (ble_t e2) hq hin hsel hlk hd (fun r h2 _ o q => hk _ _ _ (q o)) (fun a h2 κ _ hκ ha h0 q => thr_s hκ ha h0 q)
  | [], hw => exact hw.elim
theorem s_CallI (g : GG Γ) {i n : Nat} {md2 : MD} (hd : decode md.2.1 pc = .ok (.invokespecial i, 3)) (hk : Hk Γ d md KR KT (pc + 3) k) {L : Lc} {S : List Vl} : sCallI Γ d md KR KT pc md.1.cls i n md2 k L S h → Rr Γ d md pc L S h KR KT := by
  intro hw
  unfold sCallI at hw
  generalize eD : S.drop n = D at hw
  match D, hw with
  | (u, a) :: S2, hw =>
    obtain ⟨e, ⟨hq, hin, hnm, hhs, hrt, hlk⟩, ha, d2, hd2, M⟩ := bif_t hw
    clear hw
    obtain ⟨e1, e2⟩ := and_t e
    obtain ⟨κ, rfl⟩ : ∃ t, u = t + 10 := ⟨u - 10, by have := ble_t e1; omega⟩
    have hn : n ≤ S.length := by
      have := congrArg List.length eD
      rw [List.length_drop] at this
      simp at this
      omega
    have hl : ((S.take n).reverse).length = n := by rw [List.length_reverse, List.length_take]; omega
    have eS : S = ((S.take n).reverse).reverse ++ (κ + 10, a) :: S2 := by rw [List.reverse_reverse, ← eD, List.take_append_drop]
    rw [eS]
    rw [← hl] at hq
    rcases hlk with hlk | ⟨host, hlk⟩
    · exact R_invokeinit g ha M hd2 (ble_t e2) hq hin hnm hhs hrt hlk hd (fun r h2 _ o q => hk _ _ _ (q o)) (fun a h2 κ _ hκ ha h0 q => thr_s hκ ha h0 q)
    · exact R_invokeinitN g ha M hd2 (ble_t e2) hq hin hnm hhs hrt hlk hd (fun r h2 _ o q => hk _ _ _ (q o)) (fun a h2 κ _ hκ ha h0 q => thr_s hκ ha h0 q)
  | [], hw => exact hw.elim
theorem s_ObjI (g : GG Γ) {i : Nat} (hd : decode md.2.1 pc = .ok (.invokespecial i, 3)) (hk : Hk Γ d md KR KT (pc + 3) k) {L : Lc} {S : List Vl} : sObjI d md.1.cls i k L S h → Rr Γ d md pc L S h KR KT := by
  intro hw
  match S, hw with
  | (u, a) :: S2, hw =>
    obtain ⟨e, ⟨h1, h2, h3⟩, e3, ha, hv⟩ := bif_t hw
    clear hw
    obtain ⟨e1, e2⟩ := and_t e
    obtain ⟨κ, rfl⟩ : ∃ t, u = t + 10 := ⟨u - 10, by have := ble_t e1; omega⟩
    exact R_objinit g ha (ble_t e2) e3 h1 h2 h3 hd (hk _ _ _ hv)
  | [], hw => exact hw.elim
end SOUND
