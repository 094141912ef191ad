/-! GETTERS -/
/-- the code of a call: 2 down, 1 argument, 0 -/
def cd2 (t : Ts) (ok : Prop) [Decidable ok] : Int := if t 137 0 = 0 then (if ok then 0 else 1) else 2
theorem cd2_d {t : Ts} {ok : Prop} [Decidable ok] (d : t 137 0 ≠ 0) : cd2 t ok = 2 := if_neg d
theorem cd2_f {t : Ts} {ok : Prop} [Decidable ok] (d : t 137 0 = 0) (k : ¬ ok) : cd2 t ok = 1 := by unfold cd2; rw [if_pos d, if_neg k]
theorem cd2_t {t : Ts} {ok : Prop} [Decidable ok] (d : t 137 0 = 0) (k : ok) : cd2 t ok = 0 := by unfold cd2; rw [if_pos d, if_pos k]
/-- what a getter leaves behind -/
def GetC (H Q L : Int) (h : Hp) (t : Ts) (c v : Int) (K : Int → Hp → Prop) : Prop := ∀ (c1 : Int) (h1 : Hp), RC H Q L h1 t → frC h h1 → c1 = c → (c = 0 → rd h1 1509 0 = v) → K c1 h1
theorem GetC.exc {H Q L : Int} {h : Hp} {t : Ts} {c v κ : Int} {K : Int → Hp → Prop} (k : GetC H Q L h t c v K) (r : RC H Q L h t) (n : c ≠ 0) : K c (mk h κ 6) := k c _ r.mk (frC_exc _ r.1.2.2.1) rfl (fun q => absurd q n)
theorem GetC.ok {H Q L : Int} {h : Hp} {t : Ts} {c v x : Int} {K : Int → Hp → Prop} (k : GetC H Q L h t c v K) (r : RC H Q L h t) (n : c = 0) (e : x = v) : K 0 (up h 1509 0 x) := k 0 _ r.out (frC_out _ _) n.symm (fun _ => by rw [rd_up_eq]; exact e)
theorem c_Lw_edge {H Q L : Int} {h : Hp} {t : Ts} {s e : Int} (r : RC H Q L h t) (x : xr h) {K : Int → Hp → Prop}
    (k : GetC H Q L h t (cd2 t ((0 ≤ s ∧ s ≤ 4) ∧ 0 ≤ e ∧ e ≤ 109)) (t 3 (110 * s + e)) K) : wp_Lw_edge 64 s e 1509 h K := by
  have sh := r.1
  have hh := r.2.1.1
  have sw := r.2.1.2.2.2.1
  unfold wp_Lw_edge wp_Kh_edge wp_Lw_edge_13 wp_Lw_edge_17
  rw [z_Kh_isUp sh, r.dn, z_Kh_isStorey, z_Kh_isIn, z_Kh_need]
  simp only [bi_nz]
  refine ⟨by decide, ?_⟩
  by_cases d : t 137 0 = 0
  · rw [if_pos d]
    by_cases c1 : 0 ≤ s ∧ s ≤ 4
    · rw [if_pos c1]
      by_cases c2 : 0 ≤ e ∧ e ≤ 109
      · rw [if_pos c2, sw, p_20_0 hh sh, p_21_0 hh sh, p_22 hh c1.1 (by omega) sh, l_22 hh sh, l_23 hh c1.1 (by omega) sh]
        refine ⟨by rcases hh with rfl | rfl <;> decide, by rcases hh with rfl | rfl <;> decide, by rcases hh with rfl | rfl <;> decide, by omega, by rcases hh with rfl | rfl <;> omega, by omega, by decide, by rw [l_122 sh]; decide, ?_⟩
        rintro _ rfl
        exact k.ok r (cd2_t d ⟨c1, c2⟩) (r.2.2.1.get (e_23_3 c1.1 (by omega) c2.1 (by omega)) (act_up d (by unfold pln; omega)))
      · rw [if_neg c2]
        have z := cd2_f (ok := (0 ≤ s ∧ s ≤ 4) ∧ 0 ≤ e ∧ e ≤ 109) d (fun q => c2 q.2)
        refine ⟨x, Or.inl ⟨kn_mk_new _ _ _, ?_⟩⟩
        rw [← z]
        exact k.exc r (by rw [z]; decide)
    · rw [if_neg c1]
      have z := cd2_f (ok := (0 ≤ s ∧ s ≤ 4) ∧ 0 ≤ e ∧ e ≤ 109) d (fun q => c1 q.1)
      refine ⟨x, Or.inl ⟨kn_mk_new _ _ _, ?_⟩⟩
      rw [← z]
      exact k.exc r (by rw [z]; decide)
  · rw [if_neg d]
    have z := cd2_d (ok := (0 ≤ s ∧ s ≤ 4) ∧ 0 ≤ e ∧ e ≤ 109) d
    refine ⟨x, Or.inr ⟨kn_mk_new _ _ _, ?_⟩⟩
    rw [← z]
    exact k.exc r (by rw [z]; decide)
theorem GetC.e26 {H Q L : Int} {h : Hp} {t : Ts} {c v : Int} {K : Int → Hp → Prop} {B : Prop} (k : GetC H Q L h t c v K) (r : RC H Q L h t) (x : xr h) (n : c = 1) : xr h ∧ ((kn (mk h 26 6) (nx h) = 26 ∧ K 1 (mk h 26 6)) ∨ B) := ⟨x, Or.inl ⟨kn_mk_new _ _ _, n ▸ k.exc r (by rw [n]; decide)⟩⟩
theorem GetC.e25 {H Q L : Int} {h : Hp} {t : Ts} {c v : Int} {K : Int → Hp → Prop} {A : Prop} (k : GetC H Q L h t c v K) (r : RC H Q L h t) (x : xr h) (n : c = 2) : xr h ∧ (A ∨ (kn (mk h 25 6) (nx h) = 25 ∧ K 2 (mk h 25 6))) := ⟨x, Or.inr ⟨kn_mk_new _ _ _, n ▸ k.exc r (by rw [n]; decide)⟩⟩
/-- the twin's side of a getter -/
def GetT (h : Hp) (t : Ts) (c v : Int) (K : Int → Hp → Prop) : Prop := ∀ (b : Int) (h1 : Hp), RT h1 (tset t 0 0 c) → frT h h1 → (c = 0 → b = v) → K b h1
theorem GetT.ok {h : Hp} {t : Ts} {c v x : Int} {K : Int → Hp → Prop} (k : GetT h t c v K) (r : RT h t) (n : c = 0) (e : x = v) : K x (up h 1400 0 0) := k x _ (by rw [n]; exact r.put t_0) ((frT.rf h).put t_0) (fun _ => e)
theorem GetT.fails {h : Hp} {t : Ts} {v : Int} {ok : Prop} [Decidable ok] {K : Int → Hp → Prop} {B : Hp → Prop} (k : GetT h t (cd2 t ok) v K) (r : RT h t) (b : t 137 0 = 0 → ok → B (up h 1400 0 0)) :
    wp_Mo_fails 1400 (bi ok) 1 h (fun r4 h5 => (r4 = 0 → B h5) ∧ (¬ (r4 = 0) → K 0 h5)) := by
  rw [z_Mo_fails, r.get t_137 (by unfold ess; omega)]
  by_cases d : t 137 0 = 0
  · rw [if_pos d]
    by_cases c : ok
    · rw [bi_t c, if_pos (by decide), if_pos (by decide)]
      exact ⟨fun _ => b d c, fun q => absurd rfl q⟩
    · rw [bi_f c, if_neg (by decide)]
      have z := cd2_f (ok := ok) d c
      exact ⟨fun q => absurd q (by decide), fun _ => k 0 _ (by rw [z]; exact r.put t_0) ((frT.rf h).put t_0) (fun q => by rw [z] at q; omega)⟩
  · rw [if_neg d]
    have z := cd2_d (ok := ok) d
    exact ⟨fun q => absurd q (by decide), fun _ => k 0 _ (by rw [z]; exact r.put t_0) ((frT.rf h).put t_0) (fun q => by rw [z] at q; omega)⟩
theorem z_Mo_isStorey (s : Int) (K : Int → Prop) : wp_Mo_isStorey s K = K (bi (0 ≤ s ∧ s ≤ 4)) := by
  unfold wp_Mo_isStorey
  simp only [ia]
  by_cases c : s < 0
  · rw [if_pos c, bi_f (by omega)]
  · rw [if_neg c]
    by_cases d : s ≥ 5
    · rw [if_pos d, bi_f (by omega)]
    · rw [if_neg d, bi_t (by omega)]
theorem z_Mo_isEdge (s e : Int) (K : Int → Prop) : wp_Mo_isEdge s e K = K (bi ((0 ≤ s ∧ s ≤ 4) ∧ 0 ≤ e ∧ e ≤ 109)) := by
  unfold wp_Mo_isEdge
  rw [z_Mo_isStorey]
  simp only [ia]
  by_cases c : 0 ≤ s ∧ s ≤ 4
  · rw [bi_t c, if_neg (by decide)]
    by_cases d : e < 0
    · rw [if_pos d, bi_f (by omega)]
    · rw [if_neg d]
      by_cases d2 : e ≥ 110
      · rw [if_pos d2, bi_f (by omega)]
      · rw [if_neg d2, bi_t (by omega)]
  · rw [bi_f c, if_pos rfl, bi_f (fun q => c q.1)]
/-- reads of the twin behind a write of its code -/
theorem RT.get0 {h : Hp} {t : Ts} {a i v j x : Int} (r : RT h t) (e : Lt a i v j) (k : ess v) (n : v ≠ 0) : rd (up h 1400 0 x) a i = t v j := by
  have := (r.put (x := x) t_0).get e k
  rw [this]
  exact tset_nv n
theorem sh_c0 {h : Hp} {x : Int} (s : Sh h) : Sh (up h 1400 0 x) := s.up (by decide +kernel) (by decide) (by decide)
theorem c_Mo_edge {h : Hp} {t : Ts} {s e : Int} (sh : Sh h) (r : RT h t) {K : Int → Hp → Prop}
    (k : GetT h t (cd2 t ((0 ≤ s ∧ s ≤ 4) ∧ 0 ≤ e ∧ e ≤ 109)) (t 3 (110 * s + e)) K) : wp_Mo_edge 1400 s e h K := by
  unfold wp_Mo_edge
  rw [z_Mo_isEdge]
  refine k.fails r (fun d c => ?_)
  have q : w32 (w32 (110 * s) + e) = 110 * s + e := by unfold w32; omega
  rw [q, tp_3 (sh_c0 sh), tl_3 (sh_c0 sh)]
  exact ⟨by decide, by omega, k.ok r (cd2_t d c) (r.get0 (t_3 (by omega) (by omega)) (by unfold ess; omega) (by decide))⟩
theorem za {A B : Prop} [Decidable A] [Decidable B] (W : Int → Prop) : ((bi A = 0 → W 0) ∧ (¬ (bi A = 0) → W (bi B))) = W (bi (A ∧ B)) := by
  by_cases a : A
  · rw [bi_t a]
    by_cases b : B
    · rw [bi_t b, bi_t ⟨a, b⟩]; simp
    · rw [bi_f b, bi_f (fun q => b q.2)]; simp
  · rw [bi_f a, bi_f (p := A ∧ B) (fun q => a q.1)]; simp
theorem zb {A : Prop} [Decidable A] (W : Int → Prop) : ((bi A = 0 → W 0) ∧ (¬ (bi A = 0) → W 1)) = W (bi A) := by
  by_cases a : A
  · rw [bi_t a]; simp
  · rw [bi_f a]; simp
theorem z_Kh_isCell (s c : Int) (h : Hp) (K : Prop) (E : Int → Hp → Prop) : wp_Kh_isCell s c h K E = if (0 ≤ s ∧ s ≤ 4) ∧ 0 ≤ c ∧ c ≤ 47 then K else (xr h ∧ E (nx h) (mk h 26 6)) := by
  unfold wp_Kh_isCell
  rw [z_Kh_isIn, z_Kh_isIn, zb (fun s0 => wp_Kh_isCell_29 K E s0 h), za (fun s0 => wp_Kh_isCell_29 K E s0 h)]
  unfold wp_Kh_isCell_29
  rw [z_Kh_need]
  simp only [bi_nz]
theorem z_Mo_isCell (s e : Int) (K : Int → Prop) : wp_Mo_isCell s e K = K (bi ((0 ≤ s ∧ s ≤ 4) ∧ 0 ≤ e ∧ e ≤ 47)) := by
  unfold wp_Mo_isCell
  rw [z_Mo_isStorey]
  simp only [ia]
  by_cases c : 0 ≤ s ∧ s ≤ 4
  · rw [bi_t c, if_neg (by decide)]
    by_cases d : e < 0
    · rw [if_pos d, bi_f (by omega)]
    · rw [if_neg d]
      by_cases d2 : e ≥ 48
      · rw [if_pos d2, bi_f (by omega)]
      · rw [if_neg d2, bi_t (by omega)]
  · rw [bi_f c, if_pos rfl, bi_f (fun q => c q.1)]
theorem c_Lw_target {H Q L : Int} {h : Hp} {t : Ts} {i : Int} (r : RC H Q L h t) (x : xr h) {K : Int → Hp → Prop}
    (k : GetC H Q L h t (cd2 t (0 ≤ i ∧ i ≤ 15)) (t 37 i) K) : wp_Lw_target 64 i 1509 h K := by
  have sh := r.1
  unfold wp_Lw_target wp_Kh_target wp_Lw_target_12 wp_Lw_target_15
  rw [z_Kh_isUp sh, r.dn, z_Kh_isIn, z_Kh_need]
  simp only [bi_nz]
  refine ⟨by decide, ?_⟩
  by_cases d : t 137 0 = 0
  · rw [if_pos d]
    by_cases c1 : 0 ≤ i ∧ i ≤ 15
    · rw [if_pos c1, p_1_13 sh, p_80_8 sh, l_89 sh]
      refine ⟨by decide, by decide, by omega, by decide, by rw [l_122 sh]; decide, ?_⟩
      rintro _ rfl
      exact k.ok r (cd2_t d c1) (r.2.2.1.get (e_89_37 c1.1 (by omega)) (act_up d (by unfold pln; omega)))
    · rw [if_neg c1]
      exact k.e26 r x (cd2_f d c1)
  · rw [if_neg d]
    exact k.e25 r x (cd2_d d)
theorem c_Mo_target {h : Hp} {t : Ts} {i : Int} (sh : Sh h) (r : RT h t) {K : Int → Hp → Prop}
    (k : GetT h t (cd2 t (0 ≤ i ∧ i ≤ 15)) (t 37 i) K) : wp_Mo_target 1400 i h K := by
  unfold wp_Mo_target
  rw [z_Mo_in]
  refine k.fails r (fun d c => ?_)
  rw [tp_37 (sh_c0 sh), tl_37 (sh_c0 sh)]
  exact ⟨by decide, by omega, k.ok r (cd2_t d c) (r.get0 (t_37 (by omega) (by omega)) (by unfold ess; omega) (by decide))⟩
theorem c_Lw_spaceAt {H Q L : Int} {h : Hp} {t : Ts} {s c : Int} (r : RC H Q L h t) (x : xr h) {K : Int → Hp → Prop}
    (k : GetC H Q L h t (cd2 t ((0 ≤ s ∧ s ≤ 4) ∧ 0 ≤ c ∧ c ≤ 47)) (t 6 (48 * s + c)) K) : wp_Lw_spaceAt 64 s c 1509 h K := by
  have sh := r.1
  have hl := r.2.1.2.2.1
  have sw := r.2.1.2.2.2.2.2.2.2.1
  unfold wp_Lw_spaceAt wp_Kh_spaceAt wp_Lw_spaceAt_13 wp_Lw_spaceAt_17
  rw [z_Kh_isUp sh, r.dn, z_Kh_isCell]
  refine ⟨by decide, ?_⟩
  by_cases d : t 137 0 = 0
  · rw [if_pos d]
    by_cases c1 : (0 ≤ s ∧ s ≤ 4) ∧ 0 ≤ c ∧ c ≤ 47
    · have q : w32 (w32 (48 * s) + c) = 48 * s + c := by unfold w32; omega
      have lc := (r.2.2.2.2 d).1
      obtain ⟨n0, n1⟩ := lc.1.2 (48 * s + c) (by omega) (by omega)
      have n2 := lc.1.1.2
      rw [if_pos c1, sw, q, p_50_2 hl sh, l_52 hl sh, (lc.2.2.1 (48 * s + c) (by omega) (by omega)).1, p_60_0 hl n0 (by omega) sh]
      refine ⟨by rcases hl with rfl | rfl <;> decide, by rcases hl with rfl | rfl <;> decide, by omega, by rcases hl with rfl | rfl <;> omega, by decide, by rw [l_122 sh]; decide, ?_⟩
      rintro _ rfl
      exact k.ok r (cd2_t d c1) rfl
    · rw [if_neg c1]
      exact k.e26 r x (cd2_f d c1)
  · rw [if_neg d]
    exact k.e25 r x (cd2_d d)
theorem c_Mo_spaceAt {h : Hp} {t : Ts} {s c : Int} (sh : Sh h) (r : RT h t) {K : Int → Hp → Prop}
    (k : GetT h t (cd2 t ((0 ≤ s ∧ s ≤ 4) ∧ 0 ≤ c ∧ c ≤ 47)) (t 6 (48 * s + c)) K) : wp_Mo_spaceAt 1400 s c h K := by
  unfold wp_Mo_spaceAt
  rw [z_Mo_isCell]
  refine k.fails r (fun d z => ?_)
  have q : w32 (w32 (48 * s) + c) = 48 * s + c := by unfold w32; omega
  rw [q, tp_6 (sh_c0 sh), tl_6 (sh_c0 sh)]
  exact ⟨by decide, by omega, k.ok r (cd2_t d z) (r.get0 (t_6 (by omega) (by omega)) (by unfold ess; omega) (by decide))⟩
