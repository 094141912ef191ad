/-! RUNS OF WRITES; FRAMES; CONTRACTS OF OPERATIONS -/
theorem RC.upd {H Q L : Int} {h h2 : Hp} {t t2 : Ts} (r : RC H Q L h t) (e2 : h2.2 = h.2)
    (pl : ∀ a i : Int, h2.1 a i = h.1 a i ∨ ∃ v j : Int, Lc H Q a i v j)
    (ct : ∀ u k : Int, ctl u → t2 u k = t u k) (sp : ∀ v k : Int, spv v k → t2 v k = t v k)
    (dat : ∀ v j : Int, 0 ≤ j → j < dm v → act t v j → h2.1 (ca H Q v j) (ci v j) = t2 v j) : RC H Q L h2 t2 := by
  obtain ⟨r1, r2, r3, r4, r5⟩ := r
  have hh := r2.1
  have hq := r2.2.1
  have hl := r2.2.2.1
  have en : nx h2 = nx h := by unfold nx; rw [e2]
  have ne : ∀ b z : Int, lv H Q L b z < 0 → h2.1 b z = h.1 b z := fun b z hz => by
    rcases pl b z with k | ⟨v, j, k⟩
    · exact k
    · have w := at_lv (L := L) hh hq k
      have w0 : 0 ≤ v := dm_nn k.2.2.1 k.2.2.2
      have w1 := w.1
      omega
  have nf : ∀ b z : Int, fp b z ≠ -7 ∨ z < 0 ∨ b < 64 ∨ 1400 ≤ b → h2.1 b z = h.1 b z := fun b z hz => by
    rcases pl b z with k | ⟨v, j, k⟩
    · exact k
    · have w := at_lv (L := L) hh hq k
      have w1 := w.2.2.1
      have w2 := w.2.2.2
      rcases hz with c | c | c | c
      · exact absurd w1 c
      · omega
      · omega
      · omega
  refine ⟨r1.cg (fun a i n => nf a i (Or.inl n)) (fun a _ => nf a (-2) (by omega)) (by omega) (fun k _ => nf 18 k (by omega)), ?_, fun v j j0 j1 ka => dat v j j0 j1 ((act_cg ct).mp ka), fun q q0 q1 => (ne 69 q (by rw [lv_w]; decide)).trans (r4 q q0 q1), fun u => ?_⟩
  · obtain ⟨s1, s2, s3, s4, s5, s6, s7, s8, s9⟩ := r2
    have p1 : ∀ z : Int, 7 ≤ z → z < 12 → rd h2 64 z = rd h 64 z := fun z z0 z1 => ne 64 z (by rw [sp_1 ⟨z0, z1⟩]; decide)
    have p2 : rd h2 70 1 = rd h 70 1 := ne 70 1 (by rw [sp_7 rfl]; decide)
    exact ⟨s1, s2, s3, (p1 7 (by decide) (by decide)).trans s4, (p1 8 (by decide) (by decide)).trans s5, p2.trans s6, (p1 11 (by decide) (by decide)).trans s7, (p1 9 (by decide) (by decide)).trans s8, (p1 10 (by decide) (by decide)).trans s9⟩
  · have u2 : t 137 0 = 0 := (ct 137 0 (by unfold ctl; omega)).symm.trans u
    exact (r5 u2).cg (Q := Q) hh hl (fun b z hz => ne b z (by rw [hz]; decide)) (fun b z b0 _ => nf b z (by omega)) (by omega) sp
theorem RC.putr {H Q L : Int} {h : Hp} {t : Ts} {a lo hi v o : Int} {f : Int → Int} (r : RC H Q L h t) (e : ∀ i : Int, lo ≤ i → i < hi → Lc H Q a i v (i + o)) (n : ¬ ctl v) (m : ∀ i : Int, lo ≤ i → i < hi → ¬ spv v (i + o)) : RC H Q L (upr h a lo hi f) (tsr t v (lo + o) (hi + o) (fun k => f (k - o))) := by
  have hh := r.2.1.1
  have hq := r.2.1.2.1
  refine r.upd rfl (fun b z => ?_) (fun u k hu => tsr_nv (fun q => n (q ▸ hu))) (fun u k hu => ?_) (fun u k k0 k1 ka => ?_)
  · by_cases c : b = a ∧ lo ≤ z ∧ z < hi
    · exact Or.inr ⟨v, z + o, by rw [c.1]; exact e z c.2.1 c.2.2⟩
    · exact Or.inl (if_neg c)
  · show (if u = v ∧ lo + o ≤ k ∧ k < hi + o then f (k - o) else t u k) = t u k
    rw [if_neg]
    rintro ⟨q1, q2, q3⟩
    refine m (k - o) (by omega) (by omega) ?_
    rw [show k - o + o = k by omega, ← q1]
    exact hu
  · show (if ca H Q u k = a ∧ lo ≤ ci u k ∧ ci u k < hi then f (ci u k) else h.1 (ca H Q u k) (ci u k)) = (if u = v ∧ lo + o ≤ k ∧ k < hi + o then f (k - o) else t u k)
    by_cases c : u = v ∧ lo + o ≤ k ∧ k < hi + o
    · obtain ⟨q1, q2, q3⟩ := c
      subst q1
      have w := e (k - o) (by omega) (by omega)
      rw [show k - o + o = k by omega] at w
      rw [w.1, w.2.1, if_pos ⟨rfl, by omega, by omega⟩, if_pos ⟨rfl, q2, q3⟩]
    · rw [if_neg c, if_neg]
      · exact r.2.2.1 u k k0 k1 ka
      · rintro ⟨p1, p2, p3⟩
        have w := e (ci u k) p2 p3
        have x := ca_inj hh hq k0 k1 w.2.2.1 w.2.2.2 (p1.trans w.1.symm) w.2.1.symm
        exact c ⟨x.1, by omega, by omega⟩
theorem ta_inj {a i v j u k : Int} (e : Lt a i v j) (k0 : 0 ≤ k) (k1 : k < td u) (q1 : ta u = a) (q2 : ti u k = i) : u = v ∧ k = j := by
  obtain ⟨e1, e2, e3, e4, e5, e6⟩ := e
  by_cases z : ta v = 1400
  · have zu : ta u = 1400 := by rw [q1, ← e1, z]
    have w1 : ti u k = u := if_pos zu
    have w2 : ti v j = v := if_pos z
    have w3 := td_one zu k0 k1
    have w4 := td_one z e3 e4
    omega
  · have zu : ta u ≠ 1400 := by rw [q1, ← e1]; exact z
    have w1 : ti u k = k := if_neg zu
    have w2 : ti v j = j := if_neg z
    have w3 : tvi (ta u) = u := by
      rcases ta_inv u with y | y
      · exact absurd y zu
      · exact y
    have w4 : tvi (ta v) = v := by
      rcases ta_inv v with y | y
      · exact absurd y z
      · exact y
    rw [q1] at w3
    rw [e1] at w4
    omega
theorem RT.putr {h : Hp} {t : Ts} {a lo hi v : Int} {f : Int → Int} (r : RT h t) (e : ∀ i : Int, lo ≤ i → i < hi → Lt a i v i) : RT (upr h a lo hi f) (tsr t v lo hi f) := by
  intro u k ku k0 k1
  show (if ta u = a ∧ lo ≤ ti u k ∧ ti u k < hi then f (ti u k) else h.1 (ta u) (ti u k)) = (if u = v ∧ lo ≤ k ∧ k < hi then f k else t u k)
  by_cases c : u = v ∧ lo ≤ k ∧ k < hi
  · obtain ⟨q1, q2, q3⟩ := c
    subst q1
    have w := e k q2 q3
    rw [w.1, w.2.1, if_pos ⟨rfl, q2, q3⟩, if_pos ⟨rfl, q2, q3⟩]
  · rw [if_neg c, if_neg]
    · exact r u k ku k0 k1
    · rintro ⟨p1, p2, p3⟩
      have x := ta_inj (e (ti u k) p2 p3) k0 k1 p1 rfl
      exact c ⟨x.1, by omega, by omega⟩
theorem RT.scr {h : Hp} {t : Ts} {a lo hi v : Int} {f : Int → Int} (r : RT h t) (e : ∀ i : Int, lo ≤ i → i < hi → Lt a i v i) (n : ¬ ess v) : RT (upr h a lo hi f) t := by
  intro u k ku k0 k1
  rw [RT.putr r e u k ku k0 k1]
  exact tsr_nv (fun q => n (q ▸ ku))
theorem frT.upr {h h1 : Hp} {a lo hi v : Int} {f : Int → Int} (r : frT h h1) (e : ∀ i : Int, lo ≤ i → i < hi → Lt a i v i) : frT h (upr h1 a lo hi f) := r.tr ⟨rfl, fun p z k => by
  show (if p = a ∧ lo ≤ z ∧ z < hi then f z else h1.1 p z) = h1.1 p z
  rw [if_neg]
  rintro ⟨rfl, q1, q2⟩
  have w := e z q1 q2
  have w1 := w.lo
  have w2 := w.2.2.2.2.1
  have w3 := w.2.2.2.2.2
  rcases k with k | k | k | k
  · omega
  · omega
  · exact k w2
  · omega⟩
theorem frT.sh {h h1 : Hp} (f : frT h h1) (s : Sh h) : Sh h1 := by
  have e : nx h1 = nx h := by unfold nx; rw [f.1]
  exact s.cg (fun a i n => f.2 a i (by omega)) (fun a _ => f.2 a (-2) (by omega)) (by omega) (fun k _ => f.2 18 k (by omega))
/-- what the component's operations leave that make nothing -/
def frS (h h1 : Hp) : Prop := h1.2 = h.2 ∧ ∀ a i : Int, a < 64 ∨ 1400 ≤ a → h1.1 a i = h.1 a i
theorem frS.rf (h : Hp) : frS h h := ⟨rfl, fun _ _ _ => rfl⟩
theorem frS.tr {a b c : Hp} (x : frS a b) (y : frS b c) : frS a c := ⟨y.1.trans x.1, fun p i k => (y.2 p i k).trans (x.2 p i k)⟩
theorem frS.put {h h1 : Hp} {a i x : Int} (f : frS h h1) (k : 64 ≤ a ∧ a < 1400) : frS h (up h1 a i x) := f.tr ⟨rfl, fun _ _ _ => rd_up_ne (by omega)⟩
theorem frS.upr {h h1 : Hp} {a lo hi : Int} {g : Int → Int} (f : frS h h1) (k : 64 ≤ a ∧ a < 1400) : frS h (upr h1 a lo hi g) := f.tr ⟨rfl, fun _ _ _ => if_neg (by omega)⟩
theorem frS.nx {h h1 : Hp} (f : frS h h1) : nx h1 = nx h := by show h1.2.1 = h.2.1; rw [f.1]
theorem frS.us {h h1 : Hp} (f : frS h h1) : us h1 = us h := by show h1.2.2 = h.2.2; rw [f.1]
theorem frS.fr {h h1 : Hp} (f : frS h h1) : frC h h1 := ⟨fun a i k => f.2 a i (by omega), by rw [f.nx]; omega, by rw [f.nx]; omega, by rw [f.us]; omega⟩
theorem frC.pre {a b c : Hp} (x : frS a b) (y : frC b c) : frC a c := ⟨fun p i k => (y.1 p i k).trans (x.2 p i (by omega)), by have := y.2.1; rw [x.nx] at this; omega, by have := y.2.2.1; rw [x.nx] at this; omega, by have := y.2.2.2; rw [x.us] at this; omega⟩
theorem frC.out {h h1 : Hp} {x : Int} (f : frC h h1) : frC h (up h1 1509 0 x) := ⟨fun a i k => (rd_up_ne (by omega)).trans (f.1 a i k), f.2.1, f.2.2.1, f.2.2.2⟩
/-- a code of a call: 0, 1 argument, 2 state -/
def cd3 (t : Ts) (ok may : Prop) [Decidable ok] [Decidable may] : Int := if t 137 0 = 0 then (if ok then (if may then 0 else 2) else 1) else 2
theorem cd3_d {t : Ts} {ok may : Prop} [Decidable ok] [Decidable may] (d : t 137 0 ≠ 0) : cd3 t ok may = 2 := if_neg d
theorem cd3_f {t : Ts} {ok may : Prop} [Decidable ok] [Decidable may] (d : t 137 0 = 0) (k : ¬ ok) : cd3 t ok may = 1 := by unfold cd3; rw [if_pos d, if_neg k]
theorem cd3_m {t : Ts} {ok may : Prop} [Decidable ok] [Decidable may] (d : t 137 0 = 0) (k : ok) (m : ¬ may) : cd3 t ok may = 2 := by unfold cd3; rw [if_pos d, if_pos k, if_neg m]
theorem cd3_t {t : Ts} {ok may : Prop} [Decidable ok] [Decidable may] (d : t 137 0 = 0) (k : ok) (m : may) : cd3 t ok may = 0 := by unfold cd3; rw [if_pos d, if_pos k, if_pos m]
/-- what the component does when it throws -/
def ErrC (h : Hp) (c : Int) (E : Int → Hp → Prop) : Prop := (c = 1 → E (nx h) (mk h 26 6)) ∧ (c = 2 → E (nx h) (mk h 25 6))
/-- the code is none of the component's -/
theorem dm_0 {j : Int} (h0 : 0 ≤ j) (h1 : j < dm 0) : False := by
  have : dm 0 = 0 := by decide +kernel
  omega
theorem RC.code {H Q L : Int} {h : Hp} {t : Ts} {c : Int} (r : RC H Q L h t) : RC H Q L h (tset t 0 0 c) :=
  r.upd rfl (fun _ _ => Or.inl rfl) (fun u k hu => tset_nv (fun q => by rw [q] at hu; unfold ctl at hu; omega)) (fun u k hu => tset_nv (fun q => by rw [q] at hu; unfold spv at hu; omega)) (fun u k k0 k1 ka => by
    rw [tset_nv (fun q => by rw [q] at k1; exact dm_0 k0 k1)]
    exact r.2.2.1 u k k0 k1 ka)
/-- the twin: a call that fails or goes on -/
theorem fl3 {h : Hp} {t : Ts} {ok may : Prop} [Decidable ok] [Decidable may] (sh : Sh h) (r : RT h t) {B : Hp → Prop} {G : Hp → Prop}
    (b : t 137 0 = 0 → ok → may → ∀ h1, RT h1 (tset t 0 0 0) → Sh h1 → frT h h1 → B h1)
    (g : cd3 t ok may ≠ 0 → ∀ h1, RT h1 (tset t 0 0 (cd3 t ok may)) → frT h h1 → G h1) :
    wp_Mo_fails 1400 (bi ok) (bi may) h (fun r4 h5 => (r4 = 0 → B h5) ∧ (¬ (r4 = 0) → G h5)) := by
  rw [z_Mo_fails, r.get t_137 (by unfold ess; omega)]
  by_cases d : t 137 0 = 0
  · rw [if_pos d]
    by_cases c : ok
    · rw [bi_t c, if_pos (by decide)]
      by_cases m : may
      · rw [bi_t m, if_pos (by decide)]
        exact ⟨fun _ => b d c m _ (r.put t_0) (sh_c0 sh) ((frT.rf h).put t_0), fun q => absurd rfl q⟩
      · rw [bi_f m, if_neg (by decide)]
        have z := cd3_m (ok := ok) (may := may) d c m
        rw [z] at g
        exact ⟨fun q => absurd q (by decide), fun _ => g (by decide) _ (r.put t_0) ((frT.rf h).put t_0)⟩
    · rw [bi_f c, if_neg (by decide)]
      have z := cd3_f (ok := ok) (may := may) d c
      rw [z] at g
      exact ⟨fun q => absurd q (by decide), fun _ => g (by decide) _ (r.put t_0) ((frT.rf h).put t_0)⟩
  · rw [if_neg d]
    have z := cd3_d (ok := ok) (may := may) d
    rw [z] at g
    exact ⟨fun q => absurd q (by decide), fun _ => g (by decide) _ (r.put t_0) ((frT.rf h).put t_0)⟩
theorem cd23 {t : Ts} {ok : Prop} [Decidable ok] : cd3 t ok True = cd2 t ok := by unfold cd3 cd2; simp
theorem fl2 {h : Hp} {t : Ts} {ok : Prop} [Decidable ok] (sh : Sh h) (r : RT h t) {B : Hp → Prop} {G : Hp → Prop}
    (b : t 137 0 = 0 → ok → ∀ h1, RT h1 (tset t 0 0 0) → Sh h1 → frT h h1 → B h1)
    (g : cd2 t ok ≠ 0 → ∀ h1, RT h1 (tset t 0 0 (cd2 t ok)) → frT h h1 → G h1) :
    wp_Mo_fails 1400 (bi ok) 1 h (fun r4 h5 => (r4 = 0 → B h5) ∧ (¬ (r4 = 0) → G h5)) := by
  have := fl3 (ok := ok) (may := True) sh r (B := B) (G := G) (fun d o _ => b d o) (by rw [cd23]; exact g)
  rwa [bi_t trivial] at this
/-- the same, the other way round -/
theorem fl2r {h : Hp} {t : Ts} {ok : Prop} [Decidable ok] (sh : Sh h) (r : RT h t) {B : Hp → Prop} {G : Hp → Prop}
    (b : t 137 0 = 0 → ok → ∀ h1, RT h1 (tset t 0 0 0) → Sh h1 → frT h h1 → B h1)
    (g : cd2 t ok ≠ 0 → ∀ h1, RT h1 (tset t 0 0 (cd2 t ok)) → frT h h1 → G h1) :
    wp_Mo_fails 1400 (bi ok) 1 h (fun r4 h5 => (r4 ≠ 0 → G h5) ∧ (¬ (r4 ≠ 0) → B h5)) := by
  have e : (fun (r4 : Int) (h5 : Hp) => (r4 ≠ 0 → G h5) ∧ (¬ (r4 ≠ 0) → B h5)) = (fun (r4 : Int) (h5 : Hp) => (r4 = 0 → B h5) ∧ (¬ (r4 = 0) → G h5)) := by
    funext r4 h5
    by_cases c : r4 = 0 <;> simp [c]
  rw [e]
  exact fl2 sh r b g
/-- calls that throw illegal state alone -/
def cd1' (t : Ts) : Int := if t 137 0 = 0 then 0 else 1
theorem fl1 {h : Hp} {t : Ts} (sh : Sh h) (r : RT h t) {B : Hp → Prop} {G : Hp → Prop}
    (b : t 137 0 = 0 → ∀ h1, RT h1 (tset t 0 0 0) → Sh h1 → frT h h1 → B h1)
    (g : t 137 0 ≠ 0 → ∀ h1, RT h1 (tset t 0 0 1) → frT h h1 → G h1) :
    wp_Mo_closed 1400 h (fun r4 h5 => (r4 = 0 → B h5) ∧ (¬ (r4 = 0) → G h5)) := by
  rw [z_Mo_closed, r.get t_137 (by unfold ess; omega)]
  by_cases d : t 137 0 = 0
  · rw [if_pos d]
    exact ⟨fun _ => b d _ (r.put t_0) (sh_c0 sh) ((frT.rf h).put t_0), fun q => absurd d q⟩
  · rw [if_neg d]
    exact ⟨fun q => absurd q d, fun _ => g d _ (r.put t_0) ((frT.rf h).put t_0)⟩
