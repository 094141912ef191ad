/-! THE CLAIM out of law_ok -/
/-- THE PLAIN PART: on every script the law, as the small machine runs it, answers 1 -/
theorem law_ok (n : Nat) (xs : Nat → Int32) (hn : n ≤ 28673) : wp_Lw_law 24 (h00 n xs) (fun r _ => r = 1) := sorry
def R_law : String := "KeptHouseLaw"
def lw_P (b : Addr) (xs : List Int32) (args : Array Value) (s : State) : Prop := args = #[.ref b] ∧ s.IntsAt b xs ∧ xs.length ≤ 28673 ∧ (Jvm.Cond.and given_1 narrow_1).before args s = true
def lw_Q (_ : Array Value) (s : State) (o : Outcome) (t : State) : Prop := o = .returned (some (.int 1)) ∧ Framed s o t [] 608192 7228488
theorem lw_pre_spec {args : Array Value} {s : State} (h : (Jvm.Cond.and given_1 narrow_1).before args s = true) (hr : rest_1_c.before args s = true) : ∃ (b : Addr) (xs : List Int32), lw_P b xs args s := by
  have hs := flat_of_before _ h
  have hq := flat_of_before _ hr
  have hc : (Cond.count 1).before args s = true := hs _ (by decide +kernel)
  have harr : (Cond.arrayOf (.arg 0) .int).before args s = true := hs _ (by decide +kernel)
  have hle : (Cond.le (.length (.arg 0)) (.int 28673)).before args s = true := hs _ (by decide +kernel)
  have hlen : (Cond.isInt (.length (.arg 0))).before args s = true := hq _ (by decide +kernel)
  have hall : (Cond.all (.arg 0) (.isInt (.elem (.arg 0) (.index 0)))).before args s = true := hq _ (by decide +kernel)
  obtain ⟨b, xs, hb, hx⟩ := State.ints_of_pre rfl harr hlen hall
  have hsm : xs.length < 2 ^ 31 := hx.choose_spec.2.2.2
  have hev : (Term.length (.arg 0)).eval args s none [] s = some (.int xs.length.toInt32) := hx.length_eval hb
  have hv := Cond.le_ints hev (show (Term.int 28673).eval args s none [] s = some (.int 28673) from rfl)
  have hd : xs.length.toInt32 ≤ 28673 := by
    simpa [Cond.before, Cond.holds, hv] using hle
  have hN : xs.length ≤ 28673 := (Int32.ofNat_le_ofNat hsm (by decide)).mp (show Int32.ofNat xs.length ≤ Int32.ofNat 28673 from hd)
  exact ⟨b, xs, Cond.one_arg hc (show args[0]? = some (.ref b) from hb), hx, hN, h⟩
theorem noLocs {s t : State} {L : List Loc} {c n : Nat} (h : s.sameButNew t L c n) (hL : ∀ q ∈ L, s.heap.size ≤ q.base) : s.sameButNew t [] c n := by
  obtain ⟨q1, q2, q3, q4, q5, q6⟩ := h
  refine ⟨q1, q2, q3, q4, q5, fun a cl ha => ?_⟩
  obtain ⟨c', z1, z2, z3, z4⟩ := q6 a cl ha
  refine ⟨c', z1, z2, z3, fun i _ => z4 i (fun hm => ?_)⟩
  have h1 := hL _ hm
  have h2 := (Array.getElem?_eq_some_iff.mp ha).1
  exact absurd h2 (Nat.not_lt.mpr h1)
set_option maxHeartbeats 4000000 in
theorem lw_comes (l : Launch) (hst : l.stackTraces = false) : Comes l x (Jvm.Cond.code x code maxLocals ret :: tables_1) room_1 (fun tb e args s => Calls_1 tb e args s ∧ rest_1 tb e args s ∧ Pre_1 tb e args s)
    (fun _ _ args s o t => lw_Q args s o t) := by
  intro p e ha hc hk s m args below hf hfit hheap happ hpre
  obtain ⟨b, xs, rfl, ⟨scr, harrAt, hlist, hof, hsmall⟩, hbd, hgv⟩ := lw_pre_spec hpre.2.2 hpre.2.1
  obtain ⟨hcb, hkn, -, -⟩ := State.arrayAt?_spec harrAt
  obtain ⟨q1, q2, q3, q4, q5, q6, q7, q8⟩ := (Spec.appliesLoose_iff hf).mp ((Spec.applies_iff_loose hf).mp happ).1
  have hts0 : ∀ c ∈ (Jvm.Cond.code x code maxLocals ret :: tables_1), c.before #[Value.ref b] s = true := atoms_spec (ws := Jvm.Cond.code x code maxLocals ret :: tables_1) q8
  have hts : ∀ w ∈ lw_tbl, w.before #[Value.ref b] s = true := k2_hts_sels lw_privs (fun w hw => hts0 w (List.mem_cons_of_mem _ hw)) lw_privs_ok
  have hsz : scr.slots.size = xs.length := by rw [← Array.length_toList, hlist, List.length_map]
  have hval : ∀ j : Nat, j < xs.length → scr.slots[j]? = some (.int (xs.getD j 0)) := fun j hj => by
    rw [← Array.getElem?_toList, hlist]
    simp [hj]
  have hX : va_X b xs.length (fun j => xs.getD j 0) s s.heap := ⟨scr, hcb, hof, hkn, hsz, hval⟩
  have hN : ∀ w ∈ flatC narrow_1, w.before #[Value.ref b] s = true := fun w hw => flat_of_before _ hgv w (List.mem_append_right _ hw)
  obtain ⟨Γ, g1, g2, g3, g4, g5, g6, g⟩ := GG_ex (p := p) (l := l) (e := e) (by cases p <;> rfl) hst hts hN hX hbd
  have hh : (h00 xs.length (fun j => xs.getD j 0)) = (gm Γ, 64, 0) := by rw [g5]; rfl
  have k24 : kn (h00 xs.length (fun j => xs.getD j 0)) 24 = 83 := rfl
  have M := s_Lw_law g (d := 210) (by decide) (law_ok xs.length (fun j => xs.getD j 0) hbd) (fun v hv => by
    rw [List.mem_singleton.mp hv]
    exact Or.inr ⟨by decide, by decide, k24⟩) ⟨by decide, by decide⟩
  rw [g2] at M
  have hroom : s.hasRoom e.platform (Rm 210 (h00 xs.length (fun j => xs.getD j 0))) = true := by
    have h := q7
    simp only [State.hasRoom, Bool.and_eq_true, decide_eq_true_eq] at h ⊢
    have e1 : (headSpec (Jvm.Cond.code x code maxLocals ret :: tables_1) room_1).room = room_1 := rfl
    rw [e1] at h
    simp only [room_1] at h
    simp only [Rm, h00, nx, us, NM, UM]
    refine ⟨⟨⟨?_, ?_⟩, ?_⟩, ?_⟩ <;> omega
  have hcd : (cdC md_Lw_law).before #[Value.ref b] s = true := hts0 _ List.mem_cons_self
  have happ2 : (headSpec [cdC md_Lw_law] (Rm 210 (h00 xs.length (fun j => xs.getD j 0)))).appliesLoose md_Lw_law.1 e.platform s = true := (Spec.appliesLoose_iff hf).mpr ⟨q1, q2, q3, q4, q5, q6, hroom, atoms_intro (ws := [cdC md_Lw_law]) (fun w hw => by rw [List.mem_singleton.mp hw]; exact hcd)⟩
  have hHR : HR Γ (h00 xs.length (fun j => xs.getD j 0)) s.heap := by
    rw [hh, ← g4]
    exact ⟨by decide, rfl, fun _ _ => rfl, fun a a1 a2 => absurd a2 (by show ¬ a < 64; omega), fun _ _ _ _ => rfl⟩
  have hargs : #[Value.ref b] = (([(93, 24)] : List Vl).map (cw Γ)).toArray := by
    show #[Value.ref b] = #[cv Γ (84 + 9) 24]
    rw [cv_refN Γ _ (by decide), ra_old (by decide)]
    show #[Value.ref b] = #[Value.ref (gR Γ 24)]
    rw [g6]
  obtain ⟨n', o, r1, r2, r3, hW₂, h2, hH2, hE2, hb2, ⟨L2, hsb, hL2⟩, hout⟩ := M p e ha hc hk s m #[Value.ref b] below hf happ2 ⟨hargs, by rw [g4]; exact State.WarmedH.refl _, hHR⟩ ⟨g1.symm, g3.symm⟩
  rcases hout with ⟨rv, rfl, hro, hkr⟩ | ⟨z, κ, rfl, hz, hz0, hκ, hkr⟩
  · have hkr : rv = 1 := hkr
    subst hkr
    refine ⟨n', _, r1, r2, r3, rfl, ⟨_, rfl⟩, hW₂, ?_⟩
    refine State.sameButNew.mono (noLocs hsb (fun q hq => by have := hL2 q hq; rw [g4] at this; exact this)) ?_ ?_
    · have := hb2.1
      show (nx h2 - 64).toNat ≤ 608192
      have h1 : nx h2 ≤ 608256 := this
      omega
    · have := hb2.2
      show (us h2 - 0).toNat ≤ 7228488
      have h1 : us h2 ≤ 7228488 := this
      omega
  · exact hkr.elim
theorem lw_frame {s t : State} {o : Outcome} {args : Array Value} (h : Framed s o t [] 608192 7228488) :
    Framed s o t (fieldLocs frame_1_writes args s ++ arrayLocs frame_1_arrays args s ++ staticLocs frame_1_statics s) 608192 7228488 := h
theorem lw_limb (L : Cond) (hL : ∀ (args : Array Value) (s t : State), L.after args s (.returned (some (.int 1))) t = true) :
    ArmFor flags0 classFile x code maxLocals ret World_1 tables_1 room_1 Calls_1 rest_1 Pre_1
      (fun tb e a s o t => postC L tb e a s o t ∧ Framed s o t (fieldLocs frame_1_writes a s ++ arrayLocs frame_1_arrays a s ++ staticLocs frame_1_statics s) 608192 7228488) := by
  intro l hfl _ _ p e ha hc hk s m args below hf hfit hheap happ hpre
  obtain ⟨k, o, h1, h2, h3, rfl, hF⟩ := lw_comes l (by unfold Launch.stackTraces; rw [hfl]; decide +kernel) p e ha hc hk s m args below hf hfit hheap happ hpre
  exact ⟨k, _, h1, h2, h3, hL args s _, lw_frame hF⟩
theorem i_vc : Claimed_1_1 ∧ Claimed_1_2 := ⟨lw_limb limb_1_1 (fun args s t => by simp [limb_1_1, Cond.after, Cond.holds, Cond.value]), lw_limb limb_1_2 (fun args s t => Cond.after_iff.mpr (by
  first | (rw [show limb_1_2 = Cond.eq .result (.int 1) from rfl, Cond.eq_ints (x := 1) (y := 1) rfl rfl]; simp; done) | (simp [limb_1_2, Cond.value, Term.eval]; done)))⟩
