/-! RULES OF ENDS: returns; and what is left of the plain instructions: switches, constants of the pool, casts, arrays of references -/
theorem Wmono {p : Program} {l : Launch} {e : Env} {R : Room} {s : State} {m : MethodId} {args : Array Value} {below : List Frame} {meth : Method} {c : Code} {H : Heap} {locs : List Loc} {cells slots : Nat} {Q Q2 : State → Prop} {g : JFrame} (hq : ∀ t, Q t → Q2 t)
    (k : W p l e R s m args below meth c H locs cells slots Q g) : W p l e R s m args below meth c H locs cells slots Q2 g := fun T hT X => by
  obtain ⟨t, a, b⟩ := k T hT X
  exact ⟨t, a, hq t b⟩
section ENDS
variable {Γ : Gam} {d : Nat} {md : MD} {pc : Nat} {L : Lc} {S : List Vl} {h : Hp} {KR KT : Kt}
def Qe (Γ : Gam) (H : Heap) (v : Option Value) : Array Value → State → Outcome → State → Prop := fun _ _ o t => o = .returned v ∧ t.heap = H
theorem Zt_of {h0 : Hp} {H : Heap} {r : Int} {args : Array Value} {s : State} {below : List Frame} (hE : ext h0 h) (hH : HR Γ h H) (hb : bd h) (hr : okr md.2.2.2.2.1 h r) (k : KR r h) :
    ∀ t, MQ below (Qe Γ H (rvO Γ md.2.2.2.2.1 r)) args s (nx h - nx h0).toNat (us h - us h0).toNat (fun q => (gs Γ).heap.size ≤ q) t → Zt Γ md h0 KR KT below s t := by
  rintro t ⟨o, b1, b2, ⟨rfl, b4⟩, L, ⟨-, b5, b6⟩, b7⟩
  exact ⟨_, b1, b2, b5, h, by rw [b4]; exact hH, hE, hb, ⟨L, b6, b7⟩, Or.inl ⟨r, rfl, hr, k⟩⟩
theorem R_ireturn (g : GG Γ) {x : Int} {ty : FieldType} (hrt : md.2.2.2.1 = some ty) (hty : tyc md.2.2.2.2.1 ty = true) (h6 : md.2.2.2.2.1 < 6 ∧ md.2.2.2.2.1 ≠ 1) (hx : okv h md.2.2.2.2.1 x) (hd : decode md.2.1 pc = .ok (.ireturn, 1)) (k : KR x h) : Rr Γ d md pc L [(0, x)] h KR KT := by
  intro h0 s m args below meth c H locs ls X hE hH hlo hl hL hS hb
  have e : cv Γ md.2.2.2.2.1 x = .int (I32 x) := by
    obtain ⟨h6, h1⟩ := h6
    generalize md.2.2.2.2.1 = t at h6 h1 ⊢
    match t, h6, h1 with
    | 0, _, _ => rfl
    | 2, _, _ => rfl
    | 3, _, _ => rfl
    | 4, _, _ => rfl
    | 5, _, _ => rfl
  have hn := (cv_fits (Γ := Γ) hty hx).1
  rw [e] at hn
  have h99 : ¬ md.2.2.2.2.1 = 99 := by omega
  refine Wmono (Zt_of (args := args) (r := x) hE hH hb (by unfold okr; rw [if_neg h99]; exact hx) k) ?_
  have er : rvO Γ md.2.2.2.2.1 x = some (.int (I32 x)) := by unfold rvO; rw [if_neg h99, e]
  rw [er]
  exact W.zret g.ex X.1 (X.2.1.trans hrt) hn (fun t ht _ => ⟨rfl, ht⟩) hlo hd X.2.2.1
theorem R_ireturn0 (g : GG Γ) {x : Int} {ty : FieldType} (hrt : md.2.2.2.1 = some ty) (hty : tyc md.2.2.2.2.1 ty = true) (h6 : md.2.2.2.2.1 < 6 ∧ md.2.2.2.2.1 ≠ 1) (hz : md.2.2.2.2.1 = 0) (hd : decode md.2.1 pc = .ok (.ireturn, 1)) (k : KR x h) : Rr Γ d md pc L [(0, x)] h KR KT := by
  intro h0 s m args below meth c H locs ls X hE hH hlo hl hL hS hb
  exact R_ireturn g hrt hty h6 (by rw [hz]; exact hS.h) hd k h0 s m args below meth c H locs ls X hE hH hlo hl hL hS hb
theorem R_lreturn (g : GG Γ) {x : Int} (hrt : md.2.2.2.1 = some .long) (hrc : md.2.2.2.2.1 = 1) (hd : decode md.2.1 pc = .ok (.lreturn, 1)) (k : KR x h) : Rr Γ d md pc L [(1, x)] h KR KT := by
  intro h0 s m args below meth c H locs ls X hE hH hlo hl hL hS hb
  refine Wmono (Zt_of (args := args) (r := x) hE hH hb (by rw [hrc]; exact hS.h) k) ?_
  rw [hrc]
  exact W.lret g.ex X.1 (X.2.1.trans hrt) (fun t ht _ => ⟨rfl, ht⟩) hlo hd X.2.2.1
theorem R_return (g : GG Γ) (hrt : md.2.2.2.1 = none) (hrc : md.2.2.2.2.1 = 99) (hd : decode md.2.1 pc = .ok (.return_, 1)) (k : KR 0 h) : Rr Γ d md pc L [] h KR KT := by
  intro h0 s m args below meth c H locs ls X hE hH hlo hl hL hS hb
  refine Wmono (Zt_of (args := args) (r := 0) hE hH hb (by rw [hrc]; exact rfl) k) ?_
  rw [hrc]
  exact W.vret g.ex X.1 (X.2.1.trans hrt) (fun t ht _ => ⟨rfl, ht⟩) hlo hd X.2.2.1
theorem R_areturn (g : GG Γ) {x : Int} {t : Nat} {rt : FieldType} (hrt : md.2.2.2.1 = some rt) (hir : (∃ n, rt = .object n) ∨ ∃ t, rt = .array t) (hrc : md.2.2.2.2.1 = t + 9) (h99 : t ≠ 90) (hd : decode md.2.1 pc = .ok (.areturn, 1)) (k : KR x h) : Rr Γ d md pc L [(t + 9, x)] h KR KT := by
  intro h0 s m args below meth c H locs ls X hE hH hlo hl hL hS hb
  have hc : ¬ t + 9 = 99 := by omega
  refine Wmono (Zt_of (args := args) (r := x) hE hH hb (by rw [hrc]; unfold okr; rw [if_neg hc]; exact hS.h) k) ?_
  rw [hrc]
  unfold rvO
  rw [if_neg hc]
  refine W.aret (v := cv Γ (t + 9) x) g.ex X.1 (X.2.1.trans hrt) hir ?_ (fun t ht _ => ⟨rfl, ht⟩) hlo hd X.2.2.1
  rw [cv_ro]
  exact va_rf_or _
/-! switches -/
theorem R_tableIn (g : GG Γ) {x dflt lo hi off : Int} {offs : Array Int} {len tgt : Nat} (hd : decode md.2.1 pc = .ok (.tableswitch dflt lo hi offs, len)) (h1 : lo ≤ x) (h2 : x ≤ hi) (ho : offs[(x - lo).toNat]? = some off) (ht : (pc : Int) + off = (tgt : Int)) (k : Rr Γ d md tgt L S h KR KT) : Rr Γ d md pc L ((0, x) :: S) h KR KT := by
  intro h0 s m args below meth c H locs ls X hE hH hlo hl hL hS hb
  have e : (I32 x).toInt = x := I32_at hS.h
  exact lv_tableIn g.ex X.1 hd (by show ¬ (I32 x).toInt < lo; rw [e]; omega) (by show ¬ hi < (I32 x).toInt; rw [e]; omega) (by show offs[((I32 x).toInt - lo).toNat]? = _; rw [e]; exact ho) ht (k h0 s m args below meth c H locs ls X hE hH hlo hl hL hS.t hb)
theorem R_tableOut (g : GG Γ) {x dflt lo hi : Int} {offs : Array Int} {len tgt : Nat} (hd : decode md.2.1 pc = .ok (.tableswitch dflt lo hi offs, len)) (h1 : x < lo ∨ hi < x) (ht : (pc : Int) + dflt = (tgt : Int)) (k : Rr Γ d md tgt L S h KR KT) : Rr Γ d md pc L ((0, x) :: S) h KR KT := by
  intro h0 s m args below meth c H locs ls X hE hH hlo hl hL hS hb
  have e : (I32 x).toInt = x := I32_at hS.h
  exact lv_tableOut g.ex X.1 hd (by show (I32 x).toInt < lo ∨ hi < (I32 x).toInt; rw [e]; exact h1) ht (k h0 s m args below meth c H locs ls X hE hH hlo hl hL hS.t hb)
theorem R_lookup (g : GG Γ) {x dflt off : Int} {ps : Array (Int × Int)} {len tgt : Nat} (hd : decode md.2.1 pc = .ok (.lookupswitch dflt ps, len)) (hp : (ps.toList.zip (ps.toList.drop 1)).all (fun (a, next) => a.1 < next.1) = true) (ho : Op.lookupswitch.offset ps.toList dflt x = off) (ht : (pc : Int) + off = (tgt : Int)) (k : Rr Γ d md tgt L S h KR KT) : Rr Γ d md pc L ((0, x) :: S) h KR KT := by
  intro h0 s m args below meth c H locs ls X hE hH hlo hl hL hS hb
  have e : (I32 x).toInt = x := I32_at hS.h
  exact lv_lookup g.ex X.1 hd hp (by show Op.lookupswitch.offset ps.toList dflt (I32 x).toInt = _; rw [e]; exact ho) ht (k h0 s m args below meth c H locs ls X hE hH hlo hl hL hS.t hb)
/-! constants of the pool -/
theorem R_ldc (g : GG Γ) {x : Int} {idx : Nat} (hr : r32 x) (hw : Cond.constant md.1.cls idx (I32 x) ∈ lw_tbl) (hd : decode md.2.1 pc = .ok (.ldc idx, 2)) (k : Rr Γ d md (pc + 2) L ((0, x) :: S) h KR KT) : Rr Γ d md pc L S h KR KT := by
  intro h0 s m args below meth c H locs ls X hE hH hlo hl hL hS hb
  exact W.ldc g.ex X.1 X.2.2.2.2.1 (g.word hw rfl X.2.2.2.2.2.2.1 args) rfl hd (k h0 s m args below meth c H locs ls X hE hH hlo hl hL (hS.c hr) hb)
theorem R_ldc2 (g : GG Γ) {x : Int} {idx : Nat} (hr : r64 x) (hw : Cond.constantLong md.1.cls idx (I64 x) ∈ lw_tbl) (hd : decode md.2.1 pc = .ok (.ldc2_w idx, 3)) (k : Rr Γ d md (pc + 3) L ((1, x) :: S) h KR KT) : Rr Γ d md pc L S h KR KT := by
  intro h0 s m args below meth c H locs ls X hE hH hlo hl hL hS hb
  exact W.ldc2 g.ex X.1 X.2.2.2.2.1 (g.word hw rfl X.2.2.2.2.2.2.1 args) rfl hd (k h0 s m args below meth c H locs ls X hE hH hlo hl hL (hS.c hr) hb)
theorem R_ldcw (g : GG Γ) {x : Int} {idx : Nat} (hr : r32 x) (hw : Cond.constant md.1.cls idx (I32 x) ∈ lw_tbl) (hd : decode md.2.1 pc = .ok (.ldc_w idx, 3)) (k : Rr Γ d md (pc + 3) L ((0, x) :: S) h KR KT) : Rr Γ d md pc L S h KR KT := by
  intro h0 s m args below meth c H locs ls X hE hH hlo hl hL hS hb
  exact lv_ldcw g.ex X.1 X.2.2.2.2.1 (g.word hw rfl X.2.2.2.2.2.2.1 args) hd (k h0 s m args below meth c H locs ls X hE hH hlo hl hL (hS.c hr) hb)
end ENDS
