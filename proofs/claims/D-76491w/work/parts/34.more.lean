/-! ===== SOUNDNESS, fifth part: new things, lengths, references, casts, statics (written by gen/snd4.py) ===== -/
def gRoom (u0 : Nat × Nat) (R : Room) (hp : gS) : Prop := hp.2.1 ≤ u0.1 + R.cells ∧ hp.2.2 ≤ u0.2 + R.slots
def gpure (v : Value) : Bool := match v with
  | .int _ => true
  | .long _ => true
  | .null => true
  | _ => false
theorem gVs_pure {kv : Nat → Value} {ad : List Nat} : ∀ {vs : List Value}, vs.all gpure = true → gVs kv ad vs vs
  | [], _ => rfl
  | v :: vs, h => by
    rw [List.all_cons, Bool.and_eq_true] at h
    refine ⟨v, vs, rfl, ?_, gVs_pure h.2⟩
    cases v <;> first | rfl | (simp [gpure] at h)
theorem gdef_pure (ci : Nat) : (gdef ci).all gpure = true := by
  unfold gdef
  split <;> rfl
def gdfok (ci N : Nat) : Bool := (List.range N).all fun j => decide (defaultValue (gty ci j) = vp_V (gdef ci) j)
theorem gdf_at {ci N : Nat} (h : gdfok ci N = true) (j : Nat) (hj : j < N) : defaultValue (gty ci j) = vp_V (gdef ci) j := of_decide_eq_true (List.all_eq_true.mp h j (List.mem_range.mpr hj))
section GD
variable {p : Program} {l : Launch} {e : Env} {R : Room} {s : State} {m : MethodId} {args : Array Value} {below : List Frame} {meth : Method} {c : Code} {Q : State → Prop}
variable {D : va_G} {A : Nat → Prop} {kv : Nat → Value} {ad0 : List Nat} {u0 : Nat × Nat} {nL : Nat} {K : gK} {cc : ByteArray} {pc : Nat} {ls : gL} {st : List Value} {hp : gS}
theorem gV_new {ad : List Nat} {a n : Nat} (hn : ad.length = n) : gV kv (ad ++ [a]) (.ref (16 + n)) (.ref a) := by
  unfold gV
  dsimp only
  rw [if_neg (show ¬ 16 + n < 16 by omega)]
  exact ⟨a, by rw [show 16 + n - 16 = ad.length by omega, List.getElem?_append_right (Nat.le_refl _), Nat.sub_self]; rfl, rfl⟩
theorem gad_len {tys : List (ClassId × FieldType)} {hpl : List gE} {ws : va_W} (hW : gW kv tys hpl ws) : (gad ws).length = hpl.length := by rw [List.length_map]; exact hW.1
theorem y_new (B : gBase p c cc kv) {own C : String} {T : u_T} (O : gOwn s m args A own) {n ci N : Nat} (hc : gcl[ci]? = some (C, T, N)) (hdf : gdfok ci N = true) (hcl : Cond.classLink own n C ∈ lw_all) (hin : Cond.instantiable C N ∈ lw_all) (hini : Cond.initialized C ∈ lw_all) (hd : decode cc pc = .ok (.new n, 3))
    (hr : gRoom u0 R (gnew hp (gob ci (gdef ci)) 1 N)) (k : gGo p l e R s m args below meth c Q D A kv ad0 u0 nL (pc + 3) ls (.ref (gnxt hp) :: st) (gnew hp (gob ci (gdef ci)) 1 N)) : gGo p l e R s m args below meth c Q D A kv ad0 u0 nL pc ls st hp := by
  intro H locs cells slots lm sm h
  obtain ⟨tys, ws, hK, hP, hD, hS, hW, hE, hcc, hs, hL, hV⟩ := h
  have r1 : hp.2.1 + 1 ≤ u0.1 + R.cells := hr.1
  have r2 : hp.2.2 + N ≤ u0.2 + R.slots := hr.2
  obtain ⟨g1, g2⟩ := gty_ok ci C T N hc
  refine va_new B.1 B.2.1 O.2.1 (gcl_in hc) (gty ci) g1 O.1 (O.2.1 _ hcl) (O.2.1 _ hin) (O.2.1 _ hini) hK hP hD hS O.2.2 hc (gdf_at hdf) (by omega) (by omega) hd (fun q H1 hP1 hD1 hS1 => ?_)
  obtain ⟨hW1, hpre, ead⟩ := hW.push (a := q) (q := .inr (ci, gdef ci)) (e := gob ci (gdef ci)) (tys' := tys) (fun _ h => h) ⟨rfl, gVs_pure (gdef_pure ci)⟩
  exact k _ _ _ _ _ _ ⟨tys, _, hK, hP1, hD1, hS1, hW1, hE.tr hpre, by show hp.2.1 + 1 = _; omega, by show hp.2.2 + N = _; omega, hL.mono hpre, ⟨_, _, rfl, by rw [ead]; exact gV_new (gad_len hW), hV.mono hpre⟩⟩
theorem gcellI {cA : ClassId} {n : Nat} {ty : FieldType} (h : defaultValue ty = .int 0) : vp_cell cA (n, .inl fun _ => 0) = arrV cA n (fun _ => defaultValue ty) := by rw [h]; rfl
theorem gcellL {cA : ClassId} {n : Nat} : vp_cell cA (n, .inr (.inl fun _ => 0)) = arrV cA n (fun _ => defaultValue .long) := rfl
theorem y_newarray (B : gBase p c cc kv) {own : String} (O : gOwn s m args A own) {at_ : ArrayType} {ty : FieldType} {x : Int32} {N : Nat} {e0 : gE} (hty : newarray.typeOf at_ = ty) (harr : Cond.arrayClass ty ∈ lw_all) (hd : decode cc pc = .ok (.newarray at_, 2)) (hx : ¬ x < 0) (hN : x.toNatClampNeg = N) (h1 : N ≤ 1000) (he : garr at_ N = some e0)
    (hr : gRoom u0 R (gnew hp e0 1 N)) (k : gGo p l e R s m args below meth c Q D A kv ad0 u0 nL (pc + 2) ls (.ref (gnxt hp) :: st) (gnew hp e0 1 N)) : gGo p l e R s m args below meth c Q D A kv ad0 u0 nL pc ls (.int x :: st) hp := by
  intro H locs cells slots lm sm h
  obtain ⟨tys, ws, hK, hP, hD, hS, hW, hE, hcc, hs, hL, hV⟩ := h
  obtain ⟨w, sm, rfl, e1, hVn⟩ := gVs_c hV; clear hV; have hV := hVn; clear hVn
  cases gV_i e1
  have r1 : hp.2.1 + 1 ≤ u0.1 + R.cells := hr.1
  have r2 : hp.2.2 + N ≤ u0.2 + R.slots := hr.2
  have hb : ∀ z : Nat, z ≤ 8 → N * z ≤ 536870912 := fun z hz => Nat.le_trans (Nat.mul_le_mul h1 hz) (by decide)
  have go : ∀ (a0 : vp_A), (∀ cA : ClassId, vp_cell cA a0 = arrV cA N (fun _ => defaultValue ty)) → N * componentBytes ty ≤ 536870912 → (∀ (ad : List Nat) (tys' : List (ClassId × FieldType)) (cA : ClassId), (cA, ty) ∈ tys' → gCell kv ad tys' e0 (.inl (cA, a0))) → W p l e R s m args below meth c H locs cells slots Q (F0 m pc lm (.int x :: sm)) := by
    intro a0 ha hby hcell
    refine va_newa B.1 B.2.1 (by rw [hty]; exact O.2.1 _ harr) hty hK hP hD hS O.2.2 ha hx hN hby (by omega) (by omega) hd (fun q cA H1 hK1 hP1 hD1 hS1 => ?_)
    obtain ⟨hW1, hpre, ead⟩ := hW.push (a := q) (q := .inl (cA, a0)) (e := e0) (tys' := tys ++ [(cA, ty)]) (fun _ h => List.mem_append_left _ h) (hcell _ _ _ (List.mem_append_right _ (List.mem_singleton.mpr rfl)))
    exact k _ _ _ _ _ _ ⟨_, _, hK1, hP1, hD1, hS1, hW1, hE.tr hpre, by show hp.2.1 + 1 = _; omega, by show hp.2.2 + N = _; omega, hL.mono hpre, ⟨_, _, rfl, by rw [ead]; exact gV_new (gad_len hW), hV.mono hpre⟩⟩
  have fin : ∀ {ty0 : FieldType} {d : _} (ad : List Nat) (tys' : List (ClassId × FieldType)) (cA : ClassId), (cA, ty0) ∈ tys' → gDat kv ad ty0 d d → gCell kv ad tys' (.inl (ty0, N, d)) (.inl (cA, N, d)) := fun ad tys' cA hm hd => ⟨List.getElem?_of_mem hm, rfl, hd⟩
  subst hty
  cases at_ <;> simp only [garr] at he <;> first | (cases he; done) | skip
  all_goals (cases he)
  · exact go (N, .inl fun _ => 0) (fun _ => gcellI rfl) (hb _ (by decide)) (fun ad tys' cA hm => fin ad tys' cA hm ⟨rfl, fun _ => rfl⟩)
  · exact go (N, .inl fun _ => 0) (fun _ => gcellI rfl) (hb _ (by decide)) (fun ad tys' cA hm => fin ad tys' cA hm ⟨rfl, fun _ => rfl⟩)
  · exact go (N, .inl fun _ => 0) (fun _ => gcellI rfl) (hb _ (by decide)) (fun ad tys' cA hm => fin ad tys' cA hm ⟨rfl, fun _ => rfl⟩)
  · exact go (N, .inl fun _ => 0) (fun _ => gcellI rfl) (hb _ (by decide)) (fun ad tys' cA hm => fin ad tys' cA hm ⟨rfl, fun _ => rfl⟩)
  · exact go (N, .inl fun _ => 0) (fun _ => gcellI rfl) (hb _ (by decide)) (fun ad tys' cA hm => fin ad tys' cA hm ⟨rfl, fun _ => rfl⟩)
  · exact go (N, .inr (.inl fun _ => 0)) (fun _ => gcellL) (hb _ (by decide)) (fun ad tys' cA hm => fin ad tys' cA hm ⟨rfl, rfl⟩)
theorem y_anewarray (B : gBase p c cc kv) {own C : String} (O : gOwn s m args A own) {n : Nat} {x : Int32} {N : Nat} (hcl : Cond.classLink own n C ∈ lw_all) (hAO : va_AO C s) (hd : decode cc pc = .ok (.anewarray n, 3)) (hx : ¬ x < 0) (hN : x.toNatClampNeg = N) (h1 : N ≤ 1000)
    (hr : gRoom u0 R (gnew hp (gaQ C N fun _ => none) 1 N)) (k : gGo p l e R s m args below meth c Q D A kv ad0 u0 nL (pc + 3) ls (.ref (gnxt hp) :: st) (gnew hp (gaQ C N fun _ => none) 1 N)) : gGo p l e R s m args below meth c Q D A kv ad0 u0 nL pc ls (.int x :: st) hp := by
  intro H locs cells slots lm sm h
  obtain ⟨tys, ws, hK, hP, hD, hS, hW, hE, hcc, hs, hL, hV⟩ := h
  obtain ⟨w, sm, rfl, e1, hVn⟩ := gVs_c hV; clear hV; have hV := hVn; clear hVn
  cases gV_i e1
  have r1 : hp.2.1 + 1 ≤ u0.1 + R.cells := hr.1
  have r2 : hp.2.2 + N ≤ u0.2 + R.slots := hr.2
  refine va_newq B.1 B.2.1 O.1 (O.2.1 _ hcl) hAO hK hP hD hS O.2.2 hx hN (Nat.le_trans (Nat.mul_le_mul_right 4 h1) (by decide)) (by omega) (by omega) hd (fun q cA H1 hK1 hP1 hD1 hS1 => ?_)
  obtain ⟨hW1, hpre, ead⟩ := hW.push (a := q) (q := .inl (cA, N, .inr (.inr (.inr (.inr fun _ => none))))) (e := gaQ C N fun _ => none) (tys' := tys ++ [(cA, .object C)]) (fun _ h => List.mem_append_left _ h) ⟨List.getElem?_of_mem (List.mem_append_right _ (List.mem_singleton.mpr rfl)), rfl, ⟨C, rfl⟩, fun _ => rfl⟩
  exact k _ _ _ _ _ _ ⟨_, _, hK1, hP1, hD1, hS1, hW1, hE.tr hpre, by show hp.2.1 + 1 = _; omega, by show hp.2.2 + N = _; omega, hL.mono hpre, ⟨_, _, rfl, by rw [ead]; exact gV_new (gad_len hW), hV.mono hpre⟩⟩
theorem y_alen (B : gBase p c cc kv) {h : Nat} {z : FieldType × vp_A} (hd : decode cc pc = .ok (.arraylength, 1)) (hg : gget hp h = some (.inl z)) (k : gGo p l e R s m args below meth c Q D A kv ad0 u0 nL (pc + 1) ls (.int (Int32.ofNat z.2.1) :: st) hp) : gGo p l e R s m args below meth c Q D A kv ad0 u0 nL pc ls (.ref h :: st) hp := by
  intro H locs cells slots lm sm h
  obtain ⟨tys, ws, hK, hP, hD, hS, hW, hE, hcc, hs, hL, hV⟩ := h
  obtain ⟨w1, sm, rfl, e1, hVn⟩ := gVs_c hV; clear hV; have hV := hVn; clear hVn
  obtain ⟨ad, q, rfl, hz, hq⟩ := gRef hW e1 hg
  rcases q with ⟨cA, n', d'⟩ | q
  rotate_left
  · exact hq.elim
  obtain ⟨ty, n, d⟩ := z
  obtain ⟨⟨t0, ht⟩, rfl, -⟩ := hq
  exact va_alen B.1 B.2.1 hK hP (_ - 16) t0 hz ht rfl hd (k _ _ _ _ _ _ ⟨tys, ws, hK, hP, hD, hS, hW, hE, hcc, hs, hL, ⟨_, _, rfl, rfl, hV⟩⟩)
theorem va_rf_gV {ad : List Nat} {f f' : Option Nat} (h : gV kv ad (va_rf f) (va_rf f')) : gV kv ad (va_rf f) (va_rf f') := h
theorem y_aaload (B : gBase p c cc kv) {h n k0 : Nat} {C : String} {f : Nat → Option Nat} {j : Int32} (hd : decode cc pc = .ok (.aaload, 1)) (hg : gget hp h = some (gaQ C n f)) (hj : gix j n = some k0) (k : gGo p l e R s m args below meth c Q D A kv ad0 u0 nL (pc + 1) ls (va_rf (f k0) :: st) hp) : gGo p l e R s m args below meth c Q D A kv ad0 u0 nL pc ls (.int j :: .ref h :: st) hp := by
  intro H locs cells slots lm sm h
  obtain ⟨tys, ws, hK, hP, hD, hS, hW, hE, hcc, hs, hL, hV⟩ := h
  obtain ⟨w, sm, rfl, e0, hVn⟩ := gVs_c hV; clear hV; have hV := hVn; clear hVn
  cases gV_i e0
  obtain ⟨w1, sm, rfl, e1, hVn⟩ := gVs_c hV; clear hV; have hV := hVn; clear hVn
  obtain ⟨ad, z, rfl, hz, hq⟩ := gRef hW e1 hg
  rcases z with ⟨cA, n', d'⟩ | z
  rotate_left
  · exact hq.elim
  obtain ⟨⟨t0, ht⟩, rfl, hq⟩ := hq
  rcases d' with f' | f' | f' | f' | f' <;> first | exact hq.elim | skip
  obtain ⟨-, hft⟩ := hq
  obtain ⟨h1, rfl⟩ := gix_at hj
  exact va_aldq B.1 B.2.1 hK hP (_ - 16) t0 hz ht h1 hd (k _ _ _ _ _ _ ⟨tys, ws, hK, hP, hD, hS, hW, hE, hcc, hs, hL, ⟨_, _, rfl, hft _, hV⟩⟩)
/-- an object's class by its number -/
def gnm (ci : Nat) : String := match gcl[ci]? with
  | some r => r.1
  | none => ""
/-- what the tables say of an element's class -/
def gElOk (s : State) : Prop := ∀ (ci : Nat) (C : String), gel ci C = true → va_Nw (.castable (gnm ci) C) s ∨ gnm ci = C
theorem gel_cl {ci : Nat} {C : String} (h : gel ci C = true) : ∃ r, gcl[ci]? = some r ∧ r.1 = gnm ci := by
  have : ci < 27 := by
    unfold gel at h
    split at h
    · simp only [Bool.or_eq_true, Bool.and_eq_true, decide_eq_true_eq] at h; omega
    · split at h
      · simp only [Bool.and_eq_true, decide_eq_true_eq] at h; omega
      · simp only [Bool.and_eq_true, decide_eq_true_eq] at h; omega
  have hl : ci < gcl.length := this
  exact ⟨gcl[ci], List.getElem?_eq_getElem hl, by unfold gnm; rw [List.getElem?_eq_getElem hl]⟩
theorem y_aastore (B : gBase p c cc kv) (hEl : gElOk s) {h n k0 v ci : Nat} {C : String} {f : Nat → Option Nat} {fs : List Value} {j : Int32} (hd : decode cc pc = .ok (.aastore, 1)) (hg : gget hp h = some (gaQ C n f)) (hv : gget hp v = some (gob ci fs)) (hel : gel ci C = true) (hj : gix j n = some k0) (k : gGo p l e R s m args below meth c Q D A kv ad0 u0 nL (pc + 1) ls st (gset hp h (gaQ C n (va_up f k0 (some v))))) : gGo p l e R s m args below meth c Q D A kv ad0 u0 nL pc ls (.ref v :: .int j :: .ref h :: st) hp := by
  intro H locs cells slots lm sm h
  obtain ⟨tys, ws, hK, hP, hD, hS, hW, hE, hcc, hs, hL, hV⟩ := h
  obtain ⟨w2, sm, rfl, e2, hVn⟩ := gVs_c hV; clear hV; have hV := hVn; clear hVn
  obtain ⟨w, sm, rfl, e0, hVn⟩ := gVs_c hV; clear hV; have hV := hVn; clear hVn
  cases gV_i e0
  obtain ⟨w1, sm, rfl, e1, hVn⟩ := gVs_c hV; clear hV; have hV := hVn; clear hVn
  obtain ⟨ad, z, rfl, hz, hq⟩ := gRef hW e1 hg
  obtain ⟨av, zv, rfl, hzv, hqv⟩ := gRef hW e2 hv
  rcases z with ⟨cA, n', d'⟩ | z
  rotate_left
  · exact hq.elim
  rcases zv with zv | ⟨ci', vs⟩
  · exact hqv.elim
  obtain ⟨⟨t0, ht⟩, rfl, hq⟩ := hq
  obtain ⟨rfl, -⟩ := hqv
  rcases d' with f' | f' | f' | f' | f' <;> first | exact hq.elim | skip
  obtain ⟨-, hft⟩ := hq
  obtain ⟨h1, rfl⟩ := gix_at hj
  obtain ⟨r, hr, hrn⟩ := gel_cl hel
  have kk : ∀ (H1 : Heap) (locs1 : List Loc), va_P D gcl (ws.set (h - 16) (ad, .inl (cA, n', .inr (.inr (.inr (.inr (va_up f' j.toNatClampNeg (some av)))))))) H1 → va_D A (ws.set (h - 16) (ad, .inl (cA, n', .inr (.inr (.inr (.inr (va_up f' j.toNatClampNeg (some av)))))))) → va_S A s.heap H1 locs1 → W p l e R s m args below meth c H1 locs1 cells slots Q (F0 m (pc + 1) lm sm) := by
    intro H1 locs1 hP1 hD1 hS1
    obtain ⟨hW1, ead⟩ := hW.put hz (e := gaQ C n' (va_up f j.toNatClampNeg (some v))) (q2 := .inl (cA, n', .inr (.inr (.inr (.inr (va_up f' j.toNatClampNeg (some av))))))) ⟨⟨t0, ht⟩, rfl, ⟨C, rfl⟩, fun i => by
      unfold va_up
      by_cases hi : i = j.toNatClampNeg
      · rw [if_pos hi, if_pos hi]; exact e2
      · rw [if_neg hi, if_neg hi]; exact hft i⟩
    exact k _ _ _ _ _ _ ⟨tys, _, hK, hP1, hD1, hS1, hW1, by rw [ead]; exact hE, hcc, hs, by rw [ead]; exact hL, by rw [ead]; exact hV⟩
  rcases hEl ci' C hel with hca | hca
  · exact va_astqO B.1 B.2.1 hK hP hD hS (_ - 16) t0 (v - 16) ci' hz ht (by rw [hrn]; exact hca) hzv hr h1 hd kk
  · exact va_astq B.1 B.2.1 hK hP hD hS (_ - 16) t0 (v - 16) ci' hz (by rw [hrn, hca]; exact ht) hzv hr h1 hd kk
theorem y_castN (B : gBase p c cc kv) {n : Nat} (hd : decode cc pc = .ok (.checkcast n, 3)) (k : gGo p l e R s m args below meth c Q D A kv ad0 u0 nL (pc + 3) ls (.null :: st) hp) : gGo p l e R s m args below meth c Q D A kv ad0 u0 nL pc ls (.null :: st) hp := by
  intro H locs cells slots lm sm h
  obtain ⟨tys, ws, hK, hP, hD, hS, hW, hE, hcc, hs, hL, hV⟩ := h
  obtain ⟨w1, sm, rfl, e1, hVn⟩ := gVs_c hV; clear hV; have hV := hVn; clear hVn
  cases gV_z e1
  exact lv_castN B.1 B.2.1 hd (k _ _ _ _ _ _ ⟨tys, ws, hK, hP, hD, hS, hW, hE, hcc, hs, hL, ⟨_, _, rfl, rfl, hV⟩⟩)
theorem y_instN (B : gBase p c cc kv) {n : Nat} (hd : decode cc pc = .ok (.instanceof n, 3)) (k : gGo p l e R s m args below meth c Q D A kv ad0 u0 nL (pc + 3) ls (.int 0 :: st) hp) : gGo p l e R s m args below meth c Q D A kv ad0 u0 nL pc ls (.null :: st) hp := by
  intro H locs cells slots lm sm h
  obtain ⟨tys, ws, hK, hP, hD, hS, hW, hE, hcc, hs, hL, hV⟩ := h
  obtain ⟨w1, sm, rfl, e1, hVn⟩ := gVs_c hV; clear hV; have hV := hVn; clear hVn
  cases gV_z e1
  exact lv_instN B.1 B.2.1 hd (k _ _ _ _ _ _ ⟨tys, ws, hK, hP, hD, hS, hW, hE, hcc, hs, hL, ⟨_, _, rfl, rfl, hV⟩⟩)
theorem gcl_recv {tys : List (ClassId × FieldType)} {ws : va_W} {H : Heap} {a ci k : Nat} {fs : List Value} (hK : va_K D gcl tys s) (hP : va_P D gcl ws H) (hz : ws[k]? = some (a, .inr (ci, fs))) : ∃ r, gcl[ci]? = some r ∧ r.1 = gnm ci ∧ ∃ cell : Cell, H[a]? = some cell ∧ cell.vm.isStatics = false ∧ s.vm.findClass (gnm ci) = some cell.cls := by
  obtain ⟨r, hr, -⟩ := hP k _ hz
  have e : r.1 = gnm ci := by unfold gnm; rw [hr]
  exact ⟨r, hr, e, by rw [← e]; exact va_recv hK hP hr hz⟩
/-- a cast of an object: to its own class, or to one above it -/
theorem y_castO (B : gBase p c cc kv) {own nm : String} (O : gOwn s m args A own) {n h ci : Nat} {fs : List Value} (hl : Cond.classLink own n nm ∈ lw_all) (hca : va_Nw (.castable (gnm ci) nm) s ∨ gnm ci = nm) (hd : decode cc pc = .ok (.checkcast n, 3)) (hg : gget hp h = some (gob ci fs)) (k : gGo p l e R s m args below meth c Q D A kv ad0 u0 nL (pc + 3) ls (.ref h :: st) hp) : gGo p l e R s m args below meth c Q D A kv ad0 u0 nL pc ls (.ref h :: st) hp := by
  intro H locs cells slots lm sm h
  obtain ⟨tys, ws, hK, hP, hD, hS, hW, hE, hcc, hs, hL, hV⟩ := h
  have hV0 := hV
  obtain ⟨w1, sm, rfl, e1, hVn⟩ := gVs_c hV; clear hV; have hV := hVn; clear hVn
  obtain ⟨ad, z, rfl, hz, hq⟩ := gRef hW e1 hg
  rcases z with z | ⟨ci', vs⟩
  · exact hq.elim
  obtain ⟨rfl, -⟩ := hq
  obtain ⟨r, hr, hrn, hrc⟩ := gcl_recv hK hP hz
  have k' := k _ _ _ _ _ _ ⟨tys, ws, hK, hP, hD, hS, hW, hE, hcc, hs, hL, hV0⟩
  rcases hca with hca | hca
  · exact va_castY B.1 B.2.1 O.1 (O.2.1 _ hl) hca hrc hd k'
  · have hcat : ClassAt s nm (D.1 ci') := by rw [← hca, ← hrn]; exact (hK.1 ci' r hr).2
    exact va_castS B.1 B.2.1 O.1 (O.2.1 _ hl) hcat (by rw [← hca]; exact hrc) hd k'
/-- a cast of an array to its own class -/
theorem y_castA (B : gBase p c cc kv) {own nm : String} (O : gOwn s m args A own) {n h : Nat} {z : FieldType × vp_A} (hl : Cond.classLink own n nm ∈ lw_all) (hnm : nm = "[" ++ z.1.toString) (hd : decode cc pc = .ok (.checkcast n, 3)) (hg : gget hp h = some (.inl z)) (k : gGo p l e R s m args below meth c Q D A kv ad0 u0 nL (pc + 3) ls (.ref h :: st) hp) : gGo p l e R s m args below meth c Q D A kv ad0 u0 nL pc ls (.ref h :: st) hp := by
  intro H locs cells slots lm sm h
  obtain ⟨tys, ws, hK, hP, hD, hS, hW, hE, hcc, hs, hL, hV⟩ := h
  have hV0 := hV
  obtain ⟨w1, sm, rfl, e1, hVn⟩ := gVs_c hV; clear hV; have hV := hVn; clear hVn
  obtain ⟨ad, q, rfl, hz, hq⟩ := gRef hW e1 hg
  rcases q with ⟨cA, n', d'⟩ | q
  rotate_left
  · exact hq.elim
  obtain ⟨ty, n, d⟩ := z
  obtain ⟨⟨t0, ht⟩, rfl, -⟩ := hq
  have hra := (hK.2 t0 _ ht).2
  have hfc : s.vm.findClass nm = some cA := by
    rw [hnm]
    cases ty with
    | object C => obtain ⟨kA, comp, -, -, -, h4⟩ := hra; exact h4
    | _ => exact hra
  exact va_castA B.1 B.2.1 O.1 (O.2.1 _ hl) hP (_ - 16) hz hfc hd (k _ _ _ _ _ _ ⟨tys, ws, hK, hP, hD, hS, hW, hE, hcc, hs, hL, hV0⟩)
end GD
