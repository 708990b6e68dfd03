/-! ===== SOUNDNESS: behind a call ===== -/
section GH
variable {p : Program} {l : Launch} {e : Env} {R : Room} {s : State} {m : MethodId} {args : Array Value} {below : List Frame} {meth : Method} {c : Code} {Q : State → Prop}
variable {D : va_G} {A : Nat → Prop} {kv : Nat → Value} {ad0 : List Nat} {u0 : Nat × Nat} {nL d : Nat} {K : gK} {cc : ByteArray} {pc : Nat} {ls : gL} {st : List Value} {hp : gS}
theorem y_back {o : Option Value ⊕ (Nat × Nat)} {hp' : gS} {av : Array Value} {H : Heap} {locs : List Loc} {cells slots : Nat} {lm : Array Slot} {sm rest : List Value} {ws : va_W}
    (hS : va_S A s.heap H locs) (hE : gPre ad0 (gad ws)) (hcc : hp.2.1 = u0.1 + cells) (hs : hp.2.2 = u0.2 + slots) (hL : gLs kv (gad ws) nL ls lm) (hV : gVs kv (gad ws) st rest) (hmono : hp.2.1 ≤ hp'.2.1 ∧ hp.2.2 ≤ hp'.2.2)
    (hr : vx_Run p l e R s m args below meth c H locs cells slots (hp'.2.1 - hp.2.1) (hp'.2.2 - hp.2.2) (F0 m pc lm sm) rest (gQc D A kv (gad ws) o hp' av) (gXC D A kv (gad ws) o hp') A)
    (k1 : ∀ v, o = .inl v → gGo p l e R s m args below meth c Q D A kv ad0 u0 nL (pc + 3) ls (v.toList ++ st) hp') (k2 : ∀ ci h, o = .inr (ci, h) → gTh p l e R s m args below meth c Q D A kv ad0 u0 nL pc ci h ls hp') :
    W p l e R s m args below meth c H locs cells slots Q (F0 m pc lm sm) := by
  intro T hT X
  rcases hr T hT X with ⟨w0, st₀, t, T', L, h0, X', hL2, e1, e2, ⟨⟨v, w, ho, hv, tys', ws', hK', hP', hD', hW', hE', hVo⟩, hF⟩, stp⟩ | ⟨q, st₀, t, T', L, E, ce, h0, X', hL2, e1, e2, ⟨⟨ci, h, ho, hEn, tys', ws', hK', hP', hD', hW', hE', hVq⟩, hF⟩, hce, hcv, hcl, stp⟩
  · cases hv
    obtain ⟨-, -, k3⟩ := vx_keep h0 e1 hS (fun _ _ h => h) (fun _ h => h) hL2 hF
    have hVs : gVs kv (gad ws') (v.toList ++ st) (w0.toList ++ rest) := by
      cases v with
      | none =>
        cases (show w0 = none from hVo)
        exact hV.mono hE'
      | some v =>
        obtain ⟨x, rfl, hx⟩ := hVo
        exact ⟨_, _, rfl, hx, hV.mono hE'⟩
    obtain ⟨t2, a1, b1⟩ := k1 v ho T'.heap (locs ++ L) (cells + (hp'.2.1 - hp.2.1)) (slots + (hp'.2.2 - hp.2.2)) lm (w0.toList ++ rest)
      ⟨tys', ws', hK'.moved (by rw [← e2]; exact X'.warmed.alike.symm), by rw [e1]; exact hP', hD', k3, hW', hE.tr hE', by omega, by omega, hL.mono hE', hVs⟩ T' rfl X'
    exact ⟨t2, stp t2 a1, b1⟩
  · obtain ⟨-, -, k3⟩ := vx_keep h0 e1 hS (fun _ _ h => h) (fun _ h => h) hL2 hF
    subst hEn
    obtain ⟨t2, a1, b1⟩ := k2 ci h ho T'.heap (locs ++ L) (cells + (hp'.2.1 - hp.2.1)) (slots + (hp'.2.2 - hp.2.2)) lm rest q ce
      ⟨tys', ws', hK'.moved (by rw [← e2]; exact X'.warmed.alike.symm), by rw [e1]; exact hP', hD', k3, hW', hE.tr hE', by omega, by omega, hL.mono hE', ⟨_, _, rfl, hVq, rfl⟩⟩ (by rw [e1]; exact hce) hcv hcl T' rfl X'
    exact ⟨t2, stp.trans a1, b1⟩
theorem gPre_call {own : String} {H : Heap} {locs : List Loc} {tys : List (ClassId × FieldType)} {ws : va_W} {as As : List Value} (F : gFx K A kv s) (O : gOwn s m args A own) (hK : va_K D gcl tys s) (hP : va_P D gcl ws H) (hD : va_D A ws) (hS : va_S A s.heap H locs) (hW : gW kv tys hp.1 ws) (hV : gVs kv (gad ws) as As) : PreS s H (gPc K D A kv (gad ws) hp as) As :=
  ⟨gPc_blind, fun U hU hWm => ⟨F.warm hWm (by rw [hU]; exact hS.1) (fun q h1 h2 => by rw [hU]; exact hS.2.1 q h1 h2), fun q hq => O.2.2 q (Nat.le_trans hS.1 (by rw [← hU]; exact hq)), tys, ws, hK.moved hWm.alike, by rw [hU]; exact hP, hD, hW, rfl, hV⟩⟩
theorem gRm_num {d mL z n0 : Nat} (h : 64 * (d + 1) + z ≤ n0) (hmL : mL ≤ 45) : 8 + (mL + 11) + (64 * d + z) ≤ n0 := by omega
theorem gRm_call {mL : Nat} (hR : gRm (d + 1) R) (hmL : mL ≤ 45) (hp hp' : gS) : (grm d hp hp').frames + 1 ≤ R.frames ∧ 8 + (mL + 11) + (grm d hp hp').locals ≤ R.locals :=
  ⟨Nat.le_trans (Nat.le_of_eq (Nat.add_right_comm d 10 1)) hR.1, gRm_num hR.2 hmL⟩
theorem y_callS (hst : l.stackTraces = false) (B : gBase p c cc kv) (F : gFx K A kv s) {own : String} (O : gOwn s m args A own) (hml : c.maxLocals = nL) (hR : gRm (d + 1) R) {y : MethodName} {ws0 : List Cond} {mL n : Nat} (hcl : gClS own cc pc y ws0 mL n) (hmL : mL ≤ 45) {as : List Value} {o : Option Value ⊕ (Nat × Nat)} {hp' : gS} (hcon : gCon K y ws0 d as hp o hp') (hmono : hp.2.1 ≤ hp'.2.1 ∧ hp.2.2 ≤ hp'.2.2) (hr : gRoom u0 R hp') (hn : as.length = n) (hdp : gdep st ≤ 8)
    (k1 : ∀ v, o = .inl v → gGo p l e R s m args below meth c Q D A kv ad0 u0 nL (pc + 3) ls (v.toList ++ st) hp') (k2 : ∀ ci h, o = .inr (ci, h) → gTh p l e R s m args below meth c Q D A kv ad0 u0 nL pc ci h ls hp') :
    gGo p l e R s m args below meth c Q D A kv ad0 u0 nL pc ls (as.reverse ++ st) hp := by
  intro H locs cells slots lm sm h
  obtain ⟨tys, ws, hK, hP, hD, hS, hW, hE, hcc, hs, hL, hV⟩ := h
  obtain ⟨w1, w2, rfl, hV1, hV2⟩ := gVs.split _ hV
  have hVa : gVs kv (gad ws) as w1.reverse := by have := hV1.rev; rw [List.reverse_reverse] at this; exact this
  have hsum := hV2.dep B.k1
  obtain ⟨r1, r2⟩ := hr
  obtain ⟨f1, f2⟩ := gRm_call (d := d) hR hmL hp hp'
  have hrun := hcl p l e R s m args below meth c H locs cells slots K A kv (grm d hp hp') (hp'.2.1 - hp.2.1) (hp'.2.2 - hp.2.2) _ _ _ w1.reverse w2 lm B.1 B.2.1 (hml.trans hL.2.1.symm) O F (hcon l D A kv (gad ws) hst B.2.2) rfl rfl f1 f2 (gPre_call F O hK hP hD hS hW hVa) (by rw [hVa.len]; exact hn) (by omega) (by omega) (by omega)
  rw [List.reverse_reverse] at hrun
  exact y_back hS hE hcc hs hL hV2 hmono hrun k1 k2
/-- a call with a receiver -/
theorem y_callV (hst : l.stackTraces = false) (B : gBase p c cc kv) (F : gFx K A kv s) {own : String} (O : gOwn s m args A own) (hml : c.maxLocals = nL) (hR : gRm (d + 1) R) {sp : Bool} {y : MethodName} {ws0 : List Cond} {mL n h ci : Nat} {fs : List Value} (hg : gget hp h = some (gob ci fs)) (hcl : gClV sp own cc pc y ws0 mL n (gnm ci)) (hmL : mL ≤ 45) {as : List Value} {o : Option Value ⊕ (Nat × Nat)} {hp' : gS} (hcon : gCon K y ws0 d (.ref h :: as) hp o hp') (hmono : hp.2.1 ≤ hp'.2.1 ∧ hp.2.2 ≤ hp'.2.2) (hr : gRoom u0 R hp') (hn : as.length = n) (hdp : gdep st ≤ 8)
    (k1 : ∀ v, o = .inl v → gGo p l e R s m args below meth c Q D A kv ad0 u0 nL (pc + 3) ls (v.toList ++ st) hp') (k2 : ∀ ci h, o = .inr (ci, h) → gTh p l e R s m args below meth c Q D A kv ad0 u0 nL pc ci h ls hp') :
    gGo p l e R s m args below meth c Q D A kv ad0 u0 nL pc ls (as.reverse ++ .ref h :: st) hp := by
  intro H locs cells slots lm sm h
  obtain ⟨tys, ws, hK, hP, hD, hS, hW, hE, hcc, hs, hL, hV⟩ := h
  obtain ⟨w1, w2, rfl, hV1, hV2⟩ := gVs.split _ hV
  obtain ⟨w0, w2, rfl, e1, hV3⟩ := gVs_c hV2
  obtain ⟨ad, q, rfl, hz, hq⟩ := gRef hW e1 hg
  rcases q with q | ⟨ci', vs⟩
  · exact hq.elim
  obtain ⟨rfl, hvs⟩ := hq
  obtain ⟨r, hrc, hrn, cell, q1, q2, q3⟩ := gcl_recv hK hP hz
  have hVa : gVs kv (gad ws) as w1.reverse := by have := hV1.rev; rw [List.reverse_reverse] at this; exact this
  have hsum := hV3.dep B.k1
  obtain ⟨r1, r2⟩ := hr
  obtain ⟨f1, f2⟩ := gRm_call (d := d) hR hmL hp hp'
  obtain ⟨p1, p2⟩ := gPre_call F O hK hP hD hS hW (as := .ref _ :: as) (As := .ref ad :: w1.reverse) ⟨_, _, rfl, e1, hVa⟩
  have hrun := hcl p l e R s m args below meth c H locs cells slots K A kv (grm d hp hp') (hp'.2.1 - hp.2.1) (hp'.2.2 - hp.2.2) _ _ _ ad w1.reverse w2 lm B.1 B.2.1 (hml.trans hL.2.1.symm) O F (hcon l D A kv (gad ws) hst B.2.2) rfl rfl f1 f2 (fun _ => ⟨D.1 ci', by rw [← hrn]; exact (hK.1 ci' r hrc).2⟩) ⟨p1, ⟨cell, q1, q2, q3⟩, p2⟩ (by rw [hVa.len]; exact hn) (by omega) (by omega) (by omega)
  rw [List.reverse_reverse] at hrun
  exact y_back hS hE hcc hs hL hV3 hmono hrun k1 k2
/-- .. on one of the three String constants -/
theorem y_callT (hst : l.stackTraces = false) (B : gBase p c cc kv) (F : gFx K A kv s) {own : String} (O : gOwn s m args A own) (hml : c.maxLocals = nL) (hR : gRm (d + 1) R) {y : MethodName} {ws0 : List Cond} {mL n j : Nat} (hj : j < 3) (hcl : gClV false own cc pc y ws0 mL n "java/lang/String") (hmL : mL ≤ 45) {as : List Value} {o : Option Value ⊕ (Nat × Nat)} {hp' : gS} (hcon : gCon K y ws0 d (.ref (2 + j) :: as) hp o hp') (hmono : hp.2.1 ≤ hp'.2.1 ∧ hp.2.2 ≤ hp'.2.2) (hr : gRoom u0 R hp') (hn : as.length = n) (hdp : gdep st ≤ 8)
    (k1 : ∀ v, o = .inl v → gGo p l e R s m args below meth c Q D A kv ad0 u0 nL (pc + 3) ls (v.toList ++ st) hp') (k2 : ∀ ci h, o = .inr (ci, h) → gTh p l e R s m args below meth c Q D A kv ad0 u0 nL pc ci h ls hp') :
    gGo p l e R s m args below meth c Q D A kv ad0 u0 nL pc ls (as.reverse ++ .ref (2 + j) :: st) hp := by
  intro H locs cells slots lm sm h
  obtain ⟨tys, ws, hK, hP, hD, hS, hW, hE, hcc, hs, hL, hV⟩ := h
  obtain ⟨w1, w2, rfl, hV1, hV2⟩ := gVs.split _ hV
  obtain ⟨w0, w2, rfl, e1, hV3⟩ := gVs_c hV2
  obtain ⟨adK, adV, hT, hk⟩ := F.2.2.1
  obtain ⟨h1, -, -⟩ := hk j hj
  have e2 := gV_kv (by omega) e1
  rw [h1] at e2
  subst e2
  obtain ⟨cell, q1, q2, q3, -⟩ := (hT.1 j hj).1.kept hS.2.1
  have hVa : gVs kv (gad ws) as w1.reverse := by have := hV1.rev; rw [List.reverse_reverse] at this; exact this
  have hsum := hV3.dep B.k1
  obtain ⟨r1, r2⟩ := hr
  obtain ⟨f1, f2⟩ := gRm_call (d := d) hR hmL hp hp'
  obtain ⟨p1, p2⟩ := gPre_call F O hK hP hD hS hW (as := .ref _ :: as) (As := .ref (adK j) :: w1.reverse) ⟨_, _, rfl, e1, hVa⟩
  have hrun := hcl p l e R s m args below meth c H locs cells slots K A kv (grm d hp hp') (hp'.2.1 - hp.2.1) (hp'.2.2 - hp.2.2) _ _ _ (adK j) w1.reverse w2 lm B.1 B.2.1 (hml.trans hL.2.1.symm) O F (hcon l D A kv (gad ws) hst B.2.2) rfl rfl f1 f2 (fun h => by cases h) ⟨p1, ⟨cell, q1, q2, q3⟩, p2⟩ (by rw [hVa.len]; exact hn) (by omega) (by omega) (by omega)
  rw [List.reverse_reverse] at hrun
  exact y_back hS hE hcc hs hL hV3 hmono hrun k1 k2
end GH
