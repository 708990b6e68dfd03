/-! ===== SOUNDNESS, seventh part: natives (written by gen/snd6.py) ===== -/
def gRm (d : Nat) (R : Room) : Prop := d + 10 ≤ R.frames ∧ 64 * d + 12000 ≤ R.locals
theorem gcopy_words : nativeFrameWords "java/lang/System" "arraycopy" 5 ≤ 100 := by decide
section GF
variable {p : Program} {l : Launch} {e : Env} {R : Room} {s : State} {m : MethodId} {args : Array Value} {below : List Frame} {meth : Method} {c : Code} {Q : State → Prop}
variable {D : va_G} {A : Nat → Prop} {kv : Nat → Value} {ad0 : List Nat} {u0 : Nat × Nat} {nL d : Nat} {K : gK} {cc : ByteArray} {pc : Nat} {ls : gL} {st : List Value} {hp : gS}
theorem y_max (B : gBase p c cc kv) {own : String} (O : gOwn s m args A own) (hml : c.maxLocals = nL) (hR : gRm d R) {n : Nat} {x y : Int32} (hl : Cond.methodLink own n ⟨"java/lang/Math", "max", "(II)I"⟩ ∈ lw_all) (hr : gRoom u0 R hp) (hdp : gdep st ≤ 8) (hd : decode cc pc = .ok (.invokestatic n, 3)) (k : gGo p l e R s m args below meth c Q D A kv ad0 u0 nL (pc + 3) ls (.int (if x < y then y else x) :: st) hp) : gGo p l e R s m args below meth c Q D A kv ad0 u0 nL pc ls (.int y :: .int x :: st) hp := by
  intro H locs cells slots lm sm h
  obtain ⟨tys, ws, hK, hP, hD, hS, hW, hE, hcc, hs, hL, hV⟩ := h
  obtain ⟨w0, sm, rfl, e0, hVn⟩ := gVs_c hV; clear hV; have hV := hVn; clear hVn
  cases gV_i e0
  obtain ⟨w0, sm, rfl, e0, hVn⟩ := gVs_c hV; clear hV; have hV := hVn; clear hVn
  cases gV_i e0
  have hsum := hV.dep B.k1
  obtain ⟨r1, r2⟩ := hr
  exact va_mmax B.1 B.2.1 (hml.trans hL.2.1.symm) O.1 (O.2.1 _ hl) (O.2.1 _ q946) (O.2.1 _ q110) (O.2.1 _ q947) (by have := hR.1; omega) (by have := hR.2; omega) (by omega) (by omega) hd (k _ _ _ _ _ _ ⟨tys, ws, hK, hP, hD, hS, hW, hE, hcc, hs, hL, ⟨_, _, rfl, rfl, hV⟩⟩)
theorem y_min (B : gBase p c cc kv) {own : String} (O : gOwn s m args A own) (hml : c.maxLocals = nL) (hR : gRm d R) {n : Nat} {x y : Int32} (hl : Cond.methodLink own n ⟨"java/lang/Math", "min", "(II)I"⟩ ∈ lw_all) (hr : gRoom u0 R hp) (hdp : gdep st ≤ 8) (hd : decode cc pc = .ok (.invokestatic n, 3)) (k : gGo p l e R s m args below meth c Q D A kv ad0 u0 nL (pc + 3) ls (.int (if y < x then y else x) :: st) hp) : gGo p l e R s m args below meth c Q D A kv ad0 u0 nL pc ls (.int y :: .int x :: st) hp := by
  intro H locs cells slots lm sm h
  obtain ⟨tys, ws, hK, hP, hD, hS, hW, hE, hcc, hs, hL, hV⟩ := h
  obtain ⟨w0, sm, rfl, e0, hVn⟩ := gVs_c hV; clear hV; have hV := hVn; clear hVn
  cases gV_i e0
  obtain ⟨w0, sm, rfl, e0, hVn⟩ := gVs_c hV; clear hV; have hV := hVn; clear hVn
  cases gV_i e0
  have hsum := hV.dep B.k1
  obtain ⟨r1, r2⟩ := hr
  exact va_mmin B.1 B.2.1 (hml.trans hL.2.1.symm) O.1 (O.2.1 _ hl) (O.2.1 _ q992) (O.2.1 _ q110) (O.2.1 _ q993) (by have := hR.1; omega) (by have := hR.2; omega) (by omega) (by omega) hd (k _ _ _ _ _ _ ⟨tys, ws, hK, hP, hD, hS, hW, hE, hcc, hs, hL, ⟨_, _, rfl, rfl, hV⟩⟩)
theorem y_objinit (B : gBase p c cc kv) {own : String} (O : gOwn s m args A own) (hml : c.maxLocals = nL) (hR : gRm d R) {n h : Nat} (h16 : 16 ≤ h) (hl : Cond.methodLink own n ⟨"java/lang/Object", "<init>", "()V"⟩ ∈ lw_all) (hdp : gdep st ≤ 8) (hd : decode cc pc = .ok (.invokespecial n, 3)) (k : gGo p l e R s m args below meth c Q D A kv ad0 u0 nL (pc + 3) ls st hp) : gGo p l e R s m args below meth c Q D A kv ad0 u0 nL pc ls (.ref h :: st) hp := by
  intro H locs cells slots lm sm h
  obtain ⟨tys, ws, hK, hP, hD, hS, hW, hE, hcc, hs, hL, hV⟩ := h
  obtain ⟨w0, sm, rfl, e0, hVn⟩ := gVs_c hV; clear hV; have hV := hVn; clear hVn
  obtain ⟨a, -, rfl⟩ := gV_16 h16 e0
  have hsum := hV.dep B.k1
  refine W.objInit B.1 B.2.1 O.1 (O.2.1 _ hl) (O.2.1 _ q125) (O.2.1 _ q126) rfl (hL.2.1.trans hml.symm) rfl hd (by have := hR.1; omega) (by show 2 * 0 + _ + 12 ≤ _; have := hR.2; omega) ?_
  exact k _ _ _ _ _ _ ⟨tys, ws, hK, hP, hD, hS, hW, hE, hcc, hs, hL, hV⟩
theorem y_getC (B : gBase p c cc kv) (F : gFx K A kv s) {own : String} (O : gOwn s m args A own) (hml : c.maxLocals = nL) (hR : gRm d R) {n h : Nat} {z : vp_A} (hl : Cond.methodLink own n ⟨"java/lang/Object", "getClass", "()Ljava/lang/Class;"⟩ ∈ lw_all) (hdp : gdep st ≤ 8) (hd : decode cc pc = .ok (.invokevirtual n, 3)) (hg : gget hp h = some (.inl (.object "java/lang/Object", z))) (k : gGo p l e R s m args below meth c Q D A kv ad0 u0 nL (pc + 3) ls (.ref 8 :: st) hp) : gGo p l e R s m args below meth c Q D A kv ad0 u0 nL pc ls (.ref h :: st) hp := by
  intro H locs cells slots lm sm h
  obtain ⟨tys, ws, hK, hP, hD, hS, hW, hE, hcc, hs, hL, hV⟩ := h
  obtain ⟨w1, sm, rfl, e1, hVn⟩ := gVs_c hV; clear hV; have hV := hVn; clear hVn
  obtain ⟨ad, q, rfl, hz, hq⟩ := gRef hW e1 hg
  rcases q with ⟨cA, n', d'⟩ | q
  rotate_left
  · exact hq.elim
  obtain ⟨n, dd⟩ := z
  obtain ⟨⟨t0, ht⟩, rfl, -⟩ := hq
  have hsum := hV.dep B.k1
  obtain ⟨mi, h1, h2⟩ := F.2.2.2.1
  exact va_getC B.1 B.2.1 (hml.trans hL.2.1.symm) O.1 (O.2.1 _ hl) (va_Dc.use (F.nw q1897 rfl)) (O.2.1 _ q1896) (O.2.1 _ q956) (O.2.1 _ q984) h2 (gArr hK hP hz ht) (by have := hR.1; omega) (by have := hR.2; omega) hd (k _ _ _ _ _ _ ⟨tys, ws, hK, hP, hD, hS, hW, hE, hcc, hs, hL, ⟨_, _, rfl, by rw [← h1]; exact gV_of (by omega), hV⟩⟩)
theorem gprim {ty : FieldType} {x : Int32} (h : fits ty (.int x) = true) : refKind ty = false := by
  cases ty <;> first | rfl | (simp [fits] at h)
theorem g0le {x : Int32} (h : 0 ≤ x) : ¬ x < 0 := Int32.not_lt.mpr h

theorem y_copyI (B : gBase p c cc kv) {own : String} (O : gOwn s m args A own) (hml : c.maxLocals = nL) (hR : gRm d R) {n h0 h1 n0 n1 : Nat} {ty : FieldType} {f g : Nat → Int32} {sp dp z : Int32} (hl : Cond.methodLink own n ⟨"java/lang/System", "arraycopy", "(Ljava/lang/Object;ILjava/lang/Object;II)V"⟩ ∈ lw_all) (hdp : gdep st ≤ 8) (hd : decode cc pc = .ok (.invokestatic n, 3))
    (hg0 : gget hp h0 = some (.inl (ty, n0, .inl f))) (hg1 : gget hp h1 = some (.inl (ty, n1, .inl g))) (hsp : 0 ≤ sp) (hdpp : 0 ≤ dp) (hz0 : 0 ≤ z) (hb0 : sp.toNatClampNeg + z.toNatClampNeg ≤ n0) (hb1 : dp.toNatClampNeg + z.toNatClampNeg ≤ n1)
    (k : gGo p l e R s m args below meth c Q D A kv ad0 u0 nL (pc + 3) ls st (gset hp h1 (.inl (ty, n1, .inl (va_cpy f g sp.toNatClampNeg dp.toNatClampNeg z.toNatClampNeg))))) : gGo p l e R s m args below meth c Q D A kv ad0 u0 nL pc ls (.int z :: .int dp :: .ref h1 :: .int sp :: .ref h0 :: st) hp := by
  intro H locs cells slots lm sm h
  obtain ⟨tys, ws, hK, hP, hD, hS, hW, hE, hcc, hs, hL, hV⟩ := h
  obtain ⟨w0, sm, rfl, e0, hVn⟩ := gVs_c hV; clear hV; have hV := hVn; clear hVn
  cases gV_i e0
  obtain ⟨w0, sm, rfl, e0, hVn⟩ := gVs_c hV; clear hV; have hV := hVn; clear hVn
  cases gV_i e0
  obtain ⟨w1, sm, rfl, e1, hVn⟩ := gVs_c hV; clear hV; have hV := hVn; clear hVn
  obtain ⟨w0, sm, rfl, e0, hVn⟩ := gVs_c hV; clear hV; have hV := hVn; clear hVn
  cases gV_i e0
  obtain ⟨w0, sm, rfl, e0, hVn⟩ := gVs_c hV; clear hV; have hV := hVn; clear hVn
  obtain ⟨a0, q0, rfl, hz0', hq0⟩ := gRef hW e0 hg0
  obtain ⟨a1, q1, rfl, hz1, hq1⟩ := gRef hW e1 hg1
  rcases q0 with ⟨c0, m0, d0⟩ | q0
  rotate_left
  · exact hq0.elim
  rcases q1 with ⟨c1, m1, d1⟩ | q1
  rotate_left
  · exact hq1.elim
  obtain ⟨⟨t0, ht0⟩, rfl, hq0⟩ := hq0
  obtain ⟨⟨t1, ht1⟩, rfl, hq1⟩ := hq1
  rcases d0 with f' | f' | f' | f' | f' <;> first | exact hq0.elim | skip
  rcases d1 with g' | g' | g' | g' | g' <;> first | exact hq1.elim | skip
  obtain ⟨rfl, hf0⟩ := hq0
  obtain ⟨rfl, hf1⟩ := hq1
  have hsum := hV.dep B.k1
  have hnw := gcopy_words
  refine va_copyi B.1 B.2.1 (hml.trans hL.2.1.symm) O.1 (O.2.1 _ hl) (O.2.1 _ q996) (O.2.1 _ q995) (O.2.1 _ q112) hK hP hD hS (h0 - 16) (h1 - 16) t0 t1 hz0' hz1 ht0 ht1 (gprim (hf0 0)) (g0le hsp) (g0le hdpp) (g0le hz0) hb0 hb1 (fun i _ => hf0 _) (by have := hR.1; omega) (by have := hR.2; omega) hd (fun H1 locs1 hP1 hD1 hS1 => ?_)
  obtain ⟨hW1, ead⟩ := hW.put hz1 (e := .inl (ty, m1, .inl (va_cpy f' g' sp.toNatClampNeg dp.toNatClampNeg z.toNatClampNeg))) (q2 := .inl (c1, m1, .inl (va_cpy f' g' sp.toNatClampNeg dp.toNatClampNeg z.toNatClampNeg))) ⟨⟨t1, ht1⟩, rfl, rfl, fun i => by unfold va_cpy; split; exact hf0 _; exact hf1 _⟩
  exact k _ _ _ _ _ _ ⟨tys, _, hK, hP1, hD1, hS1, hW1, by rw [ead]; exact hE, hcc, hs, by rw [ead]; exact hL, by rw [ead]; exact hV⟩
theorem y_copyL (B : gBase p c cc kv) {own : String} (O : gOwn s m args A own) (hml : c.maxLocals = nL) (hR : gRm d R) {n h0 h1 n0 n1 : Nat} {ty : FieldType} {f g : Nat → Int64} {sp dp z : Int32} (hl : Cond.methodLink own n ⟨"java/lang/System", "arraycopy", "(Ljava/lang/Object;ILjava/lang/Object;II)V"⟩ ∈ lw_all) (hdp : gdep st ≤ 8) (hd : decode cc pc = .ok (.invokestatic n, 3))
    (hg0 : gget hp h0 = some (.inl (ty, n0, .inr (.inl f)))) (hg1 : gget hp h1 = some (.inl (ty, n1, .inr (.inl g)))) (hsp : 0 ≤ sp) (hdpp : 0 ≤ dp) (hz0 : 0 ≤ z) (hb0 : sp.toNatClampNeg + z.toNatClampNeg ≤ n0) (hb1 : dp.toNatClampNeg + z.toNatClampNeg ≤ n1)
    (k : gGo p l e R s m args below meth c Q D A kv ad0 u0 nL (pc + 3) ls st (gset hp h1 (.inl (ty, n1, .inr (.inl (va_cpy f g sp.toNatClampNeg dp.toNatClampNeg z.toNatClampNeg)))))) : gGo p l e R s m args below meth c Q D A kv ad0 u0 nL pc ls (.int z :: .int dp :: .ref h1 :: .int sp :: .ref h0 :: st) hp := by
  intro H locs cells slots lm sm h
  obtain ⟨tys, ws, hK, hP, hD, hS, hW, hE, hcc, hs, hL, hV⟩ := h
  obtain ⟨w0, sm, rfl, e0, hVn⟩ := gVs_c hV; clear hV; have hV := hVn; clear hVn
  cases gV_i e0
  obtain ⟨w0, sm, rfl, e0, hVn⟩ := gVs_c hV; clear hV; have hV := hVn; clear hVn
  cases gV_i e0
  obtain ⟨w1, sm, rfl, e1, hVn⟩ := gVs_c hV; clear hV; have hV := hVn; clear hVn
  obtain ⟨w0, sm, rfl, e0, hVn⟩ := gVs_c hV; clear hV; have hV := hVn; clear hVn
  cases gV_i e0
  obtain ⟨w0, sm, rfl, e0, hVn⟩ := gVs_c hV; clear hV; have hV := hVn; clear hVn
  obtain ⟨a0, q0, rfl, hz0', hq0⟩ := gRef hW e0 hg0
  obtain ⟨a1, q1, rfl, hz1, hq1⟩ := gRef hW e1 hg1
  rcases q0 with ⟨c0, m0, d0⟩ | q0
  rotate_left
  · exact hq0.elim
  rcases q1 with ⟨c1, m1, d1⟩ | q1
  rotate_left
  · exact hq1.elim
  obtain ⟨⟨t0, ht0⟩, rfl, hq0⟩ := hq0
  obtain ⟨⟨t1, ht1⟩, rfl, hq1⟩ := hq1
  rcases d0 with f' | f' | f' | f' | f' <;> first | exact hq0.elim | skip
  rcases d1 with g' | g' | g' | g' | g' <;> first | exact hq1.elim | skip
  obtain ⟨rfl, hf0⟩ := hq0
  obtain ⟨rfl, hf1⟩ := hq1
  have hsum := hV.dep B.k1
  have hnw := gcopy_words
  refine va_copyl B.1 B.2.1 (hml.trans hL.2.1.symm) O.1 (O.2.1 _ hl) (O.2.1 _ q996) (O.2.1 _ q995) (O.2.1 _ q112) hK hP hD hS (h0 - 16) (h1 - 16) t0 t1 hz0' hz1 ht0 ht1 (by rw [hf0]; rfl) (g0le hsp) (g0le hdpp) (g0le hz0) hb0 hb1 (fun i _ => by rw [hf0]; rfl) (by have := hR.1; omega) (by have := hR.2; omega) hd (fun H1 locs1 hP1 hD1 hS1 => ?_)
  obtain ⟨hW1, ead⟩ := hW.put hz1 (e := .inl (ty, m1, .inr (.inl (va_cpy f' g' sp.toNatClampNeg dp.toNatClampNeg z.toNatClampNeg)))) (q2 := .inl (c1, m1, .inr (.inl (va_cpy f' g' sp.toNatClampNeg dp.toNatClampNeg z.toNatClampNeg)))) ⟨⟨t1, ht1⟩, rfl, rfl, hf1⟩
  exact k _ _ _ _ _ _ ⟨tys, _, hK, hP1, hD1, hS1, hW1, by rw [ead]; exact hE, hcc, hs, by rw [ead]; exact hL, by rw [ead]; exact hV⟩
theorem gcpOk_at {f : Nat → Option Nat} {C : String} {sp : Nat} : ∀ {n : Nat}, gcpOk hp f C sp n = true → ∀ i, i < n → ∀ h, f (sp + i) = some h → ∃ ci fs, gget hp h = some (gob ci fs) ∧ gel ci C = true
  | 0, _, i, hi, _, _ => absurd hi (Nat.not_lt_zero i)
  | n + 1, hk, i, hi, h, hf => by
    unfold gcpOk at hk
    rw [Bool.and_eq_true] at hk
    by_cases hin : i = n
    · subst hin
      have h2 := hk.2
      rw [hf] at h2
      dsimp only at h2
      split at h2
      · rename_i o e; exact ⟨o.1, o.2, e, h2⟩
      · cases h2
    · exact gcpOk_at hk.1 i (by omega) h hf
theorem y_copyQ (B : gBase p c cc kv) (F : gFx K A kv s) {own : String} (O : gOwn s m args A own) (hml : c.maxLocals = nL) (hR : gRm d R) {n h0 h1 n0 n1 : Nat} {C0 C : String} {f g : Nat → Option Nat} {sp dp z : Int32} (hl : Cond.methodLink own n ⟨"java/lang/System", "arraycopy", "(Ljava/lang/Object;ILjava/lang/Object;II)V"⟩ ∈ lw_all) (hdp : gdep st ≤ 8) (hd : decode cc pc = .ok (.invokestatic n, 3))
    (hg0 : gget hp h0 = some (gaQ C0 n0 f)) (hg1 : gget hp h1 = some (gaQ C n1 g)) (hsp : 0 ≤ sp) (hdpp : 0 ≤ dp) (hz0 : 0 ≤ z) (hb0 : sp.toNatClampNeg + z.toNatClampNeg ≤ n0) (hb1 : dp.toNatClampNeg + z.toNatClampNeg ≤ n1) (hok : gcpOk hp f C sp.toNatClampNeg z.toNatClampNeg = true)
    (k : gGo p l e R s m args below meth c Q D A kv ad0 u0 nL (pc + 3) ls st (gset hp h1 (gaQ C n1 (va_cpy f g sp.toNatClampNeg dp.toNatClampNeg z.toNatClampNeg)))) : gGo p l e R s m args below meth c Q D A kv ad0 u0 nL pc ls (.int z :: .int dp :: .ref h1 :: .int sp :: .ref h0 :: st) hp := by
  intro H locs cells slots lm sm h
  obtain ⟨tys, ws, hK, hP, hD, hS, hW, hE, hcc, hs, hL, hV⟩ := h
  obtain ⟨w0, sm, rfl, e0, hVn⟩ := gVs_c hV; clear hV; have hV := hVn; clear hVn
  cases gV_i e0
  obtain ⟨w0, sm, rfl, e0, hVn⟩ := gVs_c hV; clear hV; have hV := hVn; clear hVn
  cases gV_i e0
  obtain ⟨w1, sm, rfl, e1, hVn⟩ := gVs_c hV; clear hV; have hV := hVn; clear hVn
  obtain ⟨w0, sm, rfl, e0, hVn⟩ := gVs_c hV; clear hV; have hV := hVn; clear hVn
  cases gV_i e0
  obtain ⟨w0, sm, rfl, e0, hVn⟩ := gVs_c hV; clear hV; have hV := hVn; clear hVn
  obtain ⟨a0, q0, rfl, hz0', hq0⟩ := gRef hW e0 hg0
  obtain ⟨a1, q1, rfl, hz1, hq1⟩ := gRef hW e1 hg1
  rcases q0 with ⟨c0, m0, d0⟩ | q0
  rotate_left
  · exact hq0.elim
  rcases q1 with ⟨c1, m1, d1⟩ | q1
  rotate_left
  · exact hq1.elim
  obtain ⟨⟨t0, ht0⟩, rfl, hq0⟩ := hq0
  obtain ⟨⟨t1, ht1⟩, rfl, hq1⟩ := hq1
  rcases d0 with f' | f' | f' | f' | f' <;> first | exact hq0.elim | skip
  rcases d1 with g' | g' | g' | g' | g' <;> first | exact hq1.elim | skip
  obtain ⟨-, hf0⟩ := hq0
  obtain ⟨-, hf1⟩ := hq1
  have hsum := hV.dep B.k1
  have hnw := gcopy_words
  have hany : ∀ i : Nat, i < z.toNatClampNeg → ∀ y : Nat, f' (sp.toNatClampNeg + i) = some y → va_Any C s H y := by
    intro i hi y hy
    have hfi := hf0 (sp.toNatClampNeg + i)
    rw [hy] at hfi
    cases hfe : f (sp.toNatClampNeg + i) with
    | none => rw [hfe] at hfi; cases (gV_z hfi)
    | some hh =>
      rw [hfe] at hfi
      obtain ⟨ci, fs, hgi, hel⟩ := gcpOk_at hok i hi hh hfe
      obtain ⟨ai, zi, hai, hzi, hqi⟩ := gRef hW hfi hgi
      injection hai with hai
      subst hai
      rcases zi with zi | ⟨ci', vs⟩
      · exact hqi.elim
      obtain ⟨rfl, -⟩ := hqi
      obtain ⟨r, hr, hrn, cell, k1, k2, k3⟩ := gcl_recv hK hP hzi
      obtain ⟨kC, hkC, -⟩ := (hK.1 ci' r hr).2.2
      have hD1 : D.1 ci' = cell.cls := by
        have := (hK.1 ci' r hr).2.1
        rw [hrn, k3] at this
        exact (Option.some.inj this).symm
      refine ⟨cell, k1, k2, ⟨kC, by rw [← hD1]; exact hkC⟩, fun comp hcomp => ?_⟩
      rcases F.el ci' C hel with hca | hca
      · obtain ⟨c3, t3, w1, w2, w3⟩ := Cond.castable_spec hca
        cases w1.symm.trans k3
        cases w2.symm.trans hcomp
        exact w3
      · rw [hca] at k3
        cases hcomp.symm.trans k3
        exact va_asg _ _
  refine va_copyM B.1 B.2.1 (hml.trans hL.2.1.symm) O.1 (O.2.1 _ hl) (O.2.1 _ q996) (O.2.1 _ q995) (O.2.1 _ q112) hK hP hD hS (h0 - 16) (h1 - 16) t0 t1 hz0' hz1 ht0 ht1 (g0le hsp) (g0le hdpp) (g0le hz0) hb0 hb1 hany (by have := hR.1; omega) (by have := hR.2; omega) hd (fun H1 locs1 hP1 hD1 hS1 => ?_)
  obtain ⟨hW1, ead⟩ := hW.put hz1 (e := gaQ C m1 (va_cpy f g sp.toNatClampNeg dp.toNatClampNeg z.toNatClampNeg)) (q2 := .inl (c1, m1, .inr (.inr (.inr (.inr (va_cpy f' g' sp.toNatClampNeg dp.toNatClampNeg z.toNatClampNeg)))))) ⟨⟨t1, ht1⟩, rfl, ⟨C, rfl⟩, fun i => by unfold va_cpy; split; exact hf0 _; exact hf1 _⟩
  exact k _ _ _ _ _ _ ⟨tys, _, hK, hP1, hD1, hS1, hW1, by rw [ead]; exact hE, hcc, hs, by rw [ead]; exact hL, by rw [ead]; exact hV⟩
end GF
