/-! ===== SOUNDNESS: one instruction, third part: what throws; copies (written by gen/snd13.py) ===== -/
section GU
variable {p : Program} {l : Launch} {e : Env} {R : Room} {s : State} {m : MethodId} {args : Array Value} {below : List Frame} {meth : Method} {c : Code} {Q : State → Prop}
variable {D : va_G} {A : Nat → Prop} {kv : Nat → Value} {ad0 : List Nat} {u0 : Nat × Nat} {nL d : Nat} {K : gK} {cc : ByteArray} {pc : Nat} {ls : gL} {st : List Value} {hp : gS}
theorem y_newarrZ (F : gFx K A kv s) {own : String} (O : gOwn s m args A own) (B : gBase p c cc kv) (hst : l.stackTraces = false) (hlk : meth.locks = false) (hml : c.maxLocals = nL) (hR : gRm d R) {at_ : ArrayType} {x : Int32} (hd : decode cc pc = .ok (.newarray at_, 2)) (hx : x < 0) (hdp : gdep st ≤ 8) (hr : gRoom u0 R (gpay hp 3 60)) (k : gTh p l e R s m args below meth c Q D A kv ad0 u0 nL pc 24 10 ls (gpay hp 3 60)) : gGo p l e R s m args below meth c Q D A kv ad0 u0 nL pc ls (.int x :: st) hp := by
  intro H locs cells slots lm sm h
  have h0 := h
  obtain ⟨tys, ws, -, -, -, -, -, -, -, -, -, hV⟩ := h0
  obtain ⟨w1, sm, rfl, e1, hVn⟩ := gVs_c hV
  cases gV_i e1
  have hsum := hVn.dep B.k1
  refine vx_newarrayZ B.1 B.2.1 hx hd (fun tx htx => ?_)
  subst htx
  have hl := int32_print x
  exact y_note F O B hst hlk hml hR (ci := 24) (nb := 50) (names := gnms24) gPl_24 (by decide +kernel) (by decide +kernel) (by decide) rfl rfl (gtx_not hl) (by have := gtx_size hl; omega) (by decide) h (by omega) hr k
theorem y_alenN (F : gFx K A kv s) {own : String} (O : gOwn s m args A own) (B : gBase p c cc kv) (hst : l.stackTraces = false) (hlk : meth.locks = false) (hml : c.maxLocals = nL) (hR : gRm d R) (hd : decode cc pc = .ok (.arraylength, 1)) (hdp : gdep st ≤ 8) (hr : gRoom u0 R (gpay hp 1 200)) (k : gTh p l e R s m args below meth c Q D A kv ad0 u0 nL pc 23 10 ls (gpay hp 1 200)) : gGo p l e R s m args below meth c Q D A kv ad0 u0 nL pc ls (.null :: st) hp := by
  intro H locs cells slots lm sm h
  have h0 := h
  obtain ⟨tys, ws, -, -, -, -, -, -, -, -, -, hV⟩ := h0
  obtain ⟨w1, sm, rfl, e1, hVn⟩ := gVs_c hV
  cases gV_z e1
  have hsum := hVn.dep B.k1
  exact vx_arraylengthN B.1 B.2.1 hd (y_noteN F O B hst hlk hml hR h (by omega) hr k)
theorem y_invN (F : gFx K A kv s) {own : String} (O : gOwn s m args A own) (B : gBase p c cc kv) (hst : l.stackTraces = false) (hlk : meth.locks = false) (hml : c.maxLocals = nL) (hR : gRm d R) {n mL : Nat} {y : MethodName} {ws : List Cond} {b : ByteArray} {r : Option FieldType} (hm : gMe y ws mL 0 b r) (h1 : Cond.methodLink own n y ∈ lw_all) (h2 : Cond.instanceMethod y ∈ lw_all) (h3 : Cond.selects y.cls y y ∈ lw_all) (hd : decode cc pc = .ok (.invokevirtual n, 3)) (hdp : gdep st ≤ 8) (hr : gRoom u0 R (gpay hp 1 200)) (k : gTh p l e R s m args below meth c Q D A kv ad0 u0 nL pc 23 10 ls (gpay hp 1 200)) : gGo p l e R s m args below meth c Q D A kv ad0 u0 nL pc ls (.null :: st) hp := by
  obtain ⟨c1, -, c3, c4, c5⟩ := hm
  intro H locs cells slots lm sm h
  have h0 := h
  obtain ⟨tys, wd, -, -, -, -, -, -, -, -, -, hV⟩ := h0
  obtain ⟨w1, sm, rfl, e1, hVn⟩ := gVs_c hV
  cases gV_z e1
  have hsum := hVn.dep B.k1
  exact vx_invokeN (As := []) B.1 B.2.1 O.1 (O.2.1 _ h1) (O.2.1 _ h2) (O.2.1 _ c1) (O.2.1 _ h3) c4 c5 hd (y_noteN F O B hst hlk hml hR h (by omega) hr k) rfl
theorem y_athrow (B : gBase p c cc kv) {h : Nat} {fs : List Value} (hd : decode cc pc = .ok (.athrow, 1)) (hg : gget hp h = some (gob 21 fs)) (k : gTh p l e R s m args below meth c Q D A kv ad0 u0 nL pc 21 h ls hp) : gGo p l e R s m args below meth c Q D A kv ad0 u0 nL pc ls (.ref h :: st) hp := by
  intro H locs cells slots lm sm hA
  obtain ⟨tys, ws, hK, hP, hD, hS, hW, hE, hcc, hs, hL, hV⟩ := hA
  obtain ⟨w1, sm, rfl, e1, hVn⟩ := gVs_c hV
  obtain ⟨ad, q, rfl, hz, hq⟩ := gRef hW e1 hg
  rcases q with q | ⟨ci', vs⟩
  · exact hq.elim
  obtain ⟨rfl, -⟩ := hq
  obtain ⟨r, hr, cell, q1, q2, q3, -⟩ := hP _ _ hz
  have hr2 : gcl[21]? = some r := hr
  exact vx_athrow B.1 B.2.1 hd (k H locs cells slots lm sm ad cell ⟨tys, ws, hK, hP, hD, hS, hW, hE, hcc, hs, hL, ⟨_, _, rfl, e1, rfl⟩⟩ q1 q3 (by
    have := (hK.1 21 r hr2).2.1
    cases hr2
    rw [q2]
    exact this))
theorem y_copyLL (B : gBase p c cc kv) {own : String} (O : gOwn s m args A own) (hml : c.maxLocals = nL) (hR : gRm d R) {n h0 h1 n0 n1 : Nat} {t0 t1 : FieldType} {f g : Nat → Int64} {sp dp z : Int32} (hl : Cond.methodLink own n ⟨"java/lang/System", "arraycopy", "(Ljava/lang/Object;ILjava/lang/Object;II)V"⟩ ∈ lw_all) (hdp : gdep st ≤ 8) (hd : decode cc pc = .ok (.invokestatic n, 3))
    (hg0 : gget hp h0 = some (.inl (t0, n0, .inr (.inl f)))) (hg1 : gget hp h1 = some (.inl (t1, n1, .inr (.inl g)))) (hsp : 0 ≤ sp) (hdpp : 0 ≤ dp) (hz0 : 0 ≤ z) (hb0 : sp.toNatClampNeg + z.toNatClampNeg ≤ n0) (hb1 : dp.toNatClampNeg + z.toNatClampNeg ≤ n1)
    (k : gGo p l e R s m args below meth c Q D A kv ad0 u0 nL (pc + 3) ls st (gset hp h1 (.inl (t1, n1, .inr (.inl (va_cpy f g sp.toNatClampNeg dp.toNatClampNeg z.toNatClampNeg)))))) : gGo p l e R s m args below meth c Q D A kv ad0 u0 nL pc ls (.int z :: .int dp :: .ref h1 :: .int sp :: .ref h0 :: st) hp := by
  intro H locs cells slots lm sm h
  have hA := h
  obtain ⟨tys, ws, hK, hP, hD, hS, hW, hE, hcc, hs, hL, hV⟩ := h
  obtain ⟨w0, sm2, e9, e0, hVn⟩ := gVs_c hV; clear hV; have hV := hVn; clear hVn
  obtain ⟨w0, sm3, e9, e0, hVn⟩ := gVs_c hV; clear hV; have hV := hVn; clear hVn
  obtain ⟨w1, sm4, e9, e1, hVn⟩ := gVs_c hV; clear hV; have hV := hVn; clear hVn
  obtain ⟨w0, sm5, e9, e0, hVn⟩ := gVs_c hV; clear hV; have hV := hVn; clear hVn
  obtain ⟨w2, sm6, e9, e2, hVn⟩ := gVs_c hV
  have lng : ∀ {h7 n7 : Nat} {t7 : FieldType} {f7 : Nat → Int64} {w7 : Value}, gV kv (gad ws) (.ref h7) w7 → gget hp h7 = some (.inl (t7, n7, .inr (.inl f7))) → t7 = .long := by
    intro h7 n7 t7 f7 w7 e7 hg7
    obtain ⟨a0, q0, -, -, hq0⟩ := gRef hW e7 hg7
    rcases q0 with ⟨c0, m0, d0⟩ | q0
    · obtain ⟨-, -, hq0⟩ := hq0
      rcases d0 with f' | f' | f' | f' | f' <;> first | exact hq0.elim | exact hq0.2
    · exact hq0.elim
  cases lng e1 hg1
  cases lng e2 hg0
  exact y_copyL B O hml hR hl hdp hd hg0 hg1 hsp hdpp hz0 hb0 hb1 k H locs cells slots lm sm hA
theorem y_copy (B : gBase p c cc kv) (F : gFx K A kv s) {own : String} (O : gOwn s m args A own) (hml : c.maxLocals = nL) (hR : gRm d R) {n : Nat} {v0 v1 : Value} {sp dp z : Int32} {hp' : gS} (hl : Cond.methodLink own n ⟨"java/lang/System", "arraycopy", "(Ljava/lang/Object;ILjava/lang/Object;II)V"⟩ ∈ lw_all) (hdp : gdep st ≤ 8) (hd : decode cc pc = .ok (.invokestatic n, 3)) (hcp : gcopy hp v0 v1 sp dp z = some (.inl hp')) (k : gGo p l e R s m args below meth c Q D A kv ad0 u0 nL (pc + 3) ls st hp') : gGo p l e R s m args below meth c Q D A kv ad0 u0 nL pc ls (.int z :: .int dp :: v1 :: .int sp :: v0 :: st) hp := by
  unfold gcopy at hcp
  split at hcp
  · cases hcp
  · cases hcp
  · rename_i h0 h1
    split at hcp
    · rename_i t0 n0 f t1 n1 g hg0 hg1
      split at hcp
      · rename_i ht
        subst ht
        split at hcp
        · rename_i hc; cases hcp; exact y_copyI B O hml hR hl hdp hd hg0 hg1 hc.1 hc.2.1 hc.2.2.1 hc.2.2.2.1 hc.2.2.2.2 k
        · cases hcp
      · cases hcp
    · rename_i t0 n0 f t1 n1 g hg0 hg1
      split at hcp
      · rename_i hc; cases hcp; exact y_copyLL B O hml hR hl hdp hd hg0 hg1 hc.1 hc.2.1 hc.2.2.1 hc.2.2.2.1 hc.2.2.2.2 k
      · cases hcp
    · cases hcp
    · cases hcp
    · rename_i C0 n0 f C n1 g hg0 hg1
      split at hcp
      · rename_i hc; cases hcp; exact y_copyQ B F O hml hR hl hdp hd hg0 hg1 hc.1 hc.2.1 hc.2.2.1 hc.2.2.2.1 hc.2.2.2.2.1 hc.2.2.2.2.2 k
      · cases hcp
    · cases hcp
  · cases hcp
end GU
theorem gO_newarray {own nm : String} {cc : ByteArray} {ret : Option FieldType} {pc a b c0 : Nat} {sw : List (Int32 × Nat)} {gY : gYt} {at_ : ArrayType} {ty : FieldType} (hty : newarray.typeOf at_ = ty) (harr : Cond.arrayClass ty ∈ lw_all) (hd : decode cc pc = .ok (.newarray at_, 2)) : gOb gY own nm cc ret (pc, .newarray at_, a, b, c0, sw) (pc + 2) := by
  intro p l e R s m args below meth c D A kv ad0 u0 nL K d o hpF mc ms X ls st hp act h
  obtain ⟨B, F, O, hml, hR, hrt, hlk, hst, hnm⟩ := X
  unfold gsem at h
  dsimp only at h
  split at h
  · split at h
    · rename_i hx
      split at h
      · rename_i hdp
        unfold gvm at h
        split at h
        · cases h; exact fun hr k => y_newarrZ F O B hst hlk hml hR hd hx hdp hr k
        · cases h
      · cases h
    · rename_i hx
      split at h
      · rename_i h1
        split at h
        · rename_i e2 he
          split at h
          · cases h; exact fun hr k => y_newarray B O hty harr hd hx rfl h1 he hr k
          · cases h
        · cases h
      · cases h
  · cases h
theorem gO_athrow {own nm : String} {cc : ByteArray} {ret : Option FieldType} {pc a b c0 : Nat} {sw : List (Int32 × Nat)} {gY : gYt} {nx : Nat} (hd : decode cc pc = .ok (.athrow, 1)) : gOb gY own nm cc ret (pc, .athrow, a, b, c0, sw) (nx) := by
  intro p l e R s m args below meth c D A kv ad0 u0 nL K d o hpF mc ms X ls st hp act h
  obtain ⟨B, F, O, hml, hR, hrt, hlk, hst, hnm⟩ := X
  unfold gsem at h
  dsimp only at h
  split at h
  · split at h
    · rename_i hg; cases h; exact fun _ k => y_athrow B hd hg k
    · cases h
  · cases h
theorem gO_alen1 {own nm : String} {cc : ByteArray} {ret : Option FieldType} {pc a b c0 : Nat} {sw : List (Int32 × Nat)} {gY : gYt} (hd : decode cc pc = .ok (.arraylength, 1)) : gOb gY own nm cc ret (pc, .arraylength, a, b, c0, sw) (pc + 1) := by
  intro p l e R s m args below meth c D A kv ad0 u0 nL K d o hpF mc ms X ls st hp act h
  obtain ⟨B, F, O, hml, hR, hrt, hlk, hst, hnm⟩ := X
  unfold gsem at h
  dsimp only at h
  split at h
  · rename_i hh r
    split at h
    · split at h
      · rename_i n hn
        cases h
        unfold gclen at hn
        split at hn <;> first | (cases hn; done) | skip
        · cases hn; exact fun _ k => y_slen B F hd k
        · cases hn; exact fun _ k => y_tlen1 B F hd k
        · cases hn; exact fun _ k => y_tlenB B F (j := 0) (by omega) hd k
        · cases hn; exact fun _ k => y_tlenB B F (j := 1) (by omega) hd k
        · cases hn; exact fun _ k => y_tlenB B F (j := 2) (by omega) hd k
      · cases h
    · split at h
      · rename_i x hg; cases h; exact fun _ k => y_alen B hd hg k
      · cases h
  · split at h
    · rename_i hc
      unfold gvm at h
      split at h
      · cases h; exact fun hr k => y_alenN F O B hst hlk hml hR hd hc.2 hr k
      · cases h
    · cases h
  · cases h
theorem gO_callN {own nm : String} {cc : ByteArray} {ret : Option FieldType} {pc a : Nat} {sw : List (Int32 × Nat)} {gY : gYt} {n mL : Nat} {y : MethodName} {ws : List Cond} {bb : ByteArray} {rr : Option FieldType} (hcl : ∀ ci y, gtgt a ci 36 = some y → gClV false own cc pc (gY y).1 (gY y).2 (gNL y) 0 (gnm ci)) (hmL : ∀ y, gNL y ≤ 45) (hm : gMe y ws mL 0 bb rr) (h1 : Cond.methodLink own n y ∈ lw_all) (h2 : Cond.instanceMethod y ∈ lw_all) (h3 : Cond.selects y.cls y y ∈ lw_all) (hd : decode cc pc = .ok (.invokevirtual n, 3)) : gOb gY own nm cc ret (pc, .invokevirtual n, a, 0, 36, sw) (pc + 3) := by
  intro p l e R s m args below meth c D A kv ad0 u0 nL K d o hpF mc ms X ls st hp act h
  obtain ⟨B, F, O, hml, hR, hrt, hlk, hst, hnm⟩ := X
  unfold gsem at h
  dsimp only at h
  rw [if_pos (by decide)] at h
  split at h
  · rename_i hh r hdr
    split at h
    · rename_i hc
      split at h
      · split at h
        · rename_i h9; exact absurd h9.2.2 (by decide)
        · cases h
      · split at h
        · rename_i o2 hg
          split at h
          · rename_i y hy
            cases h
            intro d' o' hp' hdd hcon hmono hr k1 k2
            subst hdd
            have key := y_callV hst B F O hml hR (ci := o2.1) (fs := o2.2) hg (hcl _ _ hy) (hmL _) hcon hmono hr (by rw [List.length_reverse, List.length_take]; omega) hc.1 k1 k2
            rw [List.reverse_reverse, ← hdr, List.take_append_drop] at key
            exact key
          · cases h
        · cases h
    · cases h
  · rename_i r hdr
    split at h
    · rename_i hc
      have hdr : st = .null :: r := hdr
      subst hdr
      unfold gvm at h
      split at h
      · cases h; exact fun hr k => y_invN F O B hst hlk hml hR hm h1 h2 h3 hd hc.2 hr k
      · cases h
    · cases h
  · cases h
theorem gO_copy {own nm : String} {cc : ByteArray} {ret : Option FieldType} {pc a : Nat} {sw : List (Int32 × Nat)} {gY : gYt} {n : Nat} (hl : Cond.methodLink own n ⟨"java/lang/System", "arraycopy", "(Ljava/lang/Object;ILjava/lang/Object;II)V"⟩ ∈ lw_all) (hd : decode cc pc = .ok (.invokestatic n, 3)) : gOb gY own nm cc ret (pc, .invokestatic n, a, 0, 1, sw) (pc + 3) := by
  intro p l e R s m args below meth c D A kv ad0 u0 nL K d o hpF mc ms X ls st hp act h
  obtain ⟨B, F, O, hml, hR, hrt, hlk, hst, hnm⟩ := X
  unfold gsem at h
  dsimp only at h
  change (match (generalizing := false) st with
        | .int n :: .int dp :: q :: .int sp :: p :: r => if gdep r ≤ 8 then (match gcopy hp p q sp dp n with
          | some (.inl hp') => gN ls r hp'
          | some (.inr x) => if 0 = 1 then gvm x 3 1000 hp else none
          | none => none) else none
        | _ => none) = some act at h
  split at h
  · split at h
    · rename_i hdp
      split at h
      · rename_i hp2 hcp; cases h; exact fun _ k => y_copy B F O hml hR hl hdp hd hcp k
      · cases h
      · cases h
    · cases h
  · cases h
