/-! ===== SOUNDNESS: checkcast that may fail (written by gen/snd14.py) ===== -/
def gTok (E : String) : Bool := castPackages_1.contains (packageOf E) && decide ((dotted E).toList.length ≤ 22)
section GY
variable {p : Program} {l : Launch} {e : Env} {R : Room} {s : State} {m : MethodId} {args : Array Value} {below : List Frame} {meth : Method} {c : Code} {Q : State → Prop}
variable {D : va_G} {A : Nat → Prop} {kv : Nat → Value} {ad0 : List Nat} {u0 : Nat × Nat} {nL d : Nat} {K : gK} {cc : ByteArray} {pc : Nat} {ls : gL} {st : List Value} {hp : gS}
theorem y_castZ (F : gFx K A kv s) {own : String} (O : gOwn s m args A own) (B : gBase p c cc kv) (hst : l.stackTraces = false) (hlk : meth.locks = false) (hml : c.maxLocals = nL) (hR : gRm d R) {n h : Nat} {E nm : String} {q0 : gE} (hl : Cond.classLink own n nm ∈ lw_all) (hnc : va_Nc E nm s) (hE9 : gTok E = true) (hN9 : gTok nm = true) (hd : decode cc pc = .ok (.checkcast n, 3)) (hg : gget hp h = some q0)
    (hcell : ∀ (tys : List (ClassId × FieldType)) (ws : va_W) (H : Heap) (ad : Nat) (z : va_E), va_K D gcl tys s → va_P D gcl ws H → ws[h - 16]? = some (ad, z) → gCell kv (gad ws) tys q0 z → ∃ cell : Cell, H[ad]? = some cell ∧ cell.vm.isStatics = false ∧ s.vm.findClass E = some cell.cls)
    (hdp : gdep st ≤ 8) (hr : gRoom u0 R (gpay hp 3 1000)) (k : gTh p l e R s m args below meth c Q D A kv ad0 u0 nL pc 22 10 ls (gpay hp 3 1000)) : gGo p l e R s m args below meth c Q D A kv ad0 u0 nL pc ls (.ref h :: st) hp := by
  intro H locs cells slots lm sm hA
  have h0 := hA
  obtain ⟨tys, ws, hK, hP, hD, hS, hW, hE, hcc, hs, hL, hV⟩ := h0
  obtain ⟨w1, sm, rfl, e1, hVn⟩ := gVs_c hV
  obtain ⟨ad, z, rfl, hz, hq⟩ := gRef hW e1 hg
  obtain ⟨cell, q1, q2, q3⟩ := hcell tys ws H ad z hK hP hz hq
  obtain ⟨c8, t8, f1, f2, f3⟩ := hnc
  cases q3.symm.trans f1
  obtain ⟨ks, hks, -⟩ := Vm.findClass_spec q3
  have hsum := hVn.dep B.k1
  simp only [gTok, Bool.and_eq_true, decide_eq_true_eq] at hE9 hN9
  intro T hT X
  obtain ⟨vm', ks', kt', hW', hks', hkt', X', stp⟩ := gcheckcastNo X B.1 O.1 (O.2.1 _ hl) (by rw [hT]; exact q1) q2 f2 hks (by rw [f3]; decide) (g := F0 m pc lm (.ref ad :: sm)) rfl rfl (by rw [B.2.1]; exact hd)
  obtain ⟨t1, t2⟩ := gmsg (vm := vm') (by rw [hW'.alike.findClass]; exact q3) hks' (by rw [hW'.alike.findClass]; exact f2) hkt' (F.2.2.2.2.2.2.2.2.2.2.2.moved hW'.alike) hE9.1 hN9.1 hE9.2 hN9.2
  have note := y_note (sm := .ref ad :: sm) F O B hst hlk hml hR (ci := 22) (nb := 990) (names := gnms22) gPl_22 (by decide +kernel) (by decide +kernel) (by decide) rfl rfl t2 (by have := gtx_size t1; omega) (by decide) hA (by rw [List.map_cons, List.sum_cons]; show 1 + _ ≤ 1000; omega) hr k
  obtain ⟨t, a1, b1⟩ := note (T.setVm vm') hT X'
  exact ⟨t, stp t a1, b1⟩
end GY
theorem gTok_a {a t : Nat} (h : gsubOk t a = true) (ht : t < 27) : gTok (gtg a) = true ∧ gTok (gnm t) = true := by
  have key : ∀ a ∈ [8, 9, 10, 11, 12, 13, 14, 17, 40], gTok (gtg a) = true := by decide +kernel
  have key2 : ∀ t ∈ [8, 9, 10, 11, 12, 13, 14, 17, 18, 19, 20], gTok (gnm t) = true := by decide +kernel
  constructor
  · refine key a ?_
    simp only [List.mem_cons, List.not_mem_nil, or_false]
    rcases gsubOk_set h ht with h1 | h1 | h1 <;> omega
  · refine key2 t ?_
    simp only [List.mem_cons, List.not_mem_nil, or_false]
    rcases gsubOk_set h ht with h1 | h1 | h1 <;> omega
theorem gTok_r {ty : FieldType} {a : Nat} (ha : a ≠ 104) (hok : gsubOk (gatag ty) a = true) (hsub : ¬ gsub (gatag ty) a = true) : gTok ("[" ++ ty.toString) = true ∧ gTok (gtg a) = true := by
  cases ty with
  | object C =>
    unfold gatag at hok hsub
    dsimp only at hok hsub
    by_cases hC : C = "java/lang/Object"
    · subst hC
      rw [if_pos rfl] at hok hsub
      unfold gsubOk at hok
      split at hok <;> first | (exact absurd hok (by decide)) | (exact absurd rfl hsub)
    · rw [if_neg hC] at hok hsub
      unfold gsubOk at hok
      split at hok <;> exact absurd hok (by decide)
  | _ =>
    unfold gatag at hok hsub
    dsimp only at hok hsub
    unfold gsubOk at hok
    split at hok <;> first | (exact absurd hok (by decide)) | (exact absurd rfl hsub) | (exact absurd rfl ha) | exact ⟨by decide +kernel, by decide +kernel⟩
theorem gO_castZ {own nm : String} {cc : ByteArray} {ret : Option FieldType} {pc a b c0 : Nat} {sw : List (Int32 × Nat)} {gY : gYt} {n : Nat} (ha : a ≠ 104) (hl : Cond.classLink own n (gtg a) ∈ lw_all) (hd : decode cc pc = .ok (.checkcast n, 3)) : gOb gY own nm cc ret (pc, .checkcast n, a, b, c0, sw) (pc + 3) := by
  intro p l e R s m args below meth c D A kv ad0 u0 nL K d o hpF mc ms X ls st hp act h
  obtain ⟨B, F, O, hml, hR, hrt, hlk, hst, hnm⟩ := X
  unfold gsem at h
  dsimp only at h
  split at h
  · cases h; exact fun _ k => y_castN B hd k
  · split at h
    · rename_i e2 hg
      split at h
      · rename_i hok
        split at h
        · rename_i hsub
          cases h
          intro _ k
          rcases e2 with z | ⟨ci, fs⟩
          · exact y_castA B O hl (gcastA hok hsub) hd hg k
          · exact gIdx hg fun hci => y_castO B O hl (gcastO F hok hsub hci) hd hg k
        · rename_i hsub
          split at h
          · rename_i hc
            unfold gvm at h
            split at h
            · cases h
              intro hr k
              rcases e2 with z | ⟨ci, fs⟩
              · obtain ⟨k1, k2⟩ := gTok_r ha hok hsub
                refine y_castZ F O B hst hlk hml hR hl (gcastAN F ha hok hsub) k1 k2 hd hg ?_ hc.2 hr k
                intro tys ws H ad z9 hK hP hz hq
                rcases z9 with ⟨cA, n9, d9⟩ | z9
                · obtain ⟨⟨t0, ht⟩, -, -⟩ := hq
                  exact gArr hK hP hz ht
                · exact hq.elim
              · refine gIdx hg fun hci => ?_
                obtain ⟨k2, k1⟩ := gTok_a hok hci
                refine y_castZ F O B hst hlk hml hR hl (gcastN F hok hsub hci) k1 k2 hd hg ?_ hc.2 hr k
                intro tys ws H ad z9 hK hP hz hq
                rcases z9 with z9 | ⟨ci9, vs⟩
                · exact hq.elim
                · obtain ⟨rfl, -⟩ := hq
                  obtain ⟨r, -, -, cell, q1, q2, q3⟩ := gcl_recv hK hP hz
                  exact ⟨cell, q1, q2, q3⟩
            · cases h
          · cases h
      · cases h
    · cases h
  · cases h
