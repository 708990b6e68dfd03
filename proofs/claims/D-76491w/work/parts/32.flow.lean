/-! ===== SOUNDNESS, third part: locals, the stack's own, jumps (written by gen/snd2.py) ===== -/
section GB
variable {p : Program} {l : Launch} {e : Env} {R : Room} {s : State} {m : MethodId} {args : Array Value} {below : List Frame} {meth : Method} {c : Code} {Q : State → Prop}
variable {D : va_G} {A : Nat → Prop} {kv : Nat → Value} {ad0 : List Nat} {u0 : Nat × Nat} {nL : Nat} {K : gK} {cc : ByteArray} {pc : Nat} {ls : gL} {st : List Value} {hp : gS}
theorem y_iload_n (B : gBase p c cc kv) {n : Fin 4} {x : Int32} (h0 : ls[(n : Nat)]? = some (some (.int x))) (hd : decode cc pc = .ok (.iload_n n, 1)) (k : gGo p l e R s m args below meth c Q D A kv ad0 u0 nL (pc + 1) ls (.int x :: st) hp) : gGo p l e R s m args below meth c Q D A kv ad0 u0 nL pc ls st hp := by
  intro H locs cells slots lm sm h
  obtain ⟨tys, ws, hK, hP, hD, hS, hW, hE, hc, hs, hL, hV⟩ := h
  obtain ⟨w, e1, e2⟩ := hL.2.2.2 _ _ h0
  cases gV_i e2
  exact lv_iload_n B.1 B.2.1 hd rfl e1 (k _ _ _ _ _ _ ⟨tys, ws, hK, hP, hD, hS, hW, hE, hc, hs, hL, ⟨_, _, rfl, rfl, hV⟩⟩)
theorem y_iload (B : gBase p c cc kv) {n : Nat} {x : Int32} (h0 : ls[n]? = some (some (.int x))) (hd : decode cc pc = .ok (.iload n, 2)) (k : gGo p l e R s m args below meth c Q D A kv ad0 u0 nL (pc + 2) ls (.int x :: st) hp) : gGo p l e R s m args below meth c Q D A kv ad0 u0 nL pc ls st hp := by
  intro H locs cells slots lm sm h
  obtain ⟨tys, ws, hK, hP, hD, hS, hW, hE, hc, hs, hL, hV⟩ := h
  obtain ⟨w, e1, e2⟩ := hL.2.2.2 _ _ h0
  cases gV_i e2
  exact lv_iload B.1 B.2.1 hd e1 (k _ _ _ _ _ _ ⟨tys, ws, hK, hP, hD, hS, hW, hE, hc, hs, hL, ⟨_, _, rfl, rfl, hV⟩⟩)
theorem y_lload_n (B : gBase p c cc kv) {n : Fin 4} {x : Int64} (h0 : ls[(n : Nat)]? = some (some (.long x))) (hd : decode cc pc = .ok (.lload_n n, 1)) (k : gGo p l e R s m args below meth c Q D A kv ad0 u0 nL (pc + 1) ls (.long x :: st) hp) : gGo p l e R s m args below meth c Q D A kv ad0 u0 nL pc ls st hp := by
  intro H locs cells slots lm sm h
  obtain ⟨tys, ws, hK, hP, hD, hS, hW, hE, hc, hs, hL, hV⟩ := h
  obtain ⟨w, e1, e2⟩ := hL.2.2.2 _ _ h0
  cases gV_l e2
  exact lv_lload_n B.1 B.2.1 hd rfl e1 (k _ _ _ _ _ _ ⟨tys, ws, hK, hP, hD, hS, hW, hE, hc, hs, hL, ⟨_, _, rfl, rfl, hV⟩⟩)
theorem y_lload (B : gBase p c cc kv) {n : Nat} {x : Int64} (h0 : ls[n]? = some (some (.long x))) (hd : decode cc pc = .ok (.lload n, 2)) (k : gGo p l e R s m args below meth c Q D A kv ad0 u0 nL (pc + 2) ls (.long x :: st) hp) : gGo p l e R s m args below meth c Q D A kv ad0 u0 nL pc ls st hp := by
  intro H locs cells slots lm sm h
  obtain ⟨tys, ws, hK, hP, hD, hS, hW, hE, hc, hs, hL, hV⟩ := h
  obtain ⟨w, e1, e2⟩ := hL.2.2.2 _ _ h0
  cases gV_l e2
  exact lv_lload B.1 B.2.1 hd e1 (k _ _ _ _ _ _ ⟨tys, ws, hK, hP, hD, hS, hW, hE, hc, hs, hL, ⟨_, _, rfl, rfl, hV⟩⟩)
theorem y_aload_n (B : gBase p c cc kv) {n : Fin 4} {x : Nat} (h0 : ls[(n : Nat)]? = some (some (.ref x))) (hd : decode cc pc = .ok (.aload_n n, 1)) (k : gGo p l e R s m args below meth c Q D A kv ad0 u0 nL (pc + 1) ls (.ref x :: st) hp) : gGo p l e R s m args below meth c Q D A kv ad0 u0 nL pc ls st hp := by
  intro H locs cells slots lm sm h
  obtain ⟨tys, ws, hK, hP, hD, hS, hW, hE, hc, hs, hL, hV⟩ := h
  obtain ⟨w, e1, e2⟩ := hL.2.2.2 _ _ h0
  rcases gV_r e2 B.2.2 with rfl | ⟨a, rfl⟩
  · exact lv_aload_nN B.1 B.2.1 hd rfl e1 (k _ _ _ _ _ _ ⟨tys, ws, hK, hP, hD, hS, hW, hE, hc, hs, hL, ⟨_, _, rfl, e2, hV⟩⟩)
  · exact lv_aload_n B.1 B.2.1 hd rfl e1 (k _ _ _ _ _ _ ⟨tys, ws, hK, hP, hD, hS, hW, hE, hc, hs, hL, ⟨_, _, rfl, e2, hV⟩⟩)
theorem y_aload_nN (B : gBase p c cc kv) {n : Fin 4} (h0 : ls[(n : Nat)]? = some (some .null)) (hd : decode cc pc = .ok (.aload_n n, 1)) (k : gGo p l e R s m args below meth c Q D A kv ad0 u0 nL (pc + 1) ls (.null :: st) hp) : gGo p l e R s m args below meth c Q D A kv ad0 u0 nL pc ls st hp := by
  intro H locs cells slots lm sm h
  obtain ⟨tys, ws, hK, hP, hD, hS, hW, hE, hc, hs, hL, hV⟩ := h
  obtain ⟨w, e1, e2⟩ := hL.2.2.2 _ _ h0
  cases gV_z e2
  exact lv_aload_nN B.1 B.2.1 hd rfl e1 (k _ _ _ _ _ _ ⟨tys, ws, hK, hP, hD, hS, hW, hE, hc, hs, hL, ⟨_, _, rfl, e2, hV⟩⟩)
theorem y_aload (B : gBase p c cc kv) {n : Nat} {x : Nat} (h0 : ls[n]? = some (some (.ref x))) (hd : decode cc pc = .ok (.aload n, 2)) (k : gGo p l e R s m args below meth c Q D A kv ad0 u0 nL (pc + 2) ls (.ref x :: st) hp) : gGo p l e R s m args below meth c Q D A kv ad0 u0 nL pc ls st hp := by
  intro H locs cells slots lm sm h
  obtain ⟨tys, ws, hK, hP, hD, hS, hW, hE, hc, hs, hL, hV⟩ := h
  obtain ⟨w, e1, e2⟩ := hL.2.2.2 _ _ h0
  rcases gV_r e2 B.2.2 with rfl | ⟨a, rfl⟩
  · exact lv_aloadN B.1 B.2.1 hd e1 (k _ _ _ _ _ _ ⟨tys, ws, hK, hP, hD, hS, hW, hE, hc, hs, hL, ⟨_, _, rfl, e2, hV⟩⟩)
  · exact lv_aload B.1 B.2.1 hd e1 (k _ _ _ _ _ _ ⟨tys, ws, hK, hP, hD, hS, hW, hE, hc, hs, hL, ⟨_, _, rfl, e2, hV⟩⟩)
theorem y_aloadN (B : gBase p c cc kv) {n : Nat} (h0 : ls[n]? = some (some .null)) (hd : decode cc pc = .ok (.aload n, 2)) (k : gGo p l e R s m args below meth c Q D A kv ad0 u0 nL (pc + 2) ls (.null :: st) hp) : gGo p l e R s m args below meth c Q D A kv ad0 u0 nL pc ls st hp := by
  intro H locs cells slots lm sm h
  obtain ⟨tys, ws, hK, hP, hD, hS, hW, hE, hc, hs, hL, hV⟩ := h
  obtain ⟨w, e1, e2⟩ := hL.2.2.2 _ _ h0
  cases gV_z e2
  exact lv_aloadN B.1 B.2.1 hd e1 (k _ _ _ _ _ _ ⟨tys, ws, hK, hP, hD, hS, hW, hE, hc, hs, hL, ⟨_, _, rfl, e2, hV⟩⟩)
theorem y_istore_n (B : gBase p c cc kv) {n : Fin 4} {x : Int32} (hi : (n : Nat) < nL) (hd : decode cc pc = .ok (.istore_n n, 1)) (k : gGo p l e R s m args below meth c Q D A kv ad0 u0 nL (pc + 1) (gsto1 ls (n : Nat) (.int x)) st hp) : gGo p l e R s m args below meth c Q D A kv ad0 u0 nL pc ls (.int x :: st) hp := by
  intro H locs cells slots lm sm h
  obtain ⟨tys, ws, hK, hP, hD, hS, hW, hE, hc, hs, hL, hV⟩ := h
  obtain ⟨w, sm, rfl, e1, hVn⟩ := gVs_c hV; clear hV; have hV := hVn; clear hVn
  cases gV_i e1
  exact lv_istore_n B.1 B.2.1 hd rfl (gAll_has hL.2.1 hL.2.2.1) hi rfl (fun lm' hl => k _ _ _ _ _ _ ⟨tys, ws, hK, hP, hD, hS, hW, hE, hc, hs, hL.sto1 B.k1 hi rfl hl, hV⟩)
theorem y_lstore_n (B : gBase p c cc kv) {n : Fin 4} {x : Int64} (hi : (n : Nat) + 1 < nL) (hd : decode cc pc = .ok (.lstore_n n, 1)) (k : gGo p l e R s m args below meth c Q D A kv ad0 u0 nL (pc + 1) (gsto2 ls (n : Nat) (.long x)) st hp) : gGo p l e R s m args below meth c Q D A kv ad0 u0 nL pc ls (.long x :: st) hp := by
  intro H locs cells slots lm sm h
  obtain ⟨tys, ws, hK, hP, hD, hS, hW, hE, hc, hs, hL, hV⟩ := h
  obtain ⟨w, sm, rfl, e1, hVn⟩ := gVs_c hV; clear hV; have hV := hVn; clear hVn
  cases gV_l e1
  exact lv_lstore_n B.1 B.2.1 hd rfl (gAll_has hL.2.1 hL.2.2.1) hi rfl (fun lm' hl => k _ _ _ _ _ _ ⟨tys, ws, hK, hP, hD, hS, hW, hE, hc, hs, hL.sto2 B.k1 hi rfl hl, hV⟩)
theorem y_astore_n (B : gBase p c cc kv) {n : Fin 4} {x : Nat} (hi : (n : Nat) < nL) (hd : decode cc pc = .ok (.astore_n n, 1)) (k : gGo p l e R s m args below meth c Q D A kv ad0 u0 nL (pc + 1) (gsto1 ls (n : Nat) (.ref x)) st hp) : gGo p l e R s m args below meth c Q D A kv ad0 u0 nL pc ls (.ref x :: st) hp := by
  intro H locs cells slots lm sm h
  obtain ⟨tys, ws, hK, hP, hD, hS, hW, hE, hc, hs, hL, hV⟩ := h
  obtain ⟨w, sm, rfl, e1, hVn⟩ := gVs_c hV; clear hV; have hV := hVn; clear hVn
  rcases gV_r e1 B.2.2 with rfl | ⟨a, rfl⟩
  · exact lv_astore_nN B.1 B.2.1 hd rfl (gAll_has hL.2.1 hL.2.2.1) hi rfl (fun lm' hl => k _ _ _ _ _ _ ⟨tys, ws, hK, hP, hD, hS, hW, hE, hc, hs, hL.sto1 B.k1 hi e1 hl, hV⟩)
  · exact lv_astore_n B.1 B.2.1 hd rfl (gAll_has hL.2.1 hL.2.2.1) hi rfl (fun lm' hl => k _ _ _ _ _ _ ⟨tys, ws, hK, hP, hD, hS, hW, hE, hc, hs, hL.sto1 B.k1 hi e1 hl, hV⟩)
theorem y_astore_nN (B : gBase p c cc kv) {n : Fin 4} (hi : (n : Nat) < nL) (hd : decode cc pc = .ok (.astore_n n, 1)) (k : gGo p l e R s m args below meth c Q D A kv ad0 u0 nL (pc + 1) (gsto1 ls (n : Nat) .null) st hp) : gGo p l e R s m args below meth c Q D A kv ad0 u0 nL pc ls (.null :: st) hp := by
  intro H locs cells slots lm sm h
  obtain ⟨tys, ws, hK, hP, hD, hS, hW, hE, hc, hs, hL, hV⟩ := h
  obtain ⟨w, sm, rfl, e1, hVn⟩ := gVs_c hV; clear hV; have hV := hVn; clear hVn
  cases gV_z e1
  exact lv_astore_nN B.1 B.2.1 hd rfl (gAll_has hL.2.1 hL.2.2.1) hi rfl (fun lm' hl => k _ _ _ _ _ _ ⟨tys, ws, hK, hP, hD, hS, hW, hE, hc, hs, hL.sto1 B.k1 hi e1 hl, hV⟩)
theorem y_istore (B : gBase p c cc kv) {n : Nat} {x : Int32} (hi : n < nL) (hd : decode cc pc = .ok (.istore n, 2)) (k : gGo p l e R s m args below meth c Q D A kv ad0 u0 nL (pc + 2) (gsto1 ls n (.int x)) st hp) : gGo p l e R s m args below meth c Q D A kv ad0 u0 nL pc ls (.int x :: st) hp := by
  intro H locs cells slots lm sm h
  obtain ⟨tys, ws, hK, hP, hD, hS, hW, hE, hc, hs, hL, hV⟩ := h
  obtain ⟨w, sm, rfl, e1, hVn⟩ := gVs_c hV; clear hV; have hV := hVn; clear hVn
  cases gV_i e1
  exact lv_istore B.1 B.2.1 hd (gAll_has hL.2.1 hL.2.2.1) hi rfl (fun lm' hl => k _ _ _ _ _ _ ⟨tys, ws, hK, hP, hD, hS, hW, hE, hc, hs, hL.sto1 B.k1 hi rfl hl, hV⟩)
theorem y_lstore (B : gBase p c cc kv) {n : Nat} {x : Int64} (hi : n + 1 < nL) (hd : decode cc pc = .ok (.lstore n, 2)) (k : gGo p l e R s m args below meth c Q D A kv ad0 u0 nL (pc + 2) (gsto2 ls n (.long x)) st hp) : gGo p l e R s m args below meth c Q D A kv ad0 u0 nL pc ls (.long x :: st) hp := by
  intro H locs cells slots lm sm h
  obtain ⟨tys, ws, hK, hP, hD, hS, hW, hE, hc, hs, hL, hV⟩ := h
  obtain ⟨w, sm, rfl, e1, hVn⟩ := gVs_c hV; clear hV; have hV := hVn; clear hVn
  cases gV_l e1
  exact lv_lstore B.1 B.2.1 hd (gAll_has hL.2.1 hL.2.2.1) hi rfl (fun lm' hl => k _ _ _ _ _ _ ⟨tys, ws, hK, hP, hD, hS, hW, hE, hc, hs, hL.sto2 B.k1 hi rfl hl, hV⟩)
theorem y_astore (B : gBase p c cc kv) {n : Nat} {x : Nat} (hi : n < nL) (hd : decode cc pc = .ok (.astore n, 2)) (k : gGo p l e R s m args below meth c Q D A kv ad0 u0 nL (pc + 2) (gsto1 ls n (.ref x)) st hp) : gGo p l e R s m args below meth c Q D A kv ad0 u0 nL pc ls (.ref x :: st) hp := by
  intro H locs cells slots lm sm h
  obtain ⟨tys, ws, hK, hP, hD, hS, hW, hE, hc, hs, hL, hV⟩ := h
  obtain ⟨w, sm, rfl, e1, hVn⟩ := gVs_c hV; clear hV; have hV := hVn; clear hVn
  rcases gV_r e1 B.2.2 with rfl | ⟨a, rfl⟩
  · exact lv_astoreN B.1 B.2.1 hd (gAll_has hL.2.1 hL.2.2.1) hi rfl (fun lm' hl => k _ _ _ _ _ _ ⟨tys, ws, hK, hP, hD, hS, hW, hE, hc, hs, hL.sto1 B.k1 hi e1 hl, hV⟩)
  · exact lv_astore B.1 B.2.1 hd (gAll_has hL.2.1 hL.2.2.1) hi rfl (fun lm' hl => k _ _ _ _ _ _ ⟨tys, ws, hK, hP, hD, hS, hW, hE, hc, hs, hL.sto1 B.k1 hi e1 hl, hV⟩)
theorem y_astoreN (B : gBase p c cc kv) {n : Nat} (hi : n < nL) (hd : decode cc pc = .ok (.astore n, 2)) (k : gGo p l e R s m args below meth c Q D A kv ad0 u0 nL (pc + 2) (gsto1 ls n .null) st hp) : gGo p l e R s m args below meth c Q D A kv ad0 u0 nL pc ls (.null :: st) hp := by
  intro H locs cells slots lm sm h
  obtain ⟨tys, ws, hK, hP, hD, hS, hW, hE, hc, hs, hL, hV⟩ := h
  obtain ⟨w, sm, rfl, e1, hVn⟩ := gVs_c hV; clear hV; have hV := hVn; clear hVn
  cases gV_z e1
  exact lv_astoreN B.1 B.2.1 hd (gAll_has hL.2.1 hL.2.2.1) hi rfl (fun lm' hl => k _ _ _ _ _ _ ⟨tys, ws, hK, hP, hD, hS, hW, hE, hc, hs, hL.sto1 B.k1 hi e1 hl, hV⟩)
theorem y_iinc (B : gBase p c cc kv) {n : Nat} {z : Int} {x : Int32} (h0 : ls[n]? = some (some (.int x))) (hi : n < nL) (hd : decode cc pc = .ok (.iinc n z, 3)) (k : gGo p l e R s m args below meth c Q D A kv ad0 u0 nL (pc + 3) (gsto1 ls n (.int (x + Int32.ofInt z))) st hp) : gGo p l e R s m args below meth c Q D A kv ad0 u0 nL pc ls st hp := by
  intro H locs cells slots lm sm h
  obtain ⟨tys, ws, hK, hP, hD, hS, hW, hE, hc, hs, hL, hV⟩ := h
  obtain ⟨w, e1, e2⟩ := hL.2.2.2 _ _ h0
  cases gV_i e2
  obtain ⟨j, hj⟩ := List.getElem?_of_mem (gAll_mem.mpr e1)
  exact lv_iinc B.1 B.2.1 hd (gAll_has hL.2.1 hL.2.2.1) hj rfl hi rfl (fun lm' hl => k _ _ _ _ _ _ ⟨tys, ws, hK, hP, hD, hS, hW, hE, hc, hs, hL.sto1 B.k1 hi rfl hl, hV⟩)
theorem gcat1 (B : gBase p c cc kv) {ad : List Nat} {v w : Value} (h : gV kv ad v w) (hc : gcat v = 1) : w.category = 1 := (h.cat B.k1).trans hc
theorem y_dup (B : gBase p c cc kv) {v : Value} (h1 : gcat v = 1) (hd : decode cc pc = .ok (.dup, 1)) (k : gGo p l e R s m args below meth c Q D A kv ad0 u0 nL (pc + 1) ls (v :: v :: st) hp) : gGo p l e R s m args below meth c Q D A kv ad0 u0 nL pc ls (v :: st) hp := by
  intro H locs cells slots lm sm h
  obtain ⟨tys, ws, hK, hP, hD, hS, hW, hE, hc, hs, hL, hV⟩ := h
  obtain ⟨w, sm, rfl, e1, hVn⟩ := gVs_c hV; clear hV; have hV := hVn; clear hVn
  exact lv_dup B.1 B.2.1 hd (gcat1 B e1 h1) (k _ _ _ _ _ _ ⟨tys, ws, hK, hP, hD, hS, hW, hE, hc, hs, hL, ⟨_, _, rfl, e1, _, _, rfl, e1, hV⟩⟩)
theorem y_pop (B : gBase p c cc kv) {v : Value} (h1 : gcat v = 1) (hd : decode cc pc = .ok (.pop, 1)) (k : gGo p l e R s m args below meth c Q D A kv ad0 u0 nL (pc + 1) ls st hp) : gGo p l e R s m args below meth c Q D A kv ad0 u0 nL pc ls (v :: st) hp := by
  intro H locs cells slots lm sm h
  obtain ⟨tys, ws, hK, hP, hD, hS, hW, hE, hc, hs, hL, hV⟩ := h
  obtain ⟨w, sm, rfl, e1, hVn⟩ := gVs_c hV; clear hV; have hV := hVn; clear hVn
  exact lv_pop B.1 B.2.1 hd (gcat1 B e1 h1) (k _ _ _ _ _ _ ⟨tys, ws, hK, hP, hD, hS, hW, hE, hc, hs, hL, hV⟩)
theorem y_dup_x1 (B : gBase p c cc kv) {v v2 : Value} (h1 : gcat v = 1) (h2 : gcat v2 = 1) (hd : decode cc pc = .ok (.dup_x1, 1)) (k : gGo p l e R s m args below meth c Q D A kv ad0 u0 nL (pc + 1) ls (v :: v2 :: v :: st) hp) : gGo p l e R s m args below meth c Q D A kv ad0 u0 nL pc ls (v :: v2 :: st) hp := by
  intro H locs cells slots lm sm h
  obtain ⟨tys, ws, hK, hP, hD, hS, hW, hE, hc, hs, hL, hV⟩ := h
  obtain ⟨w, sm, rfl, e1, hVn⟩ := gVs_c hV; clear hV; have hV := hVn; clear hVn
  obtain ⟨w2, sm, rfl, e2, hVn⟩ := gVs_c hV; clear hV; have hV := hVn; clear hVn
  exact lv_dup_x1 B.1 B.2.1 hd (gcat1 B e1 h1) (gcat1 B e2 h2) (k _ _ _ _ _ _ ⟨tys, ws, hK, hP, hD, hS, hW, hE, hc, hs, hL, ⟨_, _, rfl, e1, _, _, rfl, e2, _, _, rfl, e1, hV⟩⟩)
theorem y_dup2 (B : gBase p c cc kv) {v v2 : Value} (h1 : gcat v = 1) (h2 : gcat v2 = 1) (hd : decode cc pc = .ok (.dup2, 1)) (k : gGo p l e R s m args below meth c Q D A kv ad0 u0 nL (pc + 1) ls (v :: v2 :: v :: v2 :: st) hp) : gGo p l e R s m args below meth c Q D A kv ad0 u0 nL pc ls (v :: v2 :: st) hp := by
  intro H locs cells slots lm sm h
  obtain ⟨tys, ws, hK, hP, hD, hS, hW, hE, hc, hs, hL, hV⟩ := h
  obtain ⟨w, sm, rfl, e1, hVn⟩ := gVs_c hV; clear hV; have hV := hVn; clear hVn
  obtain ⟨w2, sm, rfl, e2, hVn⟩ := gVs_c hV; clear hV; have hV := hVn; clear hVn
  exact lv_dup2_11 B.1 B.2.1 hd (gcat1 B e1 h1) (gcat1 B e2 h2) (k _ _ _ _ _ _ ⟨tys, ws, hK, hP, hD, hS, hW, hE, hc, hs, hL, ⟨_, _, rfl, e1, _, _, rfl, e2, _, _, rfl, e1, _, _, rfl, e2, hV⟩⟩)
theorem y_goto (B : gBase p c cc kv) {off : Int} {tgt : Nat} (hd : decode cc pc = .ok (.goto off, 3)) (ht : (pc : Int) + off = (tgt : Int)) (k : gGo p l e R s m args below meth c Q D A kv ad0 u0 nL tgt ls st hp) : gGo p l e R s m args below meth c Q D A kv ad0 u0 nL pc ls st hp := by
  intro H locs cells slots lm sm h
  exact lv_goto B.1 B.2.1 hd ht (k _ _ _ _ _ _ h)
theorem y_if_eq (B : gBase p c cc kv) {off : Int} {tgt : Nat} {x : Int32} (hd : decode cc pc = .ok (.ifCond .eq off, 3)) (ht : (pc : Int) + off = (tgt : Int)) (kt : gic .eq x 0 = true → gGo p l e R s m args below meth c Q D A kv ad0 u0 nL tgt ls st hp) (kf : gic .eq x 0 = false → gGo p l e R s m args below meth c Q D A kv ad0 u0 nL (pc + 3) ls st hp) : gGo p l e R s m args below meth c Q D A kv ad0 u0 nL pc ls (.int x :: st) hp := by
  intro H locs cells slots lm sm h
  obtain ⟨tys, ws, hK, hP, hD, hS, hW, hE, hcc, hs, hL, hV⟩ := h
  obtain ⟨w, sm, rfl, e1, hVn⟩ := gVs_c hV; clear hV; have hV := hVn; clear hVn
  cases gV_i e1
  exact lv_if_eq B.1 B.2.1 hd ht (fun hc => kt (by simpa [gic] using hc) _ _ _ _ _ _ ⟨tys, ws, hK, hP, hD, hS, hW, hE, hcc, hs, hL, hV⟩) (fun hc => kf (by simpa [gic] using hc) _ _ _ _ _ _ ⟨tys, ws, hK, hP, hD, hS, hW, hE, hcc, hs, hL, hV⟩)
theorem y_icmp_eq (B : gBase p c cc kv) {off : Int} {tgt : Nat} {x y : Int32} (hd : decode cc pc = .ok (.if_icmp .eq off, 3)) (ht : (pc : Int) + off = (tgt : Int)) (kt : gic .eq x y = true → gGo p l e R s m args below meth c Q D A kv ad0 u0 nL tgt ls st hp) (kf : gic .eq x y = false → gGo p l e R s m args below meth c Q D A kv ad0 u0 nL (pc + 3) ls st hp) : gGo p l e R s m args below meth c Q D A kv ad0 u0 nL pc ls (.int y :: .int x :: st) hp := by
  intro H locs cells slots lm sm h
  obtain ⟨tys, ws, hK, hP, hD, hS, hW, hE, hcc, hs, hL, hV⟩ := h
  obtain ⟨w, sm, rfl, e1, hVn⟩ := gVs_c hV; clear hV; have hV := hVn; clear hVn
  cases gV_i e1
  obtain ⟨w, sm, rfl, e1, hVn⟩ := gVs_c hV; clear hV; have hV := hVn; clear hVn
  cases gV_i e1
  exact lv_icmp_eq B.1 B.2.1 hd ht (fun hc => kt (by simpa [gic] using hc) _ _ _ _ _ _ ⟨tys, ws, hK, hP, hD, hS, hW, hE, hcc, hs, hL, hV⟩) (fun hc => kf (by simpa [gic] using hc) _ _ _ _ _ _ ⟨tys, ws, hK, hP, hD, hS, hW, hE, hcc, hs, hL, hV⟩)
theorem y_if_ne (B : gBase p c cc kv) {off : Int} {tgt : Nat} {x : Int32} (hd : decode cc pc = .ok (.ifCond .ne off, 3)) (ht : (pc : Int) + off = (tgt : Int)) (kt : gic .ne x 0 = true → gGo p l e R s m args below meth c Q D A kv ad0 u0 nL tgt ls st hp) (kf : gic .ne x 0 = false → gGo p l e R s m args below meth c Q D A kv ad0 u0 nL (pc + 3) ls st hp) : gGo p l e R s m args below meth c Q D A kv ad0 u0 nL pc ls (.int x :: st) hp := by
  intro H locs cells slots lm sm h
  obtain ⟨tys, ws, hK, hP, hD, hS, hW, hE, hcc, hs, hL, hV⟩ := h
  obtain ⟨w, sm, rfl, e1, hVn⟩ := gVs_c hV; clear hV; have hV := hVn; clear hVn
  cases gV_i e1
  exact lv_if_ne B.1 B.2.1 hd ht (fun hc => kt (by simpa [gic] using hc) _ _ _ _ _ _ ⟨tys, ws, hK, hP, hD, hS, hW, hE, hcc, hs, hL, hV⟩) (fun hc => kf (by simpa [gic] using hc) _ _ _ _ _ _ ⟨tys, ws, hK, hP, hD, hS, hW, hE, hcc, hs, hL, hV⟩)
theorem y_icmp_ne (B : gBase p c cc kv) {off : Int} {tgt : Nat} {x y : Int32} (hd : decode cc pc = .ok (.if_icmp .ne off, 3)) (ht : (pc : Int) + off = (tgt : Int)) (kt : gic .ne x y = true → gGo p l e R s m args below meth c Q D A kv ad0 u0 nL tgt ls st hp) (kf : gic .ne x y = false → gGo p l e R s m args below meth c Q D A kv ad0 u0 nL (pc + 3) ls st hp) : gGo p l e R s m args below meth c Q D A kv ad0 u0 nL pc ls (.int y :: .int x :: st) hp := by
  intro H locs cells slots lm sm h
  obtain ⟨tys, ws, hK, hP, hD, hS, hW, hE, hcc, hs, hL, hV⟩ := h
  obtain ⟨w, sm, rfl, e1, hVn⟩ := gVs_c hV; clear hV; have hV := hVn; clear hVn
  cases gV_i e1
  obtain ⟨w, sm, rfl, e1, hVn⟩ := gVs_c hV; clear hV; have hV := hVn; clear hVn
  cases gV_i e1
  exact lv_icmp_ne B.1 B.2.1 hd ht (fun hc => kt (by simpa [gic] using hc) _ _ _ _ _ _ ⟨tys, ws, hK, hP, hD, hS, hW, hE, hcc, hs, hL, hV⟩) (fun hc => kf (by simpa [gic] using hc) _ _ _ _ _ _ ⟨tys, ws, hK, hP, hD, hS, hW, hE, hcc, hs, hL, hV⟩)
theorem y_if_lt (B : gBase p c cc kv) {off : Int} {tgt : Nat} {x : Int32} (hd : decode cc pc = .ok (.ifCond .lt off, 3)) (ht : (pc : Int) + off = (tgt : Int)) (kt : gic .lt x 0 = true → gGo p l e R s m args below meth c Q D A kv ad0 u0 nL tgt ls st hp) (kf : gic .lt x 0 = false → gGo p l e R s m args below meth c Q D A kv ad0 u0 nL (pc + 3) ls st hp) : gGo p l e R s m args below meth c Q D A kv ad0 u0 nL pc ls (.int x :: st) hp := by
  intro H locs cells slots lm sm h
  obtain ⟨tys, ws, hK, hP, hD, hS, hW, hE, hcc, hs, hL, hV⟩ := h
  obtain ⟨w, sm, rfl, e1, hVn⟩ := gVs_c hV; clear hV; have hV := hVn; clear hVn
  cases gV_i e1
  exact lv_if_lt B.1 B.2.1 hd ht (fun hc => kt (by simpa [gic] using hc) _ _ _ _ _ _ ⟨tys, ws, hK, hP, hD, hS, hW, hE, hcc, hs, hL, hV⟩) (fun hc => kf (by simpa [gic] using hc) _ _ _ _ _ _ ⟨tys, ws, hK, hP, hD, hS, hW, hE, hcc, hs, hL, hV⟩)
theorem y_icmp_lt (B : gBase p c cc kv) {off : Int} {tgt : Nat} {x y : Int32} (hd : decode cc pc = .ok (.if_icmp .lt off, 3)) (ht : (pc : Int) + off = (tgt : Int)) (kt : gic .lt x y = true → gGo p l e R s m args below meth c Q D A kv ad0 u0 nL tgt ls st hp) (kf : gic .lt x y = false → gGo p l e R s m args below meth c Q D A kv ad0 u0 nL (pc + 3) ls st hp) : gGo p l e R s m args below meth c Q D A kv ad0 u0 nL pc ls (.int y :: .int x :: st) hp := by
  intro H locs cells slots lm sm h
  obtain ⟨tys, ws, hK, hP, hD, hS, hW, hE, hcc, hs, hL, hV⟩ := h
  obtain ⟨w, sm, rfl, e1, hVn⟩ := gVs_c hV; clear hV; have hV := hVn; clear hVn
  cases gV_i e1
  obtain ⟨w, sm, rfl, e1, hVn⟩ := gVs_c hV; clear hV; have hV := hVn; clear hVn
  cases gV_i e1
  exact lv_icmp_lt B.1 B.2.1 hd ht (fun hc => kt (by simpa [gic] using hc) _ _ _ _ _ _ ⟨tys, ws, hK, hP, hD, hS, hW, hE, hcc, hs, hL, hV⟩) (fun hc => kf (by simpa [gic] using hc) _ _ _ _ _ _ ⟨tys, ws, hK, hP, hD, hS, hW, hE, hcc, hs, hL, hV⟩)
theorem y_if_ge (B : gBase p c cc kv) {off : Int} {tgt : Nat} {x : Int32} (hd : decode cc pc = .ok (.ifCond .ge off, 3)) (ht : (pc : Int) + off = (tgt : Int)) (kt : gic .ge x 0 = true → gGo p l e R s m args below meth c Q D A kv ad0 u0 nL tgt ls st hp) (kf : gic .ge x 0 = false → gGo p l e R s m args below meth c Q D A kv ad0 u0 nL (pc + 3) ls st hp) : gGo p l e R s m args below meth c Q D A kv ad0 u0 nL pc ls (.int x :: st) hp := by
  intro H locs cells slots lm sm h
  obtain ⟨tys, ws, hK, hP, hD, hS, hW, hE, hcc, hs, hL, hV⟩ := h
  obtain ⟨w, sm, rfl, e1, hVn⟩ := gVs_c hV; clear hV; have hV := hVn; clear hVn
  cases gV_i e1
  exact lv_if_ge B.1 B.2.1 hd ht (fun hc => kt (by simpa [gic] using hc) _ _ _ _ _ _ ⟨tys, ws, hK, hP, hD, hS, hW, hE, hcc, hs, hL, hV⟩) (fun hc => kf (by simpa [gic] using hc) _ _ _ _ _ _ ⟨tys, ws, hK, hP, hD, hS, hW, hE, hcc, hs, hL, hV⟩)
theorem y_icmp_ge (B : gBase p c cc kv) {off : Int} {tgt : Nat} {x y : Int32} (hd : decode cc pc = .ok (.if_icmp .ge off, 3)) (ht : (pc : Int) + off = (tgt : Int)) (kt : gic .ge x y = true → gGo p l e R s m args below meth c Q D A kv ad0 u0 nL tgt ls st hp) (kf : gic .ge x y = false → gGo p l e R s m args below meth c Q D A kv ad0 u0 nL (pc + 3) ls st hp) : gGo p l e R s m args below meth c Q D A kv ad0 u0 nL pc ls (.int y :: .int x :: st) hp := by
  intro H locs cells slots lm sm h
  obtain ⟨tys, ws, hK, hP, hD, hS, hW, hE, hcc, hs, hL, hV⟩ := h
  obtain ⟨w, sm, rfl, e1, hVn⟩ := gVs_c hV; clear hV; have hV := hVn; clear hVn
  cases gV_i e1
  obtain ⟨w, sm, rfl, e1, hVn⟩ := gVs_c hV; clear hV; have hV := hVn; clear hVn
  cases gV_i e1
  exact lv_icmp_ge B.1 B.2.1 hd ht (fun hc => kt (by simpa [gic] using hc) _ _ _ _ _ _ ⟨tys, ws, hK, hP, hD, hS, hW, hE, hcc, hs, hL, hV⟩) (fun hc => kf (by simpa [gic] using hc) _ _ _ _ _ _ ⟨tys, ws, hK, hP, hD, hS, hW, hE, hcc, hs, hL, hV⟩)
theorem y_if_gt (B : gBase p c cc kv) {off : Int} {tgt : Nat} {x : Int32} (hd : decode cc pc = .ok (.ifCond .gt off, 3)) (ht : (pc : Int) + off = (tgt : Int)) (kt : gic .gt x 0 = true → gGo p l e R s m args below meth c Q D A kv ad0 u0 nL tgt ls st hp) (kf : gic .gt x 0 = false → gGo p l e R s m args below meth c Q D A kv ad0 u0 nL (pc + 3) ls st hp) : gGo p l e R s m args below meth c Q D A kv ad0 u0 nL pc ls (.int x :: st) hp := by
  intro H locs cells slots lm sm h
  obtain ⟨tys, ws, hK, hP, hD, hS, hW, hE, hcc, hs, hL, hV⟩ := h
  obtain ⟨w, sm, rfl, e1, hVn⟩ := gVs_c hV; clear hV; have hV := hVn; clear hVn
  cases gV_i e1
  exact lv_if_gt B.1 B.2.1 hd ht (fun hc => kt (by simpa [gic] using hc) _ _ _ _ _ _ ⟨tys, ws, hK, hP, hD, hS, hW, hE, hcc, hs, hL, hV⟩) (fun hc => kf (by simpa [gic] using hc) _ _ _ _ _ _ ⟨tys, ws, hK, hP, hD, hS, hW, hE, hcc, hs, hL, hV⟩)
theorem y_icmp_gt (B : gBase p c cc kv) {off : Int} {tgt : Nat} {x y : Int32} (hd : decode cc pc = .ok (.if_icmp .gt off, 3)) (ht : (pc : Int) + off = (tgt : Int)) (kt : gic .gt x y = true → gGo p l e R s m args below meth c Q D A kv ad0 u0 nL tgt ls st hp) (kf : gic .gt x y = false → gGo p l e R s m args below meth c Q D A kv ad0 u0 nL (pc + 3) ls st hp) : gGo p l e R s m args below meth c Q D A kv ad0 u0 nL pc ls (.int y :: .int x :: st) hp := by
  intro H locs cells slots lm sm h
  obtain ⟨tys, ws, hK, hP, hD, hS, hW, hE, hcc, hs, hL, hV⟩ := h
  obtain ⟨w, sm, rfl, e1, hVn⟩ := gVs_c hV; clear hV; have hV := hVn; clear hVn
  cases gV_i e1
  obtain ⟨w, sm, rfl, e1, hVn⟩ := gVs_c hV; clear hV; have hV := hVn; clear hVn
  cases gV_i e1
  exact lv_icmp_gt B.1 B.2.1 hd ht (fun hc => kt (by simpa [gic] using hc) _ _ _ _ _ _ ⟨tys, ws, hK, hP, hD, hS, hW, hE, hcc, hs, hL, hV⟩) (fun hc => kf (by simpa [gic] using hc) _ _ _ _ _ _ ⟨tys, ws, hK, hP, hD, hS, hW, hE, hcc, hs, hL, hV⟩)
theorem y_if_le (B : gBase p c cc kv) {off : Int} {tgt : Nat} {x : Int32} (hd : decode cc pc = .ok (.ifCond .le off, 3)) (ht : (pc : Int) + off = (tgt : Int)) (kt : gic .le x 0 = true → gGo p l e R s m args below meth c Q D A kv ad0 u0 nL tgt ls st hp) (kf : gic .le x 0 = false → gGo p l e R s m args below meth c Q D A kv ad0 u0 nL (pc + 3) ls st hp) : gGo p l e R s m args below meth c Q D A kv ad0 u0 nL pc ls (.int x :: st) hp := by
  intro H locs cells slots lm sm h
  obtain ⟨tys, ws, hK, hP, hD, hS, hW, hE, hcc, hs, hL, hV⟩ := h
  obtain ⟨w, sm, rfl, e1, hVn⟩ := gVs_c hV; clear hV; have hV := hVn; clear hVn
  cases gV_i e1
  exact lv_if_le B.1 B.2.1 hd ht (fun hc => kt (by simpa [gic] using hc) _ _ _ _ _ _ ⟨tys, ws, hK, hP, hD, hS, hW, hE, hcc, hs, hL, hV⟩) (fun hc => kf (by simpa [gic] using hc) _ _ _ _ _ _ ⟨tys, ws, hK, hP, hD, hS, hW, hE, hcc, hs, hL, hV⟩)
theorem y_icmp_le (B : gBase p c cc kv) {off : Int} {tgt : Nat} {x y : Int32} (hd : decode cc pc = .ok (.if_icmp .le off, 3)) (ht : (pc : Int) + off = (tgt : Int)) (kt : gic .le x y = true → gGo p l e R s m args below meth c Q D A kv ad0 u0 nL tgt ls st hp) (kf : gic .le x y = false → gGo p l e R s m args below meth c Q D A kv ad0 u0 nL (pc + 3) ls st hp) : gGo p l e R s m args below meth c Q D A kv ad0 u0 nL pc ls (.int y :: .int x :: st) hp := by
  intro H locs cells slots lm sm h
  obtain ⟨tys, ws, hK, hP, hD, hS, hW, hE, hcc, hs, hL, hV⟩ := h
  obtain ⟨w, sm, rfl, e1, hVn⟩ := gVs_c hV; clear hV; have hV := hVn; clear hVn
  cases gV_i e1
  obtain ⟨w, sm, rfl, e1, hVn⟩ := gVs_c hV; clear hV; have hV := hVn; clear hVn
  cases gV_i e1
  exact lv_icmp_le B.1 B.2.1 hd ht (fun hc => kt (by simpa [gic] using hc) _ _ _ _ _ _ ⟨tys, ws, hK, hP, hD, hS, hW, hE, hcc, hs, hL, hV⟩) (fun hc => kf (by simpa [gic] using hc) _ _ _ _ _ _ ⟨tys, ws, hK, hP, hD, hS, hW, hE, hcc, hs, hL, hV⟩)
theorem y_ifnullZ (B : gBase p c cc kv) {off : Int} {tgt : Nat} (hd : decode cc pc = .ok (.ifnull off, 3)) (ht : (pc : Int) + off = (tgt : Int)) (k : gGo p l e R s m args below meth c Q D A kv ad0 u0 nL tgt ls st hp) : gGo p l e R s m args below meth c Q D A kv ad0 u0 nL pc ls (.null :: st) hp := by
  intro H locs cells slots lm sm h
  obtain ⟨tys, ws, hK, hP, hD, hS, hW, hE, hc, hs, hL, hV⟩ := h
  obtain ⟨w, sm, rfl, e1, hVn⟩ := gVs_c hV; clear hV; have hV := hVn; clear hVn
  cases gV_z e1
  exact lv_ifnullN B.1 B.2.1 hd ht (k _ _ _ _ _ _ ⟨tys, ws, hK, hP, hD, hS, hW, hE, hc, hs, hL, hV⟩)
theorem y_ifnonnullZ (B : gBase p c cc kv) {off : Int} (hd : decode cc pc = .ok (.ifnonnull off, 3)) (k : gGo p l e R s m args below meth c Q D A kv ad0 u0 nL (pc + 3) ls st hp) : gGo p l e R s m args below meth c Q D A kv ad0 u0 nL pc ls (.null :: st) hp := by
  intro H locs cells slots lm sm h
  obtain ⟨tys, ws, hK, hP, hD, hS, hW, hE, hc, hs, hL, hV⟩ := h
  obtain ⟨w, sm, rfl, e1, hVn⟩ := gVs_c hV; clear hV; have hV := hVn; clear hVn
  cases gV_z e1
  exact lv_ifnonnullN B.1 B.2.1 hd (k _ _ _ _ _ _ ⟨tys, ws, hK, hP, hD, hS, hW, hE, hc, hs, hL, hV⟩)
theorem gV_16 {ad : List Nat} {q : Nat} {w : Value} (hq : 16 ≤ q) (h : gV kv ad (.ref q) w) : ∃ a, ad[q - 16]? = some a ∧ w = .ref a := by
  unfold gV at h
  dsimp only at h
  rw [if_neg (show ¬ q < 16 by omega)] at h
  exact h
theorem y_ifnullR (B : gBase p c cc kv) {off : Int} {x : Nat} (hx : 16 ≤ x) (hd : decode cc pc = .ok (.ifnull off, 3)) (k : gGo p l e R s m args below meth c Q D A kv ad0 u0 nL (pc + 3) ls st hp) : gGo p l e R s m args below meth c Q D A kv ad0 u0 nL pc ls (.ref x :: st) hp := by
  intro H locs cells slots lm sm h
  obtain ⟨tys, ws, hK, hP, hD, hS, hW, hE, hc, hs, hL, hV⟩ := h
  obtain ⟨w, sm, rfl, e1, hVn⟩ := gVs_c hV; clear hV; have hV := hVn; clear hVn
  obtain ⟨a, -, rfl⟩ := gV_16 hx e1
  exact lv_ifnull B.1 B.2.1 hd (k _ _ _ _ _ _ ⟨tys, ws, hK, hP, hD, hS, hW, hE, hc, hs, hL, hV⟩)
theorem y_ifnonnullR (B : gBase p c cc kv) {off : Int} {tgt x : Nat} (hx : 16 ≤ x) (hd : decode cc pc = .ok (.ifnonnull off, 3)) (ht : (pc : Int) + off = (tgt : Int)) (k : gGo p l e R s m args below meth c Q D A kv ad0 u0 nL tgt ls st hp) : gGo p l e R s m args below meth c Q D A kv ad0 u0 nL pc ls (.ref x :: st) hp := by
  intro H locs cells slots lm sm h
  obtain ⟨tys, ws, hK, hP, hD, hS, hW, hE, hc, hs, hL, hV⟩ := h
  obtain ⟨w, sm, rfl, e1, hVn⟩ := gVs_c hV; clear hV; have hV := hVn; clear hVn
  obtain ⟨a, -, rfl⟩ := gV_16 hx e1
  exact lv_ifnonnull B.1 B.2.1 hd ht (k _ _ _ _ _ _ ⟨tys, ws, hK, hP, hD, hS, hW, hE, hc, hs, hL, hV⟩)
end GB
