/-! ===== SOUNDNESS, second part: the judgement gGo (from here the machine comes to Q), and the straight instructions (written by gen/snd1.py) ===== -/
def gAt (D : va_G) (A : Nat → Prop) (kv : Nat → Value) (ad0 : List Nat) (u0 : Nat × Nat) (nL : Nat) (s : State) (ls : gL) (st : List Value) (hp : gS) (H : Heap) (locs : List Loc) (cells slots : Nat) (lm : Array Slot) (sm : List Value) : Prop :=
  ∃ (tys : List (ClassId × FieldType)) (ws : va_W), va_K D gcl tys s ∧ va_P D gcl ws H ∧ va_D A ws ∧ va_S A s.heap H locs ∧ gW kv tys hp.1 ws ∧ gPre ad0 (gad ws) ∧ hp.2.1 = u0.1 + cells ∧ hp.2.2 = u0.2 + slots ∧ gLs kv (gad ws) nL ls lm ∧ gVs kv (gad ws) st sm
section GA
variable {p : Program} {l : Launch} {e : Env} {R : Room} {s : State} {m : MethodId} {args : Array Value} {below : List Frame} {meth : Method} {c : Code} {Q : State → Prop}
variable {D : va_G} {A : Nat → Prop} {kv : Nat → Value} {ad0 : List Nat} {u0 : Nat × Nat} {nL : Nat} {K : gK} {cc : ByteArray} {pc : Nat} {ls : gL} {st : List Value} {hp : gS}
def gGo (p : Program) (l : Launch) (e : Env) (R : Room) (s : State) (m : MethodId) (args : Array Value) (below : List Frame) (meth : Method) (c : Code) (Q : State → Prop) (D : va_G) (A : Nat → Prop) (kv : Nat → Value) (ad0 : List Nat) (u0 : Nat × Nat) (nL : Nat) (pc : Nat) (ls : gL) (st : List Value) (hp : gS) : Prop :=
  ∀ (H : Heap) (locs : List Loc) (cells slots : Nat) (lm : Array Slot) (sm : List Value), gAt D A kv ad0 u0 nL s ls st hp H locs cells slots lm sm → W p l e R s m args below meth c H locs cells slots Q (F0 m pc lm sm)
/-- the machine runs; the code; the constants are of one word -/
def gBase (p : Program) (c : Code) (cc : ByteArray) (kv : Nat → Value) : Prop := p.tables.exec = Jvm.exec ∧ c.code = cc ∧ ∀ q, q < 16 → kv q = .null ∨ ∃ a, kv q = .ref a
theorem gBase.k1 (B : gBase p c cc kv) (q : Nat) (h : q < 16) : (kv q).category = 1 := by
  rcases B.2.2 q h with e | ⟨a, e⟩ <;> rw [e] <;> rfl
theorem gAt.psh {st' sm' : List Value} {H : Heap} {locs : List Loc} {cells slots : Nat} {lm : Array Slot} {sm : List Value} (h : gAt D A kv ad0 u0 nL s ls st hp H locs cells slots lm sm) (k : ∀ ad, gVs kv ad st sm → gVs kv ad st' sm') : gAt D A kv ad0 u0 nL s ls st' hp H locs cells slots lm sm' := by
  obtain ⟨tys, ws, h1, h2, h3, h4, h5, h6, h7, h8, h9, h10⟩ := h
  exact ⟨tys, ws, h1, h2, h3, h4, h5, h6, h7, h8, h9, k _ h10⟩
theorem gV_i {ad : List Nat} {x : Int32} {w : Value} (h : gV kv ad (.int x) w) : w = .int x := h
theorem gV_l {ad : List Nat} {x : Int64} {w : Value} (h : gV kv ad (.long x) w) : w = .long x := h
theorem gV_z {ad : List Nat} {w : Value} (h : gV kv ad .null w) : w = .null := h
theorem gV_r {ad : List Nat} {q : Nat} {w : Value} (h : gV kv ad (.ref q) w) (hk : ∀ q, q < 16 → kv q = .null ∨ ∃ a, kv q = .ref a) : w = .null ∨ ∃ a, w = .ref a := by
  unfold gV at h
  dsimp only at h
  by_cases hq : q < 16
  · rw [if_pos hq] at h
    unfold gKh at h
    by_cases h10 : q = 10
    · rw [if_pos h10] at h; exact Or.inr h
    · rw [if_neg h10] at h; rw [h]; exact hk q hq
  · rw [if_neg hq] at h
    obtain ⟨a, -, r⟩ := h
    exact Or.inr ⟨a, r⟩
theorem gVs_c {ad : List Nat} {v : Value} {sm : List Value} (h : gVs kv ad (v :: st) sm) : ∃ (w : Value) (sm' : List Value), sm = w :: sm' ∧ gV kv ad v w ∧ gVs kv ad st sm' := h
abbrev gGo' (p : Program) (l : Launch) (e : Env) (R : Room) (s : State) (m : MethodId) (args : Array Value) (below : List Frame) (meth : Method) (c : Code) (Q : State → Prop) (D : va_G) (A : Nat → Prop) (kv : Nat → Value) (ad0 : List Nat) (u0 : Nat × Nat) (nL : Nat) := gGo p l e R s m args below meth c Q D A kv ad0 u0 nL

theorem y_iadd (B : gBase p c cc kv) {y : Int32} {x : Int32}  (hd : decode cc pc = .ok (.iadd, 1)) (k : gGo p l e R s m args below meth c Q D A kv ad0 u0 nL (pc + 1) ls (.int (x + y) :: st) hp) : gGo p l e R s m args below meth c Q D A kv ad0 u0 nL pc ls (.int y :: .int x :: st) hp := by
  intro H locs cells slots lm sm h
  have h0 := h
  obtain ⟨tys, ws, -, -, -, -, -, -, -, -, -, hV⟩ := h0
  obtain ⟨w0, sm, rfl, e0, hVn⟩ := gVs_c hV; clear hV; have hV := hVn; clear hVn
  cases gV_i e0
  obtain ⟨w1, sm, rfl, e1, hVn⟩ := gVs_c hV; clear hV; have hV := hVn; clear hVn
  cases gV_i e1
  refine lv_iadd B.1 B.2.1 hd (k _ _ _ _ _ _ (h.psh fun ad hq => ?_))
  obtain ⟨_, _, e0, -, hqn⟩ := gVs_c hq; clear hq; have hq := hqn; clear hqn
  cases e0
  obtain ⟨_, _, e1, -, hqn⟩ := gVs_c hq; clear hq; have hq := hqn; clear hqn
  cases e1
  exact ⟨_, _, rfl, rfl, hq⟩
theorem y_isub (B : gBase p c cc kv) {y : Int32} {x : Int32}  (hd : decode cc pc = .ok (.isub, 1)) (k : gGo p l e R s m args below meth c Q D A kv ad0 u0 nL (pc + 1) ls (.int (x - y) :: st) hp) : gGo p l e R s m args below meth c Q D A kv ad0 u0 nL pc ls (.int y :: .int x :: st) hp := by
  intro H locs cells slots lm sm h
  have h0 := h
  obtain ⟨tys, ws, -, -, -, -, -, -, -, -, -, hV⟩ := h0
  obtain ⟨w0, sm, rfl, e0, hVn⟩ := gVs_c hV; clear hV; have hV := hVn; clear hVn
  cases gV_i e0
  obtain ⟨w1, sm, rfl, e1, hVn⟩ := gVs_c hV; clear hV; have hV := hVn; clear hVn
  cases gV_i e1
  refine lv_isub B.1 B.2.1 hd (k _ _ _ _ _ _ (h.psh fun ad hq => ?_))
  obtain ⟨_, _, e0, -, hqn⟩ := gVs_c hq; clear hq; have hq := hqn; clear hqn
  cases e0
  obtain ⟨_, _, e1, -, hqn⟩ := gVs_c hq; clear hq; have hq := hqn; clear hqn
  cases e1
  exact ⟨_, _, rfl, rfl, hq⟩
theorem y_imul (B : gBase p c cc kv) {y : Int32} {x : Int32}  (hd : decode cc pc = .ok (.imul, 1)) (k : gGo p l e R s m args below meth c Q D A kv ad0 u0 nL (pc + 1) ls (.int (x * y) :: st) hp) : gGo p l e R s m args below meth c Q D A kv ad0 u0 nL pc ls (.int y :: .int x :: st) hp := by
  intro H locs cells slots lm sm h
  have h0 := h
  obtain ⟨tys, ws, -, -, -, -, -, -, -, -, -, hV⟩ := h0
  obtain ⟨w0, sm, rfl, e0, hVn⟩ := gVs_c hV; clear hV; have hV := hVn; clear hVn
  cases gV_i e0
  obtain ⟨w1, sm, rfl, e1, hVn⟩ := gVs_c hV; clear hV; have hV := hVn; clear hVn
  cases gV_i e1
  refine lv_imul B.1 B.2.1 hd (k _ _ _ _ _ _ (h.psh fun ad hq => ?_))
  obtain ⟨_, _, e0, -, hqn⟩ := gVs_c hq; clear hq; have hq := hqn; clear hqn
  cases e0
  obtain ⟨_, _, e1, -, hqn⟩ := gVs_c hq; clear hq; have hq := hqn; clear hqn
  cases e1
  exact ⟨_, _, rfl, rfl, hq⟩
theorem y_iand (B : gBase p c cc kv) {y : Int32} {x : Int32}  (hd : decode cc pc = .ok (.iand, 1)) (k : gGo p l e R s m args below meth c Q D A kv ad0 u0 nL (pc + 1) ls (.int (x &&& y) :: st) hp) : gGo p l e R s m args below meth c Q D A kv ad0 u0 nL pc ls (.int y :: .int x :: st) hp := by
  intro H locs cells slots lm sm h
  have h0 := h
  obtain ⟨tys, ws, -, -, -, -, -, -, -, -, -, hV⟩ := h0
  obtain ⟨w0, sm, rfl, e0, hVn⟩ := gVs_c hV; clear hV; have hV := hVn; clear hVn
  cases gV_i e0
  obtain ⟨w1, sm, rfl, e1, hVn⟩ := gVs_c hV; clear hV; have hV := hVn; clear hVn
  cases gV_i e1
  refine lv_iand B.1 B.2.1 hd (k _ _ _ _ _ _ (h.psh fun ad hq => ?_))
  obtain ⟨_, _, e0, -, hqn⟩ := gVs_c hq; clear hq; have hq := hqn; clear hqn
  cases e0
  obtain ⟨_, _, e1, -, hqn⟩ := gVs_c hq; clear hq; have hq := hqn; clear hqn
  cases e1
  exact ⟨_, _, rfl, rfl, hq⟩
theorem y_ior (B : gBase p c cc kv) {y : Int32} {x : Int32}  (hd : decode cc pc = .ok (.ior, 1)) (k : gGo p l e R s m args below meth c Q D A kv ad0 u0 nL (pc + 1) ls (.int (x ||| y) :: st) hp) : gGo p l e R s m args below meth c Q D A kv ad0 u0 nL pc ls (.int y :: .int x :: st) hp := by
  intro H locs cells slots lm sm h
  have h0 := h
  obtain ⟨tys, ws, -, -, -, -, -, -, -, -, -, hV⟩ := h0
  obtain ⟨w0, sm, rfl, e0, hVn⟩ := gVs_c hV; clear hV; have hV := hVn; clear hVn
  cases gV_i e0
  obtain ⟨w1, sm, rfl, e1, hVn⟩ := gVs_c hV; clear hV; have hV := hVn; clear hVn
  cases gV_i e1
  refine lv_ior B.1 B.2.1 hd (k _ _ _ _ _ _ (h.psh fun ad hq => ?_))
  obtain ⟨_, _, e0, -, hqn⟩ := gVs_c hq; clear hq; have hq := hqn; clear hqn
  cases e0
  obtain ⟨_, _, e1, -, hqn⟩ := gVs_c hq; clear hq; have hq := hqn; clear hqn
  cases e1
  exact ⟨_, _, rfl, rfl, hq⟩
theorem y_ixor (B : gBase p c cc kv) {y : Int32} {x : Int32}  (hd : decode cc pc = .ok (.ixor, 1)) (k : gGo p l e R s m args below meth c Q D A kv ad0 u0 nL (pc + 1) ls (.int (x ^^^ y) :: st) hp) : gGo p l e R s m args below meth c Q D A kv ad0 u0 nL pc ls (.int y :: .int x :: st) hp := by
  intro H locs cells slots lm sm h
  have h0 := h
  obtain ⟨tys, ws, -, -, -, -, -, -, -, -, -, hV⟩ := h0
  obtain ⟨w0, sm, rfl, e0, hVn⟩ := gVs_c hV; clear hV; have hV := hVn; clear hVn
  cases gV_i e0
  obtain ⟨w1, sm, rfl, e1, hVn⟩ := gVs_c hV; clear hV; have hV := hVn; clear hVn
  cases gV_i e1
  refine lv_ixor B.1 B.2.1 hd (k _ _ _ _ _ _ (h.psh fun ad hq => ?_))
  obtain ⟨_, _, e0, -, hqn⟩ := gVs_c hq; clear hq; have hq := hqn; clear hqn
  cases e0
  obtain ⟨_, _, e1, -, hqn⟩ := gVs_c hq; clear hq; have hq := hqn; clear hqn
  cases e1
  exact ⟨_, _, rfl, rfl, hq⟩
theorem y_ishl (B : gBase p c cc kv) {y : Int32} {x : Int32}  (hd : decode cc pc = .ok (.ishl, 1)) (k : gGo p l e R s m args below meth c Q D A kv ad0 u0 nL (pc + 1) ls (.int (x <<< (y &&& 31)) :: st) hp) : gGo p l e R s m args below meth c Q D A kv ad0 u0 nL pc ls (.int y :: .int x :: st) hp := by
  intro H locs cells slots lm sm h
  have h0 := h
  obtain ⟨tys, ws, -, -, -, -, -, -, -, -, -, hV⟩ := h0
  obtain ⟨w0, sm, rfl, e0, hVn⟩ := gVs_c hV; clear hV; have hV := hVn; clear hVn
  cases gV_i e0
  obtain ⟨w1, sm, rfl, e1, hVn⟩ := gVs_c hV; clear hV; have hV := hVn; clear hVn
  cases gV_i e1
  refine lv_ishl B.1 B.2.1 hd (k _ _ _ _ _ _ (h.psh fun ad hq => ?_))
  obtain ⟨_, _, e0, -, hqn⟩ := gVs_c hq; clear hq; have hq := hqn; clear hqn
  cases e0
  obtain ⟨_, _, e1, -, hqn⟩ := gVs_c hq; clear hq; have hq := hqn; clear hqn
  cases e1
  exact ⟨_, _, rfl, rfl, hq⟩
theorem y_ishr (B : gBase p c cc kv) {y : Int32} {x : Int32}  (hd : decode cc pc = .ok (.ishr, 1)) (k : gGo p l e R s m args below meth c Q D A kv ad0 u0 nL (pc + 1) ls (.int (x >>> (y &&& 31)) :: st) hp) : gGo p l e R s m args below meth c Q D A kv ad0 u0 nL pc ls (.int y :: .int x :: st) hp := by
  intro H locs cells slots lm sm h
  have h0 := h
  obtain ⟨tys, ws, -, -, -, -, -, -, -, -, -, hV⟩ := h0
  obtain ⟨w0, sm, rfl, e0, hVn⟩ := gVs_c hV; clear hV; have hV := hVn; clear hVn
  cases gV_i e0
  obtain ⟨w1, sm, rfl, e1, hVn⟩ := gVs_c hV; clear hV; have hV := hVn; clear hVn
  cases gV_i e1
  refine lv_ishr B.1 B.2.1 hd (k _ _ _ _ _ _ (h.psh fun ad hq => ?_))
  obtain ⟨_, _, e0, -, hqn⟩ := gVs_c hq; clear hq; have hq := hqn; clear hqn
  cases e0
  obtain ⟨_, _, e1, -, hqn⟩ := gVs_c hq; clear hq; have hq := hqn; clear hqn
  cases e1
  exact ⟨_, _, rfl, rfl, hq⟩
theorem y_idiv (B : gBase p c cc kv) {y : Int32} {x : Int32} (hy : ¬ y = 0)  (hd : decode cc pc = .ok (.idiv, 1)) (k : gGo p l e R s m args below meth c Q D A kv ad0 u0 nL (pc + 1) ls (.int (x / y) :: st) hp) : gGo p l e R s m args below meth c Q D A kv ad0 u0 nL pc ls (.int y :: .int x :: st) hp := by
  intro H locs cells slots lm sm h
  have h0 := h
  obtain ⟨tys, ws, -, -, -, -, -, -, -, -, -, hV⟩ := h0
  obtain ⟨w0, sm, rfl, e0, hVn⟩ := gVs_c hV; clear hV; have hV := hVn; clear hVn
  cases gV_i e0
  obtain ⟨w1, sm, rfl, e1, hVn⟩ := gVs_c hV; clear hV; have hV := hVn; clear hVn
  cases gV_i e1
  refine lv_idiv B.1 B.2.1 hd hy (k _ _ _ _ _ _ (h.psh fun ad hq => ?_))
  obtain ⟨_, _, e0, -, hqn⟩ := gVs_c hq; clear hq; have hq := hqn; clear hqn
  cases e0
  obtain ⟨_, _, e1, -, hqn⟩ := gVs_c hq; clear hq; have hq := hqn; clear hqn
  cases e1
  exact ⟨_, _, rfl, rfl, hq⟩
theorem y_irem (B : gBase p c cc kv) {y : Int32} {x : Int32} (hy : ¬ y = 0)  (hd : decode cc pc = .ok (.irem, 1)) (k : gGo p l e R s m args below meth c Q D A kv ad0 u0 nL (pc + 1) ls (.int (x - x / y * y) :: st) hp) : gGo p l e R s m args below meth c Q D A kv ad0 u0 nL pc ls (.int y :: .int x :: st) hp := by
  intro H locs cells slots lm sm h
  have h0 := h
  obtain ⟨tys, ws, -, -, -, -, -, -, -, -, -, hV⟩ := h0
  obtain ⟨w0, sm, rfl, e0, hVn⟩ := gVs_c hV; clear hV; have hV := hVn; clear hVn
  cases gV_i e0
  obtain ⟨w1, sm, rfl, e1, hVn⟩ := gVs_c hV; clear hV; have hV := hVn; clear hVn
  cases gV_i e1
  refine lv_irem B.1 B.2.1 hd hy (k _ _ _ _ _ _ (h.psh fun ad hq => ?_))
  obtain ⟨_, _, e0, -, hqn⟩ := gVs_c hq; clear hq; have hq := hqn; clear hqn
  cases e0
  obtain ⟨_, _, e1, -, hqn⟩ := gVs_c hq; clear hq; have hq := hqn; clear hqn
  cases e1
  exact ⟨_, _, rfl, rfl, hq⟩
theorem y_ladd (B : gBase p c cc kv) {y : Int64} {x : Int64}  (hd : decode cc pc = .ok (.ladd, 1)) (k : gGo p l e R s m args below meth c Q D A kv ad0 u0 nL (pc + 1) ls (.long (x + y) :: st) hp) : gGo p l e R s m args below meth c Q D A kv ad0 u0 nL pc ls (.long y :: .long x :: st) hp := by
  intro H locs cells slots lm sm h
  have h0 := h
  obtain ⟨tys, ws, -, -, -, -, -, -, -, -, -, hV⟩ := h0
  obtain ⟨w0, sm, rfl, e0, hVn⟩ := gVs_c hV; clear hV; have hV := hVn; clear hVn
  cases gV_l e0
  obtain ⟨w1, sm, rfl, e1, hVn⟩ := gVs_c hV; clear hV; have hV := hVn; clear hVn
  cases gV_l e1
  refine lv_ladd B.1 B.2.1 hd (k _ _ _ _ _ _ (h.psh fun ad hq => ?_))
  obtain ⟨_, _, e0, -, hqn⟩ := gVs_c hq; clear hq; have hq := hqn; clear hqn
  cases e0
  obtain ⟨_, _, e1, -, hqn⟩ := gVs_c hq; clear hq; have hq := hqn; clear hqn
  cases e1
  exact ⟨_, _, rfl, rfl, hq⟩
theorem y_land (B : gBase p c cc kv) {y : Int64} {x : Int64}  (hd : decode cc pc = .ok (.land, 1)) (k : gGo p l e R s m args below meth c Q D A kv ad0 u0 nL (pc + 1) ls (.long (x &&& y) :: st) hp) : gGo p l e R s m args below meth c Q D A kv ad0 u0 nL pc ls (.long y :: .long x :: st) hp := by
  intro H locs cells slots lm sm h
  have h0 := h
  obtain ⟨tys, ws, -, -, -, -, -, -, -, -, -, hV⟩ := h0
  obtain ⟨w0, sm, rfl, e0, hVn⟩ := gVs_c hV; clear hV; have hV := hVn; clear hVn
  cases gV_l e0
  obtain ⟨w1, sm, rfl, e1, hVn⟩ := gVs_c hV; clear hV; have hV := hVn; clear hVn
  cases gV_l e1
  refine lv_land B.1 B.2.1 hd (k _ _ _ _ _ _ (h.psh fun ad hq => ?_))
  obtain ⟨_, _, e0, -, hqn⟩ := gVs_c hq; clear hq; have hq := hqn; clear hqn
  cases e0
  obtain ⟨_, _, e1, -, hqn⟩ := gVs_c hq; clear hq; have hq := hqn; clear hqn
  cases e1
  exact ⟨_, _, rfl, rfl, hq⟩
theorem y_lor (B : gBase p c cc kv) {y : Int64} {x : Int64}  (hd : decode cc pc = .ok (.lor, 1)) (k : gGo p l e R s m args below meth c Q D A kv ad0 u0 nL (pc + 1) ls (.long (x ||| y) :: st) hp) : gGo p l e R s m args below meth c Q D A kv ad0 u0 nL pc ls (.long y :: .long x :: st) hp := by
  intro H locs cells slots lm sm h
  have h0 := h
  obtain ⟨tys, ws, -, -, -, -, -, -, -, -, -, hV⟩ := h0
  obtain ⟨w0, sm, rfl, e0, hVn⟩ := gVs_c hV; clear hV; have hV := hVn; clear hVn
  cases gV_l e0
  obtain ⟨w1, sm, rfl, e1, hVn⟩ := gVs_c hV; clear hV; have hV := hVn; clear hVn
  cases gV_l e1
  refine lv_lor B.1 B.2.1 hd (k _ _ _ _ _ _ (h.psh fun ad hq => ?_))
  obtain ⟨_, _, e0, -, hqn⟩ := gVs_c hq; clear hq; have hq := hqn; clear hqn
  cases e0
  obtain ⟨_, _, e1, -, hqn⟩ := gVs_c hq; clear hq; have hq := hqn; clear hqn
  cases e1
  exact ⟨_, _, rfl, rfl, hq⟩
theorem y_ldiv (B : gBase p c cc kv) {y : Int64} {x : Int64} (hy : ¬ y = 0)  (hd : decode cc pc = .ok (.ldiv, 1)) (k : gGo p l e R s m args below meth c Q D A kv ad0 u0 nL (pc + 1) ls (.long (x / y) :: st) hp) : gGo p l e R s m args below meth c Q D A kv ad0 u0 nL pc ls (.long y :: .long x :: st) hp := by
  intro H locs cells slots lm sm h
  have h0 := h
  obtain ⟨tys, ws, -, -, -, -, -, -, -, -, -, hV⟩ := h0
  obtain ⟨w0, sm, rfl, e0, hVn⟩ := gVs_c hV; clear hV; have hV := hVn; clear hVn
  cases gV_l e0
  obtain ⟨w1, sm, rfl, e1, hVn⟩ := gVs_c hV; clear hV; have hV := hVn; clear hVn
  cases gV_l e1
  refine lv_ldiv B.1 B.2.1 hd hy (k _ _ _ _ _ _ (h.psh fun ad hq => ?_))
  obtain ⟨_, _, e0, -, hqn⟩ := gVs_c hq; clear hq; have hq := hqn; clear hqn
  cases e0
  obtain ⟨_, _, e1, -, hqn⟩ := gVs_c hq; clear hq; have hq := hqn; clear hqn
  cases e1
  exact ⟨_, _, rfl, rfl, hq⟩
theorem y_lrem (B : gBase p c cc kv) {y : Int64} {x : Int64} (hy : ¬ y = 0)  (hd : decode cc pc = .ok (.lrem, 1)) (k : gGo p l e R s m args below meth c Q D A kv ad0 u0 nL (pc + 1) ls (.long (x - x / y * y) :: st) hp) : gGo p l e R s m args below meth c Q D A kv ad0 u0 nL pc ls (.long y :: .long x :: st) hp := by
  intro H locs cells slots lm sm h
  have h0 := h
  obtain ⟨tys, ws, -, -, -, -, -, -, -, -, -, hV⟩ := h0
  obtain ⟨w0, sm, rfl, e0, hVn⟩ := gVs_c hV; clear hV; have hV := hVn; clear hVn
  cases gV_l e0
  obtain ⟨w1, sm, rfl, e1, hVn⟩ := gVs_c hV; clear hV; have hV := hVn; clear hVn
  cases gV_l e1
  refine lv_lrem B.1 B.2.1 hd hy (k _ _ _ _ _ _ (h.psh fun ad hq => ?_))
  obtain ⟨_, _, e0, -, hqn⟩ := gVs_c hq; clear hq; have hq := hqn; clear hqn
  cases e0
  obtain ⟨_, _, e1, -, hqn⟩ := gVs_c hq; clear hq; have hq := hqn; clear hqn
  cases e1
  exact ⟨_, _, rfl, rfl, hq⟩
theorem y_lshl (B : gBase p c cc kv) {y : Int32} {x : Int64}  (hd : decode cc pc = .ok (.lshl, 1)) (k : gGo p l e R s m args below meth c Q D A kv ad0 u0 nL (pc + 1) ls (.long (x <<< (y.toInt64 &&& 63)) :: st) hp) : gGo p l e R s m args below meth c Q D A kv ad0 u0 nL pc ls (.int y :: .long x :: st) hp := by
  intro H locs cells slots lm sm h
  have h0 := h
  obtain ⟨tys, ws, -, -, -, -, -, -, -, -, -, hV⟩ := h0
  obtain ⟨w0, sm, rfl, e0, hVn⟩ := gVs_c hV; clear hV; have hV := hVn; clear hVn
  cases gV_i e0
  obtain ⟨w1, sm, rfl, e1, hVn⟩ := gVs_c hV; clear hV; have hV := hVn; clear hVn
  cases gV_l e1
  refine lv_lshl B.1 B.2.1 hd rfl (k _ _ _ _ _ _ (h.psh fun ad hq => ?_))
  obtain ⟨_, _, e0, -, hqn⟩ := gVs_c hq; clear hq; have hq := hqn; clear hqn
  cases e0
  obtain ⟨_, _, e1, -, hqn⟩ := gVs_c hq; clear hq; have hq := hqn; clear hqn
  cases e1
  exact ⟨_, _, rfl, rfl, hq⟩
theorem y_ineg (B : gBase p c cc kv) {x : Int32}  (hd : decode cc pc = .ok (.ineg, 1)) (k : gGo p l e R s m args below meth c Q D A kv ad0 u0 nL (pc + 1) ls (.int (-x) :: st) hp) : gGo p l e R s m args below meth c Q D A kv ad0 u0 nL pc ls (.int x :: st) hp := by
  intro H locs cells slots lm sm h
  have h0 := h
  obtain ⟨tys, ws, -, -, -, -, -, -, -, -, -, hV⟩ := h0
  obtain ⟨w0, sm, rfl, e0, hVn⟩ := gVs_c hV; clear hV; have hV := hVn; clear hVn
  cases gV_i e0
  refine lv_ineg B.1 B.2.1 hd (k _ _ _ _ _ _ (h.psh fun ad hq => ?_))
  obtain ⟨_, _, e0, -, hqn⟩ := gVs_c hq; clear hq; have hq := hqn; clear hqn
  cases e0
  exact ⟨_, _, rfl, rfl, hq⟩
theorem y_i2l (B : gBase p c cc kv) {x : Int32}  (hd : decode cc pc = .ok (.i2l, 1)) (k : gGo p l e R s m args below meth c Q D A kv ad0 u0 nL (pc + 1) ls (.long x.toInt64 :: st) hp) : gGo p l e R s m args below meth c Q D A kv ad0 u0 nL pc ls (.int x :: st) hp := by
  intro H locs cells slots lm sm h
  have h0 := h
  obtain ⟨tys, ws, -, -, -, -, -, -, -, -, -, hV⟩ := h0
  obtain ⟨w0, sm, rfl, e0, hVn⟩ := gVs_c hV; clear hV; have hV := hVn; clear hVn
  cases gV_i e0
  refine lv_i2l B.1 B.2.1 hd rfl (k _ _ _ _ _ _ (h.psh fun ad hq => ?_))
  obtain ⟨_, _, e0, -, hqn⟩ := gVs_c hq; clear hq; have hq := hqn; clear hqn
  cases e0
  exact ⟨_, _, rfl, rfl, hq⟩
theorem y_l2i (B : gBase p c cc kv) {x : Int64}  (hd : decode cc pc = .ok (.l2i, 1)) (k : gGo p l e R s m args below meth c Q D A kv ad0 u0 nL (pc + 1) ls (.int x.toInt32 :: st) hp) : gGo p l e R s m args below meth c Q D A kv ad0 u0 nL pc ls (.long x :: st) hp := by
  intro H locs cells slots lm sm h
  have h0 := h
  obtain ⟨tys, ws, -, -, -, -, -, -, -, -, -, hV⟩ := h0
  obtain ⟨w0, sm, rfl, e0, hVn⟩ := gVs_c hV; clear hV; have hV := hVn; clear hVn
  cases gV_l e0
  refine lv_l2i B.1 B.2.1 hd rfl (k _ _ _ _ _ _ (h.psh fun ad hq => ?_))
  obtain ⟨_, _, e0, -, hqn⟩ := gVs_c hq; clear hq; have hq := hqn; clear hqn
  cases e0
  exact ⟨_, _, rfl, rfl, hq⟩
theorem y_i2b (B : gBase p c cc kv) {x : Int32}  (hd : decode cc pc = .ok (.i2b, 1)) (k : gGo p l e R s m args below meth c Q D A kv ad0 u0 nL (pc + 1) ls (.int x.toInt8.toInt32 :: st) hp) : gGo p l e R s m args below meth c Q D A kv ad0 u0 nL pc ls (.int x :: st) hp := by
  intro H locs cells slots lm sm h
  have h0 := h
  obtain ⟨tys, ws, -, -, -, -, -, -, -, -, -, hV⟩ := h0
  obtain ⟨w0, sm, rfl, e0, hVn⟩ := gVs_c hV; clear hV; have hV := hVn; clear hVn
  cases gV_i e0
  refine lv_i2b B.1 B.2.1 hd rfl (k _ _ _ _ _ _ (h.psh fun ad hq => ?_))
  obtain ⟨_, _, e0, -, hqn⟩ := gVs_c hq; clear hq; have hq := hqn; clear hqn
  cases e0
  exact ⟨_, _, rfl, rfl, hq⟩
theorem y_i2s (B : gBase p c cc kv) {x : Int32}  (hd : decode cc pc = .ok (.i2s, 1)) (k : gGo p l e R s m args below meth c Q D A kv ad0 u0 nL (pc + 1) ls (.int x.toInt16.toInt32 :: st) hp) : gGo p l e R s m args below meth c Q D A kv ad0 u0 nL pc ls (.int x :: st) hp := by
  intro H locs cells slots lm sm h
  have h0 := h
  obtain ⟨tys, ws, -, -, -, -, -, -, -, -, -, hV⟩ := h0
  obtain ⟨w0, sm, rfl, e0, hVn⟩ := gVs_c hV; clear hV; have hV := hVn; clear hVn
  cases gV_i e0
  refine lv_i2s B.1 B.2.1 hd rfl (k _ _ _ _ _ _ (h.psh fun ad hq => ?_))
  obtain ⟨_, _, e0, -, hqn⟩ := gVs_c hq; clear hq; have hq := hqn; clear hqn
  cases e0
  exact ⟨_, _, rfl, rfl, hq⟩
theorem y_i2c (B : gBase p c cc kv) {x : Int32}  (hd : decode cc pc = .ok (.i2c, 1)) (k : gGo p l e R s m args below meth c Q D A kv ad0 u0 nL (pc + 1) ls (.int (x.toUInt32 % 65536).toInt32 :: st) hp) : gGo p l e R s m args below meth c Q D A kv ad0 u0 nL pc ls (.int x :: st) hp := by
  intro H locs cells slots lm sm h
  have h0 := h
  obtain ⟨tys, ws, -, -, -, -, -, -, -, -, -, hV⟩ := h0
  obtain ⟨w0, sm, rfl, e0, hVn⟩ := gVs_c hV; clear hV; have hV := hVn; clear hVn
  cases gV_i e0
  refine lv_i2c B.1 B.2.1 hd rfl (k _ _ _ _ _ _ (h.psh fun ad hq => ?_))
  obtain ⟨_, _, e0, -, hqn⟩ := gVs_c hq; clear hq; have hq := hqn; clear hqn
  cases e0
  exact ⟨_, _, rfl, rfl, hq⟩
theorem y_iconst (B : gBase p c cc kv) {n : Int}  (hd : decode cc pc = .ok (.iconst n, 1)) (k : gGo p l e R s m args below meth c Q D A kv ad0 u0 nL (pc + 1) ls (.int (Int32.ofInt n) :: st) hp) : gGo p l e R s m args below meth c Q D A kv ad0 u0 nL pc ls (st) hp := by
  intro H locs cells slots lm sm h
  have h0 := h
  refine lv_iconst B.1 B.2.1 hd rfl (k _ _ _ _ _ _ (h.psh fun ad hq => ?_))
  exact ⟨_, _, rfl, rfl, hq⟩
theorem y_bipush (B : gBase p c cc kv) {n : Int}  (hd : decode cc pc = .ok (.bipush n, 2)) (k : gGo p l e R s m args below meth c Q D A kv ad0 u0 nL (pc + 2) ls (.int (Int8.ofInt n).toInt32 :: st) hp) : gGo p l e R s m args below meth c Q D A kv ad0 u0 nL pc ls (st) hp := by
  intro H locs cells slots lm sm h
  have h0 := h
  refine lv_bipush B.1 B.2.1 hd rfl (k _ _ _ _ _ _ (h.psh fun ad hq => ?_))
  exact ⟨_, _, rfl, rfl, hq⟩
theorem y_sipush (B : gBase p c cc kv) {n : Int}  (hd : decode cc pc = .ok (.sipush n, 3)) (k : gGo p l e R s m args below meth c Q D A kv ad0 u0 nL (pc + 3) ls (.int (Int16.ofInt n).toInt32 :: st) hp) : gGo p l e R s m args below meth c Q D A kv ad0 u0 nL pc ls (st) hp := by
  intro H locs cells slots lm sm h
  have h0 := h
  refine lv_sipush B.1 B.2.1 hd rfl (k _ _ _ _ _ _ (h.psh fun ad hq => ?_))
  exact ⟨_, _, rfl, rfl, hq⟩
theorem y_lconst (B : gBase p c cc kv) {n : Fin 2}  (hd : decode cc pc = .ok (.lconst n, 1)) (k : gGo p l e R s m args below meth c Q D A kv ad0 u0 nL (pc + 1) ls (.long (Int64.ofNat n) :: st) hp) : gGo p l e R s m args below meth c Q D A kv ad0 u0 nL pc ls (st) hp := by
  intro H locs cells slots lm sm h
  have h0 := h
  refine lv_lconst B.1 B.2.1 hd rfl (k _ _ _ _ _ _ (h.psh fun ad hq => ?_))
  exact ⟨_, _, rfl, rfl, hq⟩
theorem y_null (B : gBase p c cc kv)  (hd : decode cc pc = .ok (.aconst_null, 1)) (k : gGo p l e R s m args below meth c Q D A kv ad0 u0 nL (pc + 1) ls (.null :: st) hp) : gGo p l e R s m args below meth c Q D A kv ad0 u0 nL pc ls (st) hp := by
  intro H locs cells slots lm sm h
  have h0 := h
  refine lv_null B.1 B.2.1 hd (k _ _ _ _ _ _ (h.psh fun ad hq => ?_))
  exact ⟨_, _, rfl, rfl, hq⟩
theorem g_lcmp (x y : Int64) : lg_cmp x y = if x < y then -1 else if x = y then 0 else 1 := by
  unfold lg_cmp
  by_cases h1 : x < y
  · have h2 : ¬ y < x := by
      intro h
      exact absurd (Int64.lt_trans h1 h) (by simp)
    have h3 : ¬ x = y := fun z => by subst z; exact h2 h1
    simp [h1, h2, h3]
  · by_cases h3 : x = y
    · subst h3; simp
    · have h2 : y < x := by
        rcases Int64.lt_or_eq_of_le (Int64.not_lt.mp h1) with h | h
        · exact h
        · exact absurd h.symm h3
      simp [h1, h2, h3]
theorem y_lcmp (B : gBase p c cc kv) {y : Int64} {x : Int64}  (hd : decode cc pc = .ok (.lcmp, 1)) (k : gGo p l e R s m args below meth c Q D A kv ad0 u0 nL (pc + 1) ls (.int (if x < y then -1 else if x = y then 0 else 1) :: st) hp) : gGo p l e R s m args below meth c Q D A kv ad0 u0 nL pc ls (.long y :: .long x :: st) hp := by
  intro H locs cells slots lm sm h
  have h0 := h
  obtain ⟨tys, ws, -, -, -, -, -, -, -, -, -, hV⟩ := h0
  obtain ⟨w0, sm, rfl, e0, hVn⟩ := gVs_c hV; clear hV; have hV := hVn; clear hVn
  cases gV_l e0
  obtain ⟨w1, sm, rfl, e1, hVn⟩ := gVs_c hV; clear hV; have hV := hVn; clear hVn
  cases gV_l e1
  refine W.lcmp B.1 B.2.1 hd ?_
  rw [g_lcmp]
  refine (k _ _ _ _ _ _ (h.psh fun ad hq => ?_))
  obtain ⟨_, _, e0, -, hqn⟩ := gVs_c hq; clear hq; have hq := hqn; clear hqn
  cases e0
  obtain ⟨_, _, e1, -, hqn⟩ := gVs_c hq; clear hq; have hq := hqn; clear hqn
  cases e1
  exact ⟨_, _, rfl, rfl, hq⟩
end GA
