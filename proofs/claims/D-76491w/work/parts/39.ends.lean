/-! ===== SOUNDNESS: what a method owes (its contract), its ends: returns, throws, handlers; switches ===== -/
def gRel (D : va_G) (A : Nat → Prop) (kv : Nat → Value) (ad0 : List Nat) (hp : gS) (U : State) (H : Heap) (P : List Nat → Prop) : Prop := ∃ (tys : List (ClassId × FieldType)) (ws : va_W), va_K D gcl tys U ∧ va_P D gcl ws H ∧ va_D A ws ∧ gW kv tys hp.1 ws ∧ gPre ad0 (gad ws) ∧ P (gad ws)
def gVo (kv : Nat → Value) (ad : List Nat) (v w : Option Value) : Prop := match v with
  | none => w = none
  | some v => ∃ x : Value, w = some x ∧ gV kv ad v x
def gQc (D : va_G) (A : Nat → Prop) (kv : Nat → Value) (ad0 : List Nat) (o : Option Value ⊕ (Nat × Nat)) (hp : gS) : Array Value → State → Outcome → State → Prop := fun _ st oc t => (∃ (v w : Option Value), o = .inl v ∧ oc = .returned w ∧ gRel D A kv ad0 hp t t.heap (fun ad => gVo kv ad v w)) ∧ va_F A st t
def gXC (D : va_G) (A : Nat → Prop) (kv : Nat → Value) (ad0 : List Nat) (o : Option Value ⊕ (Nat × Nat)) (hp : gS) : Addr → String → State → State → Prop := fun q E st t => (∃ (ci h : Nat), o = .inr (ci, h) ∧ E = gnm ci ∧ gRel D A kv ad0 hp t t.heap (fun ad => gV kv ad (.ref h) (.ref q))) ∧ va_F A st t
def gPc (K : gK) (D : va_G) (A : Nat → Prop) (kv : Nat → Value) (ad0 : List Nat) (hp : gS) (as : List Value) : Array Value → State → Prop := fun a U => gFx K A kv U ∧ (∀ q, U.heap.size ≤ q → A q) ∧ ∃ (tys : List (ClassId × FieldType)) (ws : va_W), va_K D gcl tys U ∧ va_P D gcl ws U.heap ∧ va_D A ws ∧ gW kv tys hp.1 ws ∧ gad ws = ad0 ∧ gVs kv ad0 as a.toList
/-- the room that a method needs at depth d for its run from hp to hp' -/
def grm (d : Nat) (hp hp' : gS) : Room := { frames := d + 10, cells := hp'.2.1 - hp.2.1, slots := hp'.2.2 - hp.2.2, locals := 64 * d + 12000 }
def gKv (kv : Nat → Value) : Prop := ∀ q, q < 16 → kv q = .null ∨ ∃ a, kv q = .ref a
/-- a method's contract for one run -/
def gCon (K : gK) (y : MethodName) (ws : List Cond) (d : Nat) (as : List Value) (hp : gS) (o : Option Value ⊕ (Nat × Nat)) (hp' : gS) : Prop :=
  ∀ (l : Launch) (D : va_G) (A : Nat → Prop) (kv : Nat → Value) (ad0 : List Nat), l.stackTraces = false → gKv kv → vx_Met l y ws (grm d hp hp') (gPc K D A kv ad0 hp as) (gQc D A kv ad0 o hp') (gXC D A kv ad0 o hp') (hp'.2.1 - hp.2.1) (hp'.2.2 - hp.2.2) A
theorem gPc_blind {K : gK} {D : va_G} {A : Nat → Prop} {kv : Nat → Value} {ad0 : List Nat} {hp : gS} {as : List Value} : FrameBlind (gPc K D A kv ad0 hp as) := fun a U g mk h => by
  obtain ⟨h1, h2, tys, ws, h3, h4, h5⟩ := h
  exact ⟨h1.same rfl rfl, h2, tys, ws, h3.moved (u := U) (U := U.calling g mk a) (Vm.Alike.refl _), h4, h5⟩
def gtn (t : Nat) : String := match t with
  | 21 => "GeeseKeys$Off"
  | 22 => "java/lang/ClassCastException"
  | 23 => "java/lang/NullPointerException"
  | 24 => "java/lang/NegativeArraySizeException"
  | 25 => "java/lang/ArrayStoreException"
  | 26 => "java/lang/ArrayIndexOutOfBoundsException"
  | _ => "java/lang/IndexOutOfBoundsException"
theorem gH_yes {K : gK} {A : Nat → Prop} {kv : Nat → Value} {s : State} (F : gFx K A kv s) {ci t : Nat} (h : gcat9 ci t = some true) : va_Nw (.castable (gnm ci) (gtn t)) s := by
  unfold gcat9 at h
  split at h
  · rename_i hc
    have hc2 : (ci = 21 ∧ t = 21) ∨ (ci = 22 ∧ t = 22) ∨ (ci = 23 ∧ t = 23) ∨ (ci = 24 ∧ t = 24) ∨ (ci = 25 ∧ t = 25) ∨ (ci = 26 ∧ t = 26) ∨ (ci = 26 ∧ t = 27) := by omega
    rcases hc2 with ⟨rfl, rfl⟩ | ⟨rfl, rfl⟩ | ⟨rfl, rfl⟩ | ⟨rfl, rfl⟩ | ⟨rfl, rfl⟩ | ⟨rfl, rfl⟩ | ⟨rfl, rfl⟩
    · exact F.nw q776 rfl
    · exact F.nw q1193 rfl
    · exact F.nw q1224 rfl
    · exact F.nw q1352 rfl
    · exact F.nw q1405 rfl
    · exact F.nw q1422 rfl
    · exact F.nw q1854 rfl
  · split at h
    · cases h
    · cases h
theorem gH_no {K : gK} {A : Nat → Prop} {kv : Nat → Value} {s : State} (F : gFx K A kv s) {ci t : Nat} (h : gcat9 ci t = some false) : va_Nc (gnm ci) (gtn t) s := by
  unfold gcat9 at h
  split at h
  · cases h
  · split at h
    · rename_i hc
      rcases hc with ⟨rfl, rfl⟩ | ⟨rfl, rfl⟩ | ⟨rfl, rfl⟩ | ⟨rfl, rfl⟩ | ⟨rfl, rfl⟩ | ⟨rfl, rfl⟩
      · exact F.nc (a := "GeeseKeys$Off") (b := "java/lang/NullPointerException") (by simp [gNC])
      · exact F.nc (a := "java/lang/ClassCastException") (b := "java/lang/NullPointerException") (by simp [gNC])
      · exact F.nc (a := "java/lang/ArrayStoreException") (b := "java/lang/NullPointerException") (by simp [gNC])
      · exact F.nc (a := "java/lang/ArrayIndexOutOfBoundsException") (b := "java/lang/NullPointerException") (by simp [gNC])
      · exact F.nc (a := "java/lang/ArrayIndexOutOfBoundsException") (b := "java/lang/ArrayStoreException") (by simp [gNC])
      · exact F.nc (a := "java/lang/NullPointerException") (b := "java/lang/ClassCastException") (by simp [gNC])
    · cases h
/-- a row of the machine's table (z) and ours (r) -/
def gHr (own : String) (z r : Nat × Nat × Nat × Nat) : Prop := z.1 = r.1 ∧ z.2.1 = r.2.1 ∧ z.2.2.1 = r.2.2.2 ∧ (r.2.2.1 = 99 ∨ (z.2.2.2 ≠ 0 ∧ Cond.classLink own z.2.2.2 (gtn r.2.2.1) ∈ lw_all))
def gHs (own : String) : List (Nat × Nat × Nat × Nat) → List (Nat × Nat × Nat × Nat) → Prop
  | [], rs => rs = []
  | z :: zs, rs => ∃ (r : Nat × Nat × Nat × Nat) (rs' : List (Nat × Nat × Nat × Nat)), rs = r :: rs' ∧ gHr own z r ∧ gHs own zs rs'
def gRk (t : Nat) (ret : Option FieldType) : Prop := ret = some (match t with
  | 0 => .int
  | 1 => .boolean
  | 2 => .byte
  | _ => .char)
theorem gRk_nar {t : Nat} {ret : Option FieldType} {x : Int32} (h : gRk t ret) (g : grt t x = true) : ∃ ty, ret = some ty ∧ narrow ty (.int x) = .int x := by
  refine ⟨_, h, ?_⟩
  unfold grt at g
  split at g
  · rfl
  · simp only [Bool.or_eq_true, decide_eq_true_eq] at g
    rcases g with rfl | rfl <;> rfl
  · simp only [decide_eq_true_eq] at g
    show Value.int x.toInt8.toInt32 = .int x
    rw [g]
  · simp only [decide_eq_true_eq] at g
    rename_i h0 h1 h2
    split
    · exact absurd rfl h0
    · exact absurd rfl h1
    · exact absurd rfl h2
    · simp [narrow]
      simpa using g
section GG
variable {p : Program} {l : Launch} {e : Env} {R : Room} {s : State} {m : MethodId} {args : Array Value} {below : List Frame} {meth : Method} {c : Code} {Q : State → Prop}
variable {D : va_G} {A : Nat → Prop} {kv : Nat → Value} {ad0 : List Nat} {u0 : Nat × Nat} {nL : Nat} {K : gK} {cc : ByteArray} {pc : Nat} {ls : gL} {st : List Value} {hp : gS} {mc ms : Nat}
/-- a method's last state -/
abbrev gEnd (below : List Frame) (D : va_G) (A : Nat → Prop) (kv : Nat → Value) (ad0 : List Nat) (o : Option Value ⊕ (Nat × Nat)) (hp : gS) (args : Array Value) (s : State) (mc ms : Nat) : State → Prop := vx_MQ below (gQc D A kv ad0 o hp) (gXC D A kv ad0 o hp) args s mc ms A
theorem gRet {v : Option Value} {sm : List Value} {H : Heap} {locs : List Loc} {cells slots : Nat} {lm : Array Slot} {w : Option Value} (h : gAt D A kv ad0 u0 nL s ls st hp H locs cells slots lm sm) (hw : ∀ ad, gVs kv ad st sm → gVo kv ad v w) (t : State) (ht : t.heap = H) (hW : s.WarmedH t.vm) : gQc D A kv ad0 (.inl v) hp args s (.returned w) t := by
  obtain ⟨tys, ws, hK, hP, hD, hS, hWw, hE, hcc, hs, hL, hV⟩ := h
  exact ⟨⟨v, w, rfl, rfl, tys, ws, hK.moved hW.alike, by rw [ht]; exact hP, hD, hWw, hE, hw _ hV⟩, hS.F ht⟩
theorem y_iret (B : gBase p c cc kv) {ret : Option FieldType} (hrt : meth.sig.returnType = ret) {t : Nat} (hk : gRk t ret) (hlk : meth.locks = false) (hd : decode cc pc = .ok (.ireturn, 1)) {x : Int32} (hg : grt t x = true) (hmc : hp.2.1 = u0.1 + mc) (hms : hp.2.2 = u0.2 + ms) :
    gGo p l e R s m args below meth c (gEnd below D A kv ad0 (.inl (some (.int x))) hp args s mc ms) D A kv ad0 u0 nL pc ls [.int x] hp := by
  intro H locs cells slots lm sm h
  have h0 := h
  obtain ⟨tys, ws, hK, hP, hD, hS, hW, hE, hcc, hs, hL, hV⟩ := h0
  obtain ⟨w1, sm, rfl, e1, hVn⟩ := gVs_c hV
  cases gV_i e1
  cases (show _ = [] from hVn)
  have c1 : cells = mc := by omega
  have c2 : slots = ms := by omega
  subst c1
  subst c2
  obtain ⟨ty, hty, hnr⟩ := gRk_nar hk hg
  exact vx_ret (W.zret B.1 B.2.1 (hrt.trans hty) hnr (fun t ht hW => gRet h (fun ad hq => by obtain ⟨_, _, e2, -, -⟩ := gVs_c hq; cases e2; exact ⟨_, rfl, rfl⟩) t ht hW) hS.2.2 hd hlk)
theorem y_lret (B : gBase p c cc kv) (hrt : meth.sig.returnType = some .long) (hlk : meth.locks = false) (hd : decode cc pc = .ok (.lreturn, 1)) {x : Int64} (hmc : hp.2.1 = u0.1 + mc) (hms : hp.2.2 = u0.2 + ms) :
    gGo p l e R s m args below meth c (gEnd below D A kv ad0 (.inl (some (.long x))) hp args s mc ms) D A kv ad0 u0 nL pc ls [.long x] hp := by
  intro H locs cells slots lm sm h
  have h0 := h
  obtain ⟨tys, ws, hK, hP, hD, hS, hW, hE, hcc, hs, hL, hV⟩ := h0
  obtain ⟨w1, sm, rfl, e1, hVn⟩ := gVs_c hV
  cases gV_l e1
  cases (show _ = [] from hVn)
  have c1 : cells = mc := by omega
  have c2 : slots = ms := by omega
  subst c1
  subst c2
  exact vx_ret (W.lret B.1 B.2.1 hrt (fun t ht hW => gRet h (fun ad hq => by obtain ⟨_, _, e2, -, -⟩ := gVs_c hq; cases e2; exact ⟨_, rfl, rfl⟩) t ht hW) hS.2.2 hd hlk)
theorem y_vret (B : gBase p c cc kv) (hrt : meth.sig.returnType = none) (hlk : meth.locks = false) (hd : decode cc pc = .ok (.return_, 1)) (hmc : hp.2.1 = u0.1 + mc) (hms : hp.2.2 = u0.2 + ms) :
    gGo p l e R s m args below meth c (gEnd below D A kv ad0 (.inl none) hp args s mc ms) D A kv ad0 u0 nL pc ls [] hp := by
  intro H locs cells slots lm sm h
  have h0 := h
  obtain ⟨tys, ws, hK, hP, hD, hS, hW, hE, hcc, hs, hL, hV⟩ := h0
  cases (show _ = [] from hV)
  have c1 : cells = mc := by omega
  have c2 : slots = ms := by omega
  subst c1
  subst c2
  exact vx_ret (W.vret B.1 B.2.1 hrt (fun t ht hW => gRet (v := none) (w := none) h (fun ad hq => rfl) t ht hW) hS.2.2 hd hlk)
def gRf (ret : Option FieldType) : Prop := ∃ rt, ret = some rt ∧ ((∃ n, rt = .object n) ∨ ∃ t, rt = .array t)
theorem y_aret (B : gBase p c cc kv) (hk : gRf meth.sig.returnType) (hlk : meth.locks = false) (hd : decode cc pc = .ok (.areturn, 1)) {v : Value} (hv : v = .null ∨ ∃ x, v = .ref x) (hmc : hp.2.1 = u0.1 + mc) (hms : hp.2.2 = u0.2 + ms) :
    gGo p l e R s m args below meth c (gEnd below D A kv ad0 (.inl (some v)) hp args s mc ms) D A kv ad0 u0 nL pc ls [v] hp := by
  intro H locs cells slots lm sm h
  have h0 := h
  obtain ⟨tys, ws, hK, hP, hD, hS, hW, hE, hcc, hs, hL, hV⟩ := h0
  obtain ⟨w1, sm, rfl, e1, hVn⟩ := gVs_c hV
  cases (show _ = [] from hVn)
  have c1 : cells = mc := by omega
  have c2 : slots = ms := by omega
  subst c1
  subst c2
  obtain ⟨rt, hrt, hrf⟩ := hk
  have hw : w1 = .null ∨ ∃ a, w1 = .ref a := by
    rcases hv with rfl | ⟨x, rfl⟩
    · exact Or.inl (gV_z e1)
    · exact gV_r e1 B.2.2
  exact vx_ret (W.aret B.1 B.2.1 hrt hrf hw (fun t ht hW => gRet h (fun ad hq => by obtain ⟨_, _, e2, e3, -⟩ := gVs_c hq; cases e2; exact ⟨_, rfl, e3⟩) t ht hW) hS.2.2 hd hlk)
/-- from here the thing at h, of class ci, is thrown -/
def gTh (p : Program) (l : Launch) (e : Env) (R : Room) (s : State) (m : MethodId) (args : Array Value) (below : List Frame) (meth : Method) (c : Code) (Q : State → Prop) (D : va_G) (A : Nat → Prop) (kv : Nat → Value) (ad0 : List Nat) (u0 : Nat × Nat) (nL : Nat) (pc ci h : Nat) (ls : gL) (hp : gS) : Prop :=
  ∀ (H : Heap) (locs : List Loc) (cells slots : Nat) (lm : Array Slot) (rest : List Value) (q : Addr) (ce : Cell), gAt D A kv ad0 u0 nL s ls [.ref h] hp H locs cells slots lm [.ref q] → H[q]? = some ce → ce.vm = .none → s.vm.findClass (gnm ci) = some ce.cls → vx_W p l e R s m args below meth c H locs cells slots Q (F0 m pc lm rest) q
theorem gcov {s0 e0 h0 c0 pc : Nat} : covers ⟨s0, e0, h0, c0⟩ pc = decide (s0 ≤ pc ∧ pc < e0) := by
  simp [covers, Bool.decide_and]
/-- past the rows ahead, our answer is the table's -/
theorem y_hnd (F : gFx K A kv s) {own : String} (O : gOwn s m args A own) (hlk : meth.locks = false) {ci h : Nat} : ∀ (zs pre : List (Nat × Nat × Nat × Nat)) (rs : List (Nat × Nat × Nat × Nat)), c.exceptionTable.toList = tableOf (pre ++ zs) → (∀ z ∈ tableOf pre, covers z pc = false ∨ (z.catchType ≠ 0 ∧ ∃ nm : String, (Cond.classLink own z.catchType nm).before args s = true ∧ va_Nc (gnm ci) nm s)) → gHs own zs rs →
    ∀ {r : Option Nat}, ghnd pc ci rs = some r →
    (∀ lab, r = some lab → gGo p l e R s m args below meth c Q D A kv ad0 u0 nL lab ls [.ref h] hp) → (r = none → (∀ z ∈ c.exceptionTable.toList, covers z pc = false ∨ (z.catchType ≠ 0 ∧ ∃ nm : String, (Cond.classLink own z.catchType nm).before args s = true ∧ va_Nc (gnm ci) nm s)) → gTh p l e R s m args below meth c Q D A kv ad0 u0 nL pc ci h ls hp) → gTh p l e R s m args below meth c Q D A kv ad0 u0 nL pc ci h ls hp
  | [], pre, rs, hT, hpre, hs, r, hg, k1, k2 => by
    rw [show rs = [] from hs] at hg
    cases hg
    exact k2 rfl (by rw [hT, List.append_nil]; exact hpre)
  | z :: zs, pre, rs, hT, hpre, ⟨r0, rs', e0, hr0, hrs⟩, r, hg, k1, k2 => by
    subst e0
    obtain ⟨z1, z2, z3, z4⟩ := z
    obtain ⟨r1, r2, r3, r4⟩ := r0
    obtain ⟨rfl, rfl, rfl, hc⟩ := hr0
    dsimp only at hc hg
    have hT2 : c.exceptionTable.toList = tableOf ((pre ++ [(z1, z2, z3, z4)]) ++ zs) := by rw [hT, List.append_assoc]; rfl
    have hmem : tableOf (pre ++ [(z1, z2, z3, z4)]) = tableOf pre ++ [⟨z1, z2, z3, z4⟩] := by unfold tableOf; rw [List.map_append]; rfl
    unfold ghnd at hg
    by_cases hcov : z1 ≤ pc ∧ pc < z2
    · rw [if_pos hcov] at hg
      cases hcat : gcat9 ci r3 with
      | none => rw [hcat] at hg; cases hg
      | some b =>
        rw [hcat] at hg
        have h99 : r3 ≠ 99 := by
          rintro rfl
          unfold gcat9 at hcat
          rw [if_neg (by omega), if_neg (by omega)] at hcat
          cases hcat
        obtain ⟨hz0, hlk2⟩ := hc.resolve_left h99
        cases b with
        | true =>
          cases hg
          intro H locs cells slots lm rest q ce hAt hce hcv hcl
          refine vx_catch O.1 (tableOf pre) ⟨z1, z2, z3, z4⟩ (tableOf zs) (by rw [hT]; unfold tableOf; rw [List.map_append]; rfl) hpre (by rw [gcov]; exact decide_eq_true hcov) hz0 (O.2.1 _ hlk2) (va_Nw.use rfl (gH_yes F hcat)) hce hcv hcl ?_
          exact k1 _ rfl _ _ _ _ _ _ hAt
        | false =>
          refine y_hnd F O hlk zs (pre ++ [(z1, z2, z3, z4)]) rs' hT2 ?_ hrs hg k1 k2
          rw [hmem]
          intro x hx
          rcases List.mem_append.mp hx with hx | hx
          · exact hpre x hx
          · rw [List.mem_singleton.mp hx]
            exact Or.inr ⟨hz0, _, O.2.1 _ hlk2, gH_no F hcat⟩
    · rw [if_neg hcov] at hg
      refine y_hnd F O hlk zs (pre ++ [(z1, z2, z3, z4)]) rs' hT2 ?_ hrs hg k1 k2
      rw [hmem]
      intro x hx
      rcases List.mem_append.mp hx with hx | hx
      · exact hpre x hx
      · rw [List.mem_singleton.mp hx]
        exact Or.inl (by rw [gcov]; exact decide_eq_false hcov)
/-- what is thrown leaves the method -/
theorem y_out {own : String} (O : gOwn s m args A own) (hlk : meth.locks = false) {ci h : Nat} (hpass : ∀ z ∈ c.exceptionTable.toList, covers z pc = false ∨ (z.catchType ≠ 0 ∧ ∃ nm : String, (Cond.classLink own z.catchType nm).before args s = true ∧ va_Nc (gnm ci) nm s)) (hmc : hp.2.1 = u0.1 + mc) (hms : hp.2.2 = u0.2 + ms) : gTh p l e R s m args below meth c (gEnd below D A kv ad0 (.inr (ci, h)) hp args s mc ms) D A kv ad0 u0 nL pc ci h ls hp := by
  intro H locs cells slots lm rest q ce hAt hce hcv hcl
  obtain ⟨tys, ws, hK, hP, hD, hS, hW, hE, hcc, hs, hL, hV⟩ := hAt
  obtain ⟨w1, sm, e0, e1, -⟩ := gVs_c hV
  cases e0
  exact vx_outP O.1 hlk hpass hce hcv hcl (fun t ht hal => ⟨⟨ci, h, rfl, rfl, tys, ws, hK.moved hal, by rw [ht]; exact hP, hD, hW, hE, e1⟩, hS.F ht⟩) hS.2.2 (by omega) (by omega)
end GG
