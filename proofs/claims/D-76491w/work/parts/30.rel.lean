/-! ===== SOUNDNESS, first part: how the pure machine's cells, values, locals lie in the machine's ===== -/
def gTO : u_T := fun _ => ("GeeseKeys$Off", "place", "I", true)
/-- the classes by number; 21 is Off again, of which the place alone is told; 22 .. 26 are thrown by the machine, nothing is told of their fields -/
def gcl : List vw_C := [(RX0, TX0, 35), (RX1, TX1, 9), (RX2, TX2, 3), (RJ2, TJ2, 3), (RX3, TX3, 6), (RX4, TX4, 2), (RX5, TX5, 1), (RX6, TX6, 29), (RX7, TX7, 3), (RX8, TX8, 3), (RX9, TX9, 3), (RX10, TX10, 3), (RX11, TX11, 3), (RX12, TX12, 3), (RX13, TX13, 4), (RX14, TX14, 5), (RX15, TX15, 7), (RX16, TX16, 2), (RX18, TX18, 2), (RX19, TX19, 1), (RX20, TX20, 3), (RX15, gTO, 1), (RJ14, TJ14, 0), (RJ15, TJ15, 0), (RJ16, TJ16, 0), (RJ17, TJ17, 0), (RJ19, TJ19, 0)]
def gty (ci : Nat) : Nat → FieldType := match ci with
  | 0 => tyX0
  | 1 => tyX1
  | 2 => tyX2
  | 3 => tyJ2
  | 4 => tyX3
  | 5 => tyX4
  | 6 => tyX5
  | 7 => tyX6
  | 8 => tyX7
  | 9 => tyX8
  | 10 => tyX9
  | 11 => tyX10
  | 12 => tyX11
  | 13 => tyX12
  | 14 => tyX13
  | 15 => tyX14
  | 16 => tyX15
  | 17 => tyX16
  | 18 => tyX18
  | 19 => tyX19
  | 20 => tyX20
  | _ => fun _ => .int
/-- a constant; 10: some reference -/
def gKh (kv : Nat → Value) (h : Nat) (w : Value) : Prop := if h = 10 then ∃ a, w = .ref a else w = kv h
def gV (kv : Nat → Value) (ad : List Nat) (v w : Value) : Prop := match v with
  | .int x => w = .int x
  | .long x => w = .long x
  | .null => w = .null
  | .ref h => if h < 16 then gKh kv h w else ∃ a, ad[h - 16]? = some a ∧ w = .ref a
  | _ => False
def gVs (kv : Nat → Value) (ad : List Nat) : List Value → List Value → Prop
  | [], ws => ws = []
  | v :: vs, ws => ∃ (w : Value) (ws' : List Value), ws = w :: ws' ∧ gV kv ad v w ∧ gVs kv ad vs ws'
def gLs (kv : Nat → Value) (ad : List Nat) (nL : Nat) (ls : gL) (lm : Array Slot) : Prop := ls.length = nL ∧ lm.size = nL ∧ lv_wf lm ∧ ∀ (k : Nat) (v : Value), ls[k]? = some (some v) → ∃ w : Value, lm[k]? = some (.val w) ∧ gV kv ad v w
def gDat (kv : Nat → Value) (ad : List Nat) (ty : FieldType) (d d' : (Nat → Int32) ⊕ (Nat → Int64) ⊕ (Nat → UInt32) ⊕ (Nat → UInt64) ⊕ (Nat → Option Nat)) : Prop := match d, d' with
  | .inl f, .inl f' => f' = f ∧ ∀ i, fits ty (.int (f i)) = true
  | .inr (.inl f), .inr (.inl f') => f' = f ∧ ty = .long
  | .inr (.inr (.inr (.inr f))), .inr (.inr (.inr (.inr f'))) => (∃ C, ty = .object C) ∧ ∀ i, gV kv ad (va_rf (f i)) (va_rf (f' i))
  | _, _ => False
def gCell (kv : Nat → Value) (ad : List Nat) (tys : List (ClassId × FieldType)) (e : gE) (q : va_E) : Prop := match e, q with
  | .inl (ty, n, d), .inl (cA, n', d') => (∃ t0 : Nat, tys[t0]? = some (cA, ty)) ∧ n' = n ∧ gDat kv ad ty d d'
  | .inr (ci, fs), .inr (ci', fs') => ci' = ci ∧ gVs kv ad fs fs'
  | _, _ => False
abbrev gad (ws : va_W) : List Nat := ws.map (·.1)
def gW (kv : Nat → Value) (tys : List (ClassId × FieldType)) (hp : List gE) (ws : va_W) : Prop := ws.length = hp.length ∧ ∀ (k : Nat) (e : gE), hp[k]? = some e → ∃ (a : Nat) (q : va_E), ws[k]? = some (a, q) ∧ gCell kv (gad ws) tys e q
-- laws
section GL
variable {kv : Nat → Value} {ad ad' : List Nat} {tys tys' : List (ClassId × FieldType)} {hp : List gE} {ws : va_W}
def gPre (ad ad' : List Nat) : Prop := ∃ l, ad' = ad ++ l
theorem gPre.rf : gPre ad ad := ⟨[], (List.append_nil ad).symm⟩
theorem gPre.tr {a b c : List Nat} (h : gPre a b) (k : gPre b c) : gPre a c := by
  obtain ⟨l, rfl⟩ := h
  obtain ⟨l2, rfl⟩ := k
  exact ⟨l ++ l2, by rw [List.append_assoc]⟩
theorem gPre.at (h : gPre ad ad') {k a : Nat} (e : ad[k]? = some a) : ad'[k]? = some a := by
  obtain ⟨l, rfl⟩ := h
  rw [List.getElem?_append_left (List.getElem?_eq_some_iff.mp e).1]
  exact e
theorem gV.mono (h : gPre ad ad') {v w : Value} (k : gV kv ad v w) : gV kv ad' v w := by
  cases v with
  | ref q =>
    unfold gV at k ⊢
    dsimp only at k ⊢
    by_cases hq : q < 16
    · rw [if_pos hq] at k ⊢; exact k
    · rw [if_neg hq] at k ⊢
      obtain ⟨a, e, r⟩ := k
      exact ⟨a, h.at e, r⟩
  | _ => exact k
theorem gVs.mono (h : gPre ad ad') : ∀ {vs ws : List Value}, gVs kv ad vs ws → gVs kv ad' vs ws
  | [], _, k => k
  | _ :: _, _, ⟨w, ws', e, k1, k2⟩ => ⟨w, ws', e, k1.mono h, gVs.mono h k2⟩
theorem gLs.mono (h : gPre ad ad') {nL : Nat} {ls : gL} {lm : Array Slot} (k : gLs kv ad nL ls lm) : gLs kv ad' nL ls lm :=
  ⟨k.1, k.2.1, k.2.2.1, fun j v e => by obtain ⟨w, e1, e2⟩ := k.2.2.2 j v e; exact ⟨w, e1, e2.mono h⟩⟩
theorem gVs.len : ∀ {vs ws : List Value}, gVs kv ad vs ws → ws.length = vs.length
  | [], _, k => by rw [show _ = [] from k]
  | _ :: vs, _, ⟨w, ws', e, _, k2⟩ => by rw [e, List.length_cons, List.length_cons, gVs.len k2]
theorem gVs.get : ∀ {vs ws : List Value} (_ : gVs kv ad vs ws) (k : Nat) (v : Value), vs[k]? = some v → ∃ w : Value, ws[k]? = some w ∧ gV kv ad v w
  | [], _, _, k, v, e => by simp at e
  | _ :: vs, _, ⟨w, ws', rfl, k1, k2⟩, 0, v, e => by
    rw [List.getElem?_cons_zero] at e
    cases e
    exact ⟨w, rfl, k1⟩
  | _ :: vs, _, ⟨w, ws', rfl, _, k2⟩, k + 1, v, e => by
    rw [List.getElem?_cons_succ] at e
    obtain ⟨w2, e1, e2⟩ := gVs.get k2 k v e
    exact ⟨w2, by rw [List.getElem?_cons_succ]; exact e1, e2⟩
theorem gVs.set : ∀ {vs ws : List Value} (_ : gVs kv ad vs ws) (k : Nat) {v w : Value}, gV kv ad v w → gVs kv ad (vs.set k v) (ws.set k w)
  | [], _, h, k, v, w, _ => by rw [show _ = [] from h]; exact rfl
  | _ :: vs, _, ⟨w0, ws', rfl, k1, k2⟩, 0, v, w, e => ⟨w, ws', rfl, e, k2⟩
  | _ :: vs, _, ⟨w0, ws', rfl, k1, k2⟩, k + 1, v, w, e => ⟨w0, ws'.set k w, rfl, k1, gVs.set k2 k e⟩
theorem gVs.app : ∀ {vs ws vs2 ws2 : List Value}, gVs kv ad vs ws → gVs kv ad vs2 ws2 → gVs kv ad (vs ++ vs2) (ws ++ ws2)
  | [], _, _, _, h, h2 => by rw [show _ = [] from h]; exact h2
  | _ :: vs, _, _, _, ⟨w0, ws', rfl, k1, k2⟩, h2 => ⟨w0, ws' ++ _, rfl, k1, gVs.app k2 h2⟩
theorem gVs.split : ∀ (vs : List Value) {vs2 ws : List Value}, gVs kv ad (vs ++ vs2) ws → ∃ w1 w2, ws = w1 ++ w2 ∧ gVs kv ad vs w1 ∧ gVs kv ad vs2 w2
  | [], _, ws, h => ⟨[], ws, rfl, rfl, h⟩
  | v :: vs, vs2, ws, ⟨w0, ws', e, k1, k2⟩ => by
    obtain ⟨w1, w2, e1, k3, k4⟩ := gVs.split vs k2
    exact ⟨w0 :: w1, w2, by rw [e, e1]; rfl, ⟨w0, w1, rfl, k1, k3⟩, k4⟩
theorem gVs.rev : ∀ {vs ws : List Value}, gVs kv ad vs ws → gVs kv ad vs.reverse ws.reverse
  | [], _, h => by rw [show _ = [] from h]; exact rfl
  | v :: vs, _, ⟨w0, ws', rfl, k1, k2⟩ => by
    rw [List.reverse_cons, List.reverse_cons]
    exact (gVs.rev k2).app ⟨w0, [], rfl, k1, rfl⟩
theorem gV.cat {v w : Value} (h : gV kv ad v w) (hk : ∀ q, q < 16 → (kv q).category = 1) : w.category = gcat v := by
  cases v with
  | int x => rw [show w = _ from h]; rfl
  | long x => rw [show w = _ from h]; rfl
  | null => rw [show w = _ from h]; rfl
  | ref q =>
    unfold gV at h
    dsimp only at h
    by_cases hq : q < 16
    · rw [if_pos hq] at h
      unfold gKh at h
      by_cases h10 : q = 10
      · rw [if_pos h10] at h
        obtain ⟨a, r⟩ := h
        rw [r]; rfl
      · rw [if_neg h10] at h; rw [h]; exact hk q hq
    · rw [if_neg hq] at h
      obtain ⟨a, -, r⟩ := h
      rw [r]; rfl
  | float _ => exact h.elim
  | double _ => exact h.elim
  | retAddr _ => exact h.elim
theorem gVs.dep (hk : ∀ q, q < 16 → (kv q).category = 1) : ∀ {vs ws : List Value}, gVs kv ad vs ws → (ws.map fun v => v.category).sum = gdep vs
  | [], _, h => by rw [show _ = [] from h]; rfl
  | v :: vs, _, ⟨w0, ws', rfl, k1, k2⟩ => by
    rw [List.map_cons, List.sum_cons, gVs.dep hk k2, k1.cat hk]
    rfl
theorem gDat.mono (h : gPre ad ad') {ty : FieldType} {d d' : _} (k : gDat kv ad ty d d') : gDat kv ad' ty d d' := by
  rcases d with f | f | f | f | f <;> rcases d' with f' | f' | f' | f' | f' <;> first | exact k | exact k.elim | exact ⟨k.1, fun i => (k.2 i).mono h⟩
theorem gCell.mono (h : gPre ad ad') (ht : ∀ q ∈ tys, q ∈ tys') {e : gE} {q : va_E} (k : gCell kv ad tys e q) : gCell kv ad' tys' e q := by
  rcases e with ⟨ty, n, d⟩ | ⟨ci, fs⟩ <;> rcases q with ⟨cA, n', d'⟩ | ⟨ci', fs'⟩
  · obtain ⟨⟨t0, k1⟩, k2, k3⟩ := k
    obtain ⟨t1, e1⟩ := List.getElem?_of_mem (ht _ (List.mem_of_getElem? k1))
    exact ⟨⟨t1, e1⟩, k2, k3.mono h⟩
  · exact k.elim
  · exact k.elim
  · exact ⟨k.1, k.2.mono h⟩
theorem gW.at (h : gW kv tys hp ws) {k : Nat} {e : gE} (he : hp[k]? = some e) : ∃ (a : Nat) (q : va_E), ws[k]? = some (a, q) ∧ gCell kv (gad ws) tys e q := h.2 k e he
/-- a cell is written -/
theorem gW.put (h : gW kv tys hp ws) {k a : Nat} {q q2 : va_E} {e : gE} (he : ws[k]? = some (a, q)) (hc : gCell kv (gad ws) tys e q2) : gW kv tys (hp.set k e) (ws.set k (a, q2)) ∧ gad (ws.set k (a, q2)) = gad ws := by
  have e1 : gad (ws.set k (a, q2)) = gad ws := by
    refine List.ext_getElem? fun j => ?_
    rw [List.getElem?_map, List.getElem?_map, List.getElem?_set]
    by_cases hj : k = j
    · subst hj
      rw [if_pos rfl, he]
      rw [if_pos (List.getElem?_eq_some_iff.mp he).1]
      rfl
    · rw [if_neg hj]
  refine ⟨⟨by rw [List.length_set, List.length_set]; exact h.1, fun j e2 hj => ?_⟩, e1⟩
  rw [e1]
  rw [List.getElem?_set] at hj
  by_cases hk : k = j
  · subst hk
    have hl : k < hp.length := by rw [← h.1]; exact (List.getElem?_eq_some_iff.mp he).1
    rw [if_pos rfl, if_pos hl] at hj
    cases hj
    exact ⟨a, q2, List.getElem?_set_self (by rw [h.1]; exact hl), hc⟩
  · rw [if_neg hk] at hj
    obtain ⟨a3, q3, e3, k3⟩ := h.2 j e2 hj
    exact ⟨a3, q3, by rw [List.getElem?_set_ne hk]; exact e3, k3⟩
/-- a cell is made -/
theorem gW.push (h : gW kv tys hp ws) {a : Nat} {q : va_E} {e : gE} (ht : ∀ x ∈ tys, x ∈ tys') (hc : gCell kv (gad ws ++ [a]) tys' e q) : gW kv tys' (hp ++ [e]) (ws ++ [(a, q)]) ∧ gPre (gad ws) (gad (ws ++ [(a, q)])) ∧ gad (ws ++ [(a, q)]) = gad ws ++ [a] := by
  have e1 : gad (ws ++ [(a, q)]) = gad ws ++ [a] := by simp [gad]
  have hp0 : gPre (gad ws) (gad ws ++ [a]) := ⟨[a], rfl⟩
  refine ⟨⟨by rw [List.length_append, List.length_append, h.1]; rfl, fun j e2 hj => ?_⟩, by rw [e1]; exact hp0, e1⟩
  rw [e1]
  by_cases hl : j < hp.length
  · rw [List.getElem?_append_left hl] at hj
    obtain ⟨a3, q3, e3, k3⟩ := h.2 j e2 hj
    exact ⟨a3, q3, by rw [List.getElem?_append_left (by rw [h.1]; exact hl)]; exact e3, k3.mono hp0 ht⟩
  · have hj0 : j = hp.length := by
      have := (List.getElem?_eq_some_iff.mp hj).1
      rw [List.length_append, List.length_singleton] at this
      omega
    subst hj0
    rw [List.getElem?_append_right (Nat.le_refl _), Nat.sub_self] at hj
    cases hj
    exact ⟨a, q, by rw [← h.1, List.getElem?_append_right (Nat.le_refl _), Nat.sub_self]; rfl, hc⟩
end GL
-- locals
def gAll (lm : Array Slot) : List (Nat × Value) := (List.range lm.size).filterMap fun k => match lm[k]? with
  | some (Slot.val w) => some (k, w)
  | _ => none
theorem gAll_mem {lm : Array Slot} {k : Nat} {w : Value} : (k, w) ∈ gAll lm ↔ lm[k]? = some (.val w) := by
  unfold gAll
  rw [List.mem_filterMap]
  constructor
  · rintro ⟨j, -, hj⟩
    split at hj
    · rename_i w' e
      cases hj
      exact e
    · cases hj
  · intro e
    refine ⟨k, List.mem_range.mpr (Array.getElem?_eq_some_iff.mp e).1, ?_⟩
    rw [e]
theorem gAll_has {lm : Array Slot} {nL : Nat} (h1 : lm.size = nL) (h2 : lv_wf lm) : lv_has lm nL (gAll lm) := ⟨h1, h2, fun q hq => gAll_mem.mp hq⟩
theorem gcut_at {ls : gL} {i k : Nat} {v : Value} (h : (gcut ls i)[k]? = some (some v)) : ls[k]? = some (some v) ∧ (k + 1 = i → glong (some v) = false) := by
  cases i with
  | zero => exact ⟨h, fun e => absurd e (by omega)⟩
  | succ j =>
    unfold gcut at h
    dsimp only at h
    by_cases hg : glong (ls.getD j none) = true
    · rw [if_pos hg, List.getElem?_set] at h
      by_cases hk : j = k
      · rw [if_pos hk] at h
        split at h <;> simp at h
      · rw [if_neg hk] at h
        exact ⟨h, fun e => absurd (show j = k by omega) hk⟩
    · rw [if_neg hg] at h
      refine ⟨h, fun e => ?_⟩
      have hj : k = j := by omega
      subst hj
      have e2 : ls.getD k none = some v := by rw [List.getD_eq_getElem?_getD, h]; rfl
      rw [e2] at hg
      simpa using hg
theorem gcut_len {ls : gL} {i : Nat} : (gcut ls i).length = ls.length := by
  unfold gcut
  cases i with
  | zero => rfl
  | succ j => dsimp only; split <;> simp
section GLo
variable {kv : Nat → Value} {ad : List Nat} {nL i : Nat} {ls : gL} {lm lm' : Array Slot} {v w : Value}
theorem gLs.sto1 (hk : ∀ q, q < 16 → (kv q).category = 1) (h : gLs kv ad nL ls lm) (hi : i < nL) (hv : gV kv ad v w) (k : lv_has lm' nL ((i, w) :: (gAll lm).filter (fun q => !(q.1 == i) && !(q.1 + 1 == i && q.2.category == 2)))) : gLs kv ad nL (gsto1 ls i v) lm' := by
  refine ⟨by unfold gsto1; rw [List.length_set, gcut_len]; exact h.1, k.1, k.2.1, fun j v' e => ?_⟩
  unfold gsto1 at e
  rw [List.getElem?_set] at e
  by_cases hj : i = j
  · subst hj
    rw [if_pos rfl, if_pos (by rw [gcut_len, h.1]; exact hi)] at e
    cases e
    exact ⟨w, k.2.2 (i, w) List.mem_cons_self, hv⟩
  · rw [if_neg hj] at e
    obtain ⟨e1, e2⟩ := gcut_at e
    obtain ⟨w', e3, e4⟩ := h.2.2.2 j v' e1
    refine ⟨w', k.2.2 (j, w') (List.mem_cons_of_mem _ (List.mem_filter.mpr ⟨gAll_mem.mpr e3, ?_⟩)), e4⟩
    have c1 : (j == i) = false := by simpa using fun z : j = i => hj z.symm
    by_cases hn : j + 1 = i
    · have c2 : w'.category = 1 := by
        rw [e4.cat hk]
        have := e2 hn
        cases v' <;> first | rfl | (simp [glong] at this)
      simp [c1, c2]
    · simp [c1, hn]
theorem gLs.sto2 (hk : ∀ q, q < 16 → (kv q).category = 1) (h : gLs kv ad nL ls lm) (hi : i + 1 < nL) (hv : gV kv ad v w) (k : lv_has lm' nL ((i, w) :: (gAll lm).filter (fun q => !(q.1 == i) && (!(q.1 == i + 1) && !(q.1 + 1 == i && q.2.category == 2))))) : gLs kv ad nL (gsto2 ls i v) lm' := by
  refine ⟨by unfold gsto2; rw [List.length_set, List.length_set, gcut_len]; exact h.1, k.1, k.2.1, fun j v' e => ?_⟩
  unfold gsto2 at e
  rw [List.getElem?_set] at e
  by_cases hj1 : i + 1 = j
  · subst hj1
    rw [if_pos rfl] at e
    split at e <;> simp at e
  · rw [if_neg hj1, List.getElem?_set] at e
    by_cases hj : i = j
    · subst hj
      rw [if_pos rfl, if_pos (by rw [gcut_len, h.1]; omega)] at e
      cases e
      exact ⟨w, k.2.2 (i, w) List.mem_cons_self, hv⟩
    · rw [if_neg hj] at e
      obtain ⟨e1, e2⟩ := gcut_at e
      obtain ⟨w', e3, e4⟩ := h.2.2.2 j v' e1
      refine ⟨w', k.2.2 (j, w') (List.mem_cons_of_mem _ (List.mem_filter.mpr ⟨gAll_mem.mpr e3, ?_⟩)), e4⟩
      have c1 : (j == i) = false := by simpa using fun z : j = i => hj z.symm
      have c3 : (j == i + 1) = false := by simpa using fun z : j = i + 1 => hj1 z.symm
      by_cases hn : j + 1 = i
      · have c2 : w'.category = 1 := by
          rw [e4.cat hk]
          have := e2 hn
          cases v' <;> first | rfl | (simp [glong] at this)
        simp [c1, c2, c3]
      · simp [c1, hn, c3]
end GLo
