/-! ===== SOUNDNESS, fourth part: fields, arrays, new things (written by gen/snd3.py) ===== -/
def glist (b : Nat) : List Nat := match b with
  | 30 => [8, 9, 10, 11, 12, 13, 14]
  | 31 => [9, 12]
  | 32 => [10, 13]
  | 33 => [11, 14]
  | 34 => [18, 19, 20]
  | 36 => [8, 9, 10, 11, 12, 13, 14]
  | b => [b]
theorem ggrp_in {b ci : Nat} (h : ggrp b ci = true) : ci ∈ glist b := by
  unfold ggrp at h
  unfold glist
  split at h <;> first | (cases h; done) | simp only [Bool.and_eq_true, Bool.or_eq_true, decide_eq_true_eq] at h
  · obtain ⟨h1, h2⟩ := h
    simp only [List.mem_cons, List.not_mem_nil, or_false]
    omega
  · simp only [List.mem_cons, List.not_mem_nil, or_false]; exact h
  · simp only [List.mem_cons, List.not_mem_nil, or_false]; exact h
  · simp only [List.mem_cons, List.not_mem_nil, or_false]; exact h
  · obtain ⟨h1, h2⟩ := h
    simp only [List.mem_cons, List.not_mem_nil, or_false]
    omega
  · obtain ⟨h1, h2⟩ := h
    simp only [List.mem_cons, List.not_mem_nil, or_false]
    omega
  · rename_i n1 n2 n3 n4 n5 n6 n7
    split
    · exact absurd rfl n1
    · exact absurd rfl n2
    · exact absurd rfl n3
    · exact absurd rfl n4
    · exact absurd rfl n5
    · exact absurd rfl n6
    · rw [h]; exact List.mem_singleton.mpr rfl
def gfok (a b : Nat) (decl name desc : String) (fin : Bool) : Bool := (glist b).all fun ci => match gcl[ci]? with
  | some r => decide (a < r.2.2) && (decide (r.2.1 a = (decl, name, desc, fin)))
  | none => false
theorem gfok_at {a b ci : Nat} {decl name desc : String} {fin : Bool} (h : gfok a b decl name desc fin = true) (hc : ggrp b ci = true) : ∃ (C : String) (T : u_T) (N : Nat), gcl[ci]? = some (C, T, N) ∧ a < N ∧ T a = (decl, name, desc, fin) := by
  have h1 := List.all_eq_true.mp h ci (ggrp_in hc)
  split at h1
  · rename_i r e
    obtain ⟨C, T, N⟩ := r
    rw [Bool.and_eq_true, decide_eq_true_eq, decide_eq_true_eq] at h1
    exact ⟨C, T, N, e, h1.1, h1.2⟩
  · cases h1
theorem gcl_in {ci : Nat} {C : String} {T : u_T} {N : Nat} (h : gcl[ci]? = some (C, T, N)) : ∀ w ∈ u_ws C T N, w ∈ lw_all := by
  have key : ∀ r ∈ gcl, ∀ w ∈ u_ws r.1 r.2.1 r.2.2, w ∈ lw_all := by
    unfold gcl
    have z : ∀ (C : String) (T : u_T), ∀ w ∈ u_ws C T 0, w ∈ lw_all := fun C T w h => by simp [u_ws] at h
    have y : ∀ w ∈ u_ws RX15 gTO 1, w ∈ lw_all := fun w h => by
      obtain ⟨k, hk, rfl⟩ := List.mem_map.mp h
      exact q848
    refine List.forall_mem_cons.mpr ⟨in_X0, List.forall_mem_cons.mpr ⟨in_X1, List.forall_mem_cons.mpr ⟨in_X2, List.forall_mem_cons.mpr ⟨in_J2, List.forall_mem_cons.mpr ⟨in_X3, List.forall_mem_cons.mpr ⟨in_X4, List.forall_mem_cons.mpr ⟨in_X5, List.forall_mem_cons.mpr ⟨in_X6, List.forall_mem_cons.mpr ⟨in_X7, List.forall_mem_cons.mpr ⟨in_X8, List.forall_mem_cons.mpr ⟨in_X9, List.forall_mem_cons.mpr ⟨in_X10, List.forall_mem_cons.mpr ⟨in_X11, List.forall_mem_cons.mpr ⟨in_X12, List.forall_mem_cons.mpr ⟨in_X13, List.forall_mem_cons.mpr ⟨in_X14, List.forall_mem_cons.mpr ⟨in_X15, List.forall_mem_cons.mpr ⟨in_X16, List.forall_mem_cons.mpr ⟨in_X18, List.forall_mem_cons.mpr ⟨in_X19, List.forall_mem_cons.mpr ⟨in_X20, List.forall_mem_cons.mpr ⟨y, List.forall_mem_cons.mpr ⟨z _ _, List.forall_mem_cons.mpr ⟨z _ _, List.forall_mem_cons.mpr ⟨z _ _, List.forall_mem_cons.mpr ⟨z _ _, List.forall_mem_cons.mpr ⟨z _ _, fun _ h => absurd h (List.not_mem_nil)⟩⟩⟩⟩⟩⟩⟩⟩⟩⟩⟩⟩⟩⟩⟩⟩⟩⟩⟩⟩⟩⟩⟩⟩⟩⟩⟩
  exact key _ (List.mem_of_getElem? h)
def gtyOk (ci : Nat) : Prop := ∀ (C : String) (T : u_T) (N : Nat), gcl[ci]? = some (C, T, N) → (∀ k, k < N → parseFieldDescriptor (T k).2.2.1 = some (gty ci k)) ∧ ∀ a, a < N → ∀ b, b < N → a ≠ b → (T a).2.1 ≠ (T b).2.1

theorem gty_ok : ∀ ci, gtyOk ci := by
  intro ci C T N h
  match ci, h with
  | 0, h => cases h; exact ⟨tyX0_ok, nmX0⟩
  | 1, h => cases h; exact ⟨tyX1_ok, nmX1⟩
  | 2, h => cases h; exact ⟨tyX2_ok, nmX2⟩
  | 3, h => cases h; exact ⟨tyJ2_ok, nmJ2⟩
  | 4, h => cases h; exact ⟨tyX3_ok, nmX3⟩
  | 5, h => cases h; exact ⟨tyX4_ok, nmX4⟩
  | 6, h => cases h; exact ⟨tyX5_ok, nmX5⟩
  | 7, h => cases h; exact ⟨tyX6_ok, nmX6⟩
  | 8, h => cases h; exact ⟨tyX7_ok, nmX7⟩
  | 9, h => cases h; exact ⟨tyX8_ok, nmX8⟩
  | 10, h => cases h; exact ⟨tyX9_ok, nmX9⟩
  | 11, h => cases h; exact ⟨tyX10_ok, nmX10⟩
  | 12, h => cases h; exact ⟨tyX11_ok, nmX11⟩
  | 13, h => cases h; exact ⟨tyX12_ok, nmX12⟩
  | 14, h => cases h; exact ⟨tyX13_ok, nmX13⟩
  | 15, h => cases h; exact ⟨tyX14_ok, nmX14⟩
  | 16, h => cases h; exact ⟨tyX15_ok, nmX15⟩
  | 17, h => cases h; exact ⟨tyX16_ok, nmX16⟩
  | 18, h => cases h; exact ⟨tyX18_ok, nmX18⟩
  | 19, h => cases h; exact ⟨tyX19_ok, nmX19⟩
  | 20, h => cases h; exact ⟨tyX20_ok, nmX20⟩
  | 21, h => cases h; exact ⟨by decide +kernel, by decide +kernel⟩
  | 22, h => cases h; exact ⟨fun k hk => absurd hk (Nat.not_lt_zero k), fun k hk => absurd hk (Nat.not_lt_zero k)⟩
  | 23, h => cases h; exact ⟨fun k hk => absurd hk (Nat.not_lt_zero k), fun k hk => absurd hk (Nat.not_lt_zero k)⟩
  | 24, h => cases h; exact ⟨fun k hk => absurd hk (Nat.not_lt_zero k), fun k hk => absurd hk (Nat.not_lt_zero k)⟩
  | 25, h => cases h; exact ⟨fun k hk => absurd hk (Nat.not_lt_zero k), fun k hk => absurd hk (Nat.not_lt_zero k)⟩
  | 26, h => cases h; exact ⟨fun k hk => absurd hk (Nat.not_lt_zero k), fun k hk => absurd hk (Nat.not_lt_zero k)⟩
  | n + 27, h => simp [gcl] at h
theorem gget_at {hp : gS} {h : Nat} {q : gE} (e : gget hp h = some q) : 16 ≤ h ∧ hp.1[h - 16]? = some q := by
  unfold gget at e
  by_cases hh : h < 16
  · rw [if_pos hh] at e; cases e
  · rw [if_neg hh] at e; exact ⟨by omega, e⟩
theorem gix_at {i : Int32} {n k : Nat} (h : gix i n = some k) : vp_in i n ∧ k = i.toNatClampNeg := by
  unfold gix at h
  by_cases hh : i < 0 ∨ n ≤ i.toNatClampNeg
  · rw [if_pos hh] at h; cases h
  · rw [if_neg hh] at h; exact ⟨hh, (Option.some.inj h).symm⟩
section GC
variable {p : Program} {l : Launch} {e : Env} {R : Room} {s : State} {m : MethodId} {args : Array Value} {below : List Frame} {meth : Method} {c : Code} {Q : State → Prop}
variable {D : va_G} {A : Nat → Prop} {kv : Nat → Value} {ad0 : List Nat} {u0 : Nat × Nat} {nL : Nat} {K : gK} {cc : ByteArray} {pc : Nat} {ls : gL} {st : List Value} {hp : gS}
/-- a reference to a cell: its address, what lies there -/
theorem gRef {tys : List (ClassId × FieldType)} {ws : va_W} {h : Nat} {q : gE} {w : Value} (hW : gW kv tys hp.1 ws) (hv : gV kv (gad ws) (.ref h) w) (hg : gget hp h = some q) : ∃ (a : Nat) (z : va_E), w = .ref a ∧ ws[h - 16]? = some (a, z) ∧ gCell kv (gad ws) tys q z := by
  obtain ⟨h16, he⟩ := gget_at hg
  obtain ⟨a, e1, rfl⟩ := gV_16 h16 hv
  obtain ⟨a', z, e2, hz⟩ := hW.at he
  rw [List.getElem?_map, e2] at e1
  cases e1
  exact ⟨_, z, rfl, e2, hz⟩
/-- what a method's activation knows: who it is, the tables' words, that its own new cells may be written -/
def gOwn (s : State) (m : MethodId) (args : Array Value) (A : Nat → Prop) (own : String) : Prop := s.vm.findClass own = some m.cls ∧ (∀ w ∈ lw_all, w.before args s = true) ∧ ∀ q, s.heap.size ≤ q → A q
/-- a field's link: own, or a nest mate's -/
def gFl (s : State) (own : String) (index : Nat) (ref name desc : String) : Prop := Cond.fieldLink own index ref name desc ∈ lw_all ∨ ∃ host : String, va_Nw (.fieldLinkNest own index ref name desc host) s
def gSf (ref decl name desc : String) : Prop := ref = decl ∨ Cond.sameField ref decl name desc ∈ lw_all
theorem gSf.use {own ref decl name desc : String} (O : gOwn s m args A own) (h : gSf ref decl name desc) (x : ClassId × Class × Nat × Field) (hx : s.fieldFound? decl name desc = some x) : s.fieldFound? ref name desc = some x := by
  rcases h with rfl | h
  · exact hx
  · exact u_same (O.2.1 _ h) x hx

theorem y_getfield (B : gBase p c cc kv) {own ref decl name desc : String} {fin : Bool} (O : gOwn s m args A own) {n a b h ci : Nat} {fs : List Value} {v : Value} (hf : gfok a b decl name desc fin = true) (hl : gFl s own n ref name desc) (hsm : gSf ref decl name desc) (hd : decode cc pc = .ok (.getfield n, 3))
    (hg : gget hp h = some (gob ci fs)) (hb : ggrp b ci = true) (hv : fs[a]? = some v) (k : gGo p l e R s m args below meth c Q D A kv ad0 u0 nL (pc + 3) ls (v :: st) hp) : gGo p l e R s m args below meth c Q D A kv ad0 u0 nL pc ls (.ref h :: st) hp := by
  intro H locs cells slots lm sm h
  obtain ⟨tys, ws, hK, hP, hD, hS, hW, hE, hcc, hs, hL, hV⟩ := h
  obtain ⟨w, sm, rfl, e1, hVn⟩ := gVs_c hV; clear hV; have hV := hVn; clear hVn
  obtain ⟨ad, z, rfl, hz, hq⟩ := gRef hW e1 hg
  rcases z with z | ⟨ci', fs'⟩
  · exact hq.elim
  obtain ⟨rfl, hfs⟩ := hq
  obtain ⟨C, T, N, hc, hk, hT⟩ := gfok_at hf hb
  obtain ⟨w, hw, hwv⟩ := hfs.get a v hv
  have k' := k _ _ _ _ _ _ ⟨tys, ws, hK, hP, hD, hS, hW, hE, hcc, hs, hL, ⟨_, _, rfl, hwv, hV⟩⟩
  have hsm' : ∀ x, s.fieldFound? (T a).1 (T a).2.1 (T a).2.2.1 = some x → s.fieldFound? ref (T a).2.1 (T a).2.2.1 = some x := by rw [hT]; exact hsm.use O
  rcases hl with hl | ⟨host, hl⟩
  · exact va_get B.1 B.2.1 O.2.1 (gcl_in hc) O.1 hK hP (_ - 16) hz hc a hk (by rw [hT]; exact O.2.1 _ hl) hsm' hw hd k'
  · exact va_getN B.1 B.2.1 (host := host) O.2.1 (gcl_in hc) O.1 hK hP (_ - 16) hz hc a hk (by rw [hT]; exact va_Nw.use rfl hl) hsm' hw hd k'
/-- the kind of a field: 0 int, 1 boolean, 2 reference -/
def gkind (t : Nat) (ty : FieldType) : Prop := match t with
  | 0 => ty = .int
  | 1 => ty = .boolean
  | _ => (∃ C, ty = .object C) ∨ ∃ x, ty = .array x
theorem gfv_fit (B : gBase p c cc kv) {ad : List Nat} {t : Nat} {ty : FieldType} {v w : Value} (h : gfv t v = true) (hv : gV kv ad v w) (hk : gkind t ty) : narrow ty w = w ∧ fits ty w = true := by
  have href : (w = .null ∨ ∃ a, w = .ref a) → gkind 2 ty → narrow ty w = w ∧ fits ty w = true := by
    intro h1 h2
    rcases h2 with ⟨C, rfl⟩ | ⟨x, rfl⟩ <;> rcases h1 with rfl | ⟨a, rfl⟩ <;> exact ⟨rfl, rfl⟩
  unfold gfv at h
  split at h
  · rw [gV_i hv, show ty = .int from hk]; exact ⟨rfl, rfl⟩
  · rw [gV_i hv, show ty = .boolean from hk]
    simp only [Bool.or_eq_true, decide_eq_true_eq] at h
    rcases h with rfl | rfl <;> exact ⟨rfl, rfl⟩
  · exact href (gV_r hv B.2.2) hk
  · exact href (Or.inl (gV_z hv)) hk
  · cases h
theorem gVs.len' {ad : List Nat} {vs ws : List Value} (h : gVs kv ad vs ws) {a : Nat} (ha : a < vs.length) : a < ws.length := by rw [h.len]; exact ha
theorem y_putfield (B : gBase p c cc kv) {own ref decl name desc : String} {fin : Bool} {ty : FieldType} (O : gOwn s m args A own) {n a b t h ci : Nat} {fs : List Value} {v : Value} (hf : gfok a b decl name desc fin = true) (hty : parseFieldDescriptor desc = some ty) (hkd : gkind t ty) (hfin : fin = false ∨ (meth.name = "<init>" ∧ decl = own ∧ Cond.fieldLink own n ref name desc ∈ lw_all)) (hl : gFl s own n ref name desc) (hsm : gSf ref decl name desc) (hd : decode cc pc = .ok (.putfield n, 3))
    (hg : gget hp h = some (gob ci fs)) (hb : ggrp b ci = true) (hv : gfv t v = true) (ha : a < fs.length) (k : gGo p l e R s m args below meth c Q D A kv ad0 u0 nL (pc + 3) ls st (gset hp h (gob ci (fs.set a v)))) : gGo p l e R s m args below meth c Q D A kv ad0 u0 nL pc ls (v :: .ref h :: st) hp := by
  intro H locs cells slots lm sm h
  obtain ⟨tys, ws, hK, hP, hD, hS, hW, hE, hcc, hs, hL, hV⟩ := h
  obtain ⟨w, sm, rfl, e0, hVn⟩ := gVs_c hV; clear hV; have hV := hVn; clear hVn
  obtain ⟨w1, sm, rfl, e1, hVn⟩ := gVs_c hV; clear hV; have hV := hVn; clear hVn
  obtain ⟨ad, z, rfl, hz, hq⟩ := gRef hW e1 hg
  rcases z with z | ⟨ci', fs'⟩
  · exact hq.elim
  obtain ⟨rfl, hfs⟩ := hq
  obtain ⟨C, T, N, hc, hk, hT⟩ := gfok_at hf hb
  obtain ⟨hn1, hn2⟩ := gfv_fit B hv e0 hkd
  have hsm' : ∀ x, s.fieldFound? (T a).1 (T a).2.1 (T a).2.2.1 = some x → s.fieldFound? ref (T a).2.1 (T a).2.2.1 = some x := by rw [hT]; exact hsm.use O
  have hll : a < fs'.length := hfs.len' ha
  have kk : ∀ (H1 : Heap) (locs1 : List Loc), va_P D gcl (ws.set (h - 16) (ad, .inr (ci', fs'.set a w))) H1 → va_D A (ws.set (h - 16) (ad, .inr (ci', fs'.set a w))) → va_S A s.heap H1 locs1 → W p l e R s m args below meth c H1 locs1 cells slots Q (F0 m (pc + 3) lm sm) := by
    intro H1 locs1 hP1 hD1 hS1
    obtain ⟨hW1, ead⟩ := hW.put hz (e := gob ci' (fs.set a v)) (q2 := .inr (ci', fs'.set a w)) ⟨rfl, hfs.set a e0⟩
    exact k _ _ _ _ _ _ ⟨tys, _, hK, hP1, hD1, hS1, hW1, by rw [ead]; exact hE, hcc, hs, by rw [ead]; exact hL, by rw [ead]; exact hV⟩
  obtain ⟨g1, g2⟩ := gty_ok ci' C T N hc
  rcases hfin with rfl | ⟨hi1, hi2, hi3⟩
  · rcases hl with hl | ⟨host, hl⟩
    · exact va_put B.1 B.2.1 O.2.1 (gcl_in hc) (gty ci') g1 g2 O.1 hK hP hD hS (_ - 16) hz hc a hk (by rw [hT]; exact O.2.1 _ hl) hsm' (by rw [hT]) (by rw [hT]; exact hty) hn1 hn2 hll hd kk
    · exact va_putN B.1 B.2.1 (host := host) O.2.1 (gcl_in hc) (gty ci') g1 g2 O.1 hK hP hD hS (_ - 16) hz hc a hk (by rw [hT]; exact va_Nw.use rfl hl) hsm' (by rw [hT]) (by rw [hT]; exact hty) hn1 hn2 hll hd kk
  · cases fin with
    | false => exact va_put B.1 B.2.1 O.2.1 (gcl_in hc) (gty ci') g1 g2 O.1 hK hP hD hS (_ - 16) hz hc a hk (by rw [hT]; exact O.2.1 _ hi3) hsm' (by rw [hT]) (by rw [hT]; exact hty) hn1 hn2 hll hd kk
    | true => exact va_putF B.1 B.2.1 O.2.1 (gcl_in hc) (gty ci') g1 g2 O.1 hK hP hD hS (_ - 16) hz hc a hk (by rw [hT]; exact O.2.1 _ hi3) hsm' (by rw [hT]) hi1 (by rw [hT]; exact hi2) (by rw [hT]; exact hty) hn1 hn2 hll hd kk

theorem y_iaload (B : gBase p c cc kv) {h n k0 : Nat} {f : Nat → Int32} {j : Int32} (hd : decode cc pc = .ok (.iaload, 1)) (hg : gget hp h = some (.inl (.int, n, .inl f)) ) (hj : gix j n = some k0) (k : gGo p l e R s m args below meth c Q D A kv ad0 u0 nL (pc + 1) ls (.int (f k0) :: st) hp) : gGo p l e R s m args below meth c Q D A kv ad0 u0 nL pc ls (.int j :: .ref h :: st) hp := by
  intro H locs cells slots lm sm h
  obtain ⟨tys, ws, hK, hP, hD, hS, hW, hE, hcc, hs, hL, hV⟩ := h
  obtain ⟨w, sm, rfl, e0, hVn⟩ := gVs_c hV; clear hV; have hV := hVn; clear hVn
  cases gV_i e0
  obtain ⟨w1, sm, rfl, e1, hVn⟩ := gVs_c hV; clear hV; have hV := hVn; clear hVn
  obtain ⟨ad, z, rfl, hz, hq⟩ := gRef hW e1 hg
  rcases z with ⟨cA, n', d'⟩ | z
  rotate_left
  · exact hq.elim
  obtain ⟨⟨t0, ht⟩, rfl, hq⟩ := hq
  rcases d' with f' | f' | f' | f' | f' <;> first | exact hq.elim | skip
  obtain ⟨rfl, hft⟩ := hq
  obtain ⟨h1, rfl⟩ := gix_at hj
  exact va_iald B.1 B.2.1 hK hP (_ - 16) t0 hz ht h1 hd (k _ _ _ _ _ _ ⟨tys, ws, hK, hP, hD, hS, hW, hE, hcc, hs, hL, ⟨_, _, rfl, rfl, hV⟩⟩)
theorem y_baloadB (B : gBase p c cc kv) {h n k0 : Nat} {f : Nat → Int32} {j : Int32} (hd : decode cc pc = .ok (.baload, 1)) (hg : gget hp h = some (.inl (.byte, n, .inl f)) ) (hj : gix j n = some k0) (k : gGo p l e R s m args below meth c Q D A kv ad0 u0 nL (pc + 1) ls (.int (f k0) :: st) hp) : gGo p l e R s m args below meth c Q D A kv ad0 u0 nL pc ls (.int j :: .ref h :: st) hp := by
  intro H locs cells slots lm sm h
  obtain ⟨tys, ws, hK, hP, hD, hS, hW, hE, hcc, hs, hL, hV⟩ := h
  obtain ⟨w, sm, rfl, e0, hVn⟩ := gVs_c hV; clear hV; have hV := hVn; clear hVn
  cases gV_i e0
  obtain ⟨w1, sm, rfl, e1, hVn⟩ := gVs_c hV; clear hV; have hV := hVn; clear hVn
  obtain ⟨ad, z, rfl, hz, hq⟩ := gRef hW e1 hg
  rcases z with ⟨cA, n', d'⟩ | z
  rotate_left
  · exact hq.elim
  obtain ⟨⟨t0, ht⟩, rfl, hq⟩ := hq
  rcases d' with f' | f' | f' | f' | f' <;> first | exact hq.elim | skip
  obtain ⟨rfl, hft⟩ := hq
  obtain ⟨h1, rfl⟩ := gix_at hj
  exact va_bald B.1 B.2.1 hK hP (_ - 16) t0 hz ht h1 hd (k _ _ _ _ _ _ ⟨tys, ws, hK, hP, hD, hS, hW, hE, hcc, hs, hL, ⟨_, _, rfl, rfl, hV⟩⟩)
theorem y_baloadZ (B : gBase p c cc kv) {h n k0 : Nat} {f : Nat → Int32} {j : Int32} (hd : decode cc pc = .ok (.baload, 1)) (hg : gget hp h = some (.inl (.boolean, n, .inl f)) ) (hj : gix j n = some k0) (k : gGo p l e R s m args below meth c Q D A kv ad0 u0 nL (pc + 1) ls (.int (f k0) :: st) hp) : gGo p l e R s m args below meth c Q D A kv ad0 u0 nL pc ls (.int j :: .ref h :: st) hp := by
  intro H locs cells slots lm sm h
  obtain ⟨tys, ws, hK, hP, hD, hS, hW, hE, hcc, hs, hL, hV⟩ := h
  obtain ⟨w, sm, rfl, e0, hVn⟩ := gVs_c hV; clear hV; have hV := hVn; clear hVn
  cases gV_i e0
  obtain ⟨w1, sm, rfl, e1, hVn⟩ := gVs_c hV; clear hV; have hV := hVn; clear hVn
  obtain ⟨ad, z, rfl, hz, hq⟩ := gRef hW e1 hg
  rcases z with ⟨cA, n', d'⟩ | z
  rotate_left
  · exact hq.elim
  obtain ⟨⟨t0, ht⟩, rfl, hq⟩ := hq
  rcases d' with f' | f' | f' | f' | f' <;> first | exact hq.elim | skip
  obtain ⟨rfl, hft⟩ := hq
  obtain ⟨h1, rfl⟩ := gix_at hj
  exact va_zald B.1 B.2.1 hK hP (_ - 16) t0 hz ht h1 hd (k _ _ _ _ _ _ ⟨tys, ws, hK, hP, hD, hS, hW, hE, hcc, hs, hL, ⟨_, _, rfl, rfl, hV⟩⟩)
theorem y_caload (B : gBase p c cc kv) {h n k0 : Nat} {f : Nat → Int32} {j : Int32} (hd : decode cc pc = .ok (.caload, 1)) (hg : gget hp h = some (.inl (.char, n, .inl f)) ) (hj : gix j n = some k0) (k : gGo p l e R s m args below meth c Q D A kv ad0 u0 nL (pc + 1) ls (.int (f k0) :: st) hp) : gGo p l e R s m args below meth c Q D A kv ad0 u0 nL pc ls (.int j :: .ref h :: st) hp := by
  intro H locs cells slots lm sm h
  obtain ⟨tys, ws, hK, hP, hD, hS, hW, hE, hcc, hs, hL, hV⟩ := h
  obtain ⟨w, sm, rfl, e0, hVn⟩ := gVs_c hV; clear hV; have hV := hVn; clear hVn
  cases gV_i e0
  obtain ⟨w1, sm, rfl, e1, hVn⟩ := gVs_c hV; clear hV; have hV := hVn; clear hVn
  obtain ⟨ad, z, rfl, hz, hq⟩ := gRef hW e1 hg
  rcases z with ⟨cA, n', d'⟩ | z
  rotate_left
  · exact hq.elim
  obtain ⟨⟨t0, ht⟩, rfl, hq⟩ := hq
  rcases d' with f' | f' | f' | f' | f' <;> first | exact hq.elim | skip
  obtain ⟨rfl, hft⟩ := hq
  obtain ⟨h1, rfl⟩ := gix_at hj
  exact va_cald B.1 B.2.1 hK hP (_ - 16) t0 hz ht h1 hd (k _ _ _ _ _ _ ⟨tys, ws, hK, hP, hD, hS, hW, hE, hcc, hs, hL, ⟨_, _, rfl, rfl, hV⟩⟩)
theorem y_saload (B : gBase p c cc kv) {h n k0 : Nat} {f : Nat → Int32} {j : Int32} (hd : decode cc pc = .ok (.saload, 1)) (hg : gget hp h = some (.inl (.short, n, .inl f)) ) (hj : gix j n = some k0) (k : gGo p l e R s m args below meth c Q D A kv ad0 u0 nL (pc + 1) ls (.int (f k0) :: st) hp) : gGo p l e R s m args below meth c Q D A kv ad0 u0 nL pc ls (.int j :: .ref h :: st) hp := by
  intro H locs cells slots lm sm h
  obtain ⟨tys, ws, hK, hP, hD, hS, hW, hE, hcc, hs, hL, hV⟩ := h
  obtain ⟨w, sm, rfl, e0, hVn⟩ := gVs_c hV; clear hV; have hV := hVn; clear hVn
  cases gV_i e0
  obtain ⟨w1, sm, rfl, e1, hVn⟩ := gVs_c hV; clear hV; have hV := hVn; clear hVn
  obtain ⟨ad, z, rfl, hz, hq⟩ := gRef hW e1 hg
  rcases z with ⟨cA, n', d'⟩ | z
  rotate_left
  · exact hq.elim
  obtain ⟨⟨t0, ht⟩, rfl, hq⟩ := hq
  rcases d' with f' | f' | f' | f' | f' <;> first | exact hq.elim | skip
  obtain ⟨rfl, hft⟩ := hq
  obtain ⟨h1, rfl⟩ := gix_at hj
  exact va_sald B.1 B.2.1 hK hP (_ - 16) t0 hz ht h1 hd (k _ _ _ _ _ _ ⟨tys, ws, hK, hP, hD, hS, hW, hE, hcc, hs, hL, ⟨_, _, rfl, rfl, hV⟩⟩)
theorem y_laload (B : gBase p c cc kv) {h n k0 : Nat} {f : Nat → Int64} {j : Int32} (hd : decode cc pc = .ok (.laload, 1)) (hg : gget hp h = some (.inl (.long, n, .inr (.inl f))) ) (hj : gix j n = some k0) (k : gGo p l e R s m args below meth c Q D A kv ad0 u0 nL (pc + 1) ls (.long (f k0) :: st) hp) : gGo p l e R s m args below meth c Q D A kv ad0 u0 nL pc ls (.int j :: .ref h :: st) hp := by
  intro H locs cells slots lm sm h
  obtain ⟨tys, ws, hK, hP, hD, hS, hW, hE, hcc, hs, hL, hV⟩ := h
  obtain ⟨w, sm, rfl, e0, hVn⟩ := gVs_c hV; clear hV; have hV := hVn; clear hVn
  cases gV_i e0
  obtain ⟨w1, sm, rfl, e1, hVn⟩ := gVs_c hV; clear hV; have hV := hVn; clear hVn
  obtain ⟨ad, z, rfl, hz, hq⟩ := gRef hW e1 hg
  rcases z with ⟨cA, n', d'⟩ | z
  rotate_left
  · exact hq.elim
  obtain ⟨⟨t0, ht⟩, rfl, hq⟩ := hq
  rcases d' with f' | f' | f' | f' | f' <;> first | exact hq.elim | skip
  obtain ⟨rfl, hft⟩ := hq
  obtain ⟨h1, rfl⟩ := gix_at hj
  exact va_lald B.1 B.2.1 hK hP (_ - 16) t0 hz ht h1 hd (k _ _ _ _ _ _ ⟨tys, ws, hK, hP, hD, hS, hW, hE, hcc, hs, hL, ⟨_, _, rfl, rfl, hV⟩⟩)
theorem vp_nar_bool (x : Int32) : vp_nar .boolean x = x &&& 1 := by
  unfold vp_nar
  simp [narrow]
theorem vp_nar_ch (x : Int32) : vp_nar .char x = (x.toUInt32 % 65536).toInt32 := by
  unfold vp_nar
  simp [narrow]
theorem gf_upd {ty : FieldType} {f : Nat → Int32} {k : Nat} {x : Int32} (hf : ∀ i, fits ty (.int (f i)) = true) (hx : fits ty (.int x) = true) : ∀ i, fits ty (.int (upd f k x i)) = true := by
  intro i
  unfold upd
  split
  · exact hx
  · exact hf i
theorem gf_b (x : Int32) : fits .byte (.int x.toInt8.toInt32) = true := pk_fb x
theorem gf_s (x : Int32) : fits .short (.int x.toInt16.toInt32) = true := pk_fs x
theorem gf_c (x : Int32) : fits .char (.int (x.toUInt32 % 65536).toInt32) = true := pk_fc x
theorem gf_z (x : Int32) : fits .boolean (.int (x &&& 1)) = true := by
  rw [pk_andE x 1 rfl |>.choose_spec.2]
  have h := (pk_andE x 1 rfl (m := 1)).choose_spec.1
  generalize (pk_andE x 1 rfl (m := 1)).choose = j at h ⊢
  have : j = 0 ∨ j = 1 := by omega
  rcases this with rfl | rfl <;> rfl
theorem y_iastore (B : gBase p c cc kv) {h n k0 : Nat} {f : Nat → Int32} {j : Int32} {x : Int32} (hd : decode cc pc = .ok (.iastore, 1)) (hg : gget hp h = some (.inl (.int, n, .inl f))) (hj : gix j n = some k0) (k : gGo p l e R s m args below meth c Q D A kv ad0 u0 nL (pc + 1) ls st (gset hp h (.inl (.int, n, .inl (upd f k0 x))))) : gGo p l e R s m args below meth c Q D A kv ad0 u0 nL pc ls (.int x :: .int j :: .ref h :: st) hp := by
  intro H locs cells slots lm sm h
  obtain ⟨tys, ws, hK, hP, hD, hS, hW, hE, hcc, hs, hL, hV⟩ := h
  obtain ⟨w, sm, rfl, e2, hVn⟩ := gVs_c hV; clear hV; have hV := hVn; clear hVn
  cases gV_i e2
  obtain ⟨w, sm, rfl, e0, hVn⟩ := gVs_c hV; clear hV; have hV := hVn; clear hVn
  cases gV_i e0
  obtain ⟨w1, sm, rfl, e1, hVn⟩ := gVs_c hV; clear hV; have hV := hVn; clear hVn
  obtain ⟨ad, z, rfl, hz, hq⟩ := gRef hW e1 hg
  rcases z with ⟨cA, n', d'⟩ | z
  rotate_left
  · exact hq.elim
  obtain ⟨⟨t0, ht⟩, rfl, hq⟩ := hq
  rcases d' with f' | f' | f' | f' | f' <;> first | exact hq.elim | skip
  obtain ⟨rfl, hft⟩ := hq
  obtain ⟨h1, rfl⟩ := gix_at hj
  refine va_iast B.1 B.2.1 hK hP hD hS (_ - 16) t0 hz ht h1 hd (fun H1 locs1 hP1 hD1 hS1 => ?_)
  obtain ⟨hW1, ead⟩ := hW.put hz (e := .inl (.int, n', .inl (upd f' j.toNatClampNeg x))) (q2 := .inl (cA, n', .inl (upd f' j.toNatClampNeg x))) ⟨⟨t0, ht⟩, rfl, rfl, gf_upd hft rfl⟩
  exact k _ _ _ _ _ _ ⟨tys, _, hK, hP1, hD1, hS1, hW1, by rw [ead]; exact hE, hcc, hs, by rw [ead]; exact hL, by rw [ead]; exact hV⟩
theorem y_bastoreB (B : gBase p c cc kv) {h n k0 : Nat} {f : Nat → Int32} {j : Int32} {x : Int32} (hd : decode cc pc = .ok (.bastore, 1)) (hg : gget hp h = some (.inl (.byte, n, .inl f))) (hj : gix j n = some k0) (k : gGo p l e R s m args below meth c Q D A kv ad0 u0 nL (pc + 1) ls st (gset hp h (.inl (.byte, n, .inl (upd f k0 x.toInt8.toInt32))))) : gGo p l e R s m args below meth c Q D A kv ad0 u0 nL pc ls (.int x :: .int j :: .ref h :: st) hp := by
  intro H locs cells slots lm sm h
  obtain ⟨tys, ws, hK, hP, hD, hS, hW, hE, hcc, hs, hL, hV⟩ := h
  obtain ⟨w, sm, rfl, e2, hVn⟩ := gVs_c hV; clear hV; have hV := hVn; clear hVn
  cases gV_i e2
  obtain ⟨w, sm, rfl, e0, hVn⟩ := gVs_c hV; clear hV; have hV := hVn; clear hVn
  cases gV_i e0
  obtain ⟨w1, sm, rfl, e1, hVn⟩ := gVs_c hV; clear hV; have hV := hVn; clear hVn
  obtain ⟨ad, z, rfl, hz, hq⟩ := gRef hW e1 hg
  rcases z with ⟨cA, n', d'⟩ | z
  rotate_left
  · exact hq.elim
  obtain ⟨⟨t0, ht⟩, rfl, hq⟩ := hq
  rcases d' with f' | f' | f' | f' | f' <;> first | exact hq.elim | skip
  obtain ⟨rfl, hft⟩ := hq
  obtain ⟨h1, rfl⟩ := gix_at hj
  refine va_bast B.1 B.2.1 hK hP hD hS (_ - 16) t0 hz ht h1 hd (fun H1 locs1 hP1 hD1 hS1 => ?_)
  obtain ⟨hW1, ead⟩ := hW.put hz (e := .inl (.byte, n', .inl (upd f' j.toNatClampNeg x.toInt8.toInt32))) (q2 := .inl (cA, n', .inl (upd f' j.toNatClampNeg x.toInt8.toInt32))) ⟨⟨t0, ht⟩, rfl, rfl, gf_upd hft (gf_b x)⟩
  exact k _ _ _ _ _ _ ⟨tys, _, hK, by rw [vp_nar_byte] at hP1; exact hP1, by rw [vp_nar_byte] at hD1; exact hD1, hS1, hW1, by rw [ead]; exact hE, hcc, hs, by rw [ead]; exact hL, by rw [ead]; exact hV⟩
theorem y_bastoreZ (B : gBase p c cc kv) {h n k0 : Nat} {f : Nat → Int32} {j : Int32} {x : Int32} (hd : decode cc pc = .ok (.bastore, 1)) (hg : gget hp h = some (.inl (.boolean, n, .inl f))) (hj : gix j n = some k0) (k : gGo p l e R s m args below meth c Q D A kv ad0 u0 nL (pc + 1) ls st (gset hp h (.inl (.boolean, n, .inl (upd f k0 (x &&& 1)))))) : gGo p l e R s m args below meth c Q D A kv ad0 u0 nL pc ls (.int x :: .int j :: .ref h :: st) hp := by
  intro H locs cells slots lm sm h
  obtain ⟨tys, ws, hK, hP, hD, hS, hW, hE, hcc, hs, hL, hV⟩ := h
  obtain ⟨w, sm, rfl, e2, hVn⟩ := gVs_c hV; clear hV; have hV := hVn; clear hVn
  cases gV_i e2
  obtain ⟨w, sm, rfl, e0, hVn⟩ := gVs_c hV; clear hV; have hV := hVn; clear hVn
  cases gV_i e0
  obtain ⟨w1, sm, rfl, e1, hVn⟩ := gVs_c hV; clear hV; have hV := hVn; clear hVn
  obtain ⟨ad, z, rfl, hz, hq⟩ := gRef hW e1 hg
  rcases z with ⟨cA, n', d'⟩ | z
  rotate_left
  · exact hq.elim
  obtain ⟨⟨t0, ht⟩, rfl, hq⟩ := hq
  rcases d' with f' | f' | f' | f' | f' <;> first | exact hq.elim | skip
  obtain ⟨rfl, hft⟩ := hq
  obtain ⟨h1, rfl⟩ := gix_at hj
  refine va_zast B.1 B.2.1 hK hP hD hS (_ - 16) t0 hz ht h1 hd (fun H1 locs1 hP1 hD1 hS1 => ?_)
  obtain ⟨hW1, ead⟩ := hW.put hz (e := .inl (.boolean, n', .inl (upd f' j.toNatClampNeg (x &&& 1)))) (q2 := .inl (cA, n', .inl (upd f' j.toNatClampNeg (x &&& 1)))) ⟨⟨t0, ht⟩, rfl, rfl, gf_upd hft (gf_z x)⟩
  exact k _ _ _ _ _ _ ⟨tys, _, hK, by rw [vp_nar_bool] at hP1; exact hP1, by rw [vp_nar_bool] at hD1; exact hD1, hS1, hW1, by rw [ead]; exact hE, hcc, hs, by rw [ead]; exact hL, by rw [ead]; exact hV⟩
theorem y_castore (B : gBase p c cc kv) {h n k0 : Nat} {f : Nat → Int32} {j : Int32} {x : Int32} (hd : decode cc pc = .ok (.castore, 1)) (hg : gget hp h = some (.inl (.char, n, .inl f))) (hj : gix j n = some k0) (k : gGo p l e R s m args below meth c Q D A kv ad0 u0 nL (pc + 1) ls st (gset hp h (.inl (.char, n, .inl (upd f k0 (x.toUInt32 % 65536).toInt32))))) : gGo p l e R s m args below meth c Q D A kv ad0 u0 nL pc ls (.int x :: .int j :: .ref h :: st) hp := by
  intro H locs cells slots lm sm h
  obtain ⟨tys, ws, hK, hP, hD, hS, hW, hE, hcc, hs, hL, hV⟩ := h
  obtain ⟨w, sm, rfl, e2, hVn⟩ := gVs_c hV; clear hV; have hV := hVn; clear hVn
  cases gV_i e2
  obtain ⟨w, sm, rfl, e0, hVn⟩ := gVs_c hV; clear hV; have hV := hVn; clear hVn
  cases gV_i e0
  obtain ⟨w1, sm, rfl, e1, hVn⟩ := gVs_c hV; clear hV; have hV := hVn; clear hVn
  obtain ⟨ad, z, rfl, hz, hq⟩ := gRef hW e1 hg
  rcases z with ⟨cA, n', d'⟩ | z
  rotate_left
  · exact hq.elim
  obtain ⟨⟨t0, ht⟩, rfl, hq⟩ := hq
  rcases d' with f' | f' | f' | f' | f' <;> first | exact hq.elim | skip
  obtain ⟨rfl, hft⟩ := hq
  obtain ⟨h1, rfl⟩ := gix_at hj
  refine va_cast B.1 B.2.1 hK hP hD hS (_ - 16) t0 hz ht h1 hd (fun H1 locs1 hP1 hD1 hS1 => ?_)
  obtain ⟨hW1, ead⟩ := hW.put hz (e := .inl (.char, n', .inl (upd f' j.toNatClampNeg (x.toUInt32 % 65536).toInt32))) (q2 := .inl (cA, n', .inl (upd f' j.toNatClampNeg (x.toUInt32 % 65536).toInt32))) ⟨⟨t0, ht⟩, rfl, rfl, gf_upd hft (gf_c x)⟩
  exact k _ _ _ _ _ _ ⟨tys, _, hK, by rw [vp_nar_ch] at hP1; exact hP1, by rw [vp_nar_ch] at hD1; exact hD1, hS1, hW1, by rw [ead]; exact hE, hcc, hs, by rw [ead]; exact hL, by rw [ead]; exact hV⟩
theorem y_sastore (B : gBase p c cc kv) {h n k0 : Nat} {f : Nat → Int32} {j : Int32} {x : Int32} (hd : decode cc pc = .ok (.sastore, 1)) (hg : gget hp h = some (.inl (.short, n, .inl f))) (hj : gix j n = some k0) (k : gGo p l e R s m args below meth c Q D A kv ad0 u0 nL (pc + 1) ls st (gset hp h (.inl (.short, n, .inl (upd f k0 x.toInt16.toInt32))))) : gGo p l e R s m args below meth c Q D A kv ad0 u0 nL pc ls (.int x :: .int j :: .ref h :: st) hp := by
  intro H locs cells slots lm sm h
  obtain ⟨tys, ws, hK, hP, hD, hS, hW, hE, hcc, hs, hL, hV⟩ := h
  obtain ⟨w, sm, rfl, e2, hVn⟩ := gVs_c hV; clear hV; have hV := hVn; clear hVn
  cases gV_i e2
  obtain ⟨w, sm, rfl, e0, hVn⟩ := gVs_c hV; clear hV; have hV := hVn; clear hVn
  cases gV_i e0
  obtain ⟨w1, sm, rfl, e1, hVn⟩ := gVs_c hV; clear hV; have hV := hVn; clear hVn
  obtain ⟨ad, z, rfl, hz, hq⟩ := gRef hW e1 hg
  rcases z with ⟨cA, n', d'⟩ | z
  rotate_left
  · exact hq.elim
  obtain ⟨⟨t0, ht⟩, rfl, hq⟩ := hq
  rcases d' with f' | f' | f' | f' | f' <;> first | exact hq.elim | skip
  obtain ⟨rfl, hft⟩ := hq
  obtain ⟨h1, rfl⟩ := gix_at hj
  refine va_sast B.1 B.2.1 hK hP hD hS (_ - 16) t0 hz ht h1 hd (fun H1 locs1 hP1 hD1 hS1 => ?_)
  obtain ⟨hW1, ead⟩ := hW.put hz (e := .inl (.short, n', .inl (upd f' j.toNatClampNeg x.toInt16.toInt32))) (q2 := .inl (cA, n', .inl (upd f' j.toNatClampNeg x.toInt16.toInt32))) ⟨⟨t0, ht⟩, rfl, rfl, gf_upd hft (gf_s x)⟩
  exact k _ _ _ _ _ _ ⟨tys, _, hK, by rw [vp_nar_short] at hP1; exact hP1, by rw [vp_nar_short] at hD1; exact hD1, hS1, hW1, by rw [ead]; exact hE, hcc, hs, by rw [ead]; exact hL, by rw [ead]; exact hV⟩
theorem y_lastore (B : gBase p c cc kv) {h n k0 : Nat} {f : Nat → Int64} {j : Int32} {x : Int64} (hd : decode cc pc = .ok (.lastore, 1)) (hg : gget hp h = some (.inl (.long, n, .inr (.inl f)))) (hj : gix j n = some k0) (k : gGo p l e R s m args below meth c Q D A kv ad0 u0 nL (pc + 1) ls st (gset hp h (.inl (.long, n, .inr (.inl (vp_updL f k0 x)))))) : gGo p l e R s m args below meth c Q D A kv ad0 u0 nL pc ls (.long x :: .int j :: .ref h :: st) hp := by
  intro H locs cells slots lm sm h
  obtain ⟨tys, ws, hK, hP, hD, hS, hW, hE, hcc, hs, hL, hV⟩ := h
  obtain ⟨w, sm, rfl, e2, hVn⟩ := gVs_c hV; clear hV; have hV := hVn; clear hVn
  cases gV_l e2
  obtain ⟨w, sm, rfl, e0, hVn⟩ := gVs_c hV; clear hV; have hV := hVn; clear hVn
  cases gV_i e0
  obtain ⟨w1, sm, rfl, e1, hVn⟩ := gVs_c hV; clear hV; have hV := hVn; clear hVn
  obtain ⟨ad, z, rfl, hz, hq⟩ := gRef hW e1 hg
  rcases z with ⟨cA, n', d'⟩ | z
  rotate_left
  · exact hq.elim
  obtain ⟨⟨t0, ht⟩, rfl, hq⟩ := hq
  rcases d' with f' | f' | f' | f' | f' <;> first | exact hq.elim | skip
  obtain ⟨rfl, hft⟩ := hq
  obtain ⟨h1, rfl⟩ := gix_at hj
  refine va_last B.1 B.2.1 hK hP hD hS (_ - 16) t0 hz ht h1 hd (fun H1 locs1 hP1 hD1 hS1 => ?_)
  obtain ⟨hW1, ead⟩ := hW.put hz (e := .inl (.long, n', .inr (.inl (vp_updL f' j.toNatClampNeg x)))) (q2 := .inl (cA, n', .inr (.inl (vp_updL f' j.toNatClampNeg x)))) ⟨⟨t0, ht⟩, rfl, rfl, hft⟩
  exact k _ _ _ _ _ _ ⟨tys, _, hK, hP1, hD1, hS1, hW1, by rw [ead]; exact hE, hcc, hs, by rw [ead]; exact hL, by rw [ead]; exact hV⟩
end GC
