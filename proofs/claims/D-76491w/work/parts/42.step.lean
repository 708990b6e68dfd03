/-! ===== SOUNDNESS: one instruction (written by gen/snd10.py) ===== -/
/-- what an activation knows -/
def gCx (p : Program) (l : Launch) (R : Room) (s : State) (m : MethodId) (args : Array Value) (meth : Method) (c : Code) (A : Nat → Prop) (kv : Nat → Value) (K : gK) (own nm : String) (cc : ByteArray) (ret : Option FieldType) (nL d : Nat) : Prop :=
  gBase p c cc kv ∧ gFx K A kv s ∧ gOwn s m args A own ∧ c.maxLocals = nL ∧ gRm d R ∧ meth.sig.returnType = ret ∧ meth.locks = false ∧ l.stackTraces = false ∧ meth.name = nm
/-- a method by its number: its name, its contract's words -/
abbrev gYt : Type := Nat → MethodName × List Cond
/-- an instruction's meaning, told of the machine -/
def gOb (gY : gYt) (own nm : String) (cc : ByteArray) (ret : Option FieldType) (i : gI) (nx : Nat) : Prop :=
  ∀ (p : Program) (l : Launch) (e : Env) (R : Room) (s : State) (m : MethodId) (args : Array Value) (below : List Frame) (meth : Method) (c : Code) (D : va_G) (A : Nat → Prop) (kv : Nat → Value) (ad0 : List Nat) (u0 : Nat × Nat) (nL : Nat) (K : gK) (d : Nat) (o : Option Value ⊕ (Nat × Nat)) (hpF : gS) (mc ms : Nat),
    gCx p l R s m args meth c A kv K own nm cc ret nL d → ∀ (ls : gL) (st : List Value) (hp : gS) (act : gA), gsem K i ls st hp = some act → match act with
    | .inl (ls', st', hp') => gRoom u0 R hp' → gGo p l e R s m args below meth c (gEnd below D A kv ad0 o hpF args s mc ms) D A kv ad0 u0 nL nx ls' st' hp' → gGo p l e R s m args below meth c (gEnd below D A kv ad0 o hpF args s mc ms) D A kv ad0 u0 nL i.1 ls st hp
    | .inr (.inl (lab, ls', st', hp')) => gRoom u0 R hp' → gGo p l e R s m args below meth c (gEnd below D A kv ad0 o hpF args s mc ms) D A kv ad0 u0 nL lab ls' st' hp' → gGo p l e R s m args below meth c (gEnd below D A kv ad0 o hpF args s mc ms) D A kv ad0 u0 nL i.1 ls st hp
    | .inr (.inr (.inl (v, hp'))) => o = .inl v → hpF = hp' → hp'.2.1 = u0.1 + mc → hp'.2.2 = u0.2 + ms → gGo p l e R s m args below meth c (gEnd below D A kv ad0 o hpF args s mc ms) D A kv ad0 u0 nL i.1 ls st hp
    | .inr (.inr (.inr (.inl (y, as, st')))) => ∀ (d' : Nat) (o' : Option Value ⊕ (Nat × Nat)) (hp' : gS), d = d' + 1 → gCon K (gY y).1 (gY y).2 d' as hp o' hp' → hp.2.1 ≤ hp'.2.1 ∧ hp.2.2 ≤ hp'.2.2 → gRoom u0 R hp' → (∀ v, o' = .inl v → gGo p l e R s m args below meth c (gEnd below D A kv ad0 o hpF args s mc ms) D A kv ad0 u0 nL nx ls (v.toList ++ st') hp') → (∀ ci h, o' = .inr (ci, h) → gTh p l e R s m args below meth c (gEnd below D A kv ad0 o hpF args s mc ms) D A kv ad0 u0 nL i.1 ci h ls hp') → gGo p l e R s m args below meth c (gEnd below D A kv ad0 o hpF args s mc ms) D A kv ad0 u0 nL i.1 ls st hp
    | .inr (.inr (.inr (.inr (ci, h, hp')))) => gRoom u0 R hp' → gTh p l e R s m args below meth c (gEnd below D A kv ad0 o hpF args s mc ms) D A kv ad0 u0 nL i.1 ci h ls hp' → gGo p l e R s m args below meth c (gEnd below D A kv ad0 o hpF args s mc ms) D A kv ad0 u0 nL i.1 ls st hp
section GLen
variable {p : Program} {l : Launch} {e : Env} {R : Room} {s : State} {m : MethodId} {args : Array Value} {below : List Frame} {meth : Method} {c : Code} {Q : State → Prop}
variable {D : va_G} {A : Nat → Prop} {kv : Nat → Value} {ad0 : List Nat} {u0 : Nat × Nat} {nL : Nat} {K : gK} {cc : ByteArray} {pc : Nat} {ls : gL} {st : List Value} {hp : gS}
theorem gLnk (k : ls.length = nL → gGo p l e R s m args below meth c Q D A kv ad0 u0 nL pc ls st hp) : gGo p l e R s m args below meth c Q D A kv ad0 u0 nL pc ls st hp := by
  intro H locs cells slots lm sm h
  have h0 := h
  obtain ⟨tys, ws, -, -, -, -, -, -, -, -, hL, -⟩ := h0
  exact k hL.1 H locs cells slots lm sm h
theorem y_if (B : gBase p c cc kv) {off : Int} {tgt : Nat} {d : ClassFile.Cond} {x : Int32} (hd : decode cc pc = .ok (.ifCond d off, 3)) (ht : (pc : Int) + off = (tgt : Int)) (kt : gic d x 0 = true → gGo p l e R s m args below meth c Q D A kv ad0 u0 nL tgt ls st hp) (kf : gic d x 0 = false → gGo p l e R s m args below meth c Q D A kv ad0 u0 nL (pc + 3) ls st hp) : gGo p l e R s m args below meth c Q D A kv ad0 u0 nL pc ls (.int x :: st) hp := by
  cases d
  · exact y_if_eq B hd ht kt kf
  · exact y_if_ne B hd ht kt kf
  · exact y_if_lt B hd ht kt kf
  · exact y_if_ge B hd ht kt kf
  · exact y_if_gt B hd ht kt kf
  · exact y_if_le B hd ht kt kf
theorem y_icmp (B : gBase p c cc kv) {off : Int} {tgt : Nat} {d : ClassFile.Cond} {x y : Int32} (hd : decode cc pc = .ok (.if_icmp d off, 3)) (ht : (pc : Int) + off = (tgt : Int)) (kt : gic d x y = true → gGo p l e R s m args below meth c Q D A kv ad0 u0 nL tgt ls st hp) (kf : gic d x y = false → gGo p l e R s m args below meth c Q D A kv ad0 u0 nL (pc + 3) ls st hp) : gGo p l e R s m args below meth c Q D A kv ad0 u0 nL pc ls (.int y :: .int x :: st) hp := by
  cases d
  · exact y_icmp_eq B hd ht kt kf
  · exact y_icmp_ne B hd ht kt kf
  · exact y_icmp_lt B hd ht kt kf
  · exact y_icmp_ge B hd ht kt kf
  · exact y_icmp_gt B hd ht kt kf
  · exact y_icmp_le B hd ht kt kf
/-- a table's offsets and our keys and places -/
def gtab (pc : Nat) : Int → List Int → List (Int32 × Nat) → Bool
  | _, [], [] => true
  | lo, o :: os, (k, t) :: r => decide (k.toInt = lo) && (decide ((pc : Int) + o = (t : Int)) && gtab pc (lo + 1) os r)
  | _, _, _ => false
theorem gtab_len {pc : Nat} : ∀ {lo : Int} {os : List Int} {L : List (Int32 × Nat)}, gtab pc lo os L = true → L.length = os.length
  | _, [], [], _ => rfl
  | lo, o :: os, (k, t) :: r, h => by
    unfold gtab at h
    simp only [Bool.and_eq_true] at h
    rw [List.length_cons, List.length_cons, gtab_len h.2.2]
theorem gtab_in {pc dn : Nat} {x : Int32} : ∀ {lo : Int} {os : List Int} {L : List (Int32 × Nat)}, gtab pc lo os L = true → lo ≤ x.toInt → x.toInt < lo + os.length → ∃ off, os[(x.toInt - lo).toNat]? = some off ∧ (pc : Int) + off = (gsw x dn L : Nat)
  | lo, [], [], _, h1, h2 => by simp at h2; omega
  | lo, o :: os, (k, t) :: r, h, h1, h2 => by
    unfold gtab at h
    simp only [Bool.and_eq_true, decide_eq_true_eq] at h
    obtain ⟨h3, h4, h5⟩ := h
    unfold gsw
    by_cases hx : x = k
    · rw [if_pos hx]
      refine ⟨o, ?_, h4⟩
      rw [hx, h3, Int.sub_self]
      rfl
    · rw [if_neg hx]
      have hne : x.toInt ≠ lo := fun z => hx (Int32.toInt_inj.mp (z.trans h3.symm))
      obtain ⟨off, e1, e2⟩ := gtab_in (dn := dn) (x := x) h5 (by omega) (by simp only [List.length_cons, Int.natCast_add] at h2; omega)
      refine ⟨off, ?_, e2⟩
      rw [show (x.toInt - lo).toNat = (x.toInt - (lo + 1)).toNat + 1 by omega, List.getElem?_cons_succ]
      exact e1
theorem gtab_out {pc dn : Nat} {x : Int32} : ∀ {lo : Int} {os : List Int} {L : List (Int32 × Nat)}, gtab pc lo os L = true → (x.toInt < lo ∨ lo + os.length ≤ x.toInt) → gsw x dn L = dn
  | lo, [], [], _, _ => rfl
  | lo, o :: os, (k, t) :: r, h, h2 => by
    unfold gtab at h
    simp only [Bool.and_eq_true, decide_eq_true_eq] at h
    obtain ⟨h3, h4, h5⟩ := h
    unfold gsw
    simp only [List.length_cons, Int.natCast_add] at h2
    have hx : ¬ x = k := fun z => by rw [z] at h2; omega
    rw [if_neg hx]
    exact gtab_out h5 (by omega)
theorem y_table (B : gBase p c cc kv) {dflt lo hi : Int} {offs : Array Int} {len dn : Nat} {L : List (Int32 × Nat)} {x : Int32} (hd : decode cc pc = .ok (.tableswitch dflt lo hi offs, len)) (hdf : (pc : Int) + dflt = (dn : Int)) (ht : gtab pc lo offs.toList L = true) (hhi : hi + 1 = lo + offs.toList.length) (k : gGo p l e R s m args below meth c Q D A kv ad0 u0 nL (gsw x dn L) ls st hp) : gGo p l e R s m args below meth c Q D A kv ad0 u0 nL pc ls (.int x :: st) hp := by
  intro H locs cells slots lm sm h
  obtain ⟨tys, ws, hK, hP, hD, hS, hW, hE, hcc, hs, hL, hV⟩ := h
  obtain ⟨w1, sm, rfl, e1, hVn⟩ := gVs_c hV; clear hV; have hV := hVn; clear hVn
  cases gV_i e1
  have kk := k H locs cells slots lm sm ⟨tys, ws, hK, hP, hD, hS, hW, hE, hcc, hs, hL, hV⟩
  by_cases hx : lo ≤ x.toInt ∧ x.toInt < lo + offs.toList.length
  · obtain ⟨off, e1, e2⟩ := gtab_in (dn := dn) ht hx.1 hx.2
    exact lv_tableIn B.1 B.2.1 hd (by omega) (by omega) (by rw [← Array.getElem?_toList]; exact e1) e2 kk
  · rw [gtab_out (dn := dn) ht (by omega)] at kk
    exact lv_tableOut B.1 B.2.1 hd (by omega) hdf kk
def glkp (pc : Nat) : List (Int × Int) → List (Int32 × Nat) → Bool
  | [], [] => true
  | (a, o) :: os, (k, t) :: r => decide (k.toInt = a) && (decide ((pc : Int) + o = (t : Int)) && glkp pc os r)
  | _, _ => false
theorem glkp_at {pc dn : Nat} {dflt : Int} {x : Int32} (hdf : (pc : Int) + dflt = (dn : Int)) : ∀ {os : List (Int × Int)} {L : List (Int32 × Nat)}, glkp pc os L = true → (pc : Int) + Op.lookupswitch.offset os dflt x.toInt = (gsw x dn L : Nat)
  | [], [], _ => by rw [Op.lookupswitch.offset_nil]; exact hdf
  | (a, o) :: os, (k, t) :: r, h => by
    unfold glkp at h
    simp only [Bool.and_eq_true, decide_eq_true_eq] at h
    obtain ⟨h3, h4, h5⟩ := h
    rw [Op.lookupswitch.offset_cons]
    unfold gsw
    by_cases hx : x = k
    · rw [if_pos hx, if_pos (by rw [hx, h3])]
      exact h4
    · have hne : x.toInt ≠ a := fun z => hx (Int32.toInt_inj.mp (z.trans h3.symm))
      rw [if_neg hx, if_neg (by omega)]
      exact glkp_at hdf h5
theorem y_lookup (B : gBase p c cc kv) {dflt : Int} {ps : Array (Int × Int)} {len dn : Nat} {L : List (Int32 × Nat)} {x : Int32} (hd : decode cc pc = .ok (.lookupswitch dflt ps, len)) (hp0 : (ps.toList.zip (ps.toList.drop 1)).all (fun (a, next) => a.1 < next.1) = true) (hdf : (pc : Int) + dflt = (dn : Int)) (ht : glkp pc ps.toList L = true) (k : gGo p l e R s m args below meth c Q D A kv ad0 u0 nL (gsw x dn L) ls st hp) : gGo p l e R s m args below meth c Q D A kv ad0 u0 nL pc ls (.int x :: st) hp := by
  intro H locs cells slots lm sm h
  obtain ⟨tys, ws, hK, hP, hD, hS, hW, hE, hcc, hs, hL, hV⟩ := h
  obtain ⟨w1, sm, rfl, e1, hVn⟩ := gVs_c hV; clear hV; have hV := hVn; clear hVn
  cases gV_i e1
  exact lv_lookup B.1 B.2.1 hd hp0 rfl (glkp_at hdf ht) (k H locs cells slots lm sm ⟨tys, ws, hK, hP, hD, hS, hW, hE, hcc, hs, hL, hV⟩)
end GLen
theorem gO_iadd {own nm : String} {cc : ByteArray} {ret : Option FieldType} {pc a b c0 : Nat} {sw : List (Int32 × Nat)} {gY : gYt} (hd : decode cc pc = .ok (.iadd, 1)) : gOb gY own nm cc ret (pc, .iadd, a, b, c0, sw) (pc + 1) := by
  intro p l e R s m args below meth c D A kv ad0 u0 nL K d o hpF mc ms X ls st hp act h
  obtain ⟨B, F, O, hml, hR, hrt, hlk, hst, hnm⟩ := X
  unfold gsem at h
  dsimp only at h
  split at h
  · cases h; exact fun _ k => y_iadd B hd k
  · cases h
theorem gO_isub {own nm : String} {cc : ByteArray} {ret : Option FieldType} {pc a b c0 : Nat} {sw : List (Int32 × Nat)} {gY : gYt} (hd : decode cc pc = .ok (.isub, 1)) : gOb gY own nm cc ret (pc, .isub, a, b, c0, sw) (pc + 1) := by
  intro p l e R s m args below meth c D A kv ad0 u0 nL K d o hpF mc ms X ls st hp act h
  obtain ⟨B, F, O, hml, hR, hrt, hlk, hst, hnm⟩ := X
  unfold gsem at h
  dsimp only at h
  split at h
  · cases h; exact fun _ k => y_isub B hd k
  · cases h
theorem gO_imul {own nm : String} {cc : ByteArray} {ret : Option FieldType} {pc a b c0 : Nat} {sw : List (Int32 × Nat)} {gY : gYt} (hd : decode cc pc = .ok (.imul, 1)) : gOb gY own nm cc ret (pc, .imul, a, b, c0, sw) (pc + 1) := by
  intro p l e R s m args below meth c D A kv ad0 u0 nL K d o hpF mc ms X ls st hp act h
  obtain ⟨B, F, O, hml, hR, hrt, hlk, hst, hnm⟩ := X
  unfold gsem at h
  dsimp only at h
  split at h
  · cases h; exact fun _ k => y_imul B hd k
  · cases h
theorem gO_iand {own nm : String} {cc : ByteArray} {ret : Option FieldType} {pc a b c0 : Nat} {sw : List (Int32 × Nat)} {gY : gYt} (hd : decode cc pc = .ok (.iand, 1)) : gOb gY own nm cc ret (pc, .iand, a, b, c0, sw) (pc + 1) := by
  intro p l e R s m args below meth c D A kv ad0 u0 nL K d o hpF mc ms X ls st hp act h
  obtain ⟨B, F, O, hml, hR, hrt, hlk, hst, hnm⟩ := X
  unfold gsem at h
  dsimp only at h
  split at h
  · cases h; exact fun _ k => y_iand B hd k
  · cases h
theorem gO_ior {own nm : String} {cc : ByteArray} {ret : Option FieldType} {pc a b c0 : Nat} {sw : List (Int32 × Nat)} {gY : gYt} (hd : decode cc pc = .ok (.ior, 1)) : gOb gY own nm cc ret (pc, .ior, a, b, c0, sw) (pc + 1) := by
  intro p l e R s m args below meth c D A kv ad0 u0 nL K d o hpF mc ms X ls st hp act h
  obtain ⟨B, F, O, hml, hR, hrt, hlk, hst, hnm⟩ := X
  unfold gsem at h
  dsimp only at h
  split at h
  · cases h; exact fun _ k => y_ior B hd k
  · cases h
theorem gO_ixor {own nm : String} {cc : ByteArray} {ret : Option FieldType} {pc a b c0 : Nat} {sw : List (Int32 × Nat)} {gY : gYt} (hd : decode cc pc = .ok (.ixor, 1)) : gOb gY own nm cc ret (pc, .ixor, a, b, c0, sw) (pc + 1) := by
  intro p l e R s m args below meth c D A kv ad0 u0 nL K d o hpF mc ms X ls st hp act h
  obtain ⟨B, F, O, hml, hR, hrt, hlk, hst, hnm⟩ := X
  unfold gsem at h
  dsimp only at h
  split at h
  · cases h; exact fun _ k => y_ixor B hd k
  · cases h
theorem gO_ishl {own nm : String} {cc : ByteArray} {ret : Option FieldType} {pc a b c0 : Nat} {sw : List (Int32 × Nat)} {gY : gYt} (hd : decode cc pc = .ok (.ishl, 1)) : gOb gY own nm cc ret (pc, .ishl, a, b, c0, sw) (pc + 1) := by
  intro p l e R s m args below meth c D A kv ad0 u0 nL K d o hpF mc ms X ls st hp act h
  obtain ⟨B, F, O, hml, hR, hrt, hlk, hst, hnm⟩ := X
  unfold gsem at h
  dsimp only at h
  split at h
  · cases h; exact fun _ k => y_ishl B hd k
  · cases h
theorem gO_ishr {own nm : String} {cc : ByteArray} {ret : Option FieldType} {pc a b c0 : Nat} {sw : List (Int32 × Nat)} {gY : gYt} (hd : decode cc pc = .ok (.ishr, 1)) : gOb gY own nm cc ret (pc, .ishr, a, b, c0, sw) (pc + 1) := by
  intro p l e R s m args below meth c D A kv ad0 u0 nL K d o hpF mc ms X ls st hp act h
  obtain ⟨B, F, O, hml, hR, hrt, hlk, hst, hnm⟩ := X
  unfold gsem at h
  dsimp only at h
  split at h
  · cases h; exact fun _ k => y_ishr B hd k
  · cases h
theorem gO_ladd {own nm : String} {cc : ByteArray} {ret : Option FieldType} {pc a b c0 : Nat} {sw : List (Int32 × Nat)} {gY : gYt} (hd : decode cc pc = .ok (.ladd, 1)) : gOb gY own nm cc ret (pc, .ladd, a, b, c0, sw) (pc + 1) := by
  intro p l e R s m args below meth c D A kv ad0 u0 nL K d o hpF mc ms X ls st hp act h
  obtain ⟨B, F, O, hml, hR, hrt, hlk, hst, hnm⟩ := X
  unfold gsem at h
  dsimp only at h
  split at h
  · cases h; exact fun _ k => y_ladd B hd k
  · cases h
theorem gO_land {own nm : String} {cc : ByteArray} {ret : Option FieldType} {pc a b c0 : Nat} {sw : List (Int32 × Nat)} {gY : gYt} (hd : decode cc pc = .ok (.land, 1)) : gOb gY own nm cc ret (pc, .land, a, b, c0, sw) (pc + 1) := by
  intro p l e R s m args below meth c D A kv ad0 u0 nL K d o hpF mc ms X ls st hp act h
  obtain ⟨B, F, O, hml, hR, hrt, hlk, hst, hnm⟩ := X
  unfold gsem at h
  dsimp only at h
  split at h
  · cases h; exact fun _ k => y_land B hd k
  · cases h
theorem gO_lor {own nm : String} {cc : ByteArray} {ret : Option FieldType} {pc a b c0 : Nat} {sw : List (Int32 × Nat)} {gY : gYt} (hd : decode cc pc = .ok (.lor, 1)) : gOb gY own nm cc ret (pc, .lor, a, b, c0, sw) (pc + 1) := by
  intro p l e R s m args below meth c D A kv ad0 u0 nL K d o hpF mc ms X ls st hp act h
  obtain ⟨B, F, O, hml, hR, hrt, hlk, hst, hnm⟩ := X
  unfold gsem at h
  dsimp only at h
  split at h
  · cases h; exact fun _ k => y_lor B hd k
  · cases h
theorem gO_lshl {own nm : String} {cc : ByteArray} {ret : Option FieldType} {pc a b c0 : Nat} {sw : List (Int32 × Nat)} {gY : gYt} (hd : decode cc pc = .ok (.lshl, 1)) : gOb gY own nm cc ret (pc, .lshl, a, b, c0, sw) (pc + 1) := by
  intro p l e R s m args below meth c D A kv ad0 u0 nL K d o hpF mc ms X ls st hp act h
  obtain ⟨B, F, O, hml, hR, hrt, hlk, hst, hnm⟩ := X
  unfold gsem at h
  dsimp only at h
  split at h
  · cases h; exact fun _ k => y_lshl B hd k
  · cases h
theorem gO_lcmp {own nm : String} {cc : ByteArray} {ret : Option FieldType} {pc a b c0 : Nat} {sw : List (Int32 × Nat)} {gY : gYt} (hd : decode cc pc = .ok (.lcmp, 1)) : gOb gY own nm cc ret (pc, .lcmp, a, b, c0, sw) (pc + 1) := by
  intro p l e R s m args below meth c D A kv ad0 u0 nL K d o hpF mc ms X ls st hp act h
  obtain ⟨B, F, O, hml, hR, hrt, hlk, hst, hnm⟩ := X
  unfold gsem at h
  dsimp only at h
  split at h
  · cases h; exact fun _ k => y_lcmp B hd k
  · cases h
theorem gO_idiv {own nm : String} {cc : ByteArray} {ret : Option FieldType} {pc a b c0 : Nat} {sw : List (Int32 × Nat)} {gY : gYt} (hd : decode cc pc = .ok (.idiv, 1)) : gOb gY own nm cc ret (pc, .idiv, a, b, c0, sw) (pc + 1) := by
  intro p l e R s m args below meth c D A kv ad0 u0 nL K d o hpF mc ms X ls st hp act h
  obtain ⟨B, F, O, hml, hR, hrt, hlk, hst, hnm⟩ := X
  unfold gsem at h
  dsimp only at h
  split at h
  · split at h
    · cases h
    · rename_i hy; cases h; exact fun _ k => y_idiv B hy hd k
  · cases h
theorem gO_irem {own nm : String} {cc : ByteArray} {ret : Option FieldType} {pc a b c0 : Nat} {sw : List (Int32 × Nat)} {gY : gYt} (hd : decode cc pc = .ok (.irem, 1)) : gOb gY own nm cc ret (pc, .irem, a, b, c0, sw) (pc + 1) := by
  intro p l e R s m args below meth c D A kv ad0 u0 nL K d o hpF mc ms X ls st hp act h
  obtain ⟨B, F, O, hml, hR, hrt, hlk, hst, hnm⟩ := X
  unfold gsem at h
  dsimp only at h
  split at h
  · split at h
    · cases h
    · rename_i hy; cases h; exact fun _ k => y_irem B hy hd k
  · cases h
theorem gO_ldiv {own nm : String} {cc : ByteArray} {ret : Option FieldType} {pc a b c0 : Nat} {sw : List (Int32 × Nat)} {gY : gYt} (hd : decode cc pc = .ok (.ldiv, 1)) : gOb gY own nm cc ret (pc, .ldiv, a, b, c0, sw) (pc + 1) := by
  intro p l e R s m args below meth c D A kv ad0 u0 nL K d o hpF mc ms X ls st hp act h
  obtain ⟨B, F, O, hml, hR, hrt, hlk, hst, hnm⟩ := X
  unfold gsem at h
  dsimp only at h
  split at h
  · split at h
    · cases h
    · rename_i hy; cases h; exact fun _ k => y_ldiv B hy hd k
  · cases h
theorem gO_lrem {own nm : String} {cc : ByteArray} {ret : Option FieldType} {pc a b c0 : Nat} {sw : List (Int32 × Nat)} {gY : gYt} (hd : decode cc pc = .ok (.lrem, 1)) : gOb gY own nm cc ret (pc, .lrem, a, b, c0, sw) (pc + 1) := by
  intro p l e R s m args below meth c D A kv ad0 u0 nL K d o hpF mc ms X ls st hp act h
  obtain ⟨B, F, O, hml, hR, hrt, hlk, hst, hnm⟩ := X
  unfold gsem at h
  dsimp only at h
  split at h
  · split at h
    · cases h
    · rename_i hy; cases h; exact fun _ k => y_lrem B hy hd k
  · cases h
theorem gO_ineg {own nm : String} {cc : ByteArray} {ret : Option FieldType} {pc a b c0 : Nat} {sw : List (Int32 × Nat)} {gY : gYt} (hd : decode cc pc = .ok (.ineg, 1)) : gOb gY own nm cc ret (pc, .ineg, a, b, c0, sw) (pc + 1) := by
  intro p l e R s m args below meth c D A kv ad0 u0 nL K d o hpF mc ms X ls st hp act h
  obtain ⟨B, F, O, hml, hR, hrt, hlk, hst, hnm⟩ := X
  unfold gsem at h
  dsimp only at h
  split at h
  · cases h; exact fun _ k => y_ineg B hd k
  · cases h
theorem gO_i2l {own nm : String} {cc : ByteArray} {ret : Option FieldType} {pc a b c0 : Nat} {sw : List (Int32 × Nat)} {gY : gYt} (hd : decode cc pc = .ok (.i2l, 1)) : gOb gY own nm cc ret (pc, .i2l, a, b, c0, sw) (pc + 1) := by
  intro p l e R s m args below meth c D A kv ad0 u0 nL K d o hpF mc ms X ls st hp act h
  obtain ⟨B, F, O, hml, hR, hrt, hlk, hst, hnm⟩ := X
  unfold gsem at h
  dsimp only at h
  split at h
  · cases h; exact fun _ k => y_i2l B hd k
  · cases h
theorem gO_l2i {own nm : String} {cc : ByteArray} {ret : Option FieldType} {pc a b c0 : Nat} {sw : List (Int32 × Nat)} {gY : gYt} (hd : decode cc pc = .ok (.l2i, 1)) : gOb gY own nm cc ret (pc, .l2i, a, b, c0, sw) (pc + 1) := by
  intro p l e R s m args below meth c D A kv ad0 u0 nL K d o hpF mc ms X ls st hp act h
  obtain ⟨B, F, O, hml, hR, hrt, hlk, hst, hnm⟩ := X
  unfold gsem at h
  dsimp only at h
  split at h
  · cases h; exact fun _ k => y_l2i B hd k
  · cases h
theorem gO_i2b {own nm : String} {cc : ByteArray} {ret : Option FieldType} {pc a b c0 : Nat} {sw : List (Int32 × Nat)} {gY : gYt} (hd : decode cc pc = .ok (.i2b, 1)) : gOb gY own nm cc ret (pc, .i2b, a, b, c0, sw) (pc + 1) := by
  intro p l e R s m args below meth c D A kv ad0 u0 nL K d o hpF mc ms X ls st hp act h
  obtain ⟨B, F, O, hml, hR, hrt, hlk, hst, hnm⟩ := X
  unfold gsem at h
  dsimp only at h
  split at h
  · cases h; exact fun _ k => y_i2b B hd k
  · cases h
theorem gO_i2s {own nm : String} {cc : ByteArray} {ret : Option FieldType} {pc a b c0 : Nat} {sw : List (Int32 × Nat)} {gY : gYt} (hd : decode cc pc = .ok (.i2s, 1)) : gOb gY own nm cc ret (pc, .i2s, a, b, c0, sw) (pc + 1) := by
  intro p l e R s m args below meth c D A kv ad0 u0 nL K d o hpF mc ms X ls st hp act h
  obtain ⟨B, F, O, hml, hR, hrt, hlk, hst, hnm⟩ := X
  unfold gsem at h
  dsimp only at h
  split at h
  · cases h; exact fun _ k => y_i2s B hd k
  · cases h
theorem gO_i2c {own nm : String} {cc : ByteArray} {ret : Option FieldType} {pc a b c0 : Nat} {sw : List (Int32 × Nat)} {gY : gYt} (hd : decode cc pc = .ok (.i2c, 1)) : gOb gY own nm cc ret (pc, .i2c, a, b, c0, sw) (pc + 1) := by
  intro p l e R s m args below meth c D A kv ad0 u0 nL K d o hpF mc ms X ls st hp act h
  obtain ⟨B, F, O, hml, hR, hrt, hlk, hst, hnm⟩ := X
  unfold gsem at h
  dsimp only at h
  split at h
  · cases h; exact fun _ k => y_i2c B hd k
  · cases h
theorem gO_iconst {own nm : String} {cc : ByteArray} {ret : Option FieldType} {pc a b c0 : Nat} {sw : List (Int32 × Nat)} {gY : gYt} {n : Int} (hd : decode cc pc = .ok (.iconst n, 1)) : gOb gY own nm cc ret (pc, .iconst n, a, b, c0, sw) (pc + 1) := by
  intro p l e R s m args below meth c D A kv ad0 u0 nL K d o hpF mc ms X ls st hp act h
  obtain ⟨B, F, O, hml, hR, hrt, hlk, hst, hnm⟩ := X
  unfold gsem at h
  dsimp only at h
  cases h; exact fun _ k => y_iconst B hd k
theorem gO_bipush {own nm : String} {cc : ByteArray} {ret : Option FieldType} {pc a b c0 : Nat} {sw : List (Int32 × Nat)} {gY : gYt} {n : Int} (hd : decode cc pc = .ok (.bipush n, 2)) : gOb gY own nm cc ret (pc, .bipush n, a, b, c0, sw) (pc + 2) := by
  intro p l e R s m args below meth c D A kv ad0 u0 nL K d o hpF mc ms X ls st hp act h
  obtain ⟨B, F, O, hml, hR, hrt, hlk, hst, hnm⟩ := X
  unfold gsem at h
  dsimp only at h
  cases h; exact fun _ k => y_bipush B hd k
theorem gO_sipush {own nm : String} {cc : ByteArray} {ret : Option FieldType} {pc a b c0 : Nat} {sw : List (Int32 × Nat)} {gY : gYt} {n : Int} (hd : decode cc pc = .ok (.sipush n, 3)) : gOb gY own nm cc ret (pc, .sipush n, a, b, c0, sw) (pc + 3) := by
  intro p l e R s m args below meth c D A kv ad0 u0 nL K d o hpF mc ms X ls st hp act h
  obtain ⟨B, F, O, hml, hR, hrt, hlk, hst, hnm⟩ := X
  unfold gsem at h
  dsimp only at h
  cases h; exact fun _ k => y_sipush B hd k
theorem gO_lconst {own nm : String} {cc : ByteArray} {ret : Option FieldType} {pc a b c0 : Nat} {sw : List (Int32 × Nat)} {gY : gYt} {n : Fin 2} (hd : decode cc pc = .ok (.lconst n, 1)) : gOb gY own nm cc ret (pc, .lconst n, a, b, c0, sw) (pc + 1) := by
  intro p l e R s m args below meth c D A kv ad0 u0 nL K d o hpF mc ms X ls st hp act h
  obtain ⟨B, F, O, hml, hR, hrt, hlk, hst, hnm⟩ := X
  unfold gsem at h
  dsimp only at h
  cases h; exact fun _ k => y_lconst B hd k
theorem gO_null {own nm : String} {cc : ByteArray} {ret : Option FieldType} {pc a b c0 : Nat} {sw : List (Int32 × Nat)} {gY : gYt} (hd : decode cc pc = .ok (.aconst_null, 1)) : gOb gY own nm cc ret (pc, .aconst_null, a, b, c0, sw) (pc + 1) := by
  intro p l e R s m args below meth c D A kv ad0 u0 nL K d o hpF mc ms X ls st hp act h
  obtain ⟨B, F, O, hml, hR, hrt, hlk, hst, hnm⟩ := X
  unfold gsem at h
  dsimp only at h
  cases h; exact fun _ k => y_null B hd k
theorem gO_iload_n {own nm : String} {cc : ByteArray} {ret : Option FieldType} {pc a b c0 : Nat} {sw : List (Int32 × Nat)} {gY : gYt} {n : Fin 4} (hd : decode cc pc = .ok (.iload_n n, 1)) : gOb gY own nm cc ret (pc, .iload_n n, a, b, c0, sw) (pc + 1) := by
  intro p l e R s m args below meth c D A kv ad0 u0 nL K d o hpF mc ms X ls st hp act h
  obtain ⟨B, F, O, hml, hR, hrt, hlk, hst, hnm⟩ := X
  unfold gsem at h
  dsimp only at h
  unfold gldi at h
  split at h
  · rename_i x hx; cases h; exact fun _ k => y_iload_n B hx hd k
  · cases h
theorem gO_iload {own nm : String} {cc : ByteArray} {ret : Option FieldType} {pc a b c0 : Nat} {sw : List (Int32 × Nat)} {gY : gYt} {n : Nat} (hd : decode cc pc = .ok (.iload n, 2)) : gOb gY own nm cc ret (pc, .iload n, a, b, c0, sw) (pc + 2) := by
  intro p l e R s m args below meth c D A kv ad0 u0 nL K d o hpF mc ms X ls st hp act h
  obtain ⟨B, F, O, hml, hR, hrt, hlk, hst, hnm⟩ := X
  unfold gsem at h
  dsimp only at h
  unfold gldi at h
  split at h
  · rename_i x hx; cases h; exact fun _ k => y_iload B hx hd k
  · cases h
theorem gO_lload_n {own nm : String} {cc : ByteArray} {ret : Option FieldType} {pc a b c0 : Nat} {sw : List (Int32 × Nat)} {gY : gYt} {n : Fin 4} (hd : decode cc pc = .ok (.lload_n n, 1)) : gOb gY own nm cc ret (pc, .lload_n n, a, b, c0, sw) (pc + 1) := by
  intro p l e R s m args below meth c D A kv ad0 u0 nL K d o hpF mc ms X ls st hp act h
  obtain ⟨B, F, O, hml, hR, hrt, hlk, hst, hnm⟩ := X
  unfold gsem at h
  dsimp only at h
  unfold gldl at h
  split at h
  · rename_i x hx; cases h; exact fun _ k => y_lload_n B hx hd k
  · cases h
theorem gO_lload {own nm : String} {cc : ByteArray} {ret : Option FieldType} {pc a b c0 : Nat} {sw : List (Int32 × Nat)} {gY : gYt} {n : Nat} (hd : decode cc pc = .ok (.lload n, 2)) : gOb gY own nm cc ret (pc, .lload n, a, b, c0, sw) (pc + 2) := by
  intro p l e R s m args below meth c D A kv ad0 u0 nL K d o hpF mc ms X ls st hp act h
  obtain ⟨B, F, O, hml, hR, hrt, hlk, hst, hnm⟩ := X
  unfold gsem at h
  dsimp only at h
  unfold gldl at h
  split at h
  · rename_i x hx; cases h; exact fun _ k => y_lload B hx hd k
  · cases h
theorem gO_aload_n {own nm : String} {cc : ByteArray} {ret : Option FieldType} {pc a b c0 : Nat} {sw : List (Int32 × Nat)} {gY : gYt} {n : Fin 4} (hd : decode cc pc = .ok (.aload_n n, 1)) : gOb gY own nm cc ret (pc, .aload_n n, a, b, c0, sw) (pc + 1) := by
  intro p l e R s m args below meth c D A kv ad0 u0 nL K d o hpF mc ms X ls st hp act h
  obtain ⟨B, F, O, hml, hR, hrt, hlk, hst, hnm⟩ := X
  unfold gsem at h
  dsimp only at h
  unfold glda at h
  split at h
  · rename_i x hx; cases h; exact fun _ k => y_aload_n B hx hd k
  · rename_i hx; cases h; exact fun _ k => y_aload_nN B hx hd k
  · cases h
theorem gO_aload {own nm : String} {cc : ByteArray} {ret : Option FieldType} {pc a b c0 : Nat} {sw : List (Int32 × Nat)} {gY : gYt} {n : Nat} (hd : decode cc pc = .ok (.aload n, 2)) : gOb gY own nm cc ret (pc, .aload n, a, b, c0, sw) (pc + 2) := by
  intro p l e R s m args below meth c D A kv ad0 u0 nL K d o hpF mc ms X ls st hp act h
  obtain ⟨B, F, O, hml, hR, hrt, hlk, hst, hnm⟩ := X
  unfold gsem at h
  dsimp only at h
  unfold glda at h
  split at h
  · rename_i x hx; cases h; exact fun _ k => y_aload B hx hd k
  · rename_i hx; cases h; exact fun _ k => y_aloadN B hx hd k
  · cases h
theorem gO_istore_n {own nm : String} {cc : ByteArray} {ret : Option FieldType} {pc a b c0 : Nat} {sw : List (Int32 × Nat)} {gY : gYt} {n : Fin 4} (hd : decode cc pc = .ok (.istore_n n, 1)) : gOb gY own nm cc ret (pc, .istore_n n, a, b, c0, sw) (pc + 1) := by
  intro p l e R s m args below meth c D A kv ad0 u0 nL K d o hpF mc ms X ls st hp act h
  obtain ⟨B, F, O, hml, hR, hrt, hlk, hst, hnm⟩ := X
  unfold gsem at h
  dsimp only at h
  unfold gsti at h
  split at h
  · split at h
    · rename_i hi; cases h; exact fun _ k => gLnk fun hl => y_istore_n B (by rw [← hl]; exact hi) hd k
    · cases h
  · cases h
theorem gO_istore {own nm : String} {cc : ByteArray} {ret : Option FieldType} {pc a b c0 : Nat} {sw : List (Int32 × Nat)} {gY : gYt} {n : Nat} (hd : decode cc pc = .ok (.istore n, 2)) : gOb gY own nm cc ret (pc, .istore n, a, b, c0, sw) (pc + 2) := by
  intro p l e R s m args below meth c D A kv ad0 u0 nL K d o hpF mc ms X ls st hp act h
  obtain ⟨B, F, O, hml, hR, hrt, hlk, hst, hnm⟩ := X
  unfold gsem at h
  dsimp only at h
  unfold gsti at h
  split at h
  · split at h
    · rename_i hi; cases h; exact fun _ k => gLnk fun hl => y_istore B (by rw [← hl]; exact hi) hd k
    · cases h
  · cases h
theorem gO_lstore_n {own nm : String} {cc : ByteArray} {ret : Option FieldType} {pc a b c0 : Nat} {sw : List (Int32 × Nat)} {gY : gYt} {n : Fin 4} (hd : decode cc pc = .ok (.lstore_n n, 1)) : gOb gY own nm cc ret (pc, .lstore_n n, a, b, c0, sw) (pc + 1) := by
  intro p l e R s m args below meth c D A kv ad0 u0 nL K d o hpF mc ms X ls st hp act h
  obtain ⟨B, F, O, hml, hR, hrt, hlk, hst, hnm⟩ := X
  unfold gsem at h
  dsimp only at h
  unfold gstl at h
  split at h
  · split at h
    · rename_i hi; cases h; exact fun _ k => gLnk fun hl => y_lstore_n B (by rw [← hl]; exact hi) hd k
    · cases h
  · cases h
theorem gO_lstore {own nm : String} {cc : ByteArray} {ret : Option FieldType} {pc a b c0 : Nat} {sw : List (Int32 × Nat)} {gY : gYt} {n : Nat} (hd : decode cc pc = .ok (.lstore n, 2)) : gOb gY own nm cc ret (pc, .lstore n, a, b, c0, sw) (pc + 2) := by
  intro p l e R s m args below meth c D A kv ad0 u0 nL K d o hpF mc ms X ls st hp act h
  obtain ⟨B, F, O, hml, hR, hrt, hlk, hst, hnm⟩ := X
  unfold gsem at h
  dsimp only at h
  unfold gstl at h
  split at h
  · split at h
    · rename_i hi; cases h; exact fun _ k => gLnk fun hl => y_lstore B (by rw [← hl]; exact hi) hd k
    · cases h
  · cases h
theorem gO_astore_n {own nm : String} {cc : ByteArray} {ret : Option FieldType} {pc a b c0 : Nat} {sw : List (Int32 × Nat)} {gY : gYt} {n : Fin 4} (hd : decode cc pc = .ok (.astore_n n, 1)) : gOb gY own nm cc ret (pc, .astore_n n, a, b, c0, sw) (pc + 1) := by
  intro p l e R s m args below meth c D A kv ad0 u0 nL K d o hpF mc ms X ls st hp act h
  obtain ⟨B, F, O, hml, hR, hrt, hlk, hst, hnm⟩ := X
  unfold gsem at h
  dsimp only at h
  unfold gsta at h
  split at h
  · split at h
    · rename_i hi; cases h; exact fun _ k => gLnk fun hl => y_astore_n B (by rw [← hl]; exact hi) hd k
    · cases h
  · split at h
    · rename_i hi; cases h; exact fun _ k => gLnk fun hl => y_astore_nN B (by rw [← hl]; exact hi) hd k
    · cases h
  · cases h
theorem gO_astore {own nm : String} {cc : ByteArray} {ret : Option FieldType} {pc a b c0 : Nat} {sw : List (Int32 × Nat)} {gY : gYt} {n : Nat} (hd : decode cc pc = .ok (.astore n, 2)) : gOb gY own nm cc ret (pc, .astore n, a, b, c0, sw) (pc + 2) := by
  intro p l e R s m args below meth c D A kv ad0 u0 nL K d o hpF mc ms X ls st hp act h
  obtain ⟨B, F, O, hml, hR, hrt, hlk, hst, hnm⟩ := X
  unfold gsem at h
  dsimp only at h
  unfold gsta at h
  split at h
  · split at h
    · rename_i hi; cases h; exact fun _ k => gLnk fun hl => y_astore B (by rw [← hl]; exact hi) hd k
    · cases h
  · split at h
    · rename_i hi; cases h; exact fun _ k => gLnk fun hl => y_astoreN B (by rw [← hl]; exact hi) hd k
    · cases h
  · cases h
theorem gO_iinc {own nm : String} {cc : ByteArray} {ret : Option FieldType} {pc a b c0 : Nat} {sw : List (Int32 × Nat)} {gY : gYt} {n : Nat} {z : Int} (hd : decode cc pc = .ok (.iinc n z, 3)) : gOb gY own nm cc ret (pc, .iinc n z, a, b, c0, sw) (pc + 3) := by
  intro p l e R s m args below meth c D A kv ad0 u0 nL K d o hpF mc ms X ls st hp act h
  obtain ⟨B, F, O, hml, hR, hrt, hlk, hst, hnm⟩ := X
  unfold gsem at h
  dsimp only at h
  split at h
  · rename_i x hx; cases h; exact fun _ k => gLnk fun hl => y_iinc B hx (by rw [← hl]; exact (List.getElem?_eq_some_iff.mp hx).1) hd k
  · cases h
theorem gO_dup {own nm : String} {cc : ByteArray} {ret : Option FieldType} {pc a b c0 : Nat} {sw : List (Int32 × Nat)} {gY : gYt} (hd : decode cc pc = .ok (.dup, 1)) : gOb gY own nm cc ret (pc, .dup, a, b, c0, sw) (pc + 1) := by
  intro p l e R s m args below meth c D A kv ad0 u0 nL K d o hpF mc ms X ls st hp act h
  obtain ⟨B, F, O, hml, hR, hrt, hlk, hst, hnm⟩ := X
  unfold gsem at h
  dsimp only at h
  split at h
  · split at h
    · rename_i h1; cases h; exact fun _ k => y_dup B h1 hd k
    · cases h
  · cases h
theorem gO_pop {own nm : String} {cc : ByteArray} {ret : Option FieldType} {pc a b c0 : Nat} {sw : List (Int32 × Nat)} {gY : gYt} (hd : decode cc pc = .ok (.pop, 1)) : gOb gY own nm cc ret (pc, .pop, a, b, c0, sw) (pc + 1) := by
  intro p l e R s m args below meth c D A kv ad0 u0 nL K d o hpF mc ms X ls st hp act h
  obtain ⟨B, F, O, hml, hR, hrt, hlk, hst, hnm⟩ := X
  unfold gsem at h
  dsimp only at h
  split at h
  · split at h
    · rename_i h1; cases h; exact fun _ k => y_pop B h1 hd k
    · cases h
  · cases h
theorem gO_dup_x1 {own nm : String} {cc : ByteArray} {ret : Option FieldType} {pc a b c0 : Nat} {sw : List (Int32 × Nat)} {gY : gYt} (hd : decode cc pc = .ok (.dup_x1, 1)) : gOb gY own nm cc ret (pc, .dup_x1, a, b, c0, sw) (pc + 1) := by
  intro p l e R s m args below meth c D A kv ad0 u0 nL K d o hpF mc ms X ls st hp act h
  obtain ⟨B, F, O, hml, hR, hrt, hlk, hst, hnm⟩ := X
  unfold gsem at h
  dsimp only at h
  split at h
  · split at h
    · rename_i h1; cases h; exact fun _ k => y_dup_x1 B h1.1 h1.2 hd k
    · cases h
  · cases h
theorem gO_dup2 {own nm : String} {cc : ByteArray} {ret : Option FieldType} {pc a b c0 : Nat} {sw : List (Int32 × Nat)} {gY : gYt} (hd : decode cc pc = .ok (.dup2, 1)) : gOb gY own nm cc ret (pc, .dup2, a, b, c0, sw) (pc + 1) := by
  intro p l e R s m args below meth c D A kv ad0 u0 nL K d o hpF mc ms X ls st hp act h
  obtain ⟨B, F, O, hml, hR, hrt, hlk, hst, hnm⟩ := X
  unfold gsem at h
  dsimp only at h
  split at h
  · split at h
    · rename_i h1; cases h; exact fun _ k => y_dup2 B h1.1 h1.2 hd k
    · cases h
  · cases h
theorem gO_goto {own nm : String} {cc : ByteArray} {ret : Option FieldType} {pc a b c0 : Nat} {sw : List (Int32 × Nat)} {gY : gYt} {off : Int} {nx : Nat} (hd : decode cc pc = .ok (.goto off, 3)) (ht : (pc : Int) + off = (a : Int)) : gOb gY own nm cc ret (pc, .goto off, a, b, c0, sw) (nx) := by
  intro p l e R s m args below meth c D A kv ad0 u0 nL K d o hpF mc ms X ls st hp act h
  obtain ⟨B, F, O, hml, hR, hrt, hlk, hst, hnm⟩ := X
  unfold gsem at h
  dsimp only at h
  cases h; exact fun _ k => y_goto B hd ht k
theorem gO_nop {own nm : String} {cc : ByteArray} {ret : Option FieldType} {pc b c0 nx : Nat} {sw : List (Int32 × Nat)} {gY : gYt} : gOb gY own nm cc ret (pc, .nop, pc, b, c0, sw) nx := by
  intro p l e R s m args below meth c D A kv ad0 u0 nL K d o hpF mc ms X ls st hp act h
  unfold gsem at h
  dsimp only at h
  cases h
  exact fun _ k => k
theorem gO_ifCond {own nm : String} {cc : ByteArray} {ret : Option FieldType} {pc a b c0 : Nat} {sw : List (Int32 × Nat)} {gY : gYt} {dc : ClassFile.Cond} {off : Int} (hd : decode cc pc = .ok (.ifCond dc off, 3)) (ht : (pc : Int) + off = (a : Int)) : gOb gY own nm cc ret (pc, .ifCond dc off, a, b, c0, sw) (pc + 3) := by
  intro p l e R s m args below meth c D A kv ad0 u0 nL K d o hpF mc ms X ls st hp act h
  obtain ⟨B, F, O, hml, hR, hrt, hlk, hst, hnm⟩ := X
  unfold gsem at h
  dsimp only at h
  split at h
  · split at h
    · rename_i h1; cases h; exact fun _ k => y_if B hd ht (fun _ => k) (fun h2 => by rw [h1] at h2; cases h2)
    · rename_i h1; cases h; exact fun _ k => y_if B hd ht (fun h2 => absurd h2 h1) (fun _ => k)
  · cases h
theorem gO_if_icmp {own nm : String} {cc : ByteArray} {ret : Option FieldType} {pc a b c0 : Nat} {sw : List (Int32 × Nat)} {gY : gYt} {dc : ClassFile.Cond} {off : Int} (hd : decode cc pc = .ok (.if_icmp dc off, 3)) (ht : (pc : Int) + off = (a : Int)) : gOb gY own nm cc ret (pc, .if_icmp dc off, a, b, c0, sw) (pc + 3) := by
  intro p l e R s m args below meth c D A kv ad0 u0 nL K d o hpF mc ms X ls st hp act h
  obtain ⟨B, F, O, hml, hR, hrt, hlk, hst, hnm⟩ := X
  unfold gsem at h
  dsimp only at h
  split at h
  · split at h
    · rename_i h1; cases h; exact fun _ k => y_icmp B hd ht (fun _ => k) (fun h2 => by rw [h1] at h2; cases h2)
    · rename_i h1; cases h; exact fun _ k => y_icmp B hd ht (fun h2 => absurd h2 h1) (fun _ => k)
  · cases h
theorem gO_ifnull {own nm : String} {cc : ByteArray} {ret : Option FieldType} {pc a b c0 : Nat} {sw : List (Int32 × Nat)} {gY : gYt} {off : Int} (hd : decode cc pc = .ok (.ifnull off, 3)) (ht : (pc : Int) + off = (a : Int)) : gOb gY own nm cc ret (pc, .ifnull off, a, b, c0, sw) (pc + 3) := by
  intro p l e R s m args below meth c D A kv ad0 u0 nL K d o hpF mc ms X ls st hp act h
  obtain ⟨B, F, O, hml, hR, hrt, hlk, hst, hnm⟩ := X
  unfold gsem at h
  dsimp only at h
  split at h
  · cases h; exact fun _ k => y_ifnullZ B hd ht k
  · split at h
    · rename_i h1; cases h; exact fun _ k => y_ifnullR B h1 hd k
    · cases h
  · cases h
theorem gO_ifnonnull {own nm : String} {cc : ByteArray} {ret : Option FieldType} {pc a b c0 : Nat} {sw : List (Int32 × Nat)} {gY : gYt} {off : Int} (hd : decode cc pc = .ok (.ifnonnull off, 3)) (ht : (pc : Int) + off = (a : Int)) : gOb gY own nm cc ret (pc, .ifnonnull off, a, b, c0, sw) (pc + 3) := by
  intro p l e R s m args below meth c D A kv ad0 u0 nL K d o hpF mc ms X ls st hp act h
  obtain ⟨B, F, O, hml, hR, hrt, hlk, hst, hnm⟩ := X
  unfold gsem at h
  dsimp only at h
  split at h
  · cases h; exact fun _ k => y_ifnonnullZ B hd k
  · split at h
    · rename_i h1; cases h; exact fun _ k => y_ifnonnullR B h1 hd ht k
    · cases h
  · cases h
theorem gO_acmp {own nm : String} {cc : ByteArray} {ret : Option FieldType} {pc a b c0 : Nat} {sw : List (Int32 × Nat)} {gY : gYt} {dc : ACond} {off : Int} (hd : decode cc pc = .ok (.if_acmp dc off, 3)) (ht : (pc : Int) + off = (a : Int)) : gOb gY own nm cc ret (pc, .if_acmp dc off, a, b, c0, sw) (pc + 3) := by
  intro p l e R s m args below meth c D A kv ad0 u0 nL K d o hpF mc ms X ls st hp act h
  obtain ⟨B, F, O, hml, hR, hrt, hlk, hst, hnm⟩ := X
  unfold gsem at h
  dsimp only at h
  split at h
  · split at h
    · rename_i hh
      cases dc with
      | eq =>
        dsimp only at h
        split at h
        · rename_i h1; cases h; exact fun _ k => y_acmp B F hh hd ht (fun _ => k) (fun h2 => absurd h1 h2)
        · rename_i h1; cases h; exact fun _ k => y_acmp B F hh hd ht (fun h2 => absurd h2 h1) (fun _ => k)
      | ne =>
        dsimp only at h
        split at h
        · rename_i h1; cases h; exact fun _ k => y_acmp B F hh hd ht (fun _ => k) (fun h2 => absurd h1 h2)
        · rename_i h1; cases h; exact fun _ k => y_acmp B F hh hd ht (fun h2 => absurd h2 h1) (fun _ => k)
    · cases h
  · cases h
theorem gO_tableswitch {own nm : String} {cc : ByteArray} {ret : Option FieldType} {pc a b c0 : Nat} {sw : List (Int32 × Nat)} {gY : gYt} {dflt lo hi : Int} {offs : Array Int} {len nx : Nat} (hd : decode cc pc = .ok (.tableswitch dflt lo hi offs, len)) (hdf : (pc : Int) + dflt = (a : Int)) (ht : gtab pc lo offs.toList sw = true) (hhi : hi + 1 = lo + offs.toList.length) : gOb gY own nm cc ret (pc, .tableswitch dflt lo hi offs, a, b, c0, sw) (nx) := by
  intro p l e R s m args below meth c D A kv ad0 u0 nL K d o hpF mc ms X ls st hp act h
  obtain ⟨B, F, O, hml, hR, hrt, hlk, hst, hnm⟩ := X
  unfold gsem at h
  dsimp only at h
  split at h
  · cases h; exact fun _ k => y_table B hd hdf ht hhi k
  · cases h
theorem gO_lookupswitch {own nm : String} {cc : ByteArray} {ret : Option FieldType} {pc a b c0 : Nat} {sw : List (Int32 × Nat)} {gY : gYt} {dflt : Int} {ps : Array (Int × Int)} {len nx : Nat} (hd : decode cc pc = .ok (.lookupswitch dflt ps, len)) (hp0 : (ps.toList.zip (ps.toList.drop 1)).all (fun (a, next) => a.1 < next.1) = true) (hdf : (pc : Int) + dflt = (a : Int)) (ht : glkp pc ps.toList sw = true) : gOb gY own nm cc ret (pc, .lookupswitch dflt ps, a, b, c0, sw) (nx) := by
  intro p l e R s m args below meth c D A kv ad0 u0 nL K d o hpF mc ms X ls st hp act h
  obtain ⟨B, F, O, hml, hR, hrt, hlk, hst, hnm⟩ := X
  unfold gsem at h
  dsimp only at h
  split at h
  · cases h; exact fun _ k => y_lookup B hd hp0 hdf ht k
  · cases h
theorem gO_ireturn {own nm : String} {cc : ByteArray} {ret : Option FieldType} {pc a b c0 : Nat} {sw : List (Int32 × Nat)} {gY : gYt} {nx : Nat} (hk : gRk a ret) (hd : decode cc pc = .ok (.ireturn, 1)) : gOb gY own nm cc ret (pc, .ireturn, a, b, c0, sw) (nx) := by
  intro p l e R s m args below meth c D A kv ad0 u0 nL K d o hpF mc ms X ls st hp act h
  obtain ⟨B, F, O, hml, hR, hrt, hlk, hst, hnm⟩ := X
  unfold gsem at h
  dsimp only at h
  split at h
  · split at h
    · rename_i hg; cases h; intro e1 e2 e3 e4; subst e1; subst e2; exact y_iret B hrt hk hlk hd hg e3 e4
    · cases h
  · cases h
theorem gO_lreturn {own nm : String} {cc : ByteArray} {ret : Option FieldType} {pc a b c0 : Nat} {sw : List (Int32 × Nat)} {gY : gYt} {nx : Nat} (hk : ret = some .long) (hd : decode cc pc = .ok (.lreturn, 1)) : gOb gY own nm cc ret (pc, .lreturn, a, b, c0, sw) (nx) := by
  intro p l e R s m args below meth c D A kv ad0 u0 nL K d o hpF mc ms X ls st hp act h
  obtain ⟨B, F, O, hml, hR, hrt, hlk, hst, hnm⟩ := X
  unfold gsem at h
  dsimp only at h
  split at h
  · cases h; intro e1 e2 e3 e4; subst e1; subst e2; exact y_lret B (hrt.trans hk) hlk hd e3 e4
  · cases h
theorem gO_areturn {own nm : String} {cc : ByteArray} {ret : Option FieldType} {pc a b c0 : Nat} {sw : List (Int32 × Nat)} {gY : gYt} {nx : Nat} (hk : gRf ret) (hd : decode cc pc = .ok (.areturn, 1)) : gOb gY own nm cc ret (pc, .areturn, a, b, c0, sw) (nx) := by
  intro p l e R s m args below meth c D A kv ad0 u0 nL K d o hpF mc ms X ls st hp act h
  obtain ⟨B, F, O, hml, hR, hrt, hlk, hst, hnm⟩ := X
  unfold gsem at h
  dsimp only at h
  split at h
  · cases h; intro e1 e2 e3 e4; subst e1; subst e2; exact y_aret B (by rw [hrt]; exact hk) hlk hd (Or.inr ⟨_, rfl⟩) e3 e4
  · cases h; intro e1 e2 e3 e4; subst e1; subst e2; exact y_aret B (by rw [hrt]; exact hk) hlk hd (Or.inl rfl) e3 e4
  · cases h
theorem gO_return {own nm : String} {cc : ByteArray} {ret : Option FieldType} {pc a b c0 : Nat} {sw : List (Int32 × Nat)} {gY : gYt} {nx : Nat} (hk : ret = none) (hd : decode cc pc = .ok (.return_, 1)) : gOb gY own nm cc ret (pc, .return_, a, b, c0, sw) (nx) := by
  intro p l e R s m args below meth c D A kv ad0 u0 nL K d o hpF mc ms X ls st hp act h
  obtain ⟨B, F, O, hml, hR, hrt, hlk, hst, hnm⟩ := X
  unfold gsem at h
  dsimp only at h
  split at h
  · cases h; intro e1 e2 e3 e4; subst e1; subst e2; exact y_vret B (hrt.trans hk) hlk hd e3 e4
  · cases h
theorem gO_ldc0 {own nm : String} {cc : ByteArray} {ret : Option FieldType} {pc b c0 : Nat} {sw : List (Int32 × Nat)} {gY : gYt} {n : Nat} (hl : Cond.constant own n (Int32.ofNat b) ∈ lw_all) (hd : decode cc pc = .ok (.ldc n, 2)) : gOb gY own nm cc ret (pc, .ldc n, 0, b, c0, sw) (pc + 2) := by
  intro p l e R s m args below meth c D A kv ad0 u0 nL K d o hpF mc ms X ls st hp act h
  obtain ⟨B, F, O, hml, hR, hrt, hlk, hst, hnm⟩ := X
  unfold gsem at h
  dsimp only at h
  cases h; exact fun _ k => y_ldc0 B O hl hd k
theorem gO_ldc2c {own nm : String} {cc : ByteArray} {ret : Option FieldType} {pc b c0 : Nat} {sw : List (Int32 × Nat)} {gY : gYt} {n : Nat} (hl : Cond.classLink own n "[Ljava/lang/Object;" ∈ lw_all) (hd : decode cc pc = .ok (.ldc n, 2)) : gOb gY own nm cc ret (pc, .ldc n, 2, b, c0, sw) (pc + 2) := by
  intro p l e R s m args below meth c D A kv ad0 u0 nL K d o hpF mc ms X ls st hp act h
  obtain ⟨B, F, O, hml, hR, hrt, hlk, hst, hnm⟩ := X
  unfold gsem at h
  dsimp only at h
  cases h; exact fun _ k => y_ldcC B F O hl hd k
theorem gO_ldc1 {nm : String} {cc : ByteArray} {ret : Option FieldType} {pc b c0 : Nat} {sw : List (Int32 × Nat)} {gY : gYt} {n : Nat} (hn : n = (gTx b).1) (hd : decode cc pc = .ok (.ldc n, 2)) : gOb gY "GeeseKeys$Reader" nm cc ret (pc, .ldc n, 1, b, c0, sw) (pc + 2) := by
  intro p l e R s m args below meth c D A kv ad0 u0 nL K d o hpF mc ms X ls st hp act h
  obtain ⟨B, F, O, hml, hR, hrt, hlk, hst, hnm⟩ := X
  unfold gsem at h
  dsimp only at h
  change (if b < 3 then gN ls (.ref (2 + b) :: st) hp else none) = some act at h
  split at h
  · rename_i hb; cases h; exact fun _ k => y_ldcS B F O hb hn hd k
  · cases h
theorem gO_ldc2_w {own nm : String} {cc : ByteArray} {ret : Option FieldType} {pc a b c0 : Nat} {sw : List (Int32 × Nat)} {gY : gYt} {n : Nat} (hl : Cond.constantLong own n (Int64.ofNat b) ∈ lw_all) (hd : decode cc pc = .ok (.ldc2_w n, 3)) : gOb gY own nm cc ret (pc, .ldc2_w n, a, b, c0, sw) (pc + 3) := by
  intro p l e R s m args below meth c D A kv ad0 u0 nL K d o hpF mc ms X ls st hp act h
  obtain ⟨B, F, O, hml, hR, hrt, hlk, hst, hnm⟩ := X
  unfold gsem at h
  dsimp only at h
  cases h; exact fun _ k => y_ldc2 B O hl hd k
theorem gO_gets0 {own nm : String} {cc : ByteArray} {ret : Option FieldType} {pc b c0 : Nat} {sw : List (Int32 × Nat)} {gY : gYt} {n : Nat} (hl : Cond.fieldLink own n "java/util/ArrayList" "DEFAULTCAPACITY_EMPTY_ELEMENTDATA" "[Ljava/lang/Object;" ∈ lw_all) (hd : decode cc pc = .ok (.getstatic n, 3)) : gOb gY own nm cc ret (pc, .getstatic n, 0, b, c0, sw) (pc + 3) := by
  intro p l e R s m args below meth c D A kv ad0 u0 nL K d o hpF mc ms X ls st hp act h
  obtain ⟨B, F, O, hml, hR, hrt, hlk, hst, hnm⟩ := X
  unfold gsem at h
  dsimp only at h
  cases h; exact fun _ k => y_gets0 B F O hl hd k
theorem gO_gets1 {own nm : String} {cc : ByteArray} {ret : Option FieldType} {pc b c0 : Nat} {sw : List (Int32 × Nat)} {gY : gYt} {n : Nat} (hl : Cond.fieldLink own n "java/lang/String" "COMPACT_STRINGS" "Z" ∈ lw_all) (hd : decode cc pc = .ok (.getstatic n, 3)) : gOb gY own nm cc ret (pc, .getstatic n, 1, b, c0, sw) (pc + 3) := by
  intro p l e R s m args below meth c D A kv ad0 u0 nL K d o hpF mc ms X ls st hp act h
  obtain ⟨B, F, O, hml, hR, hrt, hlk, hst, hnm⟩ := X
  unfold gsem at h
  dsimp only at h
  cases h; exact fun _ k => y_gets1 B F O hl hd k
theorem gO_gets2 {own nm : String} {cc : ByteArray} {ret : Option FieldType} {pc b c0 : Nat} {sw : List (Int32 × Nat)} {gY : gYt} {n : Nat} (hl : Cond.fieldLink own n "jdk/internal/util/Preconditions" "SIOOBE_FORMATTER" "Ljava/util/function/BiFunction;" ∈ lw_all) (hd : decode cc pc = .ok (.getstatic n, 3)) : gOb gY own nm cc ret (pc, .getstatic n, 2, b, c0, sw) (pc + 3) := by
  intro p l e R s m args below meth c D A kv ad0 u0 nL K d o hpF mc ms X ls st hp act h
  obtain ⟨B, F, O, hml, hR, hrt, hlk, hst, hnm⟩ := X
  unfold gsem at h
  dsimp only at h
  cases h; exact fun _ k => y_gets2 B F O hl hd k
theorem gO_getfield {own nm : String} {cc : ByteArray} {ret : Option FieldType} {pc a b c0 : Nat} {sw : List (Int32 × Nat)} {gY : gYt} {n : Nat} {ref decl name desc : String} {fin : Bool} (hb : b ≠ 90) (hf : gfok a b decl name desc fin = true) (hl : ∀ {K : gK} {A : Nat → Prop} {kv : Nat → Value} {s : State}, gFx K A kv s → gFl s own n ref name desc) (hsm : gSf ref decl name desc) (hd : decode cc pc = .ok (.getfield n, 3)) : gOb gY own nm cc ret (pc, .getfield n, a, b, c0, sw) (pc + 3) := by
  intro p l e R s m args below meth c D A kv ad0 u0 nL K d o hpF mc ms X ls st hp act h
  obtain ⟨B, F, O, hml, hR, hrt, hlk, hst, hnm⟩ := X
  unfold gsem at h
  dsimp only at h
  split at h
  · split at h
    · split at h
      · rename_i hc; exact absurd hc.2.2 hb
      · cases h
    · split at h
      · rename_i oo hg
        split at h
        · rename_i hgr
          split at h
          · rename_i v hv; cases h; exact fun _ k => y_getfield B O hf (hl F) hsm hd hg hgr hv k
          · cases h
        · cases h
      · cases h
  · cases h
theorem gO_getfT {own nm : String} {cc : ByteArray} {ret : Option FieldType} {pc c0 : Nat} {sw : List (Int32 × Nat)} {gY : gYt} {n : Nat} (hl : Cond.fieldLink own n "java/lang/String" "value" "[B" ∈ lw_all) (hd : decode cc pc = .ok (.getfield n, 3)) : gOb gY own nm cc ret (pc, .getfield n, 0, 90, c0, sw) (pc + 3) := by
  intro p l e R s m args below meth c D A kv ad0 u0 nL K d o hpF mc ms X ls st hp act h
  obtain ⟨B, F, O, hml, hR, hrt, hlk, hst, hnm⟩ := X
  unfold gsem at h
  dsimp only at h
  split at h
  · rename_i hh r
    split at h
    · split at h
      · rename_i hc
        obtain ⟨j, rfl⟩ := Nat.exists_eq_add_of_le hc.1
        have k9 : 2 + j + 3 = 5 + j := by omega
        rw [if_pos rfl, k9] at h
        cases h
        exact fun _ k => y_getfT B F O (show j < 3 from Nat.lt_of_add_lt_add_left (show 2 + j < 2 + 3 from Nat.lt_succ_of_le hc.2.1)) hl hd k
      · cases h
    · split at h
      · split at h
        · rename_i hgr; simp [ggrp] at hgr
        · cases h
      · cases h
  · cases h
theorem gO_getfC {own nm : String} {cc : ByteArray} {ret : Option FieldType} {pc c0 : Nat} {sw : List (Int32 × Nat)} {gY : gYt} {n : Nat} (hl : Cond.fieldLink own n "java/lang/String" "coder" "B" ∈ lw_all) (hd : decode cc pc = .ok (.getfield n, 3)) : gOb gY own nm cc ret (pc, .getfield n, 1, 90, c0, sw) (pc + 3) := by
  intro p l e R s m args below meth c D A kv ad0 u0 nL K d o hpF mc ms X ls st hp act h
  obtain ⟨B, F, O, hml, hR, hrt, hlk, hst, hnm⟩ := X
  unfold gsem at h
  dsimp only at h
  split at h
  · rename_i hh r
    split at h
    · split at h
      · rename_i hc
        obtain ⟨j, rfl⟩ := Nat.exists_eq_add_of_le hc.1
        rw [if_neg (by decide)] at h
        cases h
        exact fun _ k => y_getfC B F O (show j < 3 from Nat.lt_of_add_lt_add_left (show 2 + j < 2 + 3 from Nat.lt_succ_of_le hc.2.1)) hl hd k
      · cases h
    · split at h
      · split at h
        · rename_i hgr; simp [ggrp] at hgr
        · cases h
      · cases h
  · cases h
theorem gO_putfield {own nm : String} {cc : ByteArray} {ret : Option FieldType} {pc a b c0 : Nat} {sw : List (Int32 × Nat)} {gY : gYt} {n : Nat} {ref decl name desc : String} {fin : Bool} {ty : FieldType} (hf : gfok a b decl name desc fin = true) (hty : parseFieldDescriptor desc = some ty) (hkd : gkind c0 ty) (hfin : fin = false ∨ (nm = "<init>" ∧ decl = own ∧ Cond.fieldLink own n ref name desc ∈ lw_all)) (hl : ∀ {K : gK} {A : Nat → Prop} {kv : Nat → Value} {s : State}, gFx K A kv s → gFl s own n ref name desc) (hsm : gSf ref decl name desc) (hd : decode cc pc = .ok (.putfield n, 3)) : gOb gY own nm cc ret (pc, .putfield n, a, b, c0, sw) (pc + 3) := by
  intro p l e R s m args below meth c D A kv ad0 u0 nL K d o hpF mc ms X ls st hp act h
  obtain ⟨B, F, O, hml, hR, hrt, hlk, hst, hnm⟩ := X
  unfold gsem at h
  dsimp only at h
  split at h
  · split at h
    · rename_i oo hg
      split at h
      · rename_i hgr
        simp only [Bool.and_eq_true, decide_eq_true_eq] at hgr
        cases h
        exact fun _ k => y_putfield B O hf hty hkd (hfin.imp id fun z => ⟨hnm.trans z.1, z.2⟩) (hl F) hsm hd hg hgr.1 hgr.2.1 hgr.2.2 k
      · cases h
    · cases h
  · cases h
theorem gO_new {own nm : String} {cc : ByteArray} {ret : Option FieldType} {pc a b c0 : Nat} {sw : List (Int32 × Nat)} {gY : gYt} {n : Nat} {C : String} {T : u_T} (hc : gcl[a]? = some (C, T, b)) (hdf : gdfok a b = true) (hcl : Cond.classLink own n C ∈ lw_all) (hin : Cond.instantiable C b ∈ lw_all) (hini : Cond.initialized C ∈ lw_all) (hd : decode cc pc = .ok (.new n, 3)) : gOb gY own nm cc ret (pc, .new n, a, b, c0, sw) (pc + 3) := by
  intro p l e R s m args below meth c D A kv ad0 u0 nL K d o hpF mc ms X ls st hp act h
  obtain ⟨B, F, O, hml, hR, hrt, hlk, hst, hnm⟩ := X
  unfold gsem at h
  dsimp only at h
  split at h
  · cases h; exact fun hr k => y_new B O hc hdf hcl hin hini hd hr k
  · cases h
theorem gO_anewarray {own nm : String} {cc : ByteArray} {ret : Option FieldType} {pc a b c0 : Nat} {sw : List (Int32 × Nat)} {gY : gYt} {n : Nat} (hcl : Cond.classLink own n (gcn a) ∈ lw_all) (hd : decode cc pc = .ok (.anewarray n, 3)) : gOb gY own nm cc ret (pc, .anewarray n, a, b, c0, sw) (pc + 3) := by
  intro p l e R s m args below meth c D A kv ad0 u0 nL K d o hpF mc ms X ls st hp act h
  obtain ⟨B, F, O, hml, hR, hrt, hlk, hst, hnm⟩ := X
  unfold gsem at h
  dsimp only at h
  split at h
  · split at h
    · cases h
    · split at h
      · rename_i hx hn; cases h; exact fun hr k => y_anewarray B O hcl (F.ao (by unfold gcn; split <;> simp)) hd hx rfl hn.1 hr k
      · cases h
  · cases h
