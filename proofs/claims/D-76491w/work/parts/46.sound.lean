/-! ===== SOUNDNESS of the pure machine: a run that answers is the machine's ===== -/
theorem xrun_mono {K : gK} : ∀ (n d mi : Nat) (is : List gI) (ls : gL) (st : List Value) (hp : gS) (o : gO), xrun K n d mi is ls st hp = some o → gLe hp o.2 := by
  intro n
  induction n with
  | zero => intro d mi is ls st hp o h; simp [xrun] at h
  | succ n ih =>
    intro d mi is ls st hp o h
    cases is with
    | nil => simp [xrun] at h
    | cons i is =>
      rw [xrun] at h
      cases hg : gsem K i ls st hp with
      | none => rw [hg] at h; simp at h
      | some a =>
        rw [hg] at h
        have hm := gsem_mono hg
        rcases a with ⟨ls', st', hp'⟩ | ⟨lab, ls', st', hp'⟩ | ⟨v, hp'⟩ | ⟨y, as, st'⟩ | ⟨ci, q, hp'⟩
        · exact gLe.tr hm (ih _ _ _ _ _ _ _ h)
        · exact gLe.tr hm (ih _ _ _ _ _ _ _ h)
        · cases h; exact hm
        · cases d with
          | zero => simp at h
          | succ d =>
            dsimp only at h
            by_cases hl : (gargs as).length ≤ gNL y
            · rw [if_pos hl] at h
              cases hc : xrun K n d y (gP y 0) (gent (gNL y) as) [] hp with
              | none => rw [hc] at h; simp at h
              | some o2 =>
                rw [hc] at h
                have h2 := ih _ _ _ _ _ _ _ hc
                rcases o2 with ⟨v | ⟨ci, q⟩, hp'⟩
                · exact gLe.tr h2 (ih _ _ _ _ _ _ _ h)
                · dsimp only at h
                  cases hh : ghnd i.1 ci (gHT mi) with
                  | none => rw [hh] at h; simp at h
                  | some x => cases x with
                    | none => rw [hh] at h; cases h; exact h2
                    | some pc => rw [hh] at h; exact gLe.tr h2 (ih _ _ _ _ _ _ _ h)
            · rw [if_neg hl] at h; simp at h
        · dsimp only at h
          cases hh : ghnd i.1 ci (gHT mi) with
          | none => rw [hh] at h; simp at h
          | some x => cases x with
            | none => rw [hh] at h; cases h; exact hm
            | some pc => rw [hh] at h; exact gLe.tr hm (ih _ _ _ _ _ _ _ h)
section GEnt
variable {kv : Nat → Value} {ad : List Nat}
theorem lg_sl1 {w : Value} {ws : List Value} (h : w.category = 1) : lg_sl (w :: ws) = .val w :: lg_sl ws := by
  unfold lg_sl
  rw [List.flatMap_cons, if_neg (by rw [h]; decide)]
  rfl
theorem lg_sl2 {w : Value} {ws : List Value} (h : w.category = 2) : lg_sl (w :: ws) = .val w :: .second :: lg_sl ws := by
  unfold lg_sl
  rw [List.flatMap_cons, if_pos h]
  rfl
theorem gargs_at (hk : ∀ q, q < 16 → (kv q).category = 1) : ∀ {as vs : List Value}, gVs kv ad as vs → (lg_sl vs).length = (gargs as).length ∧ ∀ (k : Nat) (v : Value), (gargs as)[k]? = some (some v) → ∃ w : Value, (lg_sl vs)[k]? = some (.val w) ∧ gV kv ad v w
  | [], vs, h => by
    rw [show vs = [] from h]
    exact ⟨rfl, fun k v e => by simp [gargs] at e⟩
  | v0 :: as, vs, ⟨w0, ws', e0, k1, k2⟩ => by
    subst e0
    obtain ⟨i1, i2⟩ := gargs_at hk k2
    have one : gcat v0 = 1 → gargs (v0 :: as) = some v0 :: gargs as → (lg_sl (w0 :: ws')).length = (gargs (v0 :: as)).length ∧ ∀ (k : Nat) (v : Value), (gargs (v0 :: as))[k]? = some (some v) → ∃ w : Value, (lg_sl (w0 :: ws'))[k]? = some (.val w) ∧ gV kv ad v w := by
      intro hc he
      rw [lg_sl1 ((k1.cat hk).trans hc), he]
      refine ⟨by rw [List.length_cons, List.length_cons, i1], fun k v e => ?_⟩
      cases k with
      | zero => rw [List.getElem?_cons_zero] at e; cases e; exact ⟨w0, rfl, k1⟩
      | succ k => rw [List.getElem?_cons_succ] at e ⊢; exact i2 k v e
    cases v0 with
    | long x =>
      rw [lg_sl2 (k1.cat hk)]
      refine ⟨by show _ = (some (Value.long x) :: none :: gargs as).length; rw [List.length_cons, List.length_cons, List.length_cons, List.length_cons, i1], fun k v e => ?_⟩
      have e : (some (Value.long x) :: none :: gargs as)[k]? = some (some v) := e
      cases k with
      | zero => rw [List.getElem?_cons_zero] at e; cases e; exact ⟨w0, rfl, k1⟩
      | succ k =>
        rw [List.getElem?_cons_succ] at e
        cases k with
        | zero => rw [List.getElem?_cons_zero] at e; cases e
        | succ k => rw [List.getElem?_cons_succ] at e; rw [List.getElem?_cons_succ, List.getElem?_cons_succ]; exact i2 k v e
    | int x => exact one rfl rfl
    | ref x => exact one rfl rfl
    | null => exact one rfl rfl
    | float x => exact k1.elim
    | double x => exact k1.elim
    | retAddr x => exact k1.elim
theorem gent_ok (hk : ∀ q, q < 16 → (kv q).category = 1) {as vs : List Value} {n : Nat} (hV : gVs kv ad as vs) (hl : (gargs as).length ≤ n) : gLs kv ad n (gent n as) ((lg_sl vs ++ List.replicate (n - (lg_sl vs).length) Slot.unset).toArray) := by
  obtain ⟨h1, h2⟩ := gargs_at hk hV
  obtain ⟨e1, e2, -⟩ := lv_entry vs (n := n) (by rw [h1]; exact hl)
  refine ⟨?_, e1, e2, fun k v e => ?_⟩
  · unfold gent
    rw [List.length_append, List.length_replicate]
    omega
  · unfold gent at e
    by_cases hkl : k < (gargs as).length
    · rw [List.getElem?_append_left hkl] at e
      obtain ⟨w, e3, e4⟩ := h2 k v e
      refine ⟨w, ?_, e4⟩
      rw [List.getElem?_toArray, List.getElem?_append_left (by rw [h1]; exact hkl)]
      exact e3
    · rw [List.getElem?_append_right (by omega)] at e
      have := List.mem_of_getElem? e
      rw [List.mem_replicate] at this
      cases this.2
end GEnt
def gOk (gY : gYt) (own nm : String) (cc : ByteArray) (ret : Option FieldType) : List gI → Nat → Prop
  | [], _ => True
  | i :: is, pc => i.1 = pc ∧ ∃ nx, gOb gY own nm cc ret i nx ∧ gOk gY own nm cc ret is nx
/-- a method: its blocks are its code's, its rows its table's -/
def gMt (gY : gYt) (mi : Nat) (cc : ByteArray) (ret : Option FieldType) (zs : List (Nat × Nat × Nat × Nat)) : Prop :=
  plainName (gY mi).1.cls = true ∧ (∀ lab, gOk gY (gY mi).1.cls (gY mi).1.name cc ret (gP mi lab) lab) ∧ gHs (gY mi).1.cls zs (gHT mi) ∧ ((zs = [] ∧ (gY mi).2 = ws_ (gY mi).1 cc (gNL mi) ret) ∨ (gY mi).2 = wsW_ (gY mi).1 cc (gNL mi) ret zs)
def gMs (gY : gYt) (mi : Nat) : Prop := ∃ cc ret zs, gMt gY mi cc ret zs
/-- a run from inside a method -/
def gFr (K : gK) (gY : gYt) (d mi : Nat) (is : List gI) (ls : gL) (st : List Value) (hp : gS) (o : Option Value ⊕ (Nat × Nat)) (hp' : gS) : Prop :=
  ∀ (cc : ByteArray) (ret : Option FieldType) (zs : List (Nat × Nat × Nat × Nat)), gMt gY mi cc ret zs → ∀ (p : Program) (l : Launch) (e : Env) (R : Room) (s : State) (m : MethodId) (args : Array Value) (below : List Frame) (meth : Method) (c : Code) (D : va_G) (A : Nat → Prop) (kv : Nat → Value) (ad0 : List Nat) (u0 : Nat × Nat) (nL mc ms pc : Nat),
    gCx p l R s m args meth c A kv K (gY mi).1.cls (gY mi).1.name cc ret nL d → c.exceptionTable.toList = tableOf zs → gOk gY (gY mi).1.cls (gY mi).1.name cc ret is pc → hp'.2.1 = u0.1 + mc → hp'.2.2 = u0.2 + ms → mc ≤ R.cells → ms ≤ R.slots →
    gGo p l e R s m args below meth c (gEnd below D A kv ad0 o hp' args s mc ms) D A kv ad0 u0 nL pc ls st hp
/-- a run from a method's entry is its contract -/
theorem gCon_of {K : gK} {gY : gYt} {d y n : Nat} {as : List Value} {hp : gS} {o : Option Value ⊕ (Nat × Nat)} {hp' : gS} (hM : gMs gY y) (hl : (gargs as).length ≤ gNL y) (hle : gLe hp hp') (hf : gFr K gY d y (gP y 0) (gent (gNL y) as) [] hp o hp') : gCon K (gY y).1 (gY y).2 d as hp o hp' := by
  obtain ⟨cc, ret, zs, hmt⟩ := hM
  intro l D A kv ad0 hst hkv
  have body : ∀ (ws : List Cond), (∀ w ∈ lw_all, w ∈ ws) → ∀ p e s m args below meth c s₁, BodyLoose p l (gY y).1 (headSpec ws (grm d hp hp')) cc (gNL y) ret e s m args below meth c s₁ → c.maxLocals = gNL y → c.exceptionTable.toList = tableOf zs → gPc K D A kv ad0 hp as args s →
      W p l e (headSpec ws (grm d hp hp')).room s m args below meth c s.heap [] 0 0 (gEnd below D A kv ad0 o hp' args s (hp'.2.1 - hp.2.1) (hp'.2.2 - hp.2.2)) (entryFrame m args (gNL y)) := by
    intro ws hsub p e s m args below meth c s₁ B hml ht hP
    obtain ⟨F, hfresh, tys, wd, hK, hP, hD, hW, had, hV⟩ := hP
    have hts := atoms_spec (ws := ws) B.pre
    have ee := lg_entry_eq m args.toList (gNL y)
    rw [Array.toArray_toList] at ee
    rw [ee]
    have hB : gBase p c cc kv := ⟨B.exec, B.bytes, hkv⟩
    have hR : gRm d (headSpec ws (grm d hp hp')).room := ⟨Nat.le_refl (d + 10), Nat.le_refl (64 * d + 12000)⟩
    have X : gCx p l (headSpec ws (grm d hp hp')).room s m args meth c A kv K (gY y).1.cls (gY y).1.name cc ret (gNL y) d :=
      ⟨hB, F, ⟨findClass_of_methodNamed B.named, fun w hw => hts w (hsub w hw), hfresh⟩, hml, hR, B.returns, B.notSynchronized, hst, (name_of_methodNamed B.named B.method).1⟩
    obtain ⟨q1, q2⟩ := hle
    subst had
    exact hf cc ret zs hmt p l e _ s m args below meth c D A kv (gad wd) hp.2 (gNL y) (hp'.2.1 - hp.2.1) (hp'.2.2 - hp.2.2) 0 X ht (hmt.2.1 0) (Nat.add_sub_cancel' q1).symm (Nat.add_sub_cancel' q2).symm (Nat.le_refl _) (Nat.le_refl _) s.heap [] 0 0 _ []
      ⟨tys, wd, hK, hP, hD, va_S.rf, hW, gPre.rf, rfl, rfl, gent_ok hB.k1 hV hl, rfl⟩
  rcases hmt.2.2.2 with ⟨rfl, hw⟩ | hw
  · rw [hw]
    refine vx_ofW hmt.1 rfl (fun p e s m args below meth c s₁ B hml ht hP => body _ (fun w h => List.mem_cons_of_mem _ h) p e s m args below meth c s₁ B hml ?_ hP)
    show _ = []
    cases hx : c.exceptionTable.toList with
    | nil => rfl
    | cons x xs => exact (ht x (by rw [hx]; exact List.mem_cons_self)).elim
  · rw [hw]
    exact vx_ofWH hmt.1 rfl (fun p e s m args below meth c s₁ B hml hP => body _ (fun w h => List.mem_cons_of_mem _ h) p e s m args below meth c s₁ B hml (vx_table (x := (gY y).1) B (atoms_spec (ws := wsW_ (gY y).1 cc (gNL y) ret zs) B.pre _ List.mem_cons_self)) hP)
theorem gSnd {K : gK} {gY : gYt} (hM : ∀ mi, gMs gY mi ∨ ∀ lab, gP mi lab = []) : ∀ (n d mi : Nat) (is : List gI) (ls : gL) (st : List Value) (hp : gS) (o : Option Value ⊕ (Nat × Nat)) (hp' : gS), xrun K n d mi is ls st hp = some (o, hp') → gFr K gY d mi is ls st hp o hp' := by
  intro n
  induction n with
  | zero => intro d mi is ls st hp o hp' h; simp [xrun] at h
  | succ n ih =>
    intro d mi is ls st hp o hp' h cc ret zs hmt p l e R s m args below meth c D A kv ad0 u0 nL mc ms pc X hT hok h1 h2 h3 h4
    cases is with
    | nil => simp [xrun] at h
    | cons i is =>
      obtain ⟨hpc, nx, hob, hok2⟩ := hok
      subst hpc
      rw [xrun] at h
      cases hg : gsem K i ls st hp with
      | none => rw [hg] at h; simp at h
      | some a =>
        rw [hg] at h
        have hstp := hob p l e R s m args below meth c D A kv ad0 u0 nL K d o hp' mc ms X ls st hp a hg
        have room : ∀ hq : gS, gLe hq hp' → gRoom u0 R hq := fun hq z => ⟨by have := z.1; omega, by have := z.2; omega⟩
        have thr : ∀ (ci q : Nat) (hq : gS), (match ghnd i.1 ci (gHT mi) with
            | some (some pc) => xrun K n d mi (gP mi pc) ls [.ref q] hq
            | some none => some (.inr (ci, q), hq)
            | none => none) = some (o, hp') → gLe hq hp' ∧ gTh p l e R s m args below meth c (gEnd below D A kv ad0 o hp' args s mc ms) D A kv ad0 u0 nL i.1 ci q ls hq := by
          intro ci q hq hx
          cases hh : ghnd i.1 ci (gHT mi) with
          | none => rw [hh] at hx; cases hx
          | some x =>
            rw [hh] at hx
            obtain ⟨B, F, O, hml, hR, hrt, hlk, hst, hnm⟩ := id X
            cases x with
            | none =>
              cases hx
              exact ⟨gLe.rf, y_hnd F O hlk zs [] (gHT mi) hT (fun z hz => by cases hz) hmt.2.2.1 hh (fun lab e9 => by cases e9) (fun _ hpass => y_out O hlk hpass h1 h2)⟩
            | some lab =>
              have hx : xrun K n d mi (gP mi lab) ls [.ref q] hq = some (o, hp') := hx
              refine ⟨xrun_mono _ _ _ _ _ _ _ _ hx, y_hnd F O hlk zs [] (gHT mi) hT (fun z hz => by cases hz) hmt.2.2.1 hh (fun lab9 e9 => ?_) (fun e9 => by cases e9)⟩
              cases e9
              exact ih _ _ _ _ _ _ _ _ hx cc ret zs hmt p l e R s m args below meth c D A kv ad0 u0 nL mc ms lab X hT (hmt.2.1 lab) h1 h2 h3 h4
        rcases a with ⟨ls', st', hp1⟩ | ⟨lab, ls', st', hp1⟩ | ⟨v, hp1⟩ | ⟨y, as, st'⟩ | ⟨ci, q, hp1⟩
        · exact hstp (room _ (xrun_mono _ _ _ _ _ _ _ _ h)) (ih _ _ _ _ _ _ _ _ h cc ret zs hmt p l e R s m args below meth c D A kv ad0 u0 nL mc ms nx X hT hok2 h1 h2 h3 h4)
        · exact hstp (room _ (xrun_mono _ _ _ _ _ _ _ _ h)) (ih _ _ _ _ _ _ _ _ h cc ret zs hmt p l e R s m args below meth c D A kv ad0 u0 nL mc ms lab X hT (hmt.2.1 lab) h1 h2 h3 h4)
        · cases h
          exact hstp rfl rfl h1 h2
        · cases d with
          | zero => simp at h
          | succ d =>
            dsimp only at h
            by_cases hl : (gargs as).length ≤ gNL y
            · rw [if_pos hl] at h
              cases hc : xrun K n d y (gP y 0) (gent (gNL y) as) [] hp with
              | none => rw [hc] at h; simp at h
              | some o2 =>
                obtain ⟨o2, hp2⟩ := o2
                rw [hc] at h
                have hle := xrun_mono _ _ _ _ _ _ _ _ hc
                have hcon : gCon K (gY y).1 (gY y).2 d as hp o2 hp2 := by
                  rcases hM y with hy | hy
                  · exact gCon_of (n := n) hy hl hle (ih _ _ _ _ _ _ _ _ hc)
                  · rw [hy 0] at hc
                    cases n <;> simp [xrun] at hc
                rcases o2 with v | ⟨ci, q⟩
                · have h : xrun K n (d + 1) mi is ls (v.toList ++ st') hp2 = some (o, hp') := h
                  refine hstp d (.inl v) hp2 rfl hcon hle (room _ (xrun_mono _ _ _ _ _ _ _ _ h)) (fun v9 e9 => ?_) (fun _ _ e9 => by cases e9)
                  cases e9
                  exact ih _ _ _ _ _ _ _ _ h cc ret zs hmt p l e R s m args below meth c D A kv ad0 u0 nL mc ms nx X hT hok2 h1 h2 h3 h4
                · obtain ⟨t1, t2⟩ := thr ci q hp2 h
                  refine hstp d (.inr (ci, q)) hp2 rfl hcon hle (room _ t1) (fun _ e9 => by cases e9) (fun ci9 q9 e9 => ?_)
                  cases e9
                  exact t2
            · rw [if_neg hl] at h; simp at h
        · obtain ⟨t1, t2⟩ := thr ci q hp1 h
          exact hstp (room _ t1) t2
