/-! ===== SOUNDNESS: calls, given the callee's contract (written by gen/snd8.py) ===== -/
theorem vx_runSUU {p : Program} {l : Launch} {e : Env} {R : Room} {s : State} {m : MethodId} {args : Array Value} {below : List Frame} {meth : Method} {c : Code} {H : Heap} {locs : List Loc} {cells slots : Nat} {x y : MethodName} {bytes cc : ByteArray} {maxL nL mc ms n index : Nat} {ret : Option FieldType} {ws : List Cond} {rm : Room} {Pc : Array Value → State → Prop} {Qc : Array Value → State → Outcome → State → Prop} {XC : Addr → String → State → State → Prop} {free : Addr → Prop} {Ts : List Cond} {own C : String} {cC : ClassId} {b : Addr} {As rest : List Value} {g : JFrame}
    (hat : ClassAt s C cC) (S : CallFix p m c cc nL s args Ts own) (hM : vx_Met l y ws rm Pc Qc XC mc ms free) (hrc : rm.cells = mc) (hrs : rm.slots = ms) (hfr : rm.frames + 1 ≤ R.frames) (hlo : 8 + (maxL + 11) + rm.locals ≤ R.locals) (hws : ∀ w ∈ ws, ∀ (a' : Array Value) (U : State), s.WarmedH U.vm → w.before a' U = true) (hcw : Cond.code y bytes maxL ret ∈ ws)
    (hxy : y = ⟨y.cls, x.name, x.desc⟩) (hl1 : (Cond.methodLink own index x).before args s = true) (hl2 : (Cond.sameMethod x.cls y.cls x.name x.desc).before args s = true) (hl3 : (Cond.superclass own x.cls).before args s = true) (hl4 : (Cond.instanceMethod y).before args s = true) (hini : (Cond.initialized y.cls).before args s = true) (hcode : (Cond.code y bytes maxL ret).before args s = true) (hno : x.name ≠ "<init>") (hlen : ∀ sig, parseMethodDescriptor x.desc = some sig → n = sig.parameters.length)
    (hup : x.cls = y.cls ∨ (Cond.superclass x.cls y.cls).before args s = true) (hp : PreV s H C b Pc As)
    (hg : g.method = m) (hn : As.length = n) (hsize : g.locals.size = nL) (hstack : g.stack = As.reverse ++ .ref b :: rest) (hW : 2 * g.monitorRoom + (rest.map fun v => v.category).sum ≤ 8) (hdg : decode cc g.pc = .ok (.invokespecial index, 3)) (hf : cells + mc ≤ R.cells ∧ slots + ms ≤ R.slots) :
    vx_Run p l e R s m args below meth c H locs cells slots mc ms g rest (Qc (Value.ref b :: As).toArray) XC free := by
  have hK : vx_Back l R p e below s args y 3 8 (PreOf R mc ms Pc) (PostOf Qc mc ms free) (vx_Post XC mc ms free) := vx_back (bytes := bytes) (maxL := maxL) (ret := ret) hM hp.1 hrc hrs hfr hlo hws hcw (fun a' U hW => word_at hW (Or.inl (by first | rfl | simp [Cond.onTables, Cond.keeps, Cond.steady])) hini)
  obtain ⟨hx, hb, hml, ho, -⟩ := S
  obtain ⟨-, ⟨cellB, hcB, hoB, hclB⟩, hPc⟩ := hp
  obtain ⟨hfc, kB, hkB, -⟩ := hat
  cases hfc.symm.trans hclB
  intro T hT X
  obtain ⟨mk, methM, hnamed, hmethM, hstM, habM⟩ := Cond.instanceMethod_spec hl4
  obtain ⟨methM', cM, hmethM', -, -, -, -, -, -, hsigM⟩ := Cond.code_spec hnamed hcode
  cases hmethM.symm.trans hmethM'
  obtain ⟨ps, dk, kp, hps, hdk, hkp, hsuper, -, -, hnid⟩ := Cond.superclass_spec ho hl3
  have hn2 : s.methodNamed? ⟨y.cls, x.name, x.desc⟩ = some mk := by rw [← hxy]; exact hnamed
  have hsub : s.vm.isSubclass ps mk.cls = true := by
    rcases hup with he | he
    · have hpm : ps = mk.cls := Option.some.inj (hps.symm.trans (by rw [he]; exact findClass_of_methodNamed hnamed))
      rw [hpm]; simp [Vm.isSubclass, Vm.isSubclassAux]
    · obtain ⟨p2, k2, kp2, hp2, hk2, hkp2, hsup2, -, -, -⟩ := Cond.superclass_spec hps he
      have hpm : p2 = mk.cls := Option.some.inj (hp2.symm.trans (findClass_of_methodNamed hnamed))
      have hsz : 0 < s.vm.classes.size := Nat.lt_of_le_of_lt (Nat.zero_le _) (Array.getElem?_eq_some_iff.mp hk2).1
      obtain ⟨z, hz⟩ : ∃ z, s.vm.classes.size = z + 1 := ⟨s.vm.classes.size - 1, by omega⟩
      rw [← hpm]
      simp [Vm.isSubclass, Vm.isSubclassAux, hz, hk2, hsup2]
  have hxd : y.desc = x.desc := by rw [hxy]
  have hlenM : As.length = methM.sig.parameters.length := hn.trans (hlen _ (by rw [← hxd]; exact hsigM))
  obtain ⟨vm₁, X₁, hstep₁⟩ := X.invokespecialUp hx ho hl1 hl2 hn2 hmethM hstM habM hno hdk hnid hps hsuper hsub (a := b) (cell := cellB) (by rw [hT]; exact hcB)
    (fun z h => by rw [h] at hoB; cases hoB) hkB (g := g) hg (argsL := As) (rest := rest) hlenM hstack (by rw [hb]; exact hdg)
  rcases hK m meth c ⟨T.setVm vm₁, locs, cells, slots⟩ { g with stack := rest } (.invokespecial index) mk (Value.ref b :: As).toArray X₁ hg (hsize.trans hml.symm) (by rw [hb]; exact hdg) hW (X₁.named hnamed) ⟨hf.1, hf.2, hPc (T.setVm vm₁) hT X₁.warmed⟩ with ⟨v, ⟨U', l2, c2, s2⟩, X', ⟨g', mk2, t, L, e1, e2, hq, h1, hL, h2, h3⟩, st⟩ | ⟨q, ⟨U', l2, c2, s2⟩, X', ⟨g', mk2, t, L, E, ce, e1, e2, hq, hce, hcv, hcl, h1, hL, h2, h3⟩, st⟩
  · dsimp only [Pt.U, Pt.locs, Pt.cells, Pt.slots] at X' e1 e2 h1 h2 h3 st
    subst h1; subst h2; subst h3
    exact Or.inl ⟨v, (T.setVm vm₁).calling g' mk2 (Value.ref b :: As).toArray, t, U', L, hT, X', hL, e1, e2, hq, fun target h => hstep₁ _ (by rw [doInvoke_state]; exact st.trans h)⟩
  · dsimp only [Pt.U, Pt.locs, Pt.cells, Pt.slots] at X' e1 e2 h1 h2 h3 st hcl
    subst h1; subst h2; subst h3
    exact Or.inr ⟨q, (T.setVm vm₁).calling g' mk2 (Value.ref b :: As).toArray, t, U', L, E, ce, hT, X', hL, e1, e2, hq, hce, hcv, vx_cls X₁.warmed hcl, hstep₁ _ (by rw [doInvoke_state]; exact st)⟩
/-- a call without receiver is paid: the callee y of words ws, mL locals, n arguments -/
def gClS (own : String) (cc : ByteArray) (pc : Nat) (y : MethodName) (ws : List Cond) (mL n : Nat) : Prop := ∀ (p : Program) (l : Launch) (e : Env) (R : Room) (s : State) (m : MethodId) (args : Array Value) (below : List Frame) (meth : Method) (c : Code) (H : Heap) (locs : List Loc) (cells slots : Nat) (K : gK) (A : Nat → Prop) (kv : Nat → Value) (rm : Room) (mc ms : Nat) (Pc : Array Value → State → Prop) (Qc : Array Value → State → Outcome → State → Prop) (XC : Addr → String → State → State → Prop) (As rest : List Value) (lm : Array Slot), p.tables.exec = Jvm.exec → c.code = cc → c.maxLocals = lm.size → gOwn s m args A own → gFx K A kv s → vx_Met l y ws rm Pc Qc XC mc ms A → rm.cells = mc → rm.slots = ms → rm.frames + 1 ≤ R.frames → 8 + (mL + 11) + rm.locals ≤ R.locals → PreS s H Pc As → As.length = n → (rest.map fun v => v.category).sum ≤ 8 → cells + mc ≤ R.cells → slots + ms ≤ R.slots → vx_Run p l e R s m args below meth c H locs cells slots mc ms (F0 m pc lm (As.reverse ++ rest)) rest (Qc As.toArray) XC A
/-- .. with a receiver of class C; sp: the class must be an ordinary one -/
def gClV (sp : Bool) (own : String) (cc : ByteArray) (pc : Nat) (y : MethodName) (ws : List Cond) (mL n : Nat) (C : String) : Prop := ∀ (p : Program) (l : Launch) (e : Env) (R : Room) (s : State) (m : MethodId) (args : Array Value) (below : List Frame) (meth : Method) (c : Code) (H : Heap) (locs : List Loc) (cells slots : Nat) (K : gK) (A : Nat → Prop) (kv : Nat → Value) (rm : Room) (mc ms : Nat) (Pc : Array Value → State → Prop) (Qc : Array Value → State → Outcome → State → Prop) (XC : Addr → String → State → State → Prop) (b : Addr) (As rest : List Value) (lm : Array Slot), p.tables.exec = Jvm.exec → c.code = cc → c.maxLocals = lm.size → gOwn s m args A own → gFx K A kv s → vx_Met l y ws rm Pc Qc XC mc ms A → rm.cells = mc → rm.slots = ms → rm.frames + 1 ≤ R.frames → 8 + (mL + 11) + rm.locals ≤ R.locals → (sp = true → ∃ cC, ClassAt s C cC) → PreV s H C b Pc As → As.length = n → (rest.map fun v => v.category).sum ≤ 8 → cells + mc ≤ R.cells → slots + ms ≤ R.slots → vx_Run p l e R s m args below meth c H locs cells slots mc ms (F0 m pc lm (As.reverse ++ .ref b :: rest)) rest (Qc (Value.ref b :: As).toArray) XC A
/-- a callee: its code, without or with handlers -/
def gMe (y : MethodName) (ws : List Cond) (mL n : Nat) (b : ByteArray) (r : Option FieldType) : Prop := Cond.code y b mL r ∈ lw_all ∧ ws = ws_ y b mL r ∧ Cond.initialized y.cls ∈ lw_all ∧ (y.cls ≠ "java/lang/invoke/MethodHandle" ∧ y.cls ≠ "java/lang/invoke/VarHandle") ∧ (parseMethodDescriptor y.desc).map (fun d => d.parameters.length) = some n
def gMX (y : MethodName) (ws : List Cond) (mL n : Nat) (b : ByteArray) (r : Option FieldType) (hh : List (Nat × Nat × Nat × Nat)) : Prop := Cond.codeWith y b mL r hh ∈ lw_all ∧ ws = wsW_ y b mL r hh ∧ Cond.initialized y.cls ∈ lw_all ∧ (y.cls ≠ "java/lang/invoke/MethodHandle" ∧ y.cls ≠ "java/lang/invoke/VarHandle") ∧ (parseMethodDescriptor y.desc).map (fun d => d.parameters.length) = some n
theorem gk_S {own : String} {cc : ByteArray} {pc : Nat} {y : MethodName} {ws : List Cond} {mL n : Nat} {b : ByteArray} {r : Option FieldType} {idx : Nat} (hm : gMe y ws mL n b r) (h1 : Cond.methodLink own idx y ∈ lw_all) (h2 : Cond.static y ∈ lw_all) (hd : decode cc pc = .ok (.invokestatic idx, 3)) : gClS own cc pc y ws mL n := by
  obtain ⟨c1, rfl, c3, c4, c5⟩ := hm
  intro p l e R s m args below meth c H locs cells slots K A kv rm mc ms Pc Qc XC As rest lm hx hb hml O F hM hrc hrs hfr hlo hP hn hW hc hs
  exact vx_runS ⟨hx, hb, hml, O.1, O.2.1⟩ hM (va_cwS n O.2.1 (lw_S h1 h2 c3 c1) rfl hrc hrs ⟨c4.1, c4.2, c5⟩ ⟨hfr, hlo⟩) hP rfl hn rfl rfl (show 2 * 0 + _ ≤ 8 by omega) hd ⟨hc, hs⟩
theorem gk_SX {own : String} {cc : ByteArray} {pc : Nat} {y : MethodName} {ws : List Cond} {mL n : Nat} {b : ByteArray} {r : Option FieldType} {idx : Nat} {hh : List (Nat × Nat × Nat × Nat)} (hm : gMX y ws mL n b r hh) (h1 : Cond.methodLink own idx y ∈ lw_all) (h2 : Cond.static y ∈ lw_all) (hd : decode cc pc = .ok (.invokestatic idx, 3)) : gClS own cc pc y ws mL n := by
  obtain ⟨c1, rfl, c3, c4, c5⟩ := hm
  intro p l e R s m args below meth c H locs cells slots K A kv rm mc ms Pc Qc XC As rest lm hx hb hml O F hM hrc hrs hfr hlo hP hn hW hc hs
  exact vx_runSX ⟨hx, hb, hml, O.1, O.2.1⟩ hM (vx_cwSW n O.2.1 (lw_SW h1 h2 c3 c1) rfl hrc hrs ⟨c4.1, c4.2, c5⟩ ⟨hfr, hlo⟩) hP rfl hn rfl rfl (show 2 * 0 + _ ≤ 8 by omega) hd ⟨hc, hs⟩
theorem gk_SN {own : String} {cc : ByteArray} {pc : Nat} {y : MethodName} {ws : List Cond} {mL n : Nat} {b : ByteArray} {r : Option FieldType} {idx : Nat} (hm : gMe y ws mL n b r) {host : String} (h1 : Cond.methodLinkNest own idx y host ∈ lw_tbl) (h2 : Cond.static y ∈ lw_all) (hd : decode cc pc = .ok (.invokestatic idx, 3)) : gClS own cc pc y ws mL n := by
  obtain ⟨c1, rfl, c3, c4, c5⟩ := hm
  intro p l e R s m args below meth c H locs cells slots K A kv rm mc ms Pc Qc XC As rest lm hx hb hml O F hM hrc hrs hfr hlo hP hn hW hc hs
  exact vx_runSN ⟨hx, hb, hml, O.1, O.2.1⟩ hM (⟨va_cnB n O.2.1 (lw_meth c1) rfl hrc hrs (F.nw h1 rfl) (O.2.1 _ c3) ⟨c4.1, c4.2, c5⟩ ⟨hfr, hlo⟩, O.2.1 _ h2, trivial⟩) hP rfl hn rfl rfl (show 2 * 0 + _ ≤ 8 by omega) hd ⟨hc, hs⟩
theorem gk_V {own : String} {cc : ByteArray} {pc : Nat} {y : MethodName} {ws : List Cond} {mL n : Nat} {b : ByteArray} {r : Option FieldType} {idx : Nat} (hm : gMe y ws mL n b r) (h1 : Cond.methodLink own idx y ∈ lw_all) (h2 : Cond.instanceMethod y ∈ lw_all) (h3 : Cond.selects y.cls y y ∈ lw_all) (hd : decode cc pc = .ok (.invokevirtual idx, 3)) : gClV false own cc pc y ws mL n y.cls := by
  obtain ⟨c1, rfl, c3, c4, c5⟩ := hm
  intro p l e R s m args below meth c H locs cells slots K A kv rm mc ms Pc Qc XC b As rest lm hx hb hml O F hM hrc hrs hfr hlo hat hP hn hW hc hs
  exact vx_runV ⟨hx, hb, hml, O.1, O.2.1⟩ hM (cwV n O.2.1 (lw_V h1 h2 h3 c3 c1) rfl hrc hrs ⟨rfl, c4.1, c4.2, c5⟩ ⟨hfr, hlo⟩) hP rfl hn rfl rfl (show 2 * 0 + _ ≤ 8 by omega) hd ⟨hc, hs⟩
theorem gk_VX {own : String} {cc : ByteArray} {pc : Nat} {y : MethodName} {ws : List Cond} {mL n : Nat} {b : ByteArray} {r : Option FieldType} {idx : Nat} {hh : List (Nat × Nat × Nat × Nat)} (hm : gMX y ws mL n b r hh) (h1 : Cond.methodLink own idx y ∈ lw_all) (h2 : Cond.instanceMethod y ∈ lw_all) (h3 : Cond.selects y.cls y y ∈ lw_all) (hd : decode cc pc = .ok (.invokevirtual idx, 3)) : gClV false own cc pc y ws mL n y.cls := by
  obtain ⟨c1, rfl, c3, c4, c5⟩ := hm
  intro p l e R s m args below meth c H locs cells slots K A kv rm mc ms Pc Qc XC b As rest lm hx hb hml O F hM hrc hrs hfr hlo hat hP hn hW hc hs
  exact vx_runVX ⟨hx, hb, hml, O.1, O.2.1⟩ hM (vx_cwVW n O.2.1 (lw_VW h1 h2 h3 c3 c1) rfl hrc hrs ⟨rfl, c4.1, c4.2, c5⟩ ⟨hfr, hlo⟩) hP rfl hn rfl rfl (show 2 * 0 + _ ≤ 8 by omega) hd ⟨hc, hs⟩
theorem gk_VN {own : String} {cc : ByteArray} {pc : Nat} {y : MethodName} {ws : List Cond} {mL n : Nat} {b : ByteArray} {r : Option FieldType} {idx : Nat} (hm : gMe y ws mL n b r) {host : String} (h1 : Cond.methodLinkNest own idx y host ∈ lw_tbl) (h2 : Cond.instanceMethod y ∈ lw_all) (h3 : Cond.selects y.cls y y ∈ lw_all) (hd : decode cc pc = .ok (.invokevirtual idx, 3)) : gClV false own cc pc y ws mL n y.cls := by
  obtain ⟨c1, rfl, c3, c4, c5⟩ := hm
  intro p l e R s m args below meth c H locs cells slots K A kv rm mc ms Pc Qc XC b As rest lm hx hb hml O F hM hrc hrs hfr hlo hat hP hn hW hc hs
  exact vx_runVN ⟨hx, hb, hml, O.1, O.2.1⟩ hM (⟨va_cnB n O.2.1 (lw_meth c1) rfl hrc hrs (F.nw h1 rfl) (O.2.1 _ c3) ⟨c4.1, c4.2, c5⟩ ⟨hfr, hlo⟩, O.2.1 _ h2, O.2.1 _ h3⟩) hP rfl hn rfl rfl (show 2 * 0 + _ ≤ 8 by omega) hd ⟨hc, hs⟩
theorem gk_I {own : String} {cc : ByteArray} {pc : Nat} {y : MethodName} {ws : List Cond} {mL n : Nat} {b : ByteArray} {idx : Nat} {C : String} (hm : gMe y ws mL n b none) (hy : y.name = "<init>") (h1 : Cond.methodLink own idx y ∈ lw_all) (h2 : Cond.instanceMethod y ∈ lw_all) (hd : decode cc pc = .ok (.invokespecial idx, 3)) : gClV false own cc pc y ws mL n C := by
  obtain ⟨c1, rfl, c3, c4, c5⟩ := hm
  intro p l e R s m args below meth c H locs cells slots K A kv rm mc ms Pc Qc XC b As rest lm hx hb hml O F hM hrc hrs hfr hlo hat hP hn hW hc hs
  exact vx_runI ⟨hx, hb, hml, O.1, O.2.1⟩ hM (cwI n O.2.1 (lw_meth c1) rfl hrc hrs (O.2.1 _ c3) (O.2.1 _ h1) (O.2.1 _ h2) hy ⟨c4.1, c4.2, c5⟩ ⟨hfr, hlo⟩) ⟨hP.1, hP.2.2⟩ rfl hn rfl rfl (show 2 * 0 + _ ≤ 8 by omega) hd ⟨hc, hs⟩
theorem gk_IN {own : String} {cc : ByteArray} {pc : Nat} {y : MethodName} {ws : List Cond} {mL n : Nat} {b : ByteArray} {idx : Nat} {C : String} (hm : gMe y ws mL n b none) (hy : y.name = "<init>") {host : String} (h1 : Cond.methodLinkNest own idx y host ∈ lw_tbl) (h2 : Cond.instanceMethod y ∈ lw_all) (hd : decode cc pc = .ok (.invokespecial idx, 3)) : gClV false own cc pc y ws mL n C := by
  obtain ⟨c1, rfl, c3, c4, c5⟩ := hm
  intro p l e R s m args below meth c H locs cells slots K A kv rm mc ms Pc Qc XC b As rest lm hx hb hml O F hM hrc hrs hfr hlo hat hP hn hW hc hs
  exact vx_runIN ⟨hx, hb, hml, O.1, O.2.1⟩ hM (⟨va_cnB n O.2.1 (lw_meth c1) rfl hrc hrs (F.nw h1 rfl) (O.2.1 _ c3) ⟨c4.1, c4.2, c5⟩ ⟨hfr, hlo⟩, hy, O.2.1 _ h2⟩) ⟨hP.1, hP.2.2⟩ rfl hn rfl rfl (show 2 * 0 + _ ≤ 8 by omega) hd ⟨hc, hs⟩
/-- a method is there to be linked -/
def gDc (x : MethodName) : Prop := Cond.declares x ∈ lw_tbl ∨ ∃ b m r, Cond.instanceMethod x ∈ lw_all ∧ Cond.code x b m r ∈ lw_all
theorem gDc.use {K : gK} {A : Nat → Prop} {kv : Nat → Value} {s : State} {m : MethodId} {args : Array Value} {own : String} {x : MethodName} (h : gDc x) (F : gFx K A kv s) (O : gOwn s m args A own) : va_Decl s x := by
  rcases h with h | ⟨b, mL, r, h1, h2⟩
  · exact va_Decl.abs (F.nw h rfl)
  · exact va_Decl.of (O.2.1 _ h1) (O.2.1 _ h2)
/-- the method that a class above declares, y the one that the receiver has -/
theorem gk_U {own : String} {cc : ByteArray} {pc : Nat} {y : MethodName} {ws : List Cond} {mL n : Nat} {b : ByteArray} {r : Option FieldType} {idx : Nat} {C : String} {x : MethodName} {ow : String} (hm : gMe y ws mL n b r) (h1 : Cond.methodLink own idx x ∈ lw_all) (h2 : Cond.sameMethod x.cls ow x.name x.desc ∈ lw_all) (h3 : gDc ⟨ow, x.name, x.desc⟩) (h4 : Cond.selects C x y ∈ lw_all) (h5 : Cond.instanceMethod y ∈ lw_all) (hx1 : ow ≠ "java/lang/invoke/MethodHandle" ∧ ow ≠ "java/lang/invoke/VarHandle") (hx2 : x.desc = y.desc) (hd : decode cc pc = .ok (.invokevirtual idx, 3)) : gClV false own cc pc y ws mL n C := by
  obtain ⟨c1, rfl, c3, c4, c5⟩ := hm
  intro p l e R s m args below meth c H locs cells slots K A kv rm mc ms Pc Qc XC b As rest lm hx hb hml O F hM hrc hrs hfr hlo hat hP hn hW hc hs
  refine vx_runU (owner := ow) (x := x) ⟨hx, hb, hml, O.1, O.2.1⟩ hM ⟨⟨hrc, hrs, hfr, hlo, pay_in O.2.1 (lw_meth c1), List.mem_cons_self⟩, O.2.1 _ c1, O.2.1 _ c3, hx1, fun sig h => ?_, O.2.1 _ h1, O.2.1 _ h2, h3.use F O, O.2.1 _ h4, O.2.1 _ h5⟩ hP rfl hn rfl rfl (show 2 * 0 + _ ≤ 8 by omega) hd ⟨hc, hs⟩
  rw [← hx2, h] at c5
  exact (Option.some.inj c5).symm
/-- super.x(..), the class above has it or its own class above -/
theorem gk_SU {own : String} {cc : ByteArray} {pc : Nat} {y : MethodName} {ws : List Cond} {mL n : Nat} {b : ByteArray} {r : Option FieldType} {idx : Nat} {C : String} {x : MethodName} (hm : gMe y ws mL n b r) (hxy : y = ⟨y.cls, x.name, x.desc⟩) (h1 : Cond.methodLink own idx x ∈ lw_all) (h2 : Cond.sameMethod x.cls y.cls x.name x.desc ∈ lw_all) (h3 : Cond.superclass own x.cls ∈ lw_all) (h4 : Cond.instanceMethod y ∈ lw_all) (hno : x.name ≠ "<init>") (hup : x.cls = y.cls ∨ Cond.superclass x.cls y.cls ∈ lw_all) (hd : decode cc pc = .ok (.invokespecial idx, 3)) : gClV true own cc pc y ws mL n C := by
  obtain ⟨c1, rfl, c3, c4, c5⟩ := hm
  intro p l e R s m args below meth c H locs cells slots K A kv rm mc ms Pc Qc XC b As rest lm hx hb hml O F hM hrc hrs hfr hlo hat hP hn hW hc hs
  obtain ⟨cC, hcC⟩ := hat rfl
  have hxd : y.desc = x.desc := by rw [hxy]
  refine vx_runSUU hcC ⟨hx, hb, hml, O.1, O.2.1⟩ hM hrc hrs hfr hlo (pay_in O.2.1 (lw_meth c1)) List.mem_cons_self hxy (O.2.1 _ h1) (O.2.1 _ h2) (O.2.1 _ h3) (O.2.1 _ h4) (O.2.1 _ c3) (O.2.1 _ c1) hno (fun sig h => ?_) (hup.imp id (fun h => O.2.1 _ h)) hP rfl hn rfl rfl (show 2 * 0 + _ ≤ 8 by omega) hd ⟨hc, hs⟩
  rw [hxd, h] at c5
  exact (Option.some.inj c5).symm
