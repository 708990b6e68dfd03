/-! ===== SOUNDNESS: a cast that fails ===== -/
section GZ
variable {p : Program} {l : Launch} {e : Env} {R : Room} {s : State} {m : MethodId} {args : Array Value} {below : List Frame} {meth : Method} {c : Code} {T : State} {locs : List Loc} {cells slots : Nat}
theorem gcheckcastNo (X : Stand p l e R s m args below meth c T locs cells slots) (hexec : p.tables.exec = Jvm.exec)
    {own name : String} {index : Nat} (hown : s.vm.findClass own = some m.cls) (hlink : (Cond.classLink own index name).before args s = true)
    {a : Addr} {cell : Cell} {cT : ClassId} {ks : Class} (hcell : T.heap[a]? = some cell) (hobj : cell.vm.isStatics = false) (hcT : s.vm.findClass name = some cT) (hks : s.vm.classes[cell.cls]? = some ks) (hasg : ¬ s.vm.assignable cell.cls cT = true)
    {g : JFrame} (hg : g.method = m) {rest : List Value} (hstack : g.stack = .ref a :: rest) (hdg : decode c.code g.pc = .ok (.checkcast index, 3)) :
    ∃ (vm' : Vm) (ks' kt' : Class), s.WarmedH vm' ∧ vm'.classes[cell.cls]? = some ks' ∧ vm'.classes[cT]? = some kt' ∧ Stand p l e R s m args below meth c (T.setVm vm') locs cells slots ∧
      ∀ target, Steps p.tables e below (((T.setVm vm').setTop g).pushFrame (.throwNew "java/lang/ClassCastException" (some (Jvm.Op.checkcast.message vm' ks' kt')) none)) target → Steps p.tables e below (T.setTop g) target := by
  have hpl : e.platform.magicAccessors = ({} : Platform).magicAccessors := by rw [X.admits.platform]
  obtain ⟨c', hc', hcl⟩ := Cond.classLink_spec hown hlink e.platform hpl
  cases hcT.symm.trans hc'
  obtain ⟨dk, _, _, kt, hd, _, _, _, _, hkt, _, hopen⟩ := hcl.here
  have hcl₀ := X.warmed.classLinks hcl
  have hW' : s.WarmedH (T.vm.noted m.cls index (.cls cT)) := X.warmed.noted hd hopen (State.rightAt_cls hcl)
  obtain ⟨ks', hks', -⟩ := hW'.alike.2.2 _ _ hks
  obtain ⟨kt', hkt', -⟩ := hW'.alike.2.2 _ _ hkt
  refine ⟨_, ks', kt', hW', hks', hkt', X.noted hW', fun target hrest => ?_⟩
  subst hg
  jvm_step X.here [hexec, hdg, Jvm.Op.checkcast.wp_cold (e := e) (s := T) (f := g) X.here.top hstack (resolveClass_links e.toSetting hcl₀) hcl₀.ready,
    Jvm.Op.checkcast.wp_ready (e := e) (s := T.setVm (T.vm.noted g.method.cls index (.cls cT))) (f := g) X.here.top hcl₀.ready hstack]
  refine ⟨cell, hcell, VmData.noStatics_of hobj, ks', hks', kt', hkt', ?_⟩
  have h1 : ¬ (T.vm.noted g.method.cls index (Resolved.cls cT)).assignable cell.cls cT = true := by rw [hW'.alike.assignable]; exact hasg
  rw [if_neg h1]
  exact hrest
end GZ
theorem gcls {vm : Vm} {name : String} {c : ClassId} {k : Class} (h : vm.findClass name = some c) (hk : vm.classes[c]? = some k) : k.name = name ∧ k.hidden = none ∧ k.loader = none := by
  obtain ⟨hlt, hp, _⟩ := Array.findIdx?_eq_some_iff_getElem.mp h
  rw [Array.getElem?_eq_getElem hlt] at hk
  cases hk
  simp only [Bool.and_eq_true, beq_iff_eq, Option.isNone_iff_eq_none] at hp
  exact ⟨hp.1.1.1, hp.1.1.2, hp.2⟩
theorem ghome {vm : Vm} {k : Class} (hl : k.loader = none) (hm : gMd vm) (hp : castPackages_1.contains (packageOf k.name) = true) : vm.home k = "module java.base of loader 'bootstrap'" ∨ vm.home k = "unnamed module of loader 'bootstrap'" := by
  unfold Vm.home
  rw [hl]
  cases hmo : vm.moduleOf k with
  | none => exact Or.inr rfl
  | some m =>
    have hn : m.name = "java.base" := by
      unfold Vm.moduleOf at hmo
      split at hmo
      · have := List.find?_some hmo
        exact eq_of_beq this
      · have h1 := List.find?_some hmo
        have h2 := List.mem_of_find?_eq_some hmo
        unfold gMd at hm
        have h3 := List.all_eq_true.mp hm m h2
        rw [Bool.and_eq_true] at h1
        have h4 : m.loader = none := by rw [← hl]; exact eq_of_beq h1.1
        have h5 : (castPackages_1.any fun p => m.packages.contains p) = true := List.any_eq_true.mpr ⟨packageOf k.name, List.contains_iff_mem.mp hp, h1.2⟩
        rw [h4, h5] at h3
        simpa using h3
    refine Or.inl ?_
    show "module " ++ m.name ++ " of loader " ++ "'bootstrap'" = _
    rw [hn]
    rfl
theorem gtl (x y : String) : (x ++ y).toList.length = x.toList.length + y.toList.length := by rw [String.toList_append, List.length_append]
theorem gmsg {vm : Vm} {A B : String} {ca cb : ClassId} {a b : Class} (ha : vm.findClass A = some ca) (hka : vm.classes[ca]? = some a) (hb : vm.findClass B = some cb) (hkb : vm.classes[cb]? = some b) (hm : gMd vm) (pa : castPackages_1.contains (packageOf A) = true) (pb : castPackages_1.contains (packageOf B) = true) (la : (dotted A).toList.length ≤ 22) (lb : (dotted B).toList.length ≤ 22) :
    (Jvm.Op.checkcast.message vm a b).toList.length ≤ 247 ∧ (Jvm.Op.checkcast.message vm a b == notModelled) = false := by
  obtain ⟨a1, a2, a3⟩ := gcls ha hka
  obtain ⟨b1, b2, b3⟩ := gcls hb hkb
  have sa : a.shown = dotted A := by unfold Class.shown; rw [a2, a1]
  have sb : b.shown = dotted B := by unfold Class.shown; rw [b2, b1]
  have hh : ∀ k : Class, (vm.home k = "module java.base of loader 'bootstrap'" ∨ vm.home k = "unnamed module of loader 'bootstrap'") → (vm.home k).toList.length ≤ 38 := by
    intro k hk
    rcases hk with h | h <;> rw [h] <;> decide +kernel
  have h1 := hh a (ghome a3 hm (by rw [a1]; exact pa))
  have h2 := hh b (ghome b3 hm (by rw [b1]; exact pb))
  have hhom : (vm.homes a b).toList.length ≤ 150 := by
    unfold Vm.homes
    rw [sa, sb]
    split
    · show (dotted A ++ " and " ++ dotted B ++ " are in " ++ vm.home a).toList.length ≤ 150
      simp only [gtl]
      have e1 : (" and ").toList.length = 5 := by decide +kernel
      have e2 : (" are in ").toList.length = 8 := by decide +kernel
      omega
    · show (dotted A ++ " is in " ++ vm.home a ++ "; " ++ dotted B ++ " is in " ++ vm.home b).toList.length ≤ 150
      simp only [gtl]
      have e1 : (" is in ").toList.length = 7 := by decide +kernel
      have e2 : ("; ").toList.length = 2 := by decide +kernel
      omega
  have key : (Jvm.Op.checkcast.message vm a b).toList.length ≤ 247 ∧ 34 ≤ (Jvm.Op.checkcast.message vm a b).toList.length := by
    unfold Jvm.Op.checkcast.message
    rw [sa, sb]
    show ("class " ++ dotted A ++ " cannot be cast to class " ++ dotted B ++ " (" ++ vm.homes a b ++ ")").toList.length ≤ 247 ∧ 34 ≤ ("class " ++ dotted A ++ " cannot be cast to class " ++ dotted B ++ " (" ++ vm.homes a b ++ ")").toList.length
    simp only [gtl]
    have e1 : ("class ").toList.length = 6 := by decide +kernel
    have e2 : (" cannot be cast to class ").toList.length = 25 := by decide +kernel
    have e3 : (" (").toList.length = 2 := by decide +kernel
    have e4 : (")").toList.length = 1 := by decide +kernel
    omega
  refine ⟨key.1, ?_⟩
  rw [beq_eq_false_iff_ne]
  intro e
  have k2 := key.2
  rw [e] at k2
  revert k2
  decide +kernel
