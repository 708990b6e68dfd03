/-! ===== SOUNDNESS, sixth part: what holds all through a run, and the instructions that read constants (written by gen/snd5.py) ===== -/
def gNk : Cond → Bool
  | .fieldLinkNest _ _ _ _ _ _ => true
  | .methodLinkNest _ _ _ _ => true
  | .castable _ _ => true
  | .declares _ => true
  | _ => false
/-- words of the tables that don't ride in the one list -/
def gNW : List Cond := lw_tbl.filter gNk
theorem gNW_in {w : Cond} (h : w ∈ lw_tbl) (k : gNk w = true) : w ∈ gNW := List.mem_filter.mpr ⟨h, k⟩
theorem gNk_tab {w : Cond} (k : gNk w = true) : w.onTables = true := by cases w <;> first | rfl | (simp [gNk] at k)
theorem gNW_warm {w : Cond} {s U : State} (k : gNk w = true) (hW : s.WarmedH U.vm) (h : va_Nw w s) : va_Nw w U := by
  cases w <;> first | exact va_Nw.warmF hW h | exact va_Nw.warmM hW h | exact va_Nw.warmC hW h | exact va_Nw.warmD hW h | (simp [gNk] at k)
/-- pairs of classes of which the one is no part of the other -/
def gNC : List (String × String) := [("[B", "[S"), ("[B", "[I"), ("[B", "[J"), ("[B", "[Z"), ("[S", "[B"), ("[S", "[I"), ("[S", "[J"), ("[S", "[Z"), ("[I", "[B"), ("[I", "[S"), ("[I", "[J"), ("[I", "[Z"), ("[J", "[B"), ("[J", "[S"), ("[J", "[I"), ("[J", "[Z"), ("[Z", "[B"), ("[Z", "[S"), ("[Z", "[I"), ("[Z", "[J"), ("GeeseKeys$Goose", "GeeseKeys$Gander"), ("GeeseKeys$Goose", "GeeseKeys$Gosling"), ("GeeseKeys$Goose", "GeeseKeys$Old"), ("GeeseKeys$Goose", "GeeseKeys$Sentry"), ("GeeseKeys$Goose", "GeeseKeys$Larder"), ("GeeseKeys$Goose", "GeeseKeys$Told"), ("GeeseKeys$Gander", "GeeseKeys$Gosling"), ("GeeseKeys$Gander", "GeeseKeys$Old"), ("GeeseKeys$Gander", "GeeseKeys$Sentry"), ("GeeseKeys$Gander", "GeeseKeys$Larder"), ("GeeseKeys$Gander", "GeeseKeys$Told"), ("GeeseKeys$Gosling", "GeeseKeys$Gander"), ("GeeseKeys$Gosling", "GeeseKeys$Old"), ("GeeseKeys$Gosling", "GeeseKeys$Sentry"), ("GeeseKeys$Gosling", "GeeseKeys$Larder"), ("GeeseKeys$Gosling", "GeeseKeys$Told"), ("GeeseKeys$Old", "GeeseKeys$Gander"), ("GeeseKeys$Old", "GeeseKeys$Gosling"), ("GeeseKeys$Old", "GeeseKeys$Sentry"), ("GeeseKeys$Old", "GeeseKeys$Larder"), ("GeeseKeys$Old", "GeeseKeys$Told"), ("GeeseKeys$Sentry", "GeeseKeys$Gosling"), ("GeeseKeys$Sentry", "GeeseKeys$Old"), ("GeeseKeys$Sentry", "GeeseKeys$Larder"), ("GeeseKeys$Sentry", "GeeseKeys$Told"), ("GeeseKeys$Larder", "GeeseKeys$Gander"), ("GeeseKeys$Larder", "GeeseKeys$Old"), ("GeeseKeys$Larder", "GeeseKeys$Sentry"), ("GeeseKeys$Larder", "GeeseKeys$Told"), ("GeeseKeys$Told", "GeeseKeys$Gander"), ("GeeseKeys$Told", "GeeseKeys$Gosling"), ("GeeseKeys$Told", "GeeseKeys$Sentry"), ("GeeseKeys$Told", "GeeseKeys$Larder"), ("GeeseKeys$Off", "java/lang/NullPointerException"), ("java/lang/ClassCastException", "java/lang/NullPointerException"), ("java/lang/ArrayStoreException", "java/lang/NullPointerException"), ("java/lang/ArrayIndexOutOfBoundsException", "java/lang/NullPointerException"), ("java/lang/ArrayIndexOutOfBoundsException", "java/lang/ArrayStoreException"), ("java/lang/NullPointerException", "java/lang/ClassCastException")]
def gByt : List (List Int32) := [[108, 117, 114, 101, 32], [115, 99, 97, 114, 101, 32], [101, 97, 116, 32]]
def gLen : List Nat := [5, 6, 4]
def gTx (j : Nat) : Nat × String := match j with
  | 0 => (114, "lure ")
  | 1 => (120, "scare ")
  | _ => (122, "eat ")
def gMd (vm : Vm) : Prop := (vm.modules.all fun m => m.loader.isSome || m.name == "java.base" || !(castPackages_1.any fun p => m.packages.contains p)) = true
theorem gMd.moved {u U : Vm} (h : u.Alike U) (k : gMd u) : gMd U := by
  have e : U.modules = u.modules := (congrArg Vm.modules h.1).trans rfl
  unfold gMd
  rw [e]
  exact k
def gFx (K : gK) (A : Nat → Prop) (kv : Nat → Value) (U : State) : Prop :=
  (∃ b, kv 0 = .ref b ∧ va_X b K.1 K.2 U U.heap ∧ b < U.heap.size ∧ ¬ A b) ∧
  (∃ t, kv 1 = .ref t ∧ va_Z "java/util/ArrayList" "DEFAULTCAPACITY_EMPTY_ELEMENTDATA" "[Ljava/lang/Object;" (.ref t) A U U.heap ∧ va_T (.object "java/lang/Object") t 0 (fun _ => .null) A U U.heap) ∧
  (∃ adK adV : Nat → Nat, vk_S 3 gLen gByt adK adV A U U.heap ∧ ∀ j, j < 3 → kv (2 + j) = .ref (adK j) ∧ kv (5 + j) = .ref (adV j) ∧ vk_R "GeeseKeys$Reader" (gTx j).1 (gTx j).2 (adK j) U) ∧
  (∃ mi, kv 8 = .ref mi ∧ va_Mi "[Ljava/lang/Object;" mi U) ∧
  va_Z "java/lang/String" "COMPACT_STRINGS" "Z" (.int 1) A U U.heap ∧
  va_Z "jdk/internal/util/Preconditions" "SIOOBE_FORMATTER" "Ljava/util/function/BiFunction;" (kv 9) A U U.heap ∧
  vx_Zq Bundle.tN "UNASSIGNED_STACK" Bundle.steD A U U.heap ∧ vx_Zq Bundle.tN "SUPPRESSED_SENTINEL" Bundle.listD A U U.heap ∧
  (∀ w ∈ gNW, va_Nw w U) ∧ (∀ C ∈ ["GeeseKeys$Goose", "GeeseKeys$Tape", "java/lang/Object"], va_AO C U) ∧ (∀ q ∈ gNC, va_Nc q.1 q.2 U) ∧ gMd U.vm
theorem gFx.warm {K : gK} {A : Nat → Prop} {kv : Nat → Value} {s U : State} (h : gFx K A kv s) (hW : s.WarmedH U.vm) (hz : s.heap.size ≤ U.heap.size) (hq : ∀ q : Nat, q < s.heap.size → ¬ A q → U.heap[q]? = s.heap[q]?) : gFx K A kv U := by
  obtain ⟨⟨b, a1, a2, a3, a4⟩, ⟨t, b1, b2, b3⟩, ⟨adK, adV, c1, c2⟩, ⟨mi, d1, d2⟩, e1, e2, e3, e4, e5, e6, e7, e8⟩ := h
  have hv := hW.alike
  refine ⟨⟨b, a1, (va_X.moved hv a2).kept (hq b a3 a4), Nat.lt_of_lt_of_le a3 hz, a4⟩, ⟨t, b1, (va_Z.moved hv b2).kept hq, (va_T.moved hv b3).kept hq⟩, ⟨adK, adV, (vk_S.moved hv c1).kept hq, fun j hj => ⟨(c2 j hj).1, (c2 j hj).2.1, vk_R.warm hW (c2 j hj).2.2⟩⟩, ⟨mi, d1, va_Mi.moved hv d2⟩,
    (va_Z.moved hv e1).kept hq, (va_Z.moved hv e2).kept hq, (vx_Zq.moved hv e3).kept hq, (vx_Zq.moved hv e4).kept hq, fun w hw => gNW_warm (List.mem_filter.mp hw).2 hW (e5 w hw), fun C hC => va_AO.moved hv (e6 C hC), fun q hq => va_Nc.moved hv (e7 q hq), e8.moved hv⟩
theorem gFx.same {K : gK} {A : Nat → Prop} {kv : Nat → Value} {s U : State} (h : gFx K A kv s) (hv : s.vm = U.vm) (hh : U.heap = s.heap) : gFx K A kv U := by
  have hW : s.WarmedH U.vm := by rw [← hv]; exact State.WarmedH.refl s
  exact h.warm hW (by rw [hh]; exact Nat.le_refl _) (fun q _ _ => by rw [hh])
theorem gFx.nw {K : gK} {A : Nat → Prop} {kv : Nat → Value} {s : State} (h : gFx K A kv s) {w : Cond} (hw : w ∈ lw_tbl) (k : gNk w = true) : va_Nw w s := h.2.2.2.2.2.2.2.2.1 w (gNW_in hw k)
theorem gFx.nc {K : gK} {A : Nat → Prop} {kv : Nat → Value} {s : State} (h : gFx K A kv s) {a b : String} (hw : (a, b) ∈ gNC) : va_Nc a b s := h.2.2.2.2.2.2.2.2.2.2.1 (a, b) hw
theorem gFx.ao {K : gK} {A : Nat → Prop} {kv : Nat → Value} {s : State} (h : gFx K A kv s) {C : String} (hw : C ∈ ["GeeseKeys$Goose", "GeeseKeys$Tape", "java/lang/Object"]) : va_AO C s := h.2.2.2.2.2.2.2.2.2.1 C hw
/-- elements' classes -/
theorem gFx.el {K : gK} {A : Nat → Prop} {kv : Nat → Value} {s : State} (h : gFx K A kv s) : gElOk s := by
  intro ci C hc
  unfold gel at hc
  split at hc
  · rename_i e
    subst e
    simp only [Bool.or_eq_true, Bool.and_eq_true, decide_eq_true_eq] at hc
    have hci : ci = 17 ∨ ci = 18 ∨ ci = 19 ∨ ci = 20 := by omega
    rcases hci with rfl | rfl | rfl | rfl
    · exact Or.inl (h.nw q1884 rfl)
    · exact Or.inl (h.nw q1885 rfl)
    · exact Or.inl (h.nw q1886 rfl)
    · exact Or.inl (h.nw q1887 rfl)
  · split at hc
    · rename_i e
      subst e
      simp only [Bool.and_eq_true, decide_eq_true_eq] at hc
      have hci : ci = 8 ∨ ci = 9 ∨ ci = 10 ∨ ci = 11 ∨ ci = 12 ∨ ci = 13 ∨ ci = 14 := by omega
      rcases hci with rfl | rfl | rfl | rfl | rfl | rfl | rfl
      · exact Or.inr rfl
      · exact Or.inl (h.nw q1858 rfl)
      · exact Or.inl (h.nw q1859 rfl)
      · exact Or.inl (h.nw q1861 rfl)
      · exact Or.inl (h.nw q1862 rfl)
      · exact Or.inl (h.nw q1860 rfl)
      · exact Or.inl (h.nw q1863 rfl)
    · simp only [Bool.and_eq_true, decide_eq_true_eq] at hc
      obtain ⟨rfl, rfl⟩ := hc
      exact Or.inr rfl
section GE
variable {p : Program} {l : Launch} {e : Env} {R : Room} {s : State} {m : MethodId} {args : Array Value} {below : List Frame} {meth : Method} {c : Code} {Q : State → Prop}
variable {D : va_G} {A : Nat → Prop} {kv : Nat → Value} {ad0 : List Nat} {u0 : Nat × Nat} {nL : Nat} {K : gK} {cc : ByteArray} {pc : Nat} {ls : gL} {st : List Value} {hp : gS}
theorem gV_kv {ad : List Nat} {q : Nat} {w : Value} (hq : q < 10) (h : gV kv ad (.ref q) w) : w = kv q := by
  unfold gV at h
  dsimp only at h
  rw [if_pos (show q < 16 by omega)] at h
  unfold gKh at h
  rw [if_neg (show ¬ q = 10 by omega)] at h
  exact h
theorem gV_of {ad : List Nat} {q : Nat} (hq : q < 10) : gV kv ad (.ref q) (kv q) := by
  unfold gV
  dsimp only
  rw [if_pos (show q < 16 by omega)]
  unfold gKh
  rw [if_neg (show ¬ q = 10 by omega)]
theorem y_ldc0 (B : gBase p c cc kv) {own : String} (O : gOwn s m args A own) {n b : Nat} (hl : Cond.constant own n (Int32.ofNat b) ∈ lw_all) (hd : decode cc pc = .ok (.ldc n, 2)) (k : gGo p l e R s m args below meth c Q D A kv ad0 u0 nL (pc + 2) ls (.int (Int32.ofNat b) :: st) hp) : gGo p l e R s m args below meth c Q D A kv ad0 u0 nL pc ls st hp := by
  intro H locs cells slots lm sm h
  exact lv_ldc B.1 B.2.1 O.1 (O.2.1 _ hl) hd (k _ _ _ _ _ _ (h.psh fun ad hq => ⟨_, _, rfl, rfl, hq⟩))
theorem y_ldc2 (B : gBase p c cc kv) {own : String} (O : gOwn s m args A own) {n b : Nat} (hl : Cond.constantLong own n (Int64.ofNat b) ∈ lw_all) (hd : decode cc pc = .ok (.ldc2_w n, 3)) (k : gGo p l e R s m args below meth c Q D A kv ad0 u0 nL (pc + 3) ls (.long (Int64.ofNat b) :: st) hp) : gGo p l e R s m args below meth c Q D A kv ad0 u0 nL pc ls st hp := by
  intro H locs cells slots lm sm h
  exact lv_ldc2 B.1 B.2.1 O.1 (O.2.1 _ hl) hd (k _ _ _ _ _ _ (h.psh fun ad hq => ⟨_, _, rfl, rfl, hq⟩))
theorem y_ldcS (B : gBase p c cc kv) (F : gFx K A kv s) (O : gOwn s m args A "GeeseKeys$Reader") {n j : Nat} (hj : j < 3) (hn : n = (gTx j).1) (hd : decode cc pc = .ok (.ldc n, 2)) (k : gGo p l e R s m args below meth c Q D A kv ad0 u0 nL (pc + 2) ls (.ref (2 + j) :: st) hp) : gGo p l e R s m args below meth c Q D A kv ad0 u0 nL pc ls st hp := by
  intro H locs cells slots lm sm h
  subst hn
  obtain ⟨adK, adV, -, hk⟩ := F.2.2.1
  obtain ⟨h1, -, h2⟩ := hk j hj
  exact va_ldcS B.1 B.2.1 O.1 h2 hd (k _ _ _ _ _ _ (h.psh fun ad hq => ⟨_, _, rfl, by rw [← h1]; exact gV_of (by omega), hq⟩))
theorem y_ldcC (B : gBase p c cc kv) (F : gFx K A kv s) {own : String} (O : gOwn s m args A own) {n : Nat} (hl : Cond.classLink own n "[Ljava/lang/Object;" ∈ lw_all) (hd : decode cc pc = .ok (.ldc n, 2)) (k : gGo p l e R s m args below meth c Q D A kv ad0 u0 nL (pc + 2) ls (.ref 8 :: st) hp) : gGo p l e R s m args below meth c Q D A kv ad0 u0 nL pc ls st hp := by
  intro H locs cells slots lm sm h
  obtain ⟨mi, h1, h2⟩ := F.2.2.2.1
  exact va_ldcM B.1 B.2.1 O.1 (O.2.1 _ hl) h2 hd (k _ _ _ _ _ _ (h.psh fun ad hq => ⟨_, _, rfl, by rw [← h1]; exact gV_of (by omega), hq⟩))
theorem y_gets0 (B : gBase p c cc kv) (F : gFx K A kv s) {own : String} (O : gOwn s m args A own) {n : Nat} (hl : Cond.fieldLink own n "java/util/ArrayList" "DEFAULTCAPACITY_EMPTY_ELEMENTDATA" "[Ljava/lang/Object;" ∈ lw_all) (hd : decode cc pc = .ok (.getstatic n, 3)) (k : gGo p l e R s m args below meth c Q D A kv ad0 u0 nL (pc + 3) ls (.ref 1 :: st) hp) : gGo p l e R s m args below meth c Q D A kv ad0 u0 nL pc ls st hp := by
  intro H locs cells slots lm sm h
  have h0 := h
  obtain ⟨tys, ws, -, -, -, hS, -⟩ := h0
  obtain ⟨t, h1, h2, -⟩ := F.2.1
  exact va_gets B.1 B.2.1 h2 hS O.1 (O.2.1 _ hl) (fun _ h => h) hd (k _ _ _ _ _ _ (h.psh fun ad hq => ⟨_, _, rfl, by rw [← h1]; exact gV_of (by omega), hq⟩))
theorem y_gets1 (B : gBase p c cc kv) (F : gFx K A kv s) {own : String} (O : gOwn s m args A own) {n : Nat} (hl : Cond.fieldLink own n "java/lang/String" "COMPACT_STRINGS" "Z" ∈ lw_all) (hd : decode cc pc = .ok (.getstatic n, 3)) (k : gGo p l e R s m args below meth c Q D A kv ad0 u0 nL (pc + 3) ls (.int 1 :: st) hp) : gGo p l e R s m args below meth c Q D A kv ad0 u0 nL pc ls st hp := by
  intro H locs cells slots lm sm h
  have h0 := h
  obtain ⟨tys, ws, -, -, -, hS, -⟩ := h0
  exact va_gets B.1 B.2.1 F.2.2.2.2.1 hS O.1 (O.2.1 _ hl) (fun _ h => h) hd (k _ _ _ _ _ _ (h.psh fun ad hq => ⟨_, _, rfl, rfl, hq⟩))
theorem y_gets2 (B : gBase p c cc kv) (F : gFx K A kv s) {own : String} (O : gOwn s m args A own) {n : Nat} (hl : Cond.fieldLink own n "jdk/internal/util/Preconditions" "SIOOBE_FORMATTER" "Ljava/util/function/BiFunction;" ∈ lw_all) (hd : decode cc pc = .ok (.getstatic n, 3)) (k : gGo p l e R s m args below meth c Q D A kv ad0 u0 nL (pc + 3) ls (.ref 9 :: st) hp) : gGo p l e R s m args below meth c Q D A kv ad0 u0 nL pc ls st hp := by
  intro H locs cells slots lm sm h
  have h0 := h
  obtain ⟨tys, ws, -, -, -, hS, -⟩ := h0
  exact va_gets B.1 B.2.1 F.2.2.2.2.2.1 hS O.1 (O.2.1 _ hl) (fun _ h => h) hd (k _ _ _ _ _ _ (h.psh fun ad hq => ⟨_, _, rfl, gV_of (by omega), hq⟩))
/-- a String constant's fields -/
theorem y_getfT (B : gBase p c cc kv) (F : gFx K A kv s) {own : String} (O : gOwn s m args A own) {n j : Nat} (hj : j < 3) (hl : Cond.fieldLink own n "java/lang/String" "value" "[B" ∈ lw_all) (hd : decode cc pc = .ok (.getfield n, 3)) (k : gGo p l e R s m args below meth c Q D A kv ad0 u0 nL (pc + 3) ls (.ref (5 + j) :: st) hp) : gGo p l e R s m args below meth c Q D A kv ad0 u0 nL pc ls (.ref (2 + j) :: st) hp := by
  intro H locs cells slots lm sm h
  obtain ⟨tys, ws, hK, hP, hD, hS, hW, hE, hcc, hs, hL, hV⟩ := h
  obtain ⟨w1, sm, rfl, e1, hVn⟩ := gVs_c hV; clear hV; have hV := hVn; clear hVn
  obtain ⟨adK, adV, hT, hk⟩ := F.2.2.1
  obtain ⟨h1, h2, -⟩ := hk j hj
  have e2 := gV_kv (by omega) e1
  rw [h1] at e2
  subst e2
  exact vk_getf B.1 B.2.1 (hT.1 j hj).2.2.1 hS O.1 (O.2.1 _ hl) (fun _ h => h) hd (k _ _ _ _ _ _ ⟨tys, ws, hK, hP, hD, hS, hW, hE, hcc, hs, hL, ⟨_, _, rfl, by rw [← h2]; exact gV_of (by omega), hV⟩⟩)
theorem y_getfC (B : gBase p c cc kv) (F : gFx K A kv s) {own : String} (O : gOwn s m args A own) {n j : Nat} (hj : j < 3) (hl : Cond.fieldLink own n "java/lang/String" "coder" "B" ∈ lw_all) (hd : decode cc pc = .ok (.getfield n, 3)) (k : gGo p l e R s m args below meth c Q D A kv ad0 u0 nL (pc + 3) ls (.int 0 :: st) hp) : gGo p l e R s m args below meth c Q D A kv ad0 u0 nL pc ls (.ref (2 + j) :: st) hp := by
  intro H locs cells slots lm sm h
  obtain ⟨tys, ws, hK, hP, hD, hS, hW, hE, hcc, hs, hL, hV⟩ := h
  obtain ⟨w1, sm, rfl, e1, hVn⟩ := gVs_c hV; clear hV; have hV := hVn; clear hVn
  obtain ⟨adK, adV, hT, hk⟩ := F.2.2.1
  obtain ⟨h1, h2, -⟩ := hk j hj
  have e2 := gV_kv (by omega) e1
  rw [h1] at e2
  subst e2
  exact vk_getf B.1 B.2.1 (hT.1 j hj).2.1 hS O.1 (O.2.1 _ hl) (fun _ h => h) hd (k _ _ _ _ _ _ ⟨tys, ws, hK, hP, hD, hS, hW, hE, hcc, hs, hL, ⟨_, _, rfl, rfl, hV⟩⟩)
theorem y_slen (B : gBase p c cc kv) (F : gFx K A kv s) (hd : decode cc pc = .ok (.arraylength, 1)) (k : gGo p l e R s m args below meth c Q D A kv ad0 u0 nL (pc + 1) ls (.int (Int32.ofNat K.1) :: st) hp) : gGo p l e R s m args below meth c Q D A kv ad0 u0 nL pc ls (.ref 0 :: st) hp := by
  intro H locs cells slots lm sm h
  obtain ⟨tys, ws, hK, hP, hD, hS, hW, hE, hcc, hs, hL, hV⟩ := h
  obtain ⟨w1, sm, rfl, e1, hVn⟩ := gVs_c hV; clear hV; have hV := hVn; clear hVn
  obtain ⟨b, h1, h2, h3, h4⟩ := F.1
  have e2 := gV_kv (by omega) e1
  rw [h1] at e2
  subst e2
  exact va_slen B.1 B.2.1 h2 h3 h4 hS hd (k _ _ _ _ _ _ ⟨tys, ws, hK, hP, hD, hS, hW, hE, hcc, hs, hL, ⟨_, _, rfl, rfl, hV⟩⟩)
theorem y_sld (B : gBase p c cc kv) (F : gFx K A kv s) {j : Int32} {k0 : Nat} (hj : gix j K.1 = some k0) (hd : decode cc pc = .ok (.iaload, 1)) (k : gGo p l e R s m args below meth c Q D A kv ad0 u0 nL (pc + 1) ls (.int (K.2 k0) :: st) hp) : gGo p l e R s m args below meth c Q D A kv ad0 u0 nL pc ls (.int j :: .ref 0 :: st) hp := by
  intro H locs cells slots lm sm h
  obtain ⟨tys, ws, hK, hP, hD, hS, hW, hE, hcc, hs, hL, hV⟩ := h
  obtain ⟨w0, sm, rfl, e0, hVn⟩ := gVs_c hV; clear hV; have hV := hVn; clear hVn
  cases gV_i e0
  obtain ⟨w1, sm, rfl, e1, hVn⟩ := gVs_c hV; clear hV; have hV := hVn; clear hVn
  obtain ⟨b, h1, h2, h3, h4⟩ := F.1
  have e2 := gV_kv (by omega) e1
  rw [h1] at e2
  subst e2
  obtain ⟨g1, rfl⟩ := gix_at hj
  exact va_sld B.1 B.2.1 h2 h3 h4 hS g1 hd (k _ _ _ _ _ _ ⟨tys, ws, hK, hP, hD, hS, hW, hE, hcc, hs, hL, ⟨_, _, rfl, rfl, hV⟩⟩)
theorem y_tlen1 (B : gBase p c cc kv) (F : gFx K A kv s) (hd : decode cc pc = .ok (.arraylength, 1)) (k : gGo p l e R s m args below meth c Q D A kv ad0 u0 nL (pc + 1) ls (.int (Int32.ofNat 0) :: st) hp) : gGo p l e R s m args below meth c Q D A kv ad0 u0 nL pc ls (.ref 1 :: st) hp := by
  intro H locs cells slots lm sm h
  obtain ⟨tys, ws, hK, hP, hD, hS, hW, hE, hcc, hs, hL, hV⟩ := h
  obtain ⟨w1, sm, rfl, e1, hVn⟩ := gVs_c hV; clear hV; have hV := hVn; clear hVn
  obtain ⟨t, h1, -, h2⟩ := F.2.1
  have e2 := gV_kv (by omega) e1
  rw [h1] at e2
  subst e2
  exact va_tlen B.1 B.2.1 h2 hS rfl hd (k _ _ _ _ _ _ ⟨tys, ws, hK, hP, hD, hS, hW, hE, hcc, hs, hL, ⟨_, _, rfl, rfl, hV⟩⟩)
theorem y_tlenB (B : gBase p c cc kv) (F : gFx K A kv s) {j : Nat} (hj : j < 3) (hd : decode cc pc = .ok (.arraylength, 1)) (k : gGo p l e R s m args below meth c Q D A kv ad0 u0 nL (pc + 1) ls (.int (Int32.ofNat (gLen.getD j 0)) :: st) hp) : gGo p l e R s m args below meth c Q D A kv ad0 u0 nL pc ls (.ref (5 + j) :: st) hp := by
  intro H locs cells slots lm sm h
  obtain ⟨tys, ws, hK, hP, hD, hS, hW, hE, hcc, hs, hL, hV⟩ := h
  obtain ⟨w1, sm, rfl, e1, hVn⟩ := gVs_c hV; clear hV; have hV := hVn; clear hVn
  obtain ⟨adK, adV, hT, hk⟩ := F.2.2.1
  obtain ⟨-, h1, -⟩ := hk j hj
  have e2 := gV_kv (by omega) e1
  rw [h1] at e2
  subst e2
  exact va_tlen B.1 B.2.1 (hT.1 j hj).2.2.2 hS rfl hd (k _ _ _ _ _ _ ⟨tys, ws, hK, hP, hD, hS, hW, hE, hcc, hs, hL, ⟨_, _, rfl, rfl, hV⟩⟩)
theorem y_tbyte (B : gBase p c cc kv) (F : gFx K A kv s) {j k0 : Nat} {i : Int32} (hj : j < 3) (hi : gix i (gLen.getD j 0) = some k0) (hd : decode cc pc = .ok (.baload, 1)) (k : gGo p l e R s m args below meth c Q D A kv ad0 u0 nL (pc + 1) ls (.int ((gByt.getD j []).getD k0 0) :: st) hp) : gGo p l e R s m args below meth c Q D A kv ad0 u0 nL pc ls (.int i :: .ref (5 + j) :: st) hp := by
  intro H locs cells slots lm sm h
  obtain ⟨tys, ws, hK, hP, hD, hS, hW, hE, hcc, hs, hL, hV⟩ := h
  obtain ⟨w0, sm, rfl, e0, hVn⟩ := gVs_c hV; clear hV; have hV := hVn; clear hVn
  cases gV_i e0
  obtain ⟨w1, sm, rfl, e1, hVn⟩ := gVs_c hV; clear hV; have hV := hVn; clear hVn
  obtain ⟨adK, adV, hT, hk⟩ := F.2.2.1
  obtain ⟨-, h1, -⟩ := hk j hj
  have e2 := gV_kv (by omega) e1
  rw [h1] at e2
  subst e2
  obtain ⟨g1, rfl⟩ := gix_at hi
  exact va_tb B.1 B.2.1 (hT.1 j hj).2.2.2 hS g1 rfl hd (k _ _ _ _ _ _ ⟨tys, ws, hK, hP, hD, hS, hW, hE, hcc, hs, hL, ⟨_, _, rfl, rfl, hV⟩⟩)
/-- an array's class by its element type -/
theorem gArr {tys : List (ClassId × FieldType)} {ws : va_W} {H : Heap} {a k n t0 : Nat} {cA : ClassId} {ty : FieldType} {d : _} (hK : va_K D gcl tys s) (hP : va_P D gcl ws H) (hz : ws[k]? = some (a, .inl (cA, n, d))) (ht : tys[t0]? = some (cA, ty)) : ∃ cell : Cell, H[a]? = some cell ∧ cell.vm.isStatics = false ∧ s.vm.findClass ("[" ++ ty.toString) = some cell.cls := by
  have hra := (hK.2 t0 _ ht).2
  have hfc : s.vm.findClass ("[" ++ ty.toString) = some cA := by
    cases ty with
    | object C => obtain ⟨kA, comp, -, -, -, h4⟩ := hra; exact h4
    | _ => exact hra
  refine ⟨_, hP k _ hz, ?_, ?_⟩
  · rcases d with f | f | f | f | f <;> rfl
  · rw [hfc]
    rcases d with f | f | f | f | f <;> rfl
theorem y_instA (B : gBase p c cc kv) {own nm : String} (O : gOwn s m args A own) {n h : Nat} {z : FieldType × vp_A} (hl : Cond.classLink own n nm ∈ lw_all) (hnm : nm = "[" ++ z.1.toString) (hd : decode cc pc = .ok (.instanceof n, 3)) (hg : gget hp h = some (.inl z)) (k : gGo p l e R s m args below meth c Q D A kv ad0 u0 nL (pc + 3) ls (.int 1 :: st) hp) : gGo p l e R s m args below meth c Q D A kv ad0 u0 nL pc ls (.ref h :: st) hp := by
  intro H locs cells slots lm sm h
  obtain ⟨tys, ws, hK, hP, hD, hS, hW, hE, hcc, hs, hL, hV⟩ := h
  obtain ⟨w1, sm, rfl, e1, hVn⟩ := gVs_c hV; clear hV; have hV := hVn; clear hVn
  obtain ⟨ad, q, rfl, hz, hq⟩ := gRef hW e1 hg
  rcases q with ⟨cA, n', d'⟩ | q
  rotate_left
  · exact hq.elim
  obtain ⟨ty, n, d⟩ := z
  obtain ⟨⟨t0, ht⟩, rfl, -⟩ := hq
  exact va_instE B.1 B.2.1 O.1 (O.2.1 _ hl) (by rw [hnm]; exact gArr hK hP hz ht) hd (k _ _ _ _ _ _ ⟨tys, ws, hK, hP, hD, hS, hW, hE, hcc, hs, hL, ⟨_, _, rfl, rfl, hV⟩⟩)
theorem y_instNo (B : gBase p c cc kv) {own nm : String} (O : gOwn s m args A own) {n h : Nat} {z : FieldType × vp_A} (hl : Cond.classLink own n nm ∈ lw_all) (hnc : va_Nc ("[" ++ z.1.toString) nm s) (hd : decode cc pc = .ok (.instanceof n, 3)) (hg : gget hp h = some (.inl z)) (k : gGo p l e R s m args below meth c Q D A kv ad0 u0 nL (pc + 3) ls (.int 0 :: st) hp) : gGo p l e R s m args below meth c Q D A kv ad0 u0 nL pc ls (.ref h :: st) hp := by
  intro H locs cells slots lm sm h
  obtain ⟨tys, ws, hK, hP, hD, hS, hW, hE, hcc, hs, hL, hV⟩ := h
  obtain ⟨w1, sm, rfl, e1, hVn⟩ := gVs_c hV; clear hV; have hV := hVn; clear hVn
  obtain ⟨ad, q, rfl, hz, hq⟩ := gRef hW e1 hg
  rcases q with ⟨cA, n', d'⟩ | q
  rotate_left
  · exact hq.elim
  obtain ⟨ty, n, d⟩ := z
  obtain ⟨⟨t0, ht⟩, rfl, -⟩ := hq
  exact va_instNo B.1 B.2.1 O.1 (O.2.1 _ hl) hnc (gArr hK hP hz ht) hd (k _ _ _ _ _ _ ⟨tys, ws, hK, hP, hD, hS, hW, hE, hcc, hs, hL, ⟨_, _, rfl, rfl, hV⟩⟩)
/-- two references compared -/
theorem gV_opt {ad : List Nat} {q : Nat} {w : Value} (B : gBase p c cc kv) (h : gV kv ad (.ref q) w) : ∃ r : Option Nat, w = va_rf r := by
  rcases gV_r h B.2.2 with rfl | ⟨a, rfl⟩
  · exact ⟨none, rfl⟩
  · exact ⟨some a, rfl⟩
theorem gV_ne {tys : List (ClassId × FieldType)} {ws : va_W} {x y : Nat} {w1 w2 : Value} (F : gFx K A kv s) (hD : va_D A ws) (hx : 16 ≤ x) (hy : y = 1 ∨ 16 ≤ y) (hne : ¬ x = y) (h1 : gV kv (gad ws) (.ref x) w1) (h2 : gV kv (gad ws) (.ref y) w2) : w1 ≠ w2 := by
  obtain ⟨a, e1, rfl⟩ := gV_16 hx h1
  rw [List.getElem?_map] at e1
  cases hz : ws[x - 16]? with
  | none => rw [hz] at e1; cases e1
  | some q =>
    rw [hz] at e1
    cases e1
    rcases hy with rfl | hy
    · have e2 := gV_kv (by omega) h2
      obtain ⟨t, k1, -, k2⟩ := F.2.1
      rw [k1] at e2
      subst e2
      intro hh
      injection hh with hh
      obtain ⟨cell, -, -, -, -, -, -, hA⟩ := k2
      exact hA (hh ▸ hD.2 _ _ hz)
    · obtain ⟨b, e2, rfl⟩ := gV_16 hy h2
      rw [List.getElem?_map] at e2
      cases hz2 : ws[y - 16]? with
      | none => rw [hz2] at e2; cases e2
      | some q2 =>
        rw [hz2] at e2
        cases e2
        intro hh
        injection hh with hh
        have := hD.1 _ _ _ _ hz hz2 hh
        omega
theorem gV_fun {ad : List Nat} {v w1 w2 : Value} (hv : v ≠ .ref 10) (h1 : gV kv ad v w1) (h2 : gV kv ad v w2) : w1 = w2 := by
  cases v with
  | ref q =>
    unfold gV at h1 h2
    dsimp only at h1 h2
    by_cases hq : q < 16
    · rw [if_pos hq] at h1 h2
      unfold gKh at h1 h2
      rw [if_neg (show ¬ q = 10 from fun z => hv (by rw [z]))] at h1 h2
      rw [h1, h2]
    · rw [if_neg hq] at h1 h2
      obtain ⟨a, e1, rfl⟩ := h1
      obtain ⟨b, e2, rfl⟩ := h2
      rw [e1] at e2
      cases e2
      rfl
  | int x => rw [gV_i h1, gV_i h2]
  | long x => rw [gV_l h1, gV_l h2]
  | null => rw [gV_z h1, gV_z h2]
  | float _ => exact h1.elim
  | double _ => exact h1.elim
  | retAddr _ => exact h1.elim
theorem va_rf_inj {a b : Option Nat} (h : va_rf a = va_rf b) : a = b := by
  cases a <;> cases b <;> first | rfl | (cases h; done) | (injection h with h; rw [h])
theorem y_acmp (B : gBase p c cc kv) (F : gFx K A kv s) {off : Int} {tgt x y : Nat} {d : ACond} (hh : (x = 1 ∨ x = 8 ∨ 16 ≤ x) ∧ (y = x ∨ (16 ≤ x ∧ (y = 1 ∨ 16 ≤ y)))) (hd : decode cc pc = .ok (.if_acmp d off, 3)) (ht : (pc : Int) + off = (tgt : Int)) (k1 : x = y → gGo p l e R s m args below meth c Q D A kv ad0 u0 nL (match d with | .eq => tgt | .ne => pc + 3) ls st hp) (k2 : ¬ x = y → gGo p l e R s m args below meth c Q D A kv ad0 u0 nL (match d with | .eq => pc + 3 | .ne => tgt) ls st hp) : gGo p l e R s m args below meth c Q D A kv ad0 u0 nL pc ls (.ref y :: .ref x :: st) hp := by
  intro H locs cells slots lm sm h
  obtain ⟨tys, ws, hK, hP, hD, hS, hW, hE, hcc, hs, hL, hV⟩ := h
  obtain ⟨w0, sm, rfl, e0, hVn⟩ := gVs_c hV; clear hV; have hV := hVn; clear hVn
  obtain ⟨w1, sm, rfl, e1, hVn⟩ := gVs_c hV; clear hV; have hV := hVn; clear hVn
  obtain ⟨ry, rfl⟩ := gV_opt B e0
  obtain ⟨rx, rfl⟩ := gV_opt B e1
  have eqv : rx = ry ↔ x = y := by
    constructor
    · intro hr
      by_cases hxy : x = y
      · exact hxy
      · exfalso
        rcases hh.2 with h9 | ⟨h9, h8⟩
        · exact hxy h9.symm
        · exact gV_ne (tys := tys) F hD h9 h8 hxy e1 e0 (by rw [hr])
    · intro hxy
      subst hxy
      exact va_rf_inj (gV_fun (by intro z; have h7 := hh.1; cases z; revert h7; decide) e1 e0)
  cases d with
  | eq => exact lv_acmp_eq B.1 B.2.1 hd ht (fun hc => k1 (eqv.mp hc) _ _ _ _ _ _ ⟨tys, ws, hK, hP, hD, hS, hW, hE, hcc, hs, hL, hV⟩) (fun hc => k2 (fun z => hc (eqv.mpr z)) _ _ _ _ _ _ ⟨tys, ws, hK, hP, hD, hS, hW, hE, hcc, hs, hL, hV⟩)
  | ne => exact lv_acmp_ne B.1 B.2.1 hd ht (fun hc => k2 (fun z => hc (eqv.mpr z)) _ _ _ _ _ _ ⟨tys, ws, hK, hP, hD, hS, hW, hE, hcc, hs, hL, hV⟩) (fun hc => k1 (eqv.mp hc) _ _ _ _ _ _ ⟨tys, ws, hK, hP, hD, hS, hW, hE, hcc, hs, hL, hV⟩)
end GE
