/-! ===== SOUNDNESS: the machine's own throws (written by gen/snd12.py) ===== -/
def gPl (ws : List Cond) (ps : List Nat) : Bool := decide (ws = ps.filterMap (fun i => lw_tbl[i]?)) && ws.all (fun w => goodWord w || gNk w)
theorem gPl_at {K : gK} {A : Nat → Prop} {kv : Nat → Value} {s : State} {m : MethodId} {args : Array Value} {own : String} {ws : List Cond} {ps : List Nat} (h : gPl ws ps = true) (F : gFx K A kv s) (O : gOwn s m args A own) : (∀ w ∈ ws, w.before args s = true) ∧ ∀ w ∈ ws, vx_ot w = true := by
  unfold gPl at h
  rw [Bool.and_eq_true, decide_eq_true_eq, List.all_eq_true] at h
  obtain ⟨h1, h2⟩ := h
  have hm : ∀ w ∈ ws, w ∈ lw_tbl := by
    intro w hw
    rw [h1] at hw
    obtain ⟨i, -, hi⟩ := List.mem_filterMap.mp hw
    exact List.mem_of_getElem? hi
  constructor
  · intro w hw
    have := h2 w hw
    rw [Bool.or_eq_true] at this
    rcases this with g | g
    · exact O.2.1 _ (lw_g (hm w hw) g)
    · exact va_Nw.use (gNk_tab g) (F.nw (hm w hw) g)
  · intro w hw
    have := h2 w hw
    rw [Bool.or_eq_true] at this
    unfold vx_ot
    rw [Bool.or_eq_true]
    rcases this with g | g
    · exact Or.inr g
    · exact Or.inl (gNk_tab g)
theorem gPl_npe : gPl (vx_atN 8) [100, 796, 805, 825, 828, 830, 797, 798, 125, 126, 799, 804, 826, 845, 786, 846, 788, 847, 790, 800, 802, 792, 822, 812, 813, 1212, 1214, 819, 820, 1226, 1209, 1210, 1211, 835, 777, 835, 836, 837, 838, 779, 838, 839, 840, 797, 781, 114, 817, 1224, 1225, 811, 1220, 1221, 1223, 795, 794, 1218] = true := by decide +kernel
def gnms22 : List String := ["java/lang/RuntimeException", "java/lang/Exception"]
theorem gPl_22 : gPl (vx_atM "java/lang/ClassCastException" gnms22) [100, 796, 805, 825, 828, 830, 797, 798, 125, 126, 799, 804, 826, 845, 786, 846, 788, 847, 790, 800, 802, 792, 1184, 1185, 844, 792, 1175, 1176, 1177, 1178, 778, 1178, 1179, 1180, 1181, 780, 1181, 1182, 1183, 1184, 782, 97, 1195, 173, 1196, 1198, 1197, 1199, 113, 1174, 1193, 1194, 809, 1188, 1189, 1191, 1187, 795, 794, 1186] = true := by decide +kernel
def gnms24 : List String := ["java/lang/RuntimeException", "java/lang/Exception"]
theorem gPl_24 : gPl (vx_atM "java/lang/NegativeArraySizeException" gnms24) [100, 796, 805, 825, 828, 830, 797, 798, 125, 126, 799, 804, 826, 845, 786, 846, 788, 847, 790, 800, 802, 792, 1184, 1185, 844, 792, 1342, 1343, 1344, 1178, 778, 1178, 1179, 1180, 1181, 780, 1181, 1182, 1183, 1184, 782, 97, 1195, 173, 1196, 1198, 1197, 1199, 115, 1341, 1352, 1353, 810, 1347, 1348, 1350, 1346, 795, 794, 1345] = true := by decide +kernel
def gnms25 : List String := ["java/lang/RuntimeException", "java/lang/Exception"]
theorem gPl_25 : gPl (vx_atM "java/lang/ArrayStoreException" gnms25) [100, 796, 805, 825, 828, 830, 797, 798, 125, 126, 799, 804, 826, 845, 786, 846, 788, 847, 790, 800, 802, 792, 1184, 1185, 844, 792, 1395, 1396, 1397, 1178, 778, 1178, 1179, 1180, 1181, 780, 1181, 1182, 1183, 1184, 782, 97, 1195, 173, 1196, 1198, 1197, 1199, 116, 1394, 1405, 1406, 808, 1400, 1401, 1403, 1399, 795, 794, 1398] = true := by decide +kernel
def gnms26 : List String := ["java/lang/IndexOutOfBoundsException", "java/lang/RuntimeException", "java/lang/Exception"]
theorem gPl_26 : gPl (vx_atM "java/lang/ArrayIndexOutOfBoundsException" gnms26) [100, 796, 805, 825, 828, 830, 797, 798, 125, 126, 799, 804, 826, 845, 786, 846, 788, 847, 790, 800, 802, 792, 1184, 1185, 844, 792, 1409, 1410, 1411, 1412, 1424, 1412, 1413, 1414, 1178, 778, 1178, 1179, 1180, 1181, 780, 1181, 1182, 1183, 1184, 782, 97, 1195, 173, 1196, 1198, 1197, 1199, 118, 1408, 1422, 1425, 807, 1417, 1418, 1420, 1416, 795, 794, 1415] = true := by decide +kernel
theorem gtx_size {tx : String} {n : Nat} (h : tx.toList.length ≤ n) : (stringBytes (stringToUtf16 tx)).size ≤ 4 * n := by
  have h1 := utf16_size_le tx
  have h2 := stringBytes_size_le (stringToUtf16 tx)
  omega
theorem gtx_not {tx : String} (h : tx.toList.length ≤ 11) : (tx == notModelled) = false := by
  rw [beq_eq_false_iff_ne]
  rintro rfl
  revert h
  decide +kernel
section GT
variable {p : Program} {l : Launch} {e : Env} {R : Room} {s : State} {m : MethodId} {args : Array Value} {below : List Frame} {meth : Method} {c : Code} {Q : State → Prop}
variable {D : va_G} {A : Nat → Prop} {kv : Nat → Value} {ad0 : List Nat} {u0 : Nat × Nat} {nL d : Nat} {K : gK} {cc : ByteArray} {pc : Nat} {ls : gL} {st : List Value} {hp : gS}
theorem gV_10 {ad : List Nat} {q : Nat} : gV kv ad (.ref 10) (.ref q) := by
  unfold gV
  dsimp only
  rw [if_pos (show 10 < 16 by omega)]
  unfold gKh
  rw [if_pos rfl]
  exact ⟨q, rfl⟩
theorem gPay_at {H H1 : Heap} {locs : List Loc} {cells slots n1 n2 : Nat} {lm : Array Slot} {sm : List Value} {q : Nat} (h : gAt D A kv ad0 u0 nL s ls st hp H locs cells slots lm sm) (hq : ∀ q : Nat, q < H.size → H1[q]? = H[q]?) (hS1 : va_S A s.heap H1 locs) : gAt D A kv ad0 u0 nL s ls [.ref 10] (gpay hp n1 n2) H1 locs (cells + n1) (slots + n2) lm [.ref q] := by
  obtain ⟨tys, ws, hK, hP, hD, hS, hW, hE, hcc, hs, hL, hV⟩ := h
  exact ⟨tys, ws, hK, hP.kept (fun k z hz => hq _ (vx_lt hP hz)), hD, hS1, hW, hE, by show hp.2.1 + n1 = _; omega, by show hp.2.2 + n2 = _; omega, hL, ⟨_, _, rfl, gV_10, rfl⟩⟩
/-- from the machine's note that a thing of class ci is thrown with a text -/
theorem y_note (F : gFx K A kv s) {own : String} (O : gOwn s m args A own) (B : gBase p c cc kv) (hst : l.stackTraces = false) (hlk : meth.locks = false) (hml : c.maxLocals = nL) (hR : gRm d R) {ci nb : Nat} {names : List String} {ps : List Nat} (hpl : gPl (vx_atM (gnm ci) names) ps = true) (hcls : Bundle.fit (gnm ci) = true) (hnames : ∀ n ∈ names, Bundle.fit n = true) (hlen : names.length ≤ 3) (hso : (gnm ci == "java/lang/StackOverflowError") = false) (hoo : (gnm ci == "java/lang/OutOfMemoryError") = false) {tx : String} (htx : (tx == notModelled) = false) (hnb : (stringBytes (stringToUtf16 tx)).size ≤ nb) (hnb1 : nb ≤ 1000) {H : Heap} {locs : List Loc} {cells slots : Nat} {lm : Array Slot} {sm sm0 : List Value} (hA : gAt D A kv ad0 u0 nL s ls st hp H locs cells slots lm sm0) (hsm : (sm.map fun v => v.category).sum ≤ 1000) (hr : gRoom u0 R (gpay hp 3 (nb + 10))) (k : gTh p l e R s m args below meth c Q D A kv ad0 u0 nL pc ci 10 ls (gpay hp 3 (nb + 10))) : vx_Note p l e R s m args below meth c H locs cells slots Q (F0 m pc lm sm) (gnm ci) tx := by
  have hA0 := hA
  obtain ⟨tys, ws, hK, hP, hD, hS, hW, hE, hcc, hs, hL, hV⟩ := hA0
  obtain ⟨ha, hb⟩ := gPl_at hpl F O
  have r1 : hp.2.1 + 3 ≤ u0.1 + R.cells := hr.1
  have r2 : hp.2.2 + (nb + 10) ≤ u0.2 + R.slots := hr.2
  exact vx_vm (A := A) (nb := nb) (names := names) B.1 hst hcls hnames hso hoo ha hb F.2.2.2.2.2.2.1 F.2.2.2.2.2.2.2.1 hS (hL.2.1.trans hml.symm) htx hnb hnb1 (by have := hR.1; omega) (Nat.le_trans (show _ ≤ 12000 by omega) (Nat.le_trans (Nat.le_add_left _ _) hR.2)) (by omega) (by omega) (by omega) hlk
    (fun H1 q9 ce hz hq hS1 hce hcv hcl => k H1 locs (cells + 3) (slots + (nb + 10)) lm sm q9 ce (gPay_at hA hq hS1) hce hcv hcl)
/-- .. a NullPointerException -/
theorem y_noteN (F : gFx K A kv s) {own : String} (O : gOwn s m args A own) (B : gBase p c cc kv) (hst : l.stackTraces = false) (hlk : meth.locks = false) (hml : c.maxLocals = nL) (hR : gRm d R) {H : Heap} {locs : List Loc} {cells slots : Nat} {lm : Array Slot} {sm sm0 : List Value} (hA : gAt D A kv ad0 u0 nL s ls st hp H locs cells slots lm sm0) (hsm : (sm.map fun v => v.category).sum ≤ 1000) (hr : gRoom u0 R (gpay hp 1 200)) (k : gTh p l e R s m args below meth c Q D A kv ad0 u0 nL pc 23 10 ls (gpay hp 1 200)) : vx_NoteN p l e R s m args below meth c H locs cells slots Q (F0 m pc lm sm) := by
  have hA0 := hA
  obtain ⟨tys, ws, hK, hP, hD, hS, hW, hE, hcc, hs, hL, hV⟩ := hA0
  obtain ⟨ha, hb⟩ := gPl_at gPl_npe F O
  have r1 : hp.2.1 + 1 ≤ u0.1 + R.cells := hr.1
  have r2 : hp.2.2 + 200 ≤ u0.2 + R.slots := hr.2
  exact vx_npe (A := A) (nb := 8) B.1 hst ha hb F.2.2.2.2.2.2.1 F.2.2.2.2.2.2.2.1 hS (hL.2.1.trans hml.symm) (by have := hR.1; omega) (Nat.le_trans (show _ ≤ 12000 by omega) (Nat.le_trans (Nat.le_add_left _ _) hR.2)) (by omega) (by omega) hlk
    (fun H1 q9 ce hz hq hS1 hce hcv hcl => vx_widen (k := cells + 1) (n := slots + 200) (Nat.le_refl _) (by omega) (k H1 locs (cells + 1) (slots + 200) lm sm q9 ce (gPay_at hA hq hS1) hce hcv hcl))
end GT
