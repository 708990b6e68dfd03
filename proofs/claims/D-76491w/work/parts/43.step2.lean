/-! ===== SOUNDNESS: one instruction, second part (written by gen/snd11.py) ===== -/
theorem gtb_at {h k0 : Nat} {i : Int32} (hj : gix i (gcbyt h).length = some k0) : ∃ j, j < 3 ∧ h = 5 + j ∧ gix i (gLen.getD j 0) = some k0 ∧ (gcbyt h).getD k0 0 = (gByt.getD j []).getD k0 0 := by
  unfold gcbyt at hj ⊢
  split at hj
  · exact ⟨0, by omega, rfl, hj, rfl⟩
  · exact ⟨1, by omega, rfl, hj, rfl⟩
  · exact ⟨2, by omega, rfl, hj, rfl⟩
  · unfold gix at hj
    rw [if_pos (Or.inr (show ([] : List Int32).length ≤ i.toNatClampNeg from Nat.zero_le _))] at hj
    cases hj
/-- the class that a cast's target is -/
def gtg (a : Nat) : String := match a with
  | 8 => "GeeseKeys$Goose"
  | 9 => "GeeseKeys$Gander"
  | 10 => "GeeseKeys$Gosling"
  | 11 => "GeeseKeys$Old"
  | 12 => "GeeseKeys$Sentry"
  | 13 => "GeeseKeys$Larder"
  | 14 => "GeeseKeys$Told"
  | 17 => "GeeseKeys$Clause"
  | 40 => "GeeseKeys$Test"
  | 100 => "[B"
  | 101 => "[S"
  | 102 => "[I"
  | 103 => "[J"
  | 104 => "[Z"
  | _ => "[Ljava/lang/Object;"
theorem gsubOk_set {t a : Nat} (h : gsubOk t a = true) (ht : t < 27) : (8 ≤ a ∧ a ≤ 14 ∧ 8 ≤ t ∧ t ≤ 14) ∨ (a = 17 ∧ t = 17) ∨ (a = 40 ∧ 18 ≤ t ∧ t ≤ 20) := by
  unfold gsubOk at h
  split at h <;> simp only [Bool.and_eq_true, decide_eq_true_eq, Bool.false_eq_true] at h <;> omega
theorem gcastO {K : gK} {A : Nat → Prop} {kv : Nat → Value} {s : State} (F : gFx K A kv s) {ci a : Nat} (hok : gsubOk ci a = true) (hsub : gsub ci a = true) (hci : ci < 27) : va_Nw (.castable (gnm ci) (gtg a)) s ∨ gnm ci = gtg a := by
  rcases gsubOk_set hok hci with ⟨a1, a2, t1, t2⟩ | ⟨rfl, rfl⟩ | ⟨rfl, t1, t2⟩
  · have ha : a = 8 ∨ a = 9 ∨ a = 10 ∨ a = 11 ∨ a = 12 ∨ a = 13 ∨ a = 14 := by omega
    have ht : ci = 8 ∨ ci = 9 ∨ ci = 10 ∨ ci = 11 ∨ ci = 12 ∨ ci = 13 ∨ ci = 14 := by omega
    rcases ha with rfl | rfl | rfl | rfl | rfl | rfl | rfl <;> rcases ht with rfl | rfl | rfl | rfl | rfl | rfl | rfl <;> first | exact Or.inr rfl | (exact absurd hsub (by decide)) | exact Or.inl (F.nw q1858 rfl) | exact Or.inl (F.nw q1859 rfl) | exact Or.inl (F.nw q1860 rfl) | exact Or.inl (F.nw q1861 rfl) | exact Or.inl (F.nw q1862 rfl) | exact Or.inl (F.nw q1863 rfl) | exact Or.inl (F.nw q1864 rfl) | exact Or.inl (F.nw q1865 rfl) | exact Or.inl (F.nw q1866 rfl)
  · exact Or.inr rfl
  · have ht : ci = 18 ∨ ci = 19 ∨ ci = 20 := by omega
    rcases ht with rfl | rfl | rfl
    · exact Or.inl (F.nw q1857 rfl)
    · exact Or.inl (F.nw q1856 rfl)
    · exact Or.inl (F.nw q1855 rfl)
theorem gcastN {K : gK} {A : Nat → Prop} {kv : Nat → Value} {s : State} (F : gFx K A kv s) {ci a : Nat} (hok : gsubOk ci a = true) (hsub : ¬ gsub ci a = true) (hci : ci < 27) : va_Nc (gnm ci) (gtg a) s := by
  rcases gsubOk_set hok hci with ⟨a1, a2, t1, t2⟩ | ⟨rfl, rfl⟩ | ⟨rfl, t1, t2⟩
  · have ha : a = 8 ∨ a = 9 ∨ a = 10 ∨ a = 11 ∨ a = 12 ∨ a = 13 ∨ a = 14 := by omega
    have ht : ci = 8 ∨ ci = 9 ∨ ci = 10 ∨ ci = 11 ∨ ci = 12 ∨ ci = 13 ∨ ci = 14 := by omega
    rcases ha with rfl | rfl | rfl | rfl | rfl | rfl | rfl <;> rcases ht with rfl | rfl | rfl | rfl | rfl | rfl | rfl <;> first | (exact absurd rfl hsub) | exact F.nc (by simp [gNC, gnm, gcl, gtg, RX7, RX8, RX9, RX10, RX11, RX12, RX13])
  · exact absurd rfl hsub
  · exact absurd (by simp [gsub, t1, t2]) hsub
theorem gatag_100 {ty : FieldType} : 100 ≤ gatag ty := by
  unfold gatag
  split <;> first | decide | (split <;> decide)
theorem gcastA {ty : FieldType} {a : Nat} (hok : gsubOk (gatag ty) a = true) (hsub : gsub (gatag ty) a = true) : gtg a = "[" ++ ty.toString := by
  cases ty with
  | object C =>
    unfold gatag at hok hsub
    dsimp only at hok hsub
    by_cases hC : C = "java/lang/Object"
    · subst hC
      rw [if_pos rfl] at hok hsub
      unfold gsubOk at hok
      split at hok <;> first | (exact absurd hok (by decide)) | skip
      decide +kernel
    · rw [if_neg hC] at hok hsub
      unfold gsubOk at hok
      split at hok <;> exact absurd hok (by decide)
  | _ =>
    unfold gatag at hok hsub
    dsimp only at hok hsub
    unfold gsubOk at hok
    split at hok <;> first | (exact absurd hok (by decide)) | (exact absurd hsub (by decide)) | decide +kernel
theorem gcastAN {K : gK} {A : Nat → Prop} {kv : Nat → Value} {s : State} (F : gFx K A kv s) {ty : FieldType} {a : Nat} (ha : a ≠ 104) (hok : gsubOk (gatag ty) a = true) (hsub : ¬ gsub (gatag ty) a = true) : va_Nc ("[" ++ ty.toString) (gtg a) s := by
  have key : ∀ nm : String, "[" ++ ty.toString = nm → (nm, gtg a) ∈ gNC → va_Nc ("[" ++ ty.toString) (gtg a) s := fun nm e h => by rw [e]; exact F.nc h
  cases ty with
  | object C =>
    unfold gatag at hok hsub
    dsimp only at hok hsub
    by_cases hC : C = "java/lang/Object"
    · subst hC
      rw [if_pos rfl] at hok hsub
      unfold gsubOk at hok
      split at hok <;> first | (exact absurd hok (by decide)) | (exact absurd rfl hsub)
    · rw [if_neg hC] at hok hsub
      unfold gsubOk at hok
      split at hok <;> exact absurd hok (by decide)
  | _ =>
    unfold gatag at hok hsub
    dsimp only at hok hsub
    unfold gsubOk at hok
    split at hok <;> first | (exact absurd hok (by decide)) | (exact absurd rfl hsub) | (exact absurd rfl ha) | exact key "[B" (by decide +kernel) (by simp [gNC, gtg]) | exact key "[S" (by decide +kernel) (by simp [gNC, gtg]) | exact key "[I" (by decide +kernel) (by simp [gNC, gtg]) | exact key "[J" (by decide +kernel) (by simp [gNC, gtg]) | exact key "[Z" (by decide +kernel) (by simp [gNC, gtg])
section GIx
variable {p : Program} {l : Launch} {e : Env} {R : Room} {s : State} {m : MethodId} {args : Array Value} {below : List Frame} {meth : Method} {c : Code} {Q : State → Prop}
variable {D : va_G} {A : Nat → Prop} {kv : Nat → Value} {ad0 : List Nat} {u0 : Nat × Nat} {nL : Nat} {K : gK} {cc : ByteArray} {pc : Nat} {ls : gL} {st : List Value} {hp : gS}
/-- a thing on the stack is of one of the classes -/
theorem gIdx {h ci : Nat} {fs : List Value} (hg : gget hp h = some (gob ci fs)) (k : ci < 27 → gGo p l e R s m args below meth c Q D A kv ad0 u0 nL pc ls (.ref h :: st) hp) : gGo p l e R s m args below meth c Q D A kv ad0 u0 nL pc ls (.ref h :: st) hp := by
  intro H locs cells slots lm sm hA
  have h0 := hA
  obtain ⟨tys, ws, hK, hP, hD, hS, hW, hE, hcc, hs, hL, hV⟩ := h0
  obtain ⟨w1, sm2, rfl, e1, -⟩ := gVs_c hV
  obtain ⟨ad, q, rfl, hz, hq⟩ := gRef hW e1 hg
  rcases q with q | ⟨ci', vs⟩
  · exact hq.elim
  obtain ⟨rfl, -⟩ := hq
  obtain ⟨r, hr, -⟩ := gcl_recv hK hP hz
  refine k ?_ H locs cells slots lm _ hA
  have := (List.getElem?_eq_some_iff.mp hr).1
  exact this
end GIx
theorem gO_iaload {own nm : String} {cc : ByteArray} {ret : Option FieldType} {pc a b c0 : Nat} {sw : List (Int32 × Nat)} {gY : gYt} (hd : decode cc pc = .ok (.iaload, 1)) : gOb gY own nm cc ret (pc, .iaload, a, b, c0, sw) (pc + 1) := by
  intro p l e R s m args below meth c D A kv ad0 u0 nL K d o hpF mc ms X ls st hp act h
  obtain ⟨B, F, O, hml, hR, hrt, hlk, hst, hnm⟩ := X
  unfold gsem at h
  dsimp only at h
  split at h
  · split at h
    · split at h
      · rename_i h0
        subst h0
        split at h
        · rename_i k0 hj; cases h; exact fun _ k => y_sld B F hj hd k
        · cases h
      · cases h
    · split at h
      · rename_i n f hg
        split at h
        · rename_i k0 hj; cases h; exact fun _ k => y_iaload B hd hg hj k
        · cases h
      · cases h
  · cases h
theorem gO_baload {own nm : String} {cc : ByteArray} {ret : Option FieldType} {pc a b c0 : Nat} {sw : List (Int32 × Nat)} {gY : gYt} (hd : decode cc pc = .ok (.baload, 1)) : gOb gY own nm cc ret (pc, .baload, a, b, c0, sw) (pc + 1) := by
  intro p l e R s m args below meth c D A kv ad0 u0 nL K d o hpF mc ms X ls st hp act h
  obtain ⟨B, F, O, hml, hR, hrt, hlk, hst, hnm⟩ := X
  unfold gsem at h
  dsimp only at h
  split at h
  · split at h
    · split at h
      · rename_i k0 hj
        cases h
        obtain ⟨j, j1, rfl, j2, j3⟩ := gtb_at hj
        exact fun _ k => y_tbyte B F j1 j2 hd (by rw [← j3]; exact k)
      · cases h
    · split at h
      · rename_i n f hg
        split at h
        · rename_i k0 hj; cases h; exact fun _ k => y_baloadB B hd hg hj k
        · cases h
      · rename_i n f hg
        split at h
        · rename_i k0 hj; cases h; exact fun _ k => y_baloadZ B hd hg hj k
        · cases h
      · cases h
  · cases h
theorem gO_caload {own nm : String} {cc : ByteArray} {ret : Option FieldType} {pc a b c0 : Nat} {sw : List (Int32 × Nat)} {gY : gYt} (hd : decode cc pc = .ok (.caload, 1)) : gOb gY own nm cc ret (pc, .caload, a, b, c0, sw) (pc + 1) := by
  intro p l e R s m args below meth c D A kv ad0 u0 nL K d o hpF mc ms X ls st hp act h
  obtain ⟨B, F, O, hml, hR, hrt, hlk, hst, hnm⟩ := X
  unfold gsem at h
  dsimp only at h
  split at h
  · split at h
    · rename_i n f hg
      split at h
      · rename_i k0 hj; cases h; exact fun _ k => y_caload B hd hg hj k
      · cases h
    · cases h
  · cases h
theorem gO_saload {own nm : String} {cc : ByteArray} {ret : Option FieldType} {pc a b c0 : Nat} {sw : List (Int32 × Nat)} {gY : gYt} (hd : decode cc pc = .ok (.saload, 1)) : gOb gY own nm cc ret (pc, .saload, a, b, c0, sw) (pc + 1) := by
  intro p l e R s m args below meth c D A kv ad0 u0 nL K d o hpF mc ms X ls st hp act h
  obtain ⟨B, F, O, hml, hR, hrt, hlk, hst, hnm⟩ := X
  unfold gsem at h
  dsimp only at h
  split at h
  · split at h
    · rename_i n f hg
      split at h
      · rename_i k0 hj; cases h; exact fun _ k => y_saload B hd hg hj k
      · cases h
    · cases h
  · cases h
theorem gO_laload {own nm : String} {cc : ByteArray} {ret : Option FieldType} {pc a b c0 : Nat} {sw : List (Int32 × Nat)} {gY : gYt} (hd : decode cc pc = .ok (.laload, 1)) : gOb gY own nm cc ret (pc, .laload, a, b, c0, sw) (pc + 1) := by
  intro p l e R s m args below meth c D A kv ad0 u0 nL K d o hpF mc ms X ls st hp act h
  obtain ⟨B, F, O, hml, hR, hrt, hlk, hst, hnm⟩ := X
  unfold gsem at h
  dsimp only at h
  split at h
  · split at h
    · rename_i n f hg
      split at h
      · rename_i k0 hj; cases h; exact fun _ k => y_laload B hd hg hj k
      · cases h
    · cases h
  · cases h
theorem gO_aaload {own nm : String} {cc : ByteArray} {ret : Option FieldType} {pc a b c0 : Nat} {sw : List (Int32 × Nat)} {gY : gYt} (hd : decode cc pc = .ok (.aaload, 1)) : gOb gY own nm cc ret (pc, .aaload, a, b, c0, sw) (pc + 1) := by
  intro p l e R s m args below meth c D A kv ad0 u0 nL K d o hpF mc ms X ls st hp act h
  obtain ⟨B, F, O, hml, hR, hrt, hlk, hst, hnm⟩ := X
  unfold gsem at h
  dsimp only at h
  split at h
  · split at h
    · rename_i n f hg
      split at h
      · rename_i k0 hj; cases h; exact fun _ k => y_aaload B hd hg hj k
      · cases h
    · cases h
  · cases h
theorem gO_iastore {own nm : String} {cc : ByteArray} {ret : Option FieldType} {pc a b c0 : Nat} {sw : List (Int32 × Nat)} {gY : gYt} (hd : decode cc pc = .ok (.iastore, 1)) : gOb gY own nm cc ret (pc, .iastore, a, b, c0, sw) (pc + 1) := by
  intro p l e R s m args below meth c D A kv ad0 u0 nL K d o hpF mc ms X ls st hp act h
  obtain ⟨B, F, O, hml, hR, hrt, hlk, hst, hnm⟩ := X
  unfold gsem at h
  dsimp only at h
  split at h
  · split at h
    · rename_i n f hg
      split at h
      · rename_i k0 hj; cases h; exact fun _ k => y_iastore B hd hg hj k
      · cases h
    · cases h
  · cases h
theorem gO_castore {own nm : String} {cc : ByteArray} {ret : Option FieldType} {pc a b c0 : Nat} {sw : List (Int32 × Nat)} {gY : gYt} (hd : decode cc pc = .ok (.castore, 1)) : gOb gY own nm cc ret (pc, .castore, a, b, c0, sw) (pc + 1) := by
  intro p l e R s m args below meth c D A kv ad0 u0 nL K d o hpF mc ms X ls st hp act h
  obtain ⟨B, F, O, hml, hR, hrt, hlk, hst, hnm⟩ := X
  unfold gsem at h
  dsimp only at h
  split at h
  · split at h
    · rename_i n f hg
      split at h
      · rename_i k0 hj; cases h; exact fun _ k => y_castore B hd hg hj k
      · cases h
    · cases h
  · cases h
theorem gO_sastore {own nm : String} {cc : ByteArray} {ret : Option FieldType} {pc a b c0 : Nat} {sw : List (Int32 × Nat)} {gY : gYt} (hd : decode cc pc = .ok (.sastore, 1)) : gOb gY own nm cc ret (pc, .sastore, a, b, c0, sw) (pc + 1) := by
  intro p l e R s m args below meth c D A kv ad0 u0 nL K d o hpF mc ms X ls st hp act h
  obtain ⟨B, F, O, hml, hR, hrt, hlk, hst, hnm⟩ := X
  unfold gsem at h
  dsimp only at h
  split at h
  · split at h
    · rename_i n f hg
      split at h
      · rename_i k0 hj; cases h; exact fun _ k => y_sastore B hd hg hj k
      · cases h
    · cases h
  · cases h
theorem gO_lastore {own nm : String} {cc : ByteArray} {ret : Option FieldType} {pc a b c0 : Nat} {sw : List (Int32 × Nat)} {gY : gYt} (hd : decode cc pc = .ok (.lastore, 1)) : gOb gY own nm cc ret (pc, .lastore, a, b, c0, sw) (pc + 1) := by
  intro p l e R s m args below meth c D A kv ad0 u0 nL K d o hpF mc ms X ls st hp act h
  obtain ⟨B, F, O, hml, hR, hrt, hlk, hst, hnm⟩ := X
  unfold gsem at h
  dsimp only at h
  split at h
  · split at h
    · rename_i n f hg
      split at h
      · rename_i k0 hj; cases h; exact fun _ k => y_lastore B hd hg hj k
      · cases h
    · cases h
  · cases h
theorem gO_bastore {own nm : String} {cc : ByteArray} {ret : Option FieldType} {pc a b c0 : Nat} {sw : List (Int32 × Nat)} {gY : gYt} (hd : decode cc pc = .ok (.bastore, 1)) : gOb gY own nm cc ret (pc, .bastore, a, b, c0, sw) (pc + 1) := by
  intro p l e R s m args below meth c D A kv ad0 u0 nL K d o hpF mc ms X ls st hp act h
  obtain ⟨B, F, O, hml, hR, hrt, hlk, hst, hnm⟩ := X
  unfold gsem at h
  dsimp only at h
  split at h
  · split at h
    · rename_i n f hg
      split at h
      · rename_i k0 hj; cases h; exact fun _ k => y_bastoreB B hd hg hj k
      · cases h
    · rename_i n f hg
      split at h
      · rename_i k0 hj; cases h; exact fun _ k => y_bastoreZ B hd hg hj k
      · cases h
    · cases h
  · cases h
theorem gO_aastore {own nm : String} {cc : ByteArray} {ret : Option FieldType} {pc a b c0 : Nat} {sw : List (Int32 × Nat)} {gY : gYt} (hd : decode cc pc = .ok (.aastore, 1)) : gOb gY own nm cc ret (pc, .aastore, a, b, c0, sw) (pc + 1) := by
  intro p l e R s m args below meth c D A kv ad0 u0 nL K d o hpF mc ms X ls st hp act h
  obtain ⟨B, F, O, hml, hR, hrt, hlk, hst, hnm⟩ := X
  unfold gsem at h
  dsimp only at h
  split at h
  · split at h
    · rename_i C n f o2 hg hv
      split at h
      · rename_i hel
        split at h
        · rename_i k0 hj; cases h; exact fun _ k => y_aastore B F.el hd hg hv hel hj k
        · cases h
      · cases h
    · cases h
  · cases h
theorem gO_alen {own nm : String} {cc : ByteArray} {ret : Option FieldType} {pc a b c0 : Nat} {sw : List (Int32 × Nat)} {gY : gYt} (hd : decode cc pc = .ok (.arraylength, 1)) (ha : a ≠ 1) : gOb gY own nm cc ret (pc, .arraylength, a, b, c0, sw) (pc + 1) := by
  intro p l e R s m args below meth c D A kv ad0 u0 nL K d o hpF mc ms X ls st hp act h
  obtain ⟨B, F, O, hml, hR, hrt, hlk, hst, hnm⟩ := X
  unfold gsem at h
  dsimp only at h
  split at h
  · rename_i hh r
    split at h
    · split at h
      · rename_i n hn
        cases h
        unfold gclen at hn
        split at hn <;> first | (cases hn; done) | skip
        · cases hn; exact fun _ k => y_slen B F hd k
        · cases hn; exact fun _ k => y_tlen1 B F hd k
        · cases hn; exact fun _ k => y_tlenB B F (j := 0) (by omega) hd k
        · cases hn; exact fun _ k => y_tlenB B F (j := 1) (by omega) hd k
        · cases hn; exact fun _ k => y_tlenB B F (j := 2) (by omega) hd k
      · cases h
    · split at h
      · rename_i x hg; cases h; exact fun _ k => y_alen B hd hg k
      · cases h
  · first | (cases h; done) | (rw [if_neg (fun z => ha z.1)] at h; cases h)
  · cases h
theorem gO_checkcast {own nm : String} {cc : ByteArray} {ret : Option FieldType} {pc a b c0 : Nat} {sw : List (Int32 × Nat)} {gY : gYt} {n : Nat} (hb : b ≠ 1) (hl : Cond.classLink own n (gtg a) ∈ lw_all) (hd : decode cc pc = .ok (.checkcast n, 3)) : gOb gY own nm cc ret (pc, .checkcast n, a, b, c0, sw) (pc + 3) := by
  intro p l e R s m args below meth c D A kv ad0 u0 nL K d o hpF mc ms X ls st hp act h
  obtain ⟨B, F, O, hml, hR, hrt, hlk, hst, hnm⟩ := X
  unfold gsem at h
  dsimp only at h
  split at h
  · cases h; exact fun _ k => y_castN B hd k
  · split at h
    · rename_i e2 hg
      split at h
      · rename_i hok
        split at h
        · rename_i hsub
          cases h
          intro _ k
          rcases e2 with z | ⟨ci, fs⟩
          · exact y_castA B O hl (gcastA hok hsub) hd hg k
          · exact gIdx hg fun hci => y_castO B O hl (gcastO F hok hsub hci) hd hg k
        · first | (cases h; done) | (rw [if_neg (fun z => hb z.1)] at h; cases h)
      · cases h
    · cases h
  · cases h
theorem gO_instanceof {own nm : String} {cc : ByteArray} {ret : Option FieldType} {pc a b c0 : Nat} {sw : List (Int32 × Nat)} {gY : gYt} {n : Nat} (ha : 100 ≤ a ∧ a < 104) (hl : Cond.classLink own n (gtg a) ∈ lw_all) (hd : decode cc pc = .ok (.instanceof n, 3)) : gOb gY own nm cc ret (pc, .instanceof n, a, b, c0, sw) (pc + 3) := by
  intro p l e R s m args below meth c D A kv ad0 u0 nL K d o hpF mc ms X ls st hp act h
  obtain ⟨B, F, O, hml, hR, hrt, hlk, hst, hnm⟩ := X
  unfold gsem at h
  dsimp only at h
  split at h
  · cases h; exact fun _ k => y_instN B hd k
  · split at h
    · rename_i e2 hg
      split at h
      · rename_i hok
        cases h
        intro _ k
        rcases e2 with z | ⟨ci, fs⟩
        · by_cases hsub : gsub (gtag (.inl z)) a = true
          · rw [if_pos hsub] at k
            exact y_instA B O hl (gcastA hok hsub) hd hg k
          · rw [if_neg hsub] at k
            exact y_instNo B O hl (gcastAN F (by omega) hok hsub) hd hg k
        · exact gIdx hg fun hci => by
            exfalso
            rcases gsubOk_set hok hci with h1 | h1 | h1 <;> omega
      · cases h
    · cases h
  · cases h
theorem gO_callS {own nm : String} {cc : ByteArray} {ret : Option FieldType} {pc a b : Nat} {sw : List (Int32 × Nat)} {gY : gYt} {n : Nat} (hcl : gClS own cc pc (gY a).1 (gY a).2 (gNL a) b) (hmL : gNL a ≤ 45) : gOb gY own nm cc ret (pc, .invokestatic n, a, b, 0, sw) (pc + 3) := by
  intro p l e R s m args below meth c D A kv ad0 u0 nL K d o hpF mc ms X ls st hp act h
  obtain ⟨B, F, O, hml, hR, hrt, hlk, hst, hnm⟩ := X
  unfold gsem at h
  dsimp only at h
  change (if gdep (st.drop b) ≤ 8 ∧ b ≤ st.length then gC a (st.take b).reverse (st.drop b) else none) = some act at h
  split at h
  · rename_i hh
    cases h
    intro d' o' hp' hdd hcon hmono hr k1 k2
    subst hdd
    have key := y_callS hst B F O hml hR hcl hmL hcon hmono hr (by rw [List.length_reverse, List.length_take]; omega) hh.1 k1 k2
    rw [List.reverse_reverse, List.take_append_drop] at key
    exact key
  · cases h
theorem gO_callI {own nm : String} {cc : ByteArray} {ret : Option FieldType} {pc a b : Nat} {sw : List (Int32 × Nat)} {gY : gYt} {n : Nat} {sp : Bool} (hcl : ∀ C, gClV sp own cc pc (gY a).1 (gY a).2 (gNL a) b C) (hmL : gNL a ≤ 45) : gOb gY own nm cc ret (pc, .invokespecial n, a, b, 0, sw) (pc + 3) := by
  intro p l e R s m args below meth c D A kv ad0 u0 nL K d o hpF mc ms X ls st hp act h
  obtain ⟨B, F, O, hml, hR, hrt, hlk, hst, hnm⟩ := X
  unfold gsem at h
  dsimp only at h
  change (match st.drop b with
        | .ref h :: r => if gdep r ≤ 8 ∧ b ≤ st.length then (match gget hp h with
          | some (.inr _) => gC a (.ref h :: (st.take b).reverse) r
          | _ => none) else none
        | _ => none) = some act at h
  split at h
  · rename_i hh r hdr
    split at h
    · rename_i hc
      split at h
      · rename_i o2 hg
        cases h
        intro d' o' hp' hdd hcon hmono hr k1 k2
        subst hdd
        have key := y_callV hst B F O hml hR (ci := o2.1) (fs := o2.2) hg (hcl _) hmL hcon hmono hr (by rw [List.length_reverse, List.length_take]; omega) hc.1 k1 k2
        rw [List.reverse_reverse, ← hdr, List.take_append_drop] at key
        exact key
      · cases h
    · cases h
  · cases h
theorem gO_objinit {own nm : String} {cc : ByteArray} {ret : Option FieldType} {pc a b : Nat} {sw : List (Int32 × Nat)} {gY : gYt} {n : Nat} (hl : Cond.methodLink own n ⟨"java/lang/Object", "<init>", "()V"⟩ ∈ lw_all) (hd : decode cc pc = .ok (.invokespecial n, 3)) : gOb gY own nm cc ret (pc, .invokespecial n, a, b, 1, sw) (pc + 3) := by
  intro p l e R s m args below meth c D A kv ad0 u0 nL K d o hpF mc ms X ls st hp act h
  obtain ⟨B, F, O, hml, hR, hrt, hlk, hst, hnm⟩ := X
  unfold gsem at h
  dsimp only at h
  change (match (generalizing := false) st with
        | .ref h :: r => if gdep r ≤ 8 ∧ 16 ≤ h then gN ls r hp else none
        | _ => none) = some act at h
  split at h
  · split at h
    · rename_i hc; cases h; exact fun _ k => y_objinit B O hml hR hc.2 hl hc.1 hd k
    · cases h
  · cases h
theorem gO_callV {own nm : String} {cc : ByteArray} {ret : Option FieldType} {pc a b c0 : Nat} {sw : List (Int32 × Nat)} {gY : gYt} {n : Nat} (hc0 : c0 < 1000 ∧ c0 ≠ 90 ∧ c0 ≠ 36) (hcl : ∀ ci y, gtgt a ci c0 = some y → gClV false own cc pc (gY y).1 (gY y).2 (gNL y) b (gnm ci)) (hmL : ∀ y, gNL y ≤ 45) : gOb gY own nm cc ret (pc, .invokevirtual n, a, b, c0, sw) (pc + 3) := by
  intro p l e R s m args below meth c D A kv ad0 u0 nL K d o hpF mc ms X ls st hp act h
  obtain ⟨B, F, O, hml, hR, hrt, hlk, hst, hnm⟩ := X
  unfold gsem at h
  dsimp only at h
  rw [if_pos hc0.1] at h
  split at h
  · rename_i hh r hdr
    split at h
    · rename_i hc
      split at h
      · split at h
        · rename_i h9; exact absurd h9.2.2 hc0.2.1
        · cases h
      · split at h
        · rename_i o2 hg
          split at h
          · rename_i y hy
            cases h
            intro d' o' hp' hdd hcon hmono hr k1 k2
            subst hdd
            have key := y_callV hst B F O hml hR (ci := o2.1) (fs := o2.2) hg (hcl _ _ hy) (hmL _) hcon hmono hr (by rw [List.length_reverse, List.length_take]; omega) hc.1 k1 k2
            rw [List.reverse_reverse, ← hdr, List.take_append_drop] at key
            exact key
          · cases h
        · cases h
    · cases h
  · split at h
    · rename_i h9; exact absurd h9.1.1 hc0.2.2
    · cases h
  · cases h
theorem gO_callT {own nm : String} {cc : ByteArray} {ret : Option FieldType} {pc a b : Nat} {sw : List (Int32 × Nat)} {gY : gYt} {n : Nat} (hcl : gClV false own cc pc (gY a).1 (gY a).2 (gNL a) b "java/lang/String") (hmL : ∀ y, gNL y ≤ 45) : gOb gY own nm cc ret (pc, .invokevirtual n, a, b, 90, sw) (pc + 3) := by
  intro p l e R s m args below meth c D A kv ad0 u0 nL K d o hpF mc ms X ls st hp act h
  obtain ⟨B, F, O, hml, hR, hrt, hlk, hst, hnm⟩ := X
  unfold gsem at h
  dsimp only at h
  rw [if_pos (by decide)] at h
  split at h
  · rename_i hh r hdr
    split at h
    · rename_i hc
      split at h
      · split at h
        · rename_i h9
          obtain ⟨j, rfl⟩ := Nat.exists_eq_add_of_le h9.1
          cases h
          intro d' o' hp' hdd hcon hmono hr k1 k2
          subst hdd
          have key := y_callT hst B F O hml hR (j := j) (show j < 3 from Nat.lt_of_add_lt_add_left (show 2 + j < 2 + 3 from Nat.lt_succ_of_le h9.2.1)) hcl (hmL _) hcon hmono hr (by rw [List.length_reverse, List.length_take]; omega) hc.1 k1 k2
          rw [List.reverse_reverse, ← hdr, List.take_append_drop] at key
          exact key
        · cases h
      · split at h
        · split at h
          · rename_i y hy; simp [gtgt, ggrp] at hy
          · cases h
        · cases h
    · cases h
  · split at h
    · rename_i h9; exact absurd h9.1.1 (by decide)
    · cases h
  · cases h
theorem gO_getC {own nm : String} {cc : ByteArray} {ret : Option FieldType} {pc a b : Nat} {sw : List (Int32 × Nat)} {gY : gYt} {n : Nat} (hl : Cond.methodLink own n ⟨"java/lang/Object", "getClass", "()Ljava/lang/Class;"⟩ ∈ lw_all) (hd : decode cc pc = .ok (.invokevirtual n, 3)) : gOb gY own nm cc ret (pc, .invokevirtual n, a, b, 1000, sw) (pc + 3) := by
  intro p l e R s m args below meth c D A kv ad0 u0 nL K d o hpF mc ms X ls st hp act h
  obtain ⟨B, F, O, hml, hR, hrt, hlk, hst, hnm⟩ := X
  unfold gsem at h
  dsimp only at h
  rw [if_neg (by decide)] at h
  split at h
  · split at h
    · rename_i C z1 z2 hg
      split at h
      · rename_i hc
        obtain ⟨hc1, hc2⟩ := hc
        subst hc1
        cases h; exact fun _ k => y_getC B F O hml hR hl hc2 hd hg k
      · cases h
    · cases h
  · cases h
theorem gO_max {own nm : String} {cc : ByteArray} {ret : Option FieldType} {pc a b : Nat} {sw : List (Int32 × Nat)} {gY : gYt} {n : Nat} (hl : Cond.methodLink own n ⟨"java/lang/Math", "max", "(II)I"⟩ ∈ lw_all) (hd : decode cc pc = .ok (.invokestatic n, 3)) : gOb gY own nm cc ret (pc, .invokestatic n, a, b, 2, sw) (pc + 3) := by
  intro p l e R s m args below meth c D A kv ad0 u0 nL K d o hpF mc ms X ls st hp act h
  obtain ⟨B, F, O, hml, hR, hrt, hlk, hst, hnm⟩ := X
  unfold gsem at h
  dsimp only at h
  change (match (generalizing := false) st with
        | .int y :: .int x :: r => if gdep r ≤ 8 then gN ls (.int (if x < y then y else x) :: r) hp else none
        | _ => none) = some act at h
  split at h
  · split at h
    · rename_i hc; cases h; exact fun hr k => y_max B O hml hR hl hr hc hd k
    · cases h
  · cases h
theorem gO_min {own nm : String} {cc : ByteArray} {ret : Option FieldType} {pc a b : Nat} {sw : List (Int32 × Nat)} {gY : gYt} {n : Nat} (hl : Cond.methodLink own n ⟨"java/lang/Math", "min", "(II)I"⟩ ∈ lw_all) (hd : decode cc pc = .ok (.invokestatic n, 3)) : gOb gY own nm cc ret (pc, .invokestatic n, a, b, 3, sw) (pc + 3) := by
  intro p l e R s m args below meth c D A kv ad0 u0 nL K d o hpF mc ms X ls st hp act h
  obtain ⟨B, F, O, hml, hR, hrt, hlk, hst, hnm⟩ := X
  unfold gsem at h
  dsimp only at h
  change (match (generalizing := false) st with
        | .int y :: .int x :: r => if gdep r ≤ 8 then gN ls (.int (if y < x then y else x) :: r) hp else none
        | _ => none) = some act at h
  split at h
  · split at h
    · rename_i hc; cases h; exact fun hr k => y_min B O hml hR hl hr hc hd k
    · cases h
  · cases h
