/-! ===== SOUNDNESS: what a run has used grows ===== -/
def gLe (hp hp' : gS) : Prop := hp.2.1 ≤ hp'.2.1 ∧ hp.2.2 ≤ hp'.2.2
theorem gLe.rf {hp : gS} : gLe hp hp := ⟨Nat.le_refl _, Nat.le_refl _⟩
theorem gLe.tr {a b c : gS} (h : gLe a b) (k : gLe b c) : gLe a c := ⟨Nat.le_trans h.1 k.1, Nat.le_trans h.2 k.2⟩
theorem gLe.set {hp : gS} {h : Nat} {e : gE} : gLe hp (gset hp h e) := ⟨Nat.le_refl _, Nat.le_refl _⟩
theorem gLe.new {hp : gS} {e : gE} {c n : Nat} : gLe hp (gnew hp e c n) := ⟨Nat.le_add_right _ _, Nat.le_add_right _ _⟩
theorem gLe.pay {hp : gS} {c n : Nat} : gLe hp (gpay hp c n) := ⟨Nat.le_add_right _ _, Nat.le_add_right _ _⟩
def gMon (hp : gS) (act : gA) : Prop := match act with
  | .inl (_, _, hp') => gLe hp hp'
  | .inr (.inl (_, _, _, hp')) => gLe hp hp'
  | .inr (.inr (.inl (_, hp'))) => gLe hp hp'
  | .inr (.inr (.inr (.inl _))) => True
  | .inr (.inr (.inr (.inr (_, _, hp')))) => gLe hp hp'
theorem gcopy_mono {hp : gS} {a b : Value} {sp dp n : Int32} {hp' : gS} (h : gcopy hp a b sp dp n = some (.inl hp')) : gLe hp hp' := by
  unfold gcopy at h
  repeat' split at h
  all_goals first | (cases h; done) | (cases h; exact gLe.set)
set_option maxHeartbeats 4000000 in
theorem gsem_mono {K : gK} {i : gI} {ls : gL} {st : List Value} {hp : gS} {act : gA} (h : gsem K i ls st hp = some act) : gMon hp act := by
  obtain ⟨pc, ins, a, b, c, sw⟩ := i
  unfold gsem at h
  dsimp only at h
  split at h
  all_goals try unfold gldi at h
  all_goals try unfold gldl at h
  all_goals try unfold glda at h
  all_goals try unfold gsti at h
  all_goals try unfold gstl at h
  all_goals try unfold gsta at h
  all_goals try unfold gvm at h
  all_goals repeat' split at h
  all_goals first | (cases h; done) | (cases h; first | exact gLe.rf | exact gLe.set | exact gLe.new | exact gLe.pay | exact trivial) | (cases h; rename_i e; exact gcopy_mono e) | skip
