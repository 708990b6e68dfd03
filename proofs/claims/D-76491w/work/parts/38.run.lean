/-! ===== A RUN of the pure machine, by fuel n and by depth of calls d; 'wp': it ends, and Q holds of what it answers ===== -/
def gargs : List Value → gL
  | [] => []
  | .long x :: r => some (.long x) :: none :: gargs r
  | v :: r => some v :: gargs r
/-- the locals at a method's entry -/
def gent (n : Nat) (as : List Value) : gL := gargs as ++ List.replicate (n - (gargs as).length) none
/-- is a thing of class ci taken by a row of kind t; none: it isn't told -/
def gcat9 (ci t : Nat) : Option Bool := if (ci = t ∧ 20 < ci ∧ ci < 27) ∨ (ci = 26 ∧ t = 27) then some true else if (ci = 21 ∧ t = 23) ∨ (ci = 22 ∧ t = 23) ∨ (ci = 25 ∧ t = 23) ∨ (ci = 26 ∧ t = 23) ∨ (ci = 26 ∧ t = 25) ∨ (ci = 23 ∧ t = 22) then some false else none
/-- where a method goes on that has thrown ci at pc -/
def ghnd (pc ci : Nat) : List (Nat × Nat × Nat × Nat) → Option (Option Nat)
  | [] => some none
  | (s, e, t, h) :: r => if s ≤ pc ∧ pc < e then (match gcat9 ci t with
    | none => none
    | some true => some (some h)
    | some false => ghnd pc ci r) else ghnd pc ci r
abbrev gO : Type := (Option Value ⊕ (Nat × Nat)) × gS
noncomputable def xrun (K : gK) : Nat → Nat → Nat → List gI → gL → List Value → gS → Option gO
  | 0, _, _, _, _, _, _ => none
  | _ + 1, _, _, [], _, _, _ => none
  | n + 1, d, mi, i :: is, ls, st, hp => match gsem K i ls st hp with
    | none => none
    | some (.inl (ls', st', hp')) => xrun K n d mi is ls' st' hp'
    | some (.inr (.inl (lab, ls', st', hp'))) => xrun K n d mi (gP mi lab) ls' st' hp'
    | some (.inr (.inr (.inl (v, hp')))) => some (.inl v, hp')
    | some (.inr (.inr (.inr (.inl (y, as, st'))))) => match d with
      | 0 => none
      | d' + 1 => match (if (gargs as).length ≤ gNL y then xrun K n d' y (gP y 0) (gent (gNL y) as) [] hp else none) with
        | none => none
        | some (.inl v, hp') => xrun K n (d' + 1) mi is ls (v.toList ++ st') hp'
        | some (.inr (ci, h), hp') => match ghnd i.1 ci (gHT mi) with
          | some (some pc) => xrun K n (d' + 1) mi (gP mi pc) ls [.ref h] hp'
          | some none => some (.inr (ci, h), hp')
          | none => none
    | some (.inr (.inr (.inr (.inr (ci, h, hp'))))) => match ghnd i.1 ci (gHT mi) with
      | some (some pc) => xrun K n d mi (gP mi pc) ls [.ref h] hp'
      | some none => some (.inr (ci, h), hp')
      | none => none
theorem xrun_succ {K : gK} : ∀ (n d mi : Nat) (is : List gI) (ls : gL) (st : List Value) (hp : gS) (o : gO), xrun K n d mi is ls st hp = some o → xrun K (n + 1) d mi is ls st hp = some o := by
  intro n
  induction n with
  | zero => intro d mi is ls st hp o h; simp [xrun] at h
  | succ n ih =>
    intro d mi is ls st hp o h
    cases is with
    | nil => simp [xrun] at h
    | cons i is =>
      rw [xrun] at h ⊢
      cases hg : gsem K i ls st hp with
      | none => rw [hg] at h; simp at h
      | some a =>
        rw [hg] at h
        rcases a with ⟨ls', st', hp'⟩ | ⟨lab, ls', st', hp'⟩ | ⟨v, hp'⟩ | ⟨y, as, st'⟩ | ⟨ci, q, hp'⟩
        · exact ih _ _ _ _ _ _ _ h
        · exact ih _ _ _ _ _ _ _ h
        · exact h
        · cases d with
          | zero => simp at h
          | succ d =>
            dsimp only at h ⊢
            by_cases hl : (gargs as).length ≤ gNL y
            · rw [if_pos hl] at h ⊢
              cases hc : xrun K n d y (gP y 0) (gent (gNL y) as) [] hp with
              | none => rw [hc] at h; simp at h
              | some o2 =>
                rw [hc] at h
                rw [ih _ _ _ _ _ _ _ hc]
                rcases o2 with ⟨v | ⟨ci, q⟩, hp'⟩
                · exact ih _ _ _ _ _ _ _ h
                · dsimp only at h ⊢
                  cases hh : ghnd i.1 ci (gHT mi) with
                  | none => rw [hh] at h; exact h
                  | some x => cases x with
                    | none => rw [hh] at h; exact h
                    | some pc => rw [hh] at h; exact ih _ _ _ _ _ _ _ h
            · rw [if_neg hl] at h; simp at h
        · dsimp only at h ⊢
          cases hh : ghnd i.1 ci (gHT mi) with
          | none => rw [hh] at h; exact h
          | some x => cases x with
            | none => rw [hh] at h; exact h
            | some pc => rw [hh] at h; exact ih _ _ _ _ _ _ _ h
theorem xrun_add {K : gK} {n d mi : Nat} {is : List gI} {ls : gL} {st : List Value} {hp : gS} {o : gO} (h : xrun K n d mi is ls st hp = some o) (k : Nat) : xrun K (n + k) d mi is ls st hp = some o := by
  induction k with
  | zero => exact h
  | succ k ih => exact xrun_succ _ _ _ _ _ _ _ _ ih
theorem xrun_le {K : gK} {n m d mi : Nat} {is : List gI} {ls : gL} {st : List Value} {hp : gS} {o : gO} (h : xrun K n d mi is ls st hp = some o) (hm : n ≤ m) : xrun K m d mi is ls st hp = some o := by
  obtain ⟨k, rfl⟩ := Nat.exists_eq_add_of_le hm
  exact xrun_add h k
def wp (K : gK) (d mi : Nat) (is : List gI) (ls : gL) (st : List Value) (hp : gS) (Q : (Option Value ⊕ (Nat × Nat)) → gS → Prop) : Prop := ∃ (n : Nat) (r : Option Value ⊕ (Nat × Nat)) (hp' : gS), xrun K n d mi is ls st hp = some (r, hp') ∧ Q r hp'
/-- a method, from its entry -/
def wpM (K : gK) (d y : Nat) (as : List Value) (hp : gS) (Q : (Option Value ⊕ (Nat × Nat)) → gS → Prop) : Prop := (gargs as).length ≤ gNL y ∧ wp K d y (gP y 0) (gent (gNL y) as) [] hp Q
section WP
variable {K : gK} {d mi : Nat} {i : gI} {is : List gI} {ls ls' : gL} {st st' : List Value} {hp hp' : gS} {Q : (Option Value ⊕ (Nat × Nat)) → gS → Prop}
theorem wp_nil : wp K d mi [] ls st hp Q ↔ False := by
  constructor
  · rintro ⟨n, r, h', h, -⟩
    cases n <;> simp [xrun] at h
  · exact False.elim
theorem wp_next (h : gsem K i ls st hp = gN ls' st' hp') : wp K d mi (i :: is) ls st hp Q ↔ wp K d mi is ls' st' hp' Q := by
  constructor
  · rintro ⟨n, r, h', e, q⟩
    cases n with
    | zero => simp [xrun] at e
    | succ n => rw [xrun, h] at e; exact ⟨n, r, h', e, q⟩
  · rintro ⟨n, r, h', e, q⟩
    exact ⟨n + 1, r, h', by rw [xrun, h]; exact e, q⟩
theorem wp_jump {lab : Nat} (h : gsem K i ls st hp = gJ lab ls' st' hp') : wp K d mi (i :: is) ls st hp Q ↔ wp K d mi (gP mi lab) ls' st' hp' Q := by
  constructor
  · rintro ⟨n, r, h', e, q⟩
    cases n with
    | zero => simp [xrun] at e
    | succ n => rw [xrun, h] at e; exact ⟨n, r, h', e, q⟩
  · rintro ⟨n, r, h', e, q⟩
    exact ⟨n + 1, r, h', by rw [xrun, h]; exact e, q⟩
theorem wp_ret {v : Option Value} (h : gsem K i ls st hp = gR v hp') : wp K d mi (i :: is) ls st hp Q ↔ Q (.inl v) hp' := by
  constructor
  · rintro ⟨n, r, h', e, q⟩
    cases n with
    | zero => simp [xrun] at e
    | succ n => rw [xrun, h] at e; cases e; exact q
  · intro q
    exact ⟨1, .inl v, hp', by rw [xrun, h], q⟩
theorem wp_none (h : gsem K i ls st hp = none) : wp K d mi (i :: is) ls st hp Q ↔ False := by
  constructor
  · rintro ⟨n, r, h', e, q⟩
    cases n with
    | zero => simp [xrun] at e
    | succ n => rw [xrun, h] at e; simp at e
  · exact False.elim
/-- what a throw comes to -/
def wpT (K : gK) (d mi pc ci h : Nat) (ls : gL) (hp : gS) (Q : (Option Value ⊕ (Nat × Nat)) → gS → Prop) : Prop := match ghnd pc ci (gHT mi) with
  | some (some l) => wp K d mi (gP mi l) ls [.ref h] hp Q
  | some none => Q (.inr (ci, h)) hp
  | none => False
theorem wp_thr {ci q : Nat} (h : gsem K i ls st hp = gT ci q hp') : wp K d mi (i :: is) ls st hp Q ↔ wpT K d mi i.1 ci q ls hp' Q := by
  unfold wpT
  constructor
  · rintro ⟨n, r, h', e, q⟩
    cases n with
    | zero => simp [xrun] at e
    | succ n =>
      rw [xrun, h] at e
      dsimp only at e
      cases hh : ghnd i.1 ci (gHT mi) with
      | none => rw [hh] at e; simp at e
      | some x => cases x with
        | none => rw [hh] at e; cases e; exact q
        | some pc => rw [hh] at e; exact ⟨n, r, h', e, q⟩
  · intro e
    cases hh : ghnd i.1 ci (gHT mi) with
    | none => rw [hh] at e; exact e.elim
    | some x => cases x with
      | none => rw [hh] at e; exact ⟨1, _, _, by rw [xrun, h]; dsimp only; rw [hh], e⟩
      | some pc =>
        rw [hh] at e
        obtain ⟨n, r, h', e, q⟩ := e
        exact ⟨n + 1, r, h', by rw [xrun, h]; dsimp only; rw [hh]; exact e, q⟩
/-- behind a call -/
def wpC (K : gK) (d mi pc : Nat) (is : List gI) (ls : gL) (st : List Value) (Q : (Option Value ⊕ (Nat × Nat)) → gS → Prop) : (Option Value ⊕ (Nat × Nat)) → gS → Prop := fun r hp => match r with
  | .inl v => wp K d mi is ls (v.toList ++ st) hp Q
  | .inr x => wpT K d mi pc x.1 x.2 ls hp Q
theorem wpC_v {v : Option Value} {pc : Nat} : wpC K d mi pc is ls st Q (.inl v) hp ↔ wp K d mi is ls (v.toList ++ st) hp Q := Iff.rfl
theorem wpC_x {x : Nat × Nat} {pc : Nat} : wpC K d mi pc is ls st Q (.inr x) hp ↔ wpT K d mi pc x.1 x.2 ls hp Q := Iff.rfl
theorem wp_call {y : Nat} {as : List Value} (h : gsem K i ls st hp = gC y as st') : wp K (d + 1) mi (i :: is) ls st hp Q ↔ wpM K d y as hp (wpC K (d + 1) mi i.1 is ls st' Q) := by
  constructor
  · rintro ⟨n, r, h', e, q⟩
    cases n with
    | zero => simp [xrun] at e
    | succ n =>
      rw [xrun, h] at e
      dsimp only at e
      by_cases hl : (gargs as).length ≤ gNL y
      rotate_left
      · rw [if_neg hl] at e; simp at e
      rw [if_pos hl] at e
      cases hc : xrun K n d y (gP y 0) (gent (gNL y) as) [] hp with
      | none => rw [hc] at e; simp at e
      | some o2 =>
        rw [hc] at e
        rcases o2 with ⟨v | ⟨ci, x⟩, hp2⟩
        · exact ⟨hl, n, _, _, hc, ⟨n, r, h', e, q⟩⟩
        · refine ⟨hl, n, _, _, hc, ?_⟩
          show wpT K (d + 1) mi i.1 ci x ls hp2 Q
          unfold wpT
          dsimp only at e
          cases hh : ghnd i.1 ci (gHT mi) with
          | none => rw [hh] at e; simp at e
          | some x => cases x with
            | none => rw [hh] at e; cases e; exact q
            | some pc => rw [hh] at e; exact ⟨n, r, h', e, q⟩
  · rintro ⟨hl, n, o, hp2, hc, hq⟩
    rcases o with v | ⟨ci, x⟩
    · obtain ⟨n2, r, h', e, q⟩ := hq
      refine ⟨n + n2 + 1, r, h', ?_, q⟩
      rw [xrun, h]
      dsimp only
      rw [if_pos hl, xrun_le hc (Nat.le_add_right n n2)]
      exact xrun_le e (Nat.le_add_left n2 n)
    · have hq : wpT K (d + 1) mi i.1 ci x ls hp2 Q := hq
      unfold wpT at hq
      cases hh : ghnd i.1 ci (gHT mi) with
      | none => rw [hh] at hq; exact hq.elim
      | some x => cases x with
        | none =>
          rw [hh] at hq
          refine ⟨n + 1, _, _, ?_, hq⟩
          rw [xrun, h]
          dsimp only
          rw [if_pos hl, hc]
          dsimp only
          rw [hh]
        | some pc =>
          rw [hh] at hq
          obtain ⟨n2, r, h', e, q⟩ := hq
          refine ⟨n + n2 + 1, r, h', ?_, q⟩
          rw [xrun, h]
          dsimp only
          rw [if_pos hl, xrun_le hc (Nat.le_add_right n n2)]
          dsimp only
          rw [hh]
          exact xrun_le e (Nat.le_add_left n2 n)
theorem wp_mono {Q' : (Option Value ⊕ (Nat × Nat)) → gS → Prop} (h : wp K d mi is ls st hp Q) (hq : ∀ r h', Q r h' → Q' r h') : wp K d mi is ls st hp Q' := by
  obtain ⟨n, r, h', e, q⟩ := h
  exact ⟨n, r, h', e, hq _ _ q⟩
end WP
