/-! ===== THE PURE MACHINE: cells by handle (16 and on; 0 .. 15 are the constants), a step's act, a run by fuel and by depth of calls ===== -/
abbrev gE : Type := (FieldType × vp_A) ⊕ (Nat × List Value)
/-- cells; how many cells and slots are used -/
abbrev gS : Type := List gE × Nat × Nat
abbrev gL : Type := List (Option Value)
/-- place, instruction, three numbers, a list (a switch's keys) -/
abbrev gI : Type := Nat × Instr × Nat × Nat × Nat × List (Int32 × Nat)
/-- the script: its length, its numbers -/
abbrev gK : Type := Nat × (Nat → Int32)
/-- next; jump; return; call (method, arguments, the stack below); throw (class, handle, cells) -/
abbrev gA : Type := (gL × List Value × gS) ⊕ (Nat × gL × List Value × gS) ⊕ (Option Value × gS) ⊕ (Nat × List Value × List Value) ⊕ (Nat × Nat × gS)
abbrev gN (ls : gL) (st : List Value) (hp : gS) : Option gA := some (.inl (ls, st, hp))
abbrev gJ (lab : Nat) (ls : gL) (st : List Value) (hp : gS) : Option gA := some (.inr (.inl (lab, ls, st, hp)))
abbrev gR (v : Option Value) (hp : gS) : Option gA := some (.inr (.inr (.inl (v, hp))))
abbrev gC (mi : Nat) (as st : List Value) : Option gA := some (.inr (.inr (.inr (.inl (mi, as, st)))))
abbrev gT (ci h : Nat) (hp : gS) : Option gA := some (.inr (.inr (.inr (.inr (ci, h, hp)))))
-- cells
abbrev gaI (ty : FieldType) (n : Nat) (f : Nat → Int32) : gE := .inl (ty, n, .inl f)
abbrev gaL (n : Nat) (f : Nat → Int64) : gE := .inl (.long, n, .inr (.inl f))
abbrev gaQ (C : String) (n : Nat) (f : Nat → Option Nat) : gE := .inl (.object C, n, .inr (.inr (.inr (.inr f))))
abbrev gob (ci : Nat) (fs : List Value) : gE := .inr (ci, fs)
def gget (hp : gS) (h : Nat) : Option gE := if h < 16 then none else hp.1[h - 16]?
def gset (hp : gS) (h : Nat) (e : gE) : gS := (hp.1.set (h - 16) e, hp.2)
def gcap1 : Nat := 1200000
def gcap2 : Nat := 5490000
/-- a new cell, of c cells and n slots in the room -/
def gnew (hp : gS) (e : gE) (c n : Nat) : gS := (hp.1 ++ [e], hp.2.1 + c, hp.2.2 + n)
def gfit (hp : gS) (c n : Nat) : Bool := decide (hp.2.1 + c ≤ gcap1) && decide (hp.2.2 + n ≤ gcap2)
def gnxt (hp : gS) : Nat := 16 + hp.1.length
-- locals
def glong : Option Value → Bool
  | some (.long _) => true
  | _ => false
/-- what stands a place below a stored one is lost when it is of two words -/
def gcut (ls : gL) (k : Nat) : gL := match k with
  | 0 => ls
  | j + 1 => if glong (ls.getD j none) then ls.set j none else ls
def gsto1 (ls : gL) (k : Nat) (v : Value) : gL := (gcut ls k).set k (some v)
def gsto2 (ls : gL) (k : Nat) (v : Value) : gL := ((gcut ls k).set k (some v)).set (k + 1) none
def gcat : Value → Nat
  | .long _ => 2
  | _ => 1
def gdep (st : List Value) : Nat := (st.map gcat).sum
-- groups of classes: which receivers a site has
def ggrp (g ci : Nat) : Bool := match g with
  | 30 => decide (8 ≤ ci) && decide (ci ≤ 14)
  | 31 => decide (ci = 9) || decide (ci = 12)
  | 32 => decide (ci = 10) || decide (ci = 13)
  | 33 => decide (ci = 11) || decide (ci = 14)
  | 34 => decide (18 ≤ ci) && decide (ci ≤ 20)
  | 36 => decide (8 ≤ ci) && decide (ci ≤ 14)
  | 90 => false
  | _ => decide (ci = g)
/-- a new object's fields -/
def gdef (ci : Nat) : List Value := match ci with
  | 0 => [.null, .null, .null, .null, .null, .int 0, .int 0, .null, .null, .null, .null, .null, .null, .null, .null, .null, .null, .int 0, .int 0, .int 0, .null, .null, .null, .null, .null, .null, .null, .null, .null, .null, .null, .int 0, .int 0, .int 0, .null]
  | 1 => [.null, .null, .null, .null, .null, .int 0, .int 0, .int 0, .int 0]
  | 2 => [.null, .int 0, .int 0]
  | 3 => [.int 0, .null, .int 0]
  | 4 => [.int 0, .int 0, .int 0, .int 0, .int 0, .int 0]
  | 5 => [.null, .int 0]
  | 6 => [.null]
  | 7 => [.null, .null, .null, .int 0, .null, .int 0, .null, .null, .int 0, .null, .int 0, .int 0, .int 0, .int 0, .int 0, .int 0, .null, .null, .null, .null, .null, .null, .null, .null, .int 0, .null, .null, .null, .null]
  | 14 => [.null, .int 0, .int 0, .null]
  | 15 => [.null, .int 0, .int 0, .int 0, .null]
  | 16 => [.null, .null, .null, .null, .null, .int 0, .int 0]
  | 17 => [.int 0, .null]
  | 18 => [.int 0, .null]
  | 19 => [.null]
  | 20 => [.int 0, .int 0, .int 0]
  | _ => [.null, .int 0, .int 0]
/-- an array of references: its elements' class, by number -/
def gcn (k : Nat) : String := match k with
  | 0 => "GeeseKeys$Goose"
  | 1 => "GeeseKeys$Tape"
  | _ => "java/lang/Object"
/-- the number of an array's kind -/
def gatag (ty : FieldType) : Nat := match ty with
  | .byte => 100
  | .short => 101
  | .int => 102
  | .long => 103
  | .boolean => 104
  | .char => 105
  | .object C => if C = "java/lang/Object" then 110 else 111
  | _ => 112
def gtag (e : gE) : Nat := match e with
  | .inl a => gatag a.1
  | .inr o => o.1
/-- is a thing of kind t one of kind w (40 Test, 41 Object, 8 Goose ..) -/
def gsub (t w : Nat) : Bool := match w with
  | 8 => decide (8 ≤ t) && decide (t ≤ 14)
  | 9 => decide (t = 9) || decide (t = 12)
  | 10 => decide (t = 10) || decide (t = 13)
  | 11 => decide (t = 11) || decide (t = 14)
  | 40 => decide (18 ≤ t) && decide (t ≤ 20)
  | 41 => true
  | _ => decide (t = w)
/-- kinds whose casts the tables settle -/
def gsubOk (t w : Nat) : Bool := match w with
  | 8 => decide (8 ≤ t) && decide (t ≤ 14)
  | 9 => decide (8 ≤ t) && decide (t ≤ 14)
  | 10 => decide (8 ≤ t) && decide (t ≤ 14)
  | 11 => decide (8 ≤ t) && decide (t ≤ 14)
  | 12 => decide (8 ≤ t) && decide (t ≤ 14)
  | 13 => decide (8 ≤ t) && decide (t ≤ 14)
  | 14 => decide (8 ≤ t) && decide (t ≤ 14)
  | 17 => decide (t = 17)
  | 40 => decide (18 ≤ t) && decide (t ≤ 20)
  | 100 => decide (100 ≤ t) && decide (t ≤ 104)
  | 101 => decide (100 ≤ t) && decide (t ≤ 104)
  | 102 => decide (100 ≤ t) && decide (t ≤ 104)
  | 103 => decide (100 ≤ t) && decide (t ≤ 104)
  | 104 => decide (100 ≤ t) && decide (t ≤ 104)
  | 110 => decide (t = 110)
  | _ => false
/-- may an object of class ci stand in an array over C -/
def gel (ci : Nat) (C : String) : Bool := if C = "java/lang/Object" then decide (ci = 17) || (decide (18 ≤ ci) && decide (ci ≤ 20)) else if C = "GeeseKeys$Goose" then decide (8 ≤ ci) && decide (ci ≤ 14) else decide (ci = 6) && decide (C = "GeeseKeys$Tape")
/-- virtual slots: 0 kind, 1 feels, 2 honks, 3 struts, 4 tells, 5 holds -/
def gvt (v ci : Nat) : Option Nat := match v with
  | 0 => match ci with | 8 => some 200 | 9 => some 201 | 10 => some 202 | 11 => some 203 | 12 => some 204 | 13 => some 205 | 14 => some 206 | _ => none
  | 1 => match ci with | 8 => some 210 | 9 => some 211 | 10 => some 212 | 11 => some 213 | 12 => some 214 | 13 => some 215 | 14 => some 216 | _ => none
  | 2 => match ci with | 8 => some 220 | 9 => some 220 | 10 => some 222 | 11 => some 220 | 12 => some 224 | 13 => some 222 | 14 => some 226 | _ => none
  | 3 => match ci with | 8 => some 230 | 9 => some 231 | 10 => some 230 | 11 => some 230 | 12 => some 234 | 13 => some 230 | 14 => some 236 | _ => none
  | 4 => match ci with | 8 => some 240 | 9 => some 240 | 10 => some 240 | 11 => some 243 | 12 => some 240 | 13 => some 245 | 14 => some 243 | _ => none
  | 5 => match ci with | 18 => some 250 | 19 => some 251 | 20 => some 252 | _ => none
  | _ => none
/-- a switch: the first key that is x -/
def gsw (x : Int32) (d : Nat) : List (Int32 × Nat) → Nat
  | [] => d
  | (k, t) :: r => if x = k then t else gsw x d r
def gic (c : ClassFile.Cond) (x y : Int32) : Bool := match c with
  | .eq => decide (x = y)
  | .ne => decide (x ≠ y)
  | .lt => decide (x < y)
  | .ge => decide (y ≤ x)
  | .gt => decide (y < x)
  | .le => decide (x ≤ y)
/-- what a native copy of n elements owes of the elements that are references -/
def gcpOk (hp : gS) (f : Nat → Option Nat) (C : String) (sp : Nat) : Nat → Bool
  | 0 => true
  | n + 1 => gcpOk hp f C sp n && (match f (sp + n) with
    | none => true
    | some h => match gget hp h with
      | some (.inr o) => gel o.1 C
      | _ => false)
/-- a machine's own throw: class, cells, slots; the thing thrown is no cell of ours: the handle 10 -/
def gpay (hp : gS) (c n : Nat) : gS := (hp.1, hp.2.1 + c, hp.2.2 + n)
def gvm (ci c n : Nat) (hp : gS) : Option gA := if gfit hp c n then gT ci 10 (gpay hp c n) else none
def garr (ty : ArrayType) (n : Nat) : Option gE := match ty with
  | .boolean => some (gaI .boolean n fun _ => 0)
  | .char => some (gaI .char n fun _ => 0)
  | .byte => some (gaI .byte n fun _ => 0)
  | .short => some (gaI .short n fun _ => 0)
  | .int => some (gaI .int n fun _ => 0)
  | .long => some (gaL n fun _ => 0)
  | _ => none
/-- may v stand in a field of kind t: 0 int, 1 boolean, 2 reference -/
def gfv (t : Nat) (v : Value) : Bool := match t, v with
  | 0, .int _ => true
  | 1, .int x => decide (x = 0) || decide (x = 1)
  | 2, .ref _ => true
  | 2, .null => true
  | _, _ => false
/-- may x be answered by a method of kind t: 0 int, 1 boolean, 2 byte, 3 char -/
def grt (t : Nat) (x : Int32) : Bool := match t with
  | 0 => true
  | 1 => decide (x = 0) || decide (x = 1)
  | 2 => decide (x.toInt8.toInt32 = x)
  | _ => decide ((x.toUInt32 % 65536).toInt32 = x)
/-- System.arraycopy -/
def gcopy (hp : gS) (a b : Value) (sp dp n : Int32) : Option (gS ⊕ Nat) := match a, b with
  | .null, _ => some (.inr 23)
  | _, .null => some (.inr 23)
  | .ref h0, .ref h1 => match gget hp h0, gget hp h1 with
    | some (.inl (t0, n0, .inl f)), some (.inl (t1, n1, .inl g)) =>
      if t0 = t1 then if 0 ≤ sp ∧ 0 ≤ dp ∧ 0 ≤ n ∧ sp.toNatClampNeg + n.toNatClampNeg ≤ n0 ∧ dp.toNatClampNeg + n.toNatClampNeg ≤ n1 then some (.inl (gset hp h1 (.inl (t1, n1, .inl (va_cpy f g sp.toNatClampNeg dp.toNatClampNeg n.toNatClampNeg))))) else some (.inr 26) else some (.inr 25)
    | some (.inl (t0, n0, .inr (.inl f))), some (.inl (t1, n1, .inr (.inl g))) =>
      if 0 ≤ sp ∧ 0 ≤ dp ∧ 0 ≤ n ∧ sp.toNatClampNeg + n.toNatClampNeg ≤ n0 ∧ dp.toNatClampNeg + n.toNatClampNeg ≤ n1 then some (.inl (gset hp h1 (.inl (t1, n1, .inr (.inl (va_cpy f g sp.toNatClampNeg dp.toNatClampNeg n.toNatClampNeg)))))) else some (.inr 26)
    | some (.inl (_, _, .inl _)), some (.inl (_, _, .inr (.inl _))) => some (.inr 25)
    | some (.inl (_, _, .inr (.inl _))), some (.inl (_, _, .inl _)) => some (.inr 25)
    | some (.inl (.object _, n0, .inr (.inr (.inr (.inr f))))), some (.inl (.object C, n1, .inr (.inr (.inr (.inr g))))) =>
      if 0 ≤ sp ∧ 0 ≤ dp ∧ 0 ≤ n ∧ sp.toNatClampNeg + n.toNatClampNeg ≤ n0 ∧ dp.toNatClampNeg + n.toNatClampNeg ≤ n1 ∧ gcpOk hp f C sp.toNatClampNeg n.toNatClampNeg = true then some (.inl (gset hp h1 (gaQ C n1 (va_cpy f g sp.toNatClampNeg dp.toNatClampNeg n.toNatClampNeg)))) else none
    | _, _ => none
  | _, _ => none
/-- the constants' lengths and bytes: the script, ArrayList's empty array, three texts -/
def gcbyt (h : Nat) : List Int32 := match h with
  | 5 => [108, 117, 114, 101, 32]
  | 6 => [115, 99, 97, 114, 101, 32]
  | 7 => [101, 97, 116, 32]
  | _ => []
def gclen (K : gK) (h : Nat) : Option Nat := match h with
  | 0 => some K.1
  | 1 => some 0
  | 5 => some 5
  | 6 => some 6
  | 7 => some 4
  | _ => none
def gix (i : Int32) (n : Nat) : Option Nat := if i < 0 ∨ n ≤ i.toNatClampNeg then none else some i.toNatClampNeg
def gldi (ls : gL) (k : Nat) (st : List Value) (hp : gS) : Option gA := match ls[k]? with
  | some (some (.int x)) => gN ls (.int x :: st) hp
  | _ => none
def gldl (ls : gL) (k : Nat) (st : List Value) (hp : gS) : Option gA := match ls[k]? with
  | some (some (.long x)) => gN ls (.long x :: st) hp
  | _ => none
def glda (ls : gL) (k : Nat) (st : List Value) (hp : gS) : Option gA := match ls[k]? with
  | some (some (.ref x)) => gN ls (.ref x :: st) hp
  | some (some .null) => gN ls (.null :: st) hp
  | _ => none
def gsti (ls : gL) (k : Nat) (st : List Value) (hp : gS) : Option gA := match st with
  | .int x :: r => if k < ls.length then gN (gsto1 ls k (.int x)) r hp else none
  | _ => none
def gstl (ls : gL) (k : Nat) (st : List Value) (hp : gS) : Option gA := match st with
  | .long x :: r => if k + 1 < ls.length then gN (gsto2 ls k (.long x)) r hp else none
  | _ => none
def gsta (ls : gL) (k : Nat) (st : List Value) (hp : gS) : Option gA := match st with
  | .ref x :: r => if k < ls.length then gN (gsto1 ls k (.ref x)) r hp else none
  | .null :: r => if k < ls.length then gN (gsto1 ls k .null) r hp else none
  | _ => none
/-- a call by number: 1000 + v is the virtual slot v -/
def gtgt (a : Nat) (ci : Nat) (g : Nat) : Option Nat := if ggrp g ci then (if a < 1000 then some a else gvt (a - 1000) ci) else none
noncomputable def gsem (K : gK) (i : gI) (ls : gL) (st : List Value) (hp : gS) : Option gA :=
  let a := i.2.2.1
  let b := i.2.2.2.1
  let c := i.2.2.2.2.1
  match i.2.1 with
  | .iload_n k => gldi ls k st hp
  | .iload k => gldi ls k st hp
  | .lload_n k => gldl ls k st hp
  | .lload k => gldl ls k st hp
  | .aload_n k => glda ls k st hp
  | .aload k => glda ls k st hp
  | .istore_n k => gsti ls k st hp
  | .istore k => gsti ls k st hp
  | .lstore_n k => gstl ls k st hp
  | .lstore k => gstl ls k st hp
  | .astore_n k => gsta ls k st hp
  | .astore k => gsta ls k st hp
  | .iinc k n => match ls[k]? with
    | some (some (.int x)) => gN (gsto1 ls k (.int (x + Int32.ofInt n))) st hp
    | _ => none
  | .iconst n => gN ls (.int (Int32.ofInt n) :: st) hp
  | .bipush n => gN ls (.int (Int8.ofInt n).toInt32 :: st) hp
  | .sipush n => gN ls (.int (Int16.ofInt n).toInt32 :: st) hp
  | .lconst n => gN ls (.long (Int64.ofNat n) :: st) hp
  | .aconst_null => gN ls (.null :: st) hp
  | .ldc _ => match a with
    | 0 => gN ls (.int (Int32.ofNat b) :: st) hp
    | 1 => if b < 3 then gN ls (.ref (2 + b) :: st) hp else none
    | _ => gN ls (.ref 8 :: st) hp
  | .ldc2_w _ => gN ls (.long (Int64.ofNat b) :: st) hp
  | .iadd => match st with
    | .int y :: .int x :: r => gN ls (.int (x + y) :: r) hp
    | _ => none
  | .isub => match st with
    | .int y :: .int x :: r => gN ls (.int (x - y) :: r) hp
    | _ => none
  | .imul => match st with
    | .int y :: .int x :: r => gN ls (.int (x * y) :: r) hp
    | _ => none
  | .iand => match st with
    | .int y :: .int x :: r => gN ls (.int (x &&& y) :: r) hp
    | _ => none
  | .ior => match st with
    | .int y :: .int x :: r => gN ls (.int (x ||| y) :: r) hp
    | _ => none
  | .ixor => match st with
    | .int y :: .int x :: r => gN ls (.int (x ^^^ y) :: r) hp
    | _ => none
  | .idiv => match st with
    | .int y :: .int x :: r => if y = 0 then none else gN ls (.int (x / y) :: r) hp
    | _ => none
  | .irem => match st with
    | .int y :: .int x :: r => if y = 0 then none else gN ls (.int (x - x / y * y) :: r) hp
    | _ => none
  | .ineg => match st with
    | .int x :: r => gN ls (.int (-x) :: r) hp
    | _ => none
  | .ishl => match st with
    | .int y :: .int x :: r => gN ls (.int (x <<< (y &&& 31)) :: r) hp
    | _ => none
  | .ishr => match st with
    | .int y :: .int x :: r => gN ls (.int (x >>> (y &&& 31)) :: r) hp
    | _ => none
  | .ladd => match st with
    | .long y :: .long x :: r => gN ls (.long (x + y) :: r) hp
    | _ => none
  | .land => match st with
    | .long y :: .long x :: r => gN ls (.long (x &&& y) :: r) hp
    | _ => none
  | .lor => match st with
    | .long y :: .long x :: r => gN ls (.long (x ||| y) :: r) hp
    | _ => none
  | .ldiv => match st with
    | .long y :: .long x :: r => if y = 0 then none else gN ls (.long (x / y) :: r) hp
    | _ => none
  | .lrem => match st with
    | .long y :: .long x :: r => if y = 0 then none else gN ls (.long (x - x / y * y) :: r) hp
    | _ => none
  | .lshl => match st with
    | .int y :: .long x :: r => gN ls (.long (x <<< (y.toInt64 &&& 63)) :: r) hp
    | _ => none
  | .lcmp => match st with
    | .long y :: .long x :: r => gN ls (.int (if x < y then -1 else if x = y then 0 else 1) :: r) hp
    | _ => none
  | .i2l => match st with
    | .int x :: r => gN ls (.long x.toInt64 :: r) hp
    | _ => none
  | .l2i => match st with
    | .long x :: r => gN ls (.int x.toInt32 :: r) hp
    | _ => none
  | .i2b => match st with
    | .int x :: r => gN ls (.int x.toInt8.toInt32 :: r) hp
    | _ => none
  | .i2s => match st with
    | .int x :: r => gN ls (.int x.toInt16.toInt32 :: r) hp
    | _ => none
  | .i2c => match st with
    | .int x :: r => gN ls (.int (x.toUInt32 % 65536).toInt32 :: r) hp
    | _ => none
  | .dup => match st with
    | v :: r => if gcat v = 1 then gN ls (v :: v :: r) hp else none
    | _ => none
  | .dup_x1 => match st with
    | v :: w :: r => if gcat v = 1 ∧ gcat w = 1 then gN ls (v :: w :: v :: r) hp else none
    | _ => none
  | .dup2 => match st with
    | v :: w :: r => if gcat v = 1 ∧ gcat w = 1 then gN ls (v :: w :: v :: w :: r) hp else none
    | _ => none
  | .pop => match st with
    | v :: r => if gcat v = 1 then gN ls r hp else none
    | _ => none
  | .goto _ => gJ a ls st hp
  | .nop => gJ a ls st hp
  | .ifCond d _ => match st with
    | .int x :: r => if gic d x 0 then gJ a ls r hp else gN ls r hp
    | _ => none
  | .if_icmp d _ => match st with
    | .int y :: .int x :: r => if gic d x y then gJ a ls r hp else gN ls r hp
    | _ => none
  | .ifnull _ => match st with
    | .null :: r => gJ a ls r hp
    | .ref h :: r => if 16 ≤ h then gN ls r hp else none
    | _ => none
  | .ifnonnull _ => match st with
    | .null :: r => gN ls r hp
    | .ref h :: r => if 16 ≤ h then gJ a ls r hp else none
    | _ => none
  | .if_acmp d _ => match st with
    | .ref y :: .ref x :: r => if (x = 1 ∨ x = 8 ∨ 16 ≤ x) ∧ (y = x ∨ (16 ≤ x ∧ (y = 1 ∨ 16 ≤ y))) then (match d with
        | .eq => if x = y then gJ a ls r hp else gN ls r hp
        | .ne => if x = y then gN ls r hp else gJ a ls r hp) else none
    | _ => none
  | .tableswitch _ _ _ _ => match st with
    | .int x :: r => gJ (gsw x a i.2.2.2.2.2) ls r hp
    | _ => none
  | .lookupswitch _ _ => match st with
    | .int x :: r => gJ (gsw x a i.2.2.2.2.2) ls r hp
    | _ => none
  | .ireturn => match st with
    | [.int x] => if grt a x then gR (some (.int x)) hp else none
    | _ => none
  | .lreturn => match st with
    | [.long x] => gR (some (.long x)) hp
    | _ => none
  | .areturn => match st with
    | [.ref x] => gR (some (.ref x)) hp
    | [.null] => gR (some .null) hp
    | _ => none
  | .return_ => match st with
    | [] => gR none hp
    | _ => none
  | .athrow => match st with
    | .ref h :: _ => match gget hp h with
      | some (.inr (21, _)) => gT 21 h hp
      | _ => none
    | _ => none
  | .getfield _ => match st with
    | .ref h :: r => if h < 16 then (if 2 ≤ h ∧ h ≤ 4 ∧ b = 90 then (if a = 0 then gN ls (.ref (h + 3) :: r) hp else gN ls (.int 0 :: r) hp) else none) else match gget hp h with
      | some (.inr o) => if ggrp b o.1 then (match o.2[a]? with
        | some v => gN ls (v :: r) hp
        | none => none) else none
      | _ => none
    | _ => none
  | .putfield _ => match st with
    | v :: .ref h :: r => match gget hp h with
      | some (.inr o) => if ggrp b o.1 && (gfv c v && decide (a < o.2.length)) then gN ls r (gset hp h (gob o.1 (o.2.set a v))) else none
      | _ => none
    | _ => none
  | .getstatic _ => match a with
    | 0 => gN ls (.ref 1 :: st) hp
    | 1 => gN ls (.int 1 :: st) hp
    | _ => gN ls (.ref 9 :: st) hp
  | .new _ => if gfit hp 1 b then gN ls (.ref (gnxt hp) :: st) (gnew hp (gob a (gdef a)) 1 b) else none
  | .newarray ty => match st with
    | .int n :: r => if n < 0 then (if gdep r ≤ 8 then gvm 24 3 60 hp else none)
      else if n.toNatClampNeg ≤ 1000 then (match garr ty n.toNatClampNeg with
        | some e => if gfit hp 1 n.toNatClampNeg then gN ls (.ref (gnxt hp) :: r) (gnew hp e 1 n.toNatClampNeg) else none
        | none => none) else none
    | _ => none
  | .anewarray _ => match st with
    | .int n :: r => if n < 0 then none else if n.toNatClampNeg ≤ 1000 ∧ gfit hp 1 n.toNatClampNeg = true then gN ls (.ref (gnxt hp) :: r) (gnew hp (gaQ (gcn a) n.toNatClampNeg fun _ => none) 1 n.toNatClampNeg) else none
    | _ => none
  | .arraylength => match st with
    | .ref h :: r => if h < 16 then (match gclen K h with
        | some n => gN ls (.int (Int32.ofNat n) :: r) hp
        | none => none) else match gget hp h with
      | some (.inl x) => gN ls (.int (Int32.ofNat x.2.1) :: r) hp
      | _ => none
    | .null :: r => if a = 1 ∧ gdep r ≤ 8 then gvm 23 1 200 hp else none
    | _ => none
  | .iaload => match st with
    | .int j :: .ref h :: r => if h < 16 then (if h = 0 then (match gix j K.1 with
        | some k => gN ls (.int (K.2 k) :: r) hp
        | none => none) else none) else match gget hp h with
      | some (.inl (.int, n, .inl f)) => match gix j n with
        | some k => gN ls (.int (f k) :: r) hp
        | none => none
      | _ => none
    | _ => none
  | .baload => match st with
    | .int j :: .ref h :: r => if h < 16 then (match gix j (gcbyt h).length with
        | some k => gN ls (.int ((gcbyt h).getD k 0) :: r) hp
        | none => none) else match gget hp h with
      | some (.inl (.byte, n, .inl f)) => match gix j n with
        | some k => gN ls (.int (f k) :: r) hp
        | none => none
      | some (.inl (.boolean, n, .inl f)) => match gix j n with
        | some k => gN ls (.int (f k) :: r) hp
        | none => none
      | _ => none
    | _ => none
  | .caload => match st with
    | .int j :: .ref h :: r => match gget hp h with
      | some (.inl (.char, n, .inl f)) => match gix j n with
        | some k => gN ls (.int (f k) :: r) hp
        | none => none
      | _ => none
    | _ => none
  | .saload => match st with
    | .int j :: .ref h :: r => match gget hp h with
      | some (.inl (.short, n, .inl f)) => match gix j n with
        | some k => gN ls (.int (f k) :: r) hp
        | none => none
      | _ => none
    | _ => none
  | .laload => match st with
    | .int j :: .ref h :: r => match gget hp h with
      | some (.inl (.long, n, .inr (.inl f))) => match gix j n with
        | some k => gN ls (.long (f k) :: r) hp
        | none => none
      | _ => none
    | _ => none
  | .aaload => match st with
    | .int j :: .ref h :: r => match gget hp h with
      | some (.inl (.object _, n, .inr (.inr (.inr (.inr f))))) => match gix j n with
        | some k => gN ls (va_rf (f k) :: r) hp
        | none => none
      | _ => none
    | _ => none
  | .iastore => match st with
    | .int x :: .int j :: .ref h :: r => match gget hp h with
      | some (.inl (.int, n, .inl f)) => match gix j n with
        | some k => gN ls r (gset hp h (gaI .int n (upd f k x)))
        | none => none
      | _ => none
    | _ => none
  | .bastore => match st with
    | .int x :: .int j :: .ref h :: r => match gget hp h with
      | some (.inl (.byte, n, .inl f)) => match gix j n with
        | some k => gN ls r (gset hp h (gaI .byte n (upd f k x.toInt8.toInt32)))
        | none => none
      | some (.inl (.boolean, n, .inl f)) => match gix j n with
        | some k => gN ls r (gset hp h (gaI .boolean n (upd f k (x &&& 1))))
        | none => none
      | _ => none
    | _ => none
  | .castore => match st with
    | .int x :: .int j :: .ref h :: r => match gget hp h with
      | some (.inl (.char, n, .inl f)) => match gix j n with
        | some k => gN ls r (gset hp h (gaI .char n (upd f k (x.toUInt32 % 65536).toInt32)))
        | none => none
      | _ => none
    | _ => none
  | .sastore => match st with
    | .int x :: .int j :: .ref h :: r => match gget hp h with
      | some (.inl (.short, n, .inl f)) => match gix j n with
        | some k => gN ls r (gset hp h (gaI .short n (upd f k x.toInt16.toInt32)))
        | none => none
      | _ => none
    | _ => none
  | .lastore => match st with
    | .long x :: .int j :: .ref h :: r => match gget hp h with
      | some (.inl (.long, n, .inr (.inl f))) => match gix j n with
        | some k => gN ls r (gset hp h (gaL n (vp_updL f k x)))
        | none => none
      | _ => none
    | _ => none
  | .aastore => match st with
    | .ref v :: .int j :: .ref h :: r => match gget hp h, gget hp v with
      | some (.inl (.object C, n, .inr (.inr (.inr (.inr f))))), some (.inr o) => if gel o.1 C then (match gix j n with
        | some k => gN ls r (gset hp h (gaQ C n (va_up f k (some v))))
        | none => none) else none
      | _, _ => none
    | _ => none
  | .checkcast _ => match st with
    | .null :: r => gN ls (.null :: r) hp
    | .ref h :: r => match gget hp h with
      | some e => if gsubOk (gtag e) a then (if gsub (gtag e) a then gN ls (.ref h :: r) hp else if b = 1 ∧ gdep r ≤ 8 then gvm 22 3 1000 hp else none) else none
      | none => none
    | _ => none
  | .instanceof _ => match st with
    | .null :: r => gN ls (.int 0 :: r) hp
    | .ref h :: r => match gget hp h with
      | some e => if gsubOk (gtag e) a then gN ls (.int (if gsub (gtag e) a then 1 else 0) :: r) hp else none
      | none => none
    | _ => none
  | .invokestatic _ => match c with
    | 0 => if gdep (st.drop b) ≤ 8 ∧ b ≤ st.length then gC a (st.take b).reverse (st.drop b) else none
    | 1 => match st with
      | .int n :: .int dp :: q :: .int sp :: p :: r => if gdep r ≤ 8 then (match gcopy hp p q sp dp n with
        | some (.inl hp') => gN ls r hp'
        | some (.inr x) => if b = 1 then gvm x 3 1000 hp else none
        | none => none) else none
      | _ => none
    | 2 => match st with
      | .int y :: .int x :: r => if gdep r ≤ 8 then gN ls (.int (if x < y then y else x) :: r) hp else none
      | _ => none
    | _ => match st with
      | .int y :: .int x :: r => if gdep r ≤ 8 then gN ls (.int (if y < x then y else x) :: r) hp else none
      | _ => none
  | .invokespecial _ => match c with
    | 0 => match st.drop b with
      | .ref h :: r => if gdep r ≤ 8 ∧ b ≤ st.length then (match gget hp h with
        | some (.inr _) => gC a (.ref h :: (st.take b).reverse) r
        | _ => none) else none
      | _ => none
    | 1 => match st with
      | .ref h :: r => if gdep r ≤ 8 ∧ 16 ≤ h then gN ls r hp else none
      | _ => none
    | _ => match st with
      | .ref h :: r => match gget hp h with
        | some (.inr (16, _)) => if gdep r ≤ 8 then gN ls r (gset hp h (gob 21 [.int 0])) else none
        | _ => none
      | _ => none
  | .invokevirtual _ => if c < 1000 then (match st.drop b with
      | .ref h :: r => if gdep r ≤ 8 ∧ b ≤ st.length then (if h < 16 then (if 2 ≤ h ∧ h ≤ 4 ∧ c = 90 then gC a (.ref h :: (st.take b).reverse) r else none) else match gget hp h with
        | some (.inr o) => match gtgt a o.1 c with
          | some y => gC y (.ref h :: (st.take b).reverse) r
          | none => none
        | _ => none) else none
      | .null :: r => if (c = 36 ∧ a = 1000) ∧ gdep r ≤ 8 then gvm 23 1 200 hp else none
      | _ => none) else match st with
      | .ref h :: r => match gget hp h with
        | some (.inl (.object C, _, _)) => if C = "java/lang/Object" ∧ gdep r ≤ 8 then gN ls (.ref 8 :: r) hp else none
        | _ => none
      | _ => none
  | _ => none
