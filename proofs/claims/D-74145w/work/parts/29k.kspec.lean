/-! WHAT IS COMPUTED: counters and the whole, in plain terms -/
/-- a counter: P, limit, dense, marks, ranks -/
abbrev kC : Type := Nat × Nat × Bool × List Nat × (Nat → Nat)
def kC.p (C : kC) : Nat := C.1
def kC.l (C : kC) : Nat := C.2.1
def kC.d (C : kC) : Bool := C.2.2.1
def kC.m (C : kC) : List Nat := C.2.2.2.1
def kC.r (C : kC) : Nat → Nat := C.2.2.2.2
def kI (C : kC) : Prop := 4 ≤ C.p ∧ C.p ≤ 8 ∧ 1 ≤ C.l ∧ C.l ≤ 48 ∧ (∀ x, C.r x ≤ 33 - C.p) ∧ (∀ x, 2 ^ C.p ≤ x → C.r x = 0) ∧ (C.d = true → C.m = []) ∧ (∀ m ∈ C.m, m < 2 ^ 32) ∧ ksrt C.m ∧ C.m.length ≤ C.l ∧ (C.d = false → C.r = klay C.p (fun _ => 0) C.m)
def kopen (p l : Nat) : kC := (p, l, false, [], fun _ => 0)
def kraise (C : kC) (m : Nat) : kC := (C.p, C.l, C.d, C.m, krs C.r (kpl m C.p) (krk m C.p))
def kwould (C : kC) (m : Nat) : Bool := if C.d then decide (C.r (kpl m C.p) < krk m C.p) else decide (m ∉ C.m)
def kcomes (C : kC) (m : Nat) : kC := if C.d then kraise C m else if m ∈ C.m then C else (C.p, C.l, decide (C.l < C.m.length + 1), if C.l < C.m.length + 1 then [] else kins m C.m, krs C.r (kpl m C.p) (krk m C.p))
def kdense (C : kC) : kC := (C.p, C.l, true, [], C.r)
def kdrop (C : kC) (m : Nat) : kC := (C.p, C.l, false, C.m.filter (fun x => x ≠ m), klay C.p (fun _ => 0) (C.m.filter (fun x => x ≠ m)))
def kfoldC (C : kC) (q : Nat) : kC := (q, C.l, C.d, C.m, kfold C.p q C.r)
/-- places that have a rank, among the first n -/
def krd (r : Nat → Nat) : Nat → Nat
  | 0 => 0
  | n + 1 => krd r n + if 0 < r n then 1 else 0
def kal (r : Nat → Nat) : Nat → Nat
  | 0 => 0
  | n + 1 => kal r n + 2 ^ (29 - r n)
def kgr (r : Nat → Nat) : Nat → Nat
  | 0 => 0
  | n + 1 => max (kgr r n) (r n)
def kz (C : kC) : Nat := 2 ^ C.p - krd C.r (2 ^ C.p)
def kall (C : kC) : Nat := kal C.r (2 ^ C.p)
def ktbs (p z : Nat) : Nat → Nat
  | 0 => 0
  | n + 1 => ktbs p z n + 1000 * 2 ^ p / (z + 1 + n)
def ktb (p z : Nat) : Nat := ktbs p z (2 ^ p - z)
def kalpha (p : Nat) : Nat := if p = 4 then 673 else if p = 5 then 697 else if p = 6 then 709 else if p = 7 then 715 else 718
def kby (p z : Nat) : Bool := decide (0 < z ∧ ktb p z ≤ 2500 * 2 ^ p)
def khow (p z : Nat) : Nat := if kby p z then 1 else 2
def kgb (p z all : Nat) : Nat := if kby p z then (ktb p z + 500) / 1000 else min 2000000000 (kalpha p * 2 ^ p * 2 ^ p * 2 ^ 29 / (1000 * all))
def kdg (C : kC) : Nat := kgb C.p (kz C) (kall C)
def kguess (C : kC) : Nat := if C.d then kdg C else C.m.length
/-- marks of both -/
def kunion (A B : List Nat) : List Nat := B.foldl (fun A m => if m ∈ A then A else kins m A) A
def kjp (Cs : List kC) : Nat := Cs.foldl (fun a C => min a C.p) 8
def kjl (Cs : List kC) : Nat := Cs.foldl (fun a C => min a C.l) 48
def kjd (Cs : List kC) : Bool := Cs.any (fun C => C.d)
def kjm (Cs : List kC) : List Nat := Cs.foldl (fun A C => kunion A C.m) []
def kjr (P : Nat) (Cs : List kC) : Nat → Nat := Cs.foldl (fun r C => fun y => max (r y) (kfold C.p P C.r y)) (fun _ => 0)
def kjoin (Cs : List kC) : kC := (kjp Cs, kjl Cs, kjd Cs || decide (kjl Cs < (kjm Cs).length), if kjd Cs || decide (kjl Cs < (kjm Cs).length) then [] else kjm Cs, kjr (kjp Cs) Cs)
/-- marks coming one behind another: the counter and how many changed it -/
def krn (f : Nat → Nat) (C : kC) : Nat → kC × Nat
  | 0 => (C, 0)
  | n + 1 => (kcomes (krn f C n).1 (f n), (krn f C n).2 + if kwould (krn f C n).1 (f n) then 1 else 0)
/-- the whole: counters, A, B, the text, the row -/
abbrev kS : Type := (Nat → kC) × Int32 × Int32 × List Nat × List Int64
def kS.c (S : kS) : Nat → kC := S.1
def kS.a (S : kS) : Int32 := S.2.1
def kS.b (S : kS) : Int32 := S.2.2.1
def kS.t (S : kS) : List Nat := S.2.2.2.1
def kS.w (S : kS) : List Int64 := S.2.2.2.2
def kS.s_c (S : kS) (k : Nat) (C : kC) : kS := (fun j => if j = k then C else S.c j, S.a, S.b, S.t, S.w)
def kS.s_t (S : kS) (t : List Nat) : kS := (S.c, S.a, S.b, t, S.w)
def kS.s_w (S : kS) (w : List Int64) : kS := (S.c, S.a, S.b, S.t, w)
def kSI (S : kS) : Prop := (∀ c, c < 6 → kI (S.c c)) ∧ S.t.length ≤ 600 ∧ (∀ x ∈ S.t, x < 256) ∧ S.w.length ≤ 6
def kmk (S : kS) (t : Int32) : Nat := kun (S.a * t + S.b)
theorem kmk_lt (S : kS) (t : Int32) : kmk S t < 2 ^ 32 := kun_lt _
theorem kmk_nI (S : kS) (t : Int32) : nI (kmk S t) = S.a * t + S.b := kun_nI _
