/-! THE ABSTRACT MACHINE's INSTRUCTIONS, and what each does to the meaning. -/
noncomputable def zs (pg : List zM) (M pc : Nat) (ls st : List Value) (h : zH) : Option zR := zsm pg M (pc, ls, st, h)
/-- a call's meaning -/
noncomputable def zc (pg : List zM) (k : Nat) (as : List Value) (h : zH) : Option zR := zin pg (zsm pg) k as h
/-! what the rest of a run makes of what an instruction found -/
noncomputable def zbr (pg : List zM) (p : Prop) [Decidable p] (M t n : Nat) (ls st : List Value) (h : zH) : Option zR := if p then zs pg M t ls st h else zs pg M n ls st h
noncomputable def zgo (pg : List zM) (o : Option Value) (M n : Nat) (ls st : List Value) (h : zH) : Option zR := match o with
  | none => none
  | some v => zs pg M n ls (v :: st) h
noncomputable def zwr (pg : List zM) (o : Option zH) (M n : Nat) (ls st : List Value) : Option zR := match o with
  | none => none
  | some h => zs pg M n ls st h
noncomputable def zbk (pg : List zM) (o : Option zR) (hd : Option (Nat × Nat × Nat)) (M n : Nat) (ls st : List Value) : Option zR := match o with
  | none => none
  | some (.inl v, h) => zs pg M n ls (v.toList ++ st) h
  | some (.inr q, h) => match zhnd hd q ls with
    | none => none
    | some none => some (.inr q, h)
    | some (some (j, l)) => zs pg M j l [] h
noncomputable def zbc (pg : List zM) (b : Bool) (o : Option zR) (hd : Option (Nat × Nat × Nat)) (M n : Nat) (ls st : List Value) : Option zR := match b with
  | true => zbk pg o hd M n ls st
  | false => none
def zdv {α : Type} (p : Prop) [Decidable p] (o : Option α) : Option α := if p then none else o
def zrt (p : Prop) [Decidable p] (v : Value) (h : zH) : Option zR := if p then some (.inl (some v), h) else none
theorem zbr_t {pg : List zM} {p : Prop} [Decidable p] {M t n : Nat} {ls st : List Value} {h : zH} (hp : p) : zbr pg p M t n ls st h = zs pg M t ls st h := if_pos hp
theorem zbr_f {pg : List zM} {p : Prop} [Decidable p] {M t n : Nat} {ls st : List Value} {h : zH} (hp : ¬ p) : zbr pg p M t n ls st h = zs pg M n ls st h := if_neg hp
theorem zgo_s {pg : List zM} {v : Value} {M n : Nat} {ls st : List Value} {h : zH} : zgo pg (some v) M n ls st h = zs pg M n ls (v :: st) h := rfl
theorem zwr_s {pg : List zM} {M n : Nat} {ls st : List Value} {h : zH} : zwr pg (some h) M n ls st = zs pg M n ls st h := rfl
theorem zbk_v {pg : List zM} {hd : Option (Nat × Nat × Nat)} {M n : Nat} {ls st : List Value} {v : Value} {h : zH} : zbk pg (some (.inl (some v), h)) hd M n ls st = zs pg M n ls (v :: st) h := rfl
theorem zbk_n {pg : List zM} {hd : Option (Nat × Nat × Nat)} {M n : Nat} {ls st : List Value} {h : zH} : zbk pg (some (.inl none, h)) hd M n ls st = zs pg M n ls st h := rfl
theorem zbk_x {pg : List zM} {M n q : Nat} {ls st : List Value} {h : zH} : zbk pg (some (.inr q, h)) none M n ls st = some (.inr q, h) := rfl
theorem zbk_h {pg : List zM} {j k M n q : Nat} {ls st l : List Value} {h : zH} (hl : zst1 false ls k zJ = some l) : zbk pg (some (.inr q, h)) (some (j, k, q)) M n ls st = zs pg M j l [] h := by
  unfold zbk zhnd
  dsimp only
  rw [if_pos rfl, hl]
theorem zbc_t {pg : List zM} {o : Option zR} {hd : Option (Nat × Nat × Nat)} {M n : Nat} {ls st : List Value} : zbc pg true o hd M n ls st = zbk pg o hd M n ls st := rfl
theorem zdv_f {α : Type} {p : Prop} [Decidable p] {o : Option α} (h : ¬ p) : zdv p o = o := if_neg h
theorem zrt_t {p : Prop} [Decidable p] {v : Value} {h : zH} (hp : p) : zrt p v h = some (.inl (some v), h) := if_pos hp
/-! the heap -/
def zup (h : zH) (a : Nat) (e : zE) : zH := (fun q => if q = a then some (true, e) else h.1 q, h.2)
def zpush (h : zH) (e : zE) (n : Nat) : zH := (fun q => if q = h.2.1 then some (true, e) else h.1 q, h.2.1 + 1, h.2.2.1 + n, h.2.2.2)
def zget (h : zH) (a c k : Nat) : Option Value := match h.1 a with
  | some (_, .inr (c', fs)) => if c' = c then fs[k]? else none
  | _ => none
/-- a value of a field's kind: 0 int, 1 boolean, 2 long, 3 a reference, 4 byte -/
def zkind : Nat → Value → Bool
  | 0, .int _ => true
  | 1, .int x => x = 0 ∨ x = 1
  | 2, .long _ => true
  | 3, .ref _ => true
  | 3, .null => true
  | 4, .int x => x.toInt8.toInt32 = x
  | _, _ => false
def zput (h : zH) (a c k ty : Nat) (v : Value) : Option zH := match h.1 a with
  | some (true, .inr (c', fs)) => if c' = c ∧ k < fs.length ∧ zkind ty v = true then some (zup h a (.inr (c', fs.set k v))) else none
  | _ => none
/-- arrays' kinds: 0 int, 1 boolean, 2 long, 3 Counter, 4 byte, 5 int[] -/
def zald (h : zH) (a t : Nat) (i : Int32) : Option Value := match h.1 a with
  | some (_, .inl (t', n, f)) => if t' = t ∧ ¬ (i < 0 ∨ n ≤ i.toNatClampNeg) then some (f i.toNatClampNeg) else none
  | _ => none
def zfu (f : Nat → Value) (k : Nat) (v : Value) : Nat → Value := fun j => if j = k then v else f j
/-- what an array of a kind makes of a value -/
def znar : Nat → Value → Option Value
  | 0, .int x => some (.int x)
  | 1, .int x => if x = 0 ∨ x = 1 then some (.int x) else none
  | 2, .long x => some (.long x)
  | 3, .ref a => some (.ref a)
  | 4, .int x => some (.int x.toInt8.toInt32)
  | 5, .ref a => some (.ref a)
  | _, _ => none
/-- a reference that an array of a kind may hold: a Counter (class 2) -/
def zasg (h : zH) (t : Nat) (v : Value) : Bool := match t, v with
  | 3, .ref b => match h.1 b with
    | some (_, .inr (2, _)) => true
    | _ => false
  | 5, _ => false
  | _, _ => true
def zast (h : zH) (a t : Nat) (i : Int32) (v : Value) : Option zH := match h.1 a with
  | some (true, .inl (t', n, f)) => if t' = t ∧ ¬ (i < 0 ∨ n ≤ i.toNatClampNeg) ∧ zasg h t v = true then (znar t v).map (fun w => zup h a (.inl (t', n, zfu f i.toNatClampNeg w))) else none
  | _ => none
def zlen (h : zH) (a : Nat) : Option Value := match h.1 a with
  | some (_, .inl (_, n, _)) => some (.int (nI n))
  | _ => none
def zis (h : zH) (a c : Nat) : Bool := match h.1 a with
  | some (_, .inr (c', _)) => c' = c
  | _ => false
/-- what stands first in an array of a kind -/
def zdef : Nat → Value
  | 2 => .long 0
  | 3 => .null
  | 5 => .null
  | _ => .int 0
def znew (h : zH) (t : Nat) (n : Int32) : Option zH := if n < 0 ∨ 60000000 ≤ n.toNatClampNeg then none else some (zpush h (.inl (t, n.toNatClampNeg, fun _ => zdef t)) n.toNatClampNeg)
/-- rows of a grid, made one by one -/
def zrows (h : zH) (k : Nat) : Nat → zH
  | 0 => h
  | n + 1 => zpush (zrows h k n) (.inl (0, k, fun _ => .int 0)) k
def zgrid (h : zH) (n k : Nat) : zH := zrows (zpush h (.inl (5, n, fun i => .ref (h.2.1 + 1 + i))) n) k n
/-- System.arraycopy of ints or bytes -/
def zcp (h : zH) (a : Nat) (i : Int32) (b : Nat) (j n : Int32) : Option zH := match h.1 a, h.1 b with
  | some (_, .inl (t, na, f)), some (true, .inl (t', nb, g)) => if t' = t ∧ (t = 0 ∨ t = 4) ∧ ¬ i < 0 ∧ ¬ j < 0 ∧ ¬ n < 0 ∧ i.toNatClampNeg + n.toNatClampNeg ≤ na ∧ j.toNatClampNeg + n.toNatClampNeg ≤ nb then some (zup h b (.inl (t', nb, va_cpy f g i.toNatClampNeg j.toNatClampNeg n.toNatClampNeg))) else none
  | _, _ => none
def zcat (st : List Value) : Nat := (st.map fun v => v.category).sum
/-! the instructions -/
/-- none of ours -/
def zX : zI := fun _ _ _ => none
/-- on the stack alone -/
def zi_p (f : List Value → Option (List Value)) (n : Nat) : zI := fun ls st h => match f st with
  | some st' => some (.inl (n, ls, st', h))
  | none => none
def zi_il (k n : Nat) : zI := fun ls st h => match znth ls k with
  | some (.int x) => some (.inl (n, ls, .int x :: st, h))
  | _ => none
def zi_ll (k n : Nat) : zI := fun ls st h => match znth ls k with
  | some (.long x) => some (.inl (n, ls, .long x :: st, h))
  | _ => none
def zi_al (k n : Nat) : zI := fun ls st h => match znth ls k with
  | some (.ref x) => some (.inl (n, ls, .ref x :: st, h))
  | some .null => some (.inl (n, ls, .null :: st, h))
  | _ => none
def zst2 (d : Bool) (ls : List Value) (k : Nat) (v : Value) : Option (List Value) := match zpre d ls k with
  | some l => match zset l k v with
    | some l => zset l (k + 1) zJ
    | none => none
  | none => none
def zi_is (d : Bool) (k n : Nat) : zI := fun ls st h => match st with
  | .int x :: st => (match zst1 d ls k (.int x) with
    | some l => some (.inl (n, l, st, h))
    | none => none)
  | _ => none
def zi_as (d : Bool) (k n : Nat) : zI := fun ls st h => match st with
  | .ref x :: st => (match zst1 d ls k (.ref x) with
    | some l => some (.inl (n, l, st, h))
    | none => none)
  | _ => none
def zi_lst (d : Bool) (k n : Nat) : zI := fun ls st h => match st with
  | .long x :: st => (match zst2 d ls k (.long x) with
    | some l => some (.inl (n, l, st, h))
    | none => none)
  | _ => none
def zi_inc (k : Nat) (c : Int32) (n : Nat) : zI := fun ls st h => match znth ls k with
  | some (.int x) => (match zset ls k (.int (x + c)) with
    | some l => some (.inl (n, l, st, h))
    | none => none)
  | _ => none
def zi_b1 (p : Int32 → Bool) (t n : Nat) : zI := fun ls st h => match st with
  | .int x :: st => some (.inl (if p x = true then t else n, ls, st, h))
  | _ => none
def zi_b2 (p : Int32 → Int32 → Bool) (t n : Nat) : zI := fun ls st h => match st with
  | .int y :: .int x :: st => some (.inl (if p x y = true then t else n, ls, st, h))
  | _ => none
def zi_sw (f : Int32 → Nat) : zI := fun ls st h => match st with
  | .int x :: st => some (.inl (f x, ls, st, h))
  | _ => none
def zi_get (c k n : Nat) : zI := fun ls st h => match st with
  | .ref a :: st => (match zget h a c k with
    | some v => some (.inl (n, ls, v :: st, h))
    | none => none)
  | _ => none
def zi_put (c k ty n : Nat) : zI := fun ls st h => match st with
  | v :: .ref a :: st => (match zput h a c k ty v with
    | some h' => some (.inl (n, ls, st, h'))
    | none => none)
  | _ => none
def zi_ald (t n : Nat) : zI := fun ls st h => match st with
  | .int i :: .ref a :: st => (match zald h a t i with
    | some v => some (.inl (n, ls, v :: st, h))
    | none => none)
  | _ => none
def zi_ast (t n : Nat) : zI := fun ls st h => match st with
  | v :: .int i :: .ref a :: st => (match zast h a t i v with
    | some h' => some (.inl (n, ls, st, h'))
    | none => none)
  | _ => none
def zi_len (n : Nat) : zI := fun ls st h => match st with
  | .ref a :: st => (match zlen h a with
    | some v => some (.inl (n, ls, v :: st, h))
    | none => none)
  | _ => none
def zi_newa (t n : Nat) : zI := fun ls st h => match st with
  | .int k :: st => (match znew h t k with
    | some h' => some (.inl (n, ls, .ref h.2.1 :: st, h'))
    | none => none)
  | _ => none
def zi_grid (a b : Nat) (n : Nat) : zI := fun ls st h => match st with
  | .int k :: .int m :: st => if m = nI a ∧ k = nI b then some (.inl (n, ls, .ref h.2.1 :: st, zgrid h a b)) else none
  | _ => none
def zi_new (c : Nat) (fs : List Value) (n : Nat) : zI := fun ls st h => some (.inl (n, ls, .ref h.2.1 :: st, zpush h (.inr (c, fs)) fs.length))
def zi_env (j n : Nat) : zI := fun ls st h => some (.inl (n, ls, h.2.2.2 j :: st, h))
def zi_cp (n : Nat) : zI := fun ls st h => match st with
  | [.int k, .int j, .ref b, .int i, .ref a] => (match zcp h a i b j k with
    | some h' => some (.inl (n, ls, [], h'))
    | none => none)
  | _ => none
/-- a call of k with na values, static or a constructor's or a private one's on any reference -/
def zi_c (k na : Nat) (hd : Option (Nat × Nat × Nat)) (n : Nat) : zI := fun ls st h => if na ≤ st.length ∧ zcat (st.drop na) ≤ 8 then some (.inr (.inr (k, (st.take na).reverse, hd, (n, ls, st.drop na, h)))) else none
/-- a call on an object of the class c -/
def zi_v (c k na : Nat) (hd : Option (Nat × Nat × Nat)) (n : Nat) : zI := fun ls st h => match (st.take na).reverse with
  | .ref b :: as => if zis h b c = true ∧ na ≤ st.length ∧ zcat (st.drop na) ≤ 8 then some (.inr (.inr (k, .ref b :: as, hd, (n, ls, st.drop na, h)))) else none
  | _ => none
/-- a lambda's class and its method -/
def zsite (l : List (Nat × Nat)) (c : Nat) : Option Nat := match l with
  | [] => none
  | q :: l => if q.1 = c then some q.2 else zsite l c
/-- a call on a lambda's object: of the sites in l -/
def zlam (h : zH) (l : List (Nat × Nat)) (b : Nat) : Option (Nat × List Value) := match h.1 b with
  | some (_, .inr (c, fs)) => (match zsite l c with
    | some k => some (k, fs)
    | none => none)
  | _ => none
def zi_f (l : List (Nat × Nat)) (na : Nat) (n : Nat) : zI := fun ls st h => match (st.take na).reverse with
  | .ref b :: as => (match zlam h l b with
    | some (k, fs) => if na ≤ st.length ∧ zcat (st.drop na) ≤ 8 then some (.inr (.inr (k, fs ++ as, none, (n, ls, st.drop na, h)))) else none
    | none => none)
  | _ => none
/-- a lambda that holds na values -/
def zi_lam (c na : Nat) (n : Nat) : zI := fun ls st h => if na ≤ st.length ∧ zcat st ≤ 8 then some (.inl (n, ls, .ref h.2.1 :: st.drop na, zpush h (.inr (c, (st.take na).reverse)) na)) else none
def zi_ret : zI := fun _ st h => match st with
  | [v] => some (.inr (.inl (.inl (some v), h)))
  | _ => none
def zi_retz : zI := fun _ st h => match st with
  | [.int x] => if x = 0 ∨ x = 1 then some (.inr (.inl (.inl (some (.int x)), h))) else none
  | _ => none
def zi_ret0 : zI := fun _ st h => match st with
  | [] => some (.inr (.inl (.inl none, h)))
  | _ => none
/-- the class of what is thrown -/
def zthr (h : zH) (q : Nat) : Option Nat := match h.1 q with
  | some (_, .inr (c, _)) => if c = 4 then some c else none
  | _ => none
def zi_thr : zI := fun _ st h => match st with
  | .ref q :: _ => (match zthr h q with
    | some c => some (.inr (.inl (.inr c, h)))
    | none => none)
  | _ => none
def zth (o : Option Nat) (h : zH) : Option zR := match o with
  | some c => some (.inr c, h)
  | none => none
/-! their laws -/
section ZL
variable {pg : List zM} {M pc n t k c na : Nat} {ls st : List Value} {h : zH}
abbrev zat (pg : List zM) (M pc : Nat) : Option zI := (znth pg M).bind (fun q => znth q.2 pc)
theorem zs_next {f : zI} {g : zF} (hp : zat pg M pc = some f) (hf : f ls st h = some (.inl g)) : zs pg M pc ls st h = zsm pg M g := by
  unfold zs
  rw [zsm_step]
  unfold zstep
  dsimp only
  rw [show (znth pg M).bind (fun q => znth q.2 pc) = some f from hp]
  dsimp only
  rw [hf]
theorem zs_none {f : zI} (hp : zat pg M pc = some f) (hf : f ls st h = none) : zs pg M pc ls st h = none := by
  unfold zs
  rw [zsm_step]
  unfold zstep
  dsimp only
  rw [show (znth pg M).bind (fun q => znth q.2 pc) = some f from hp]
  dsimp only
  rw [hf]
theorem zs_end {f : zI} {r : zR} (hp : zat pg M pc = some f) (hf : f ls st h = some (.inr (.inl r))) : zs pg M pc ls st h = some r := by
  unfold zs
  rw [zsm_step]
  unfold zstep
  dsimp only
  rw [show (znth pg M).bind (fun q => znth q.2 pc) = some f from hp]
  dsimp only
  rw [hf]
theorem zs_call {f : zI} {as : List Value} {hd : Option (Nat × Nat × Nat)} {ls' st' : List Value} {h' : zH} (hp : zat pg M pc = some f) (hf : f ls st h = some (.inr (.inr (k, as, hd, (n, ls', st', h'))))) : zs pg M pc ls st h = zbk pg (zc pg k as h') hd M n ls' st' := by
  unfold zs zbk zc
  rw [zsm_step]
  unfold zstep
  dsimp only
  rw [show (znth pg M).bind (fun q => znth q.2 pc) = some f from hp]
  dsimp only
  rw [hf]
  rfl
theorem zu_p {f : List Value → Option (List Value)} {st' : List Value} (hp : zat pg M pc = some (zi_p f n)) (hf : f st = some st') : zs pg M pc ls st h = zs pg M n ls st' h := zs_next hp (by unfold zi_p; rw [hf])
theorem zu_il {x : Int32} (hp : zat pg M pc = some (zi_il k n)) (hk : znth ls k = some (.int x)) : zs pg M pc ls st h = zs pg M n ls (.int x :: st) h := zs_next hp (by unfold zi_il; rw [hk])
theorem zu_ll {x : Int64} (hp : zat pg M pc = some (zi_ll k n)) (hk : znth ls k = some (.long x)) : zs pg M pc ls st h = zs pg M n ls (.long x :: st) h := zs_next hp (by unfold zi_ll; rw [hk])
theorem zu_al {x : Nat} (hp : zat pg M pc = some (zi_al k n)) (hk : znth ls k = some (.ref x)) : zs pg M pc ls st h = zs pg M n ls (.ref x :: st) h := zs_next hp (by unfold zi_al; rw [hk])
theorem zu_al0 (hp : zat pg M pc = some (zi_al k n)) (hk : znth ls k = some .null) : zs pg M pc ls st h = zs pg M n ls (.null :: st) h := zs_next hp (by unfold zi_al; rw [hk])
theorem zu_is {d : Bool} {x : Int32} {l : List Value} (hp : zat pg M pc = some (zi_is d k n)) (hk : zst1 d ls k (.int x) = some l) : zs pg M pc ls (.int x :: st) h = zs pg M n l st h := zs_next hp (by unfold zi_is; dsimp only; rw [hk])
theorem zu_as {d : Bool} {x : Nat} {l : List Value} (hp : zat pg M pc = some (zi_as d k n)) (hk : zst1 d ls k (.ref x) = some l) : zs pg M pc ls (.ref x :: st) h = zs pg M n l st h := zs_next hp (by unfold zi_as; dsimp only; rw [hk])
theorem zu_lst {d : Bool} {x : Int64} {l : List Value} (hp : zat pg M pc = some (zi_lst d k n)) (hk : zst2 d ls k (.long x) = some l) : zs pg M pc ls (.long x :: st) h = zs pg M n l st h := zs_next hp (by unfold zi_lst; dsimp only; rw [hk])
theorem zu_inc {x c : Int32} {l : List Value} (hp : zat pg M pc = some (zi_inc k c n)) (hx : znth ls k = some (.int x)) (hk : zset ls k (.int (x + c)) = some l) : zs pg M pc ls st h = zs pg M n l st h := zs_next hp (by unfold zi_inc; rw [hx]; dsimp only; rw [hk])
theorem zu_b1 {p : Int32 → Prop} [DecidablePred p] {x : Int32} (hp : zat pg M pc = some (zi_b1 (fun x => decide (p x)) t n)) : zs pg M pc ls (.int x :: st) h = zbr pg (p x) M t n ls st h := by
  rw [zs_next hp (g := (if p x then t else n, ls, st, h)) (by unfold zi_b1; simp only [decide_eq_true_eq])]
  unfold zbr
  by_cases hx : p x
  · rw [if_pos hx, if_pos hx]; rfl
  · rw [if_neg hx, if_neg hx]; rfl
theorem zu_b2 {p : Int32 → Int32 → Prop} [∀ x y, Decidable (p x y)] {x y : Int32} (hp : zat pg M pc = some (zi_b2 (fun x y => decide (p x y)) t n)) : zs pg M pc ls (.int y :: .int x :: st) h = zbr pg (p x y) M t n ls st h := by
  rw [zs_next hp (g := (if p x y then t else n, ls, st, h)) (by unfold zi_b2; simp only [decide_eq_true_eq])]
  unfold zbr
  by_cases hx : p x y
  · rw [if_pos hx, if_pos hx]; rfl
  · rw [if_neg hx, if_neg hx]; rfl
theorem zu_sw {f : Int32 → Nat} {x : Int32} (hp : zat pg M pc = some (zi_sw f)) : zs pg M pc ls (.int x :: st) h = zs pg M (f x) ls st h := zs_next hp rfl
theorem zu_get {a : Nat} (hp : zat pg M pc = some (zi_get c k n)) : zs pg M pc ls (.ref a :: st) h = zgo pg (zget h a c k) M n ls st h := by
  cases e : zget h a c k with
  | none => exact zs_none hp (by unfold zi_get; dsimp only; rw [e])
  | some v => exact zs_next hp (by unfold zi_get; dsimp only; rw [e])
theorem zu_put {a ty : Nat} {v : Value} (hp : zat pg M pc = some (zi_put c k ty n)) : zs pg M pc ls (v :: .ref a :: st) h = zwr pg (zput h a c k ty v) M n ls st := by
  cases e : zput h a c k ty v with
  | none => exact zs_none hp (by unfold zi_put; dsimp only; rw [e])
  | some v => exact zs_next hp (by unfold zi_put; dsimp only; rw [e])
theorem zu_ald {a : Nat} {i : Int32} (hp : zat pg M pc = some (zi_ald t n)) : zs pg M pc ls (.int i :: .ref a :: st) h = zgo pg (zald h a t i) M n ls st h := by
  cases e : zald h a t i with
  | none => exact zs_none hp (by unfold zi_ald; dsimp only; rw [e])
  | some v => exact zs_next hp (by unfold zi_ald; dsimp only; rw [e])
theorem zu_ast {a : Nat} {i : Int32} {v : Value} (hp : zat pg M pc = some (zi_ast t n)) : zs pg M pc ls (v :: .int i :: .ref a :: st) h = zwr pg (zast h a t i v) M n ls st := by
  cases e : zast h a t i v with
  | none => exact zs_none hp (by unfold zi_ast; dsimp only; rw [e])
  | some v => exact zs_next hp (by unfold zi_ast; dsimp only; rw [e])
theorem zu_len {a : Nat} (hp : zat pg M pc = some (zi_len n)) : zs pg M pc ls (.ref a :: st) h = zgo pg (zlen h a) M n ls st h := by
  cases e : zlen h a with
  | none => exact zs_none hp (by unfold zi_len; dsimp only; rw [e])
  | some v => exact zs_next hp (by unfold zi_len; dsimp only; rw [e])
theorem zu_newa {x : Int32} (hp : zat pg M pc = some (zi_newa t n)) : zs pg M pc ls (.int x :: st) h = zwr pg (znew h t x) M n ls (.ref h.2.1 :: st) := by
  cases e : znew h t x with
  | none => exact zs_none hp (by unfold zi_newa; dsimp only; rw [e])
  | some v => exact zs_next hp (by unfold zi_newa; dsimp only; rw [e])
theorem zu_grid {a b : Nat} (hp : zat pg M pc = some (zi_grid a b n)) : zs pg M pc ls (.int (nI b) :: .int (nI a) :: st) h = zs pg M n ls (.ref h.2.1 :: st) (zgrid h a b) := zs_next hp (by unfold zi_grid; dsimp only; rw [if_pos ⟨rfl, rfl⟩])
theorem zu_new {fs : List Value} (hp : zat pg M pc = some (zi_new c fs n)) : zs pg M pc ls st h = zs pg M n ls (.ref h.2.1 :: st) (zpush h (.inr (c, fs)) fs.length) := zs_next hp rfl
theorem zu_env {j : Nat} (hp : zat pg M pc = some (zi_env j n)) : zs pg M pc ls st h = zs pg M n ls (h.2.2.2 j :: st) h := zs_next hp rfl
theorem zu_cp {a b : Nat} {i j x : Int32} (hp : zat pg M pc = some (zi_cp n)) : zs pg M pc ls [.int x, .int j, .ref b, .int i, .ref a] h = zwr pg (zcp h a i b j x) M n ls [] := by
  cases e : zcp h a i b j x with
  | none => exact zs_none hp (by unfold zi_cp; dsimp only; rw [e])
  | some v => exact zs_next hp (by unfold zi_cp; dsimp only; rw [e])
theorem zu_c {hd : Option (Nat × Nat × Nat)} {as st' : List Value} (hp : zat pg M pc = some (zi_c k na hd n)) (h1 : (st.take na).reverse = as) (h2 : st.drop na = st') (h3 : na ≤ st.length) (h4 : zcat st' ≤ 8) : zs pg M pc ls st h = zbk pg (zc pg k as h) hd M n ls st' := by
  subst h1; subst h2
  exact zs_call hp (by unfold zi_c; rw [if_pos ⟨h3, h4⟩])
theorem zu_v {hd : Option (Nat × Nat × Nat)} {b : Nat} {as st' : List Value} (hp : zat pg M pc = some (zi_v c k na hd n)) (h1 : (st.take na).reverse = .ref b :: as) (h2 : st.drop na = st') (h3 : na ≤ st.length) (h4 : zcat st' ≤ 8) : zs pg M pc ls st h = zbc pg (zis h b c) (zc pg k (.ref b :: as) h) hd M n ls st' := by
  subst h2
  cases e : zis h b c with
  | false => exact zs_none hp (by unfold zi_v; rw [h1]; dsimp only; rw [e, if_neg (fun q => by cases q.1)])
  | true => exact zs_call hp (by unfold zi_v; rw [h1]; dsimp only; rw [e, if_pos ⟨rfl, h3, h4⟩])
noncomputable def zfc (pg : List zM) (o : Option (Nat × List Value)) (as : List Value) (M n : Nat) (ls st : List Value) (h : zH) : Option zR := match o with
  | none => none
  | some (k, fs) => zbk pg (zc pg k (fs ++ as) h) none M n ls st
theorem zfc_s {fs as : List Value} : zfc pg (some (k, fs)) as M n ls st h = zbk pg (zc pg k (fs ++ as) h) none M n ls st := rfl
theorem zu_f {l : List (Nat × Nat)} {b : Nat} {as st' : List Value} (hp : zat pg M pc = some (zi_f l na n)) (h1 : (st.take na).reverse = .ref b :: as) (h2 : st.drop na = st') (h3 : na ≤ st.length) (h4 : zcat st' ≤ 8) : zs pg M pc ls st h = zfc pg (zlam h l b) as M n ls st' h := by
  subst h2
  cases e : zlam h l b with
  | none => exact zs_none hp (by unfold zi_f; rw [h1]; dsimp only; rw [e])
  | some q => exact zs_call hp (by unfold zi_f; rw [h1]; dsimp only; rw [e]; dsimp only; rw [if_pos ⟨h3, h4⟩])
theorem zu_lam {as st' : List Value} (hp : zat pg M pc = some (zi_lam c na n)) (h1 : (st.take na).reverse = as) (h2 : st.drop na = st') (h3 : na ≤ st.length) (h4 : zcat st ≤ 8) : zs pg M pc ls st h = zs pg M n ls (.ref h.2.1 :: st') (zpush h (.inr (c, as)) na) := by
  subst h1; subst h2
  exact zs_next hp (by unfold zi_lam; rw [if_pos ⟨h3, h4⟩])
theorem zu_ret {v : Value} (hp : zat pg M pc = some zi_ret) : zs pg M pc ls [v] h = some (.inl (some v), h) := zs_end hp rfl
theorem zu_retz {x : Int32} (hp : zat pg M pc = some zi_retz) : zs pg M pc ls [.int x] h = zrt (x = 0 ∨ x = 1) (.int x) h := by
  unfold zrt
  by_cases hx : x = 0 ∨ x = 1
  · rw [if_pos hx]
    exact zs_end hp (by unfold zi_retz; dsimp only; rw [if_pos hx])
  · rw [if_neg hx]
    exact zs_none hp (by unfold zi_retz; dsimp only; rw [if_neg hx])
theorem zu_ret0 (hp : zat pg M pc = some zi_ret0) : zs pg M pc ls [] h = some (.inl none, h) := zs_end hp rfl
theorem zu_thr {q : Nat} (hp : zat pg M pc = some zi_thr) : zs pg M pc ls (.ref q :: st) h = zth (zthr h q) h := by
  cases e : zthr h q with
  | none => exact zs_none hp (by unfold zi_thr; dsimp only; rw [e])
  | some v => exact zs_end hp (by unfold zi_thr; dsimp only; rw [e])
theorem zu_goto (hp : zat pg M pc = some (zi_p some n)) : zs pg M pc ls st h = zs pg M n ls st h := zs_next hp rfl
theorem zc_eq {q : zM} {as l : List Value} (hq : znth pg k = some q) (hl : zent q.1 as = l) (hn : (zsl as).length ≤ q.1) : zc pg k as h = zs pg k 0 l [] h := by
  have e : zN pg k = q.1 := by unfold zN; rw [hq]; rfl
  unfold zc zs zin
  rw [e, if_pos hn, hl]
end ZL
