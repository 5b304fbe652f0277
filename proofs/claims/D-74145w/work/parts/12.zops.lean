/-! THE ABSTRACT MACHINE's PURE OPERATIONS -/
abbrev zP : Type := List Value → Option (List Value)
def zo_k (v : Value) : zP := fun st => some (v :: st)
def zo_i2 (f : Int32 → Int32 → Int32) : zP := fun st => match st with
  | .int y :: .int x :: st => some (.int (f x y) :: st)
  | _ => none
def zo_i1 (f : Int32 → Int32) : zP := fun st => match st with
  | .int x :: st => some (.int (f x) :: st)
  | _ => none
def zo_l2 (f : Int64 → Int64 → Int64) : zP := fun st => match st with
  | .long y :: .long x :: st => some (.long (f x y) :: st)
  | _ => none
def zo_lsh (f : Int64 → Int32 → Int64) : zP := fun st => match st with
  | .int y :: .long x :: st => some (.long (f x y) :: st)
  | _ => none
def zo_iadd : zP := zo_i2 (fun x y => x + y)
def zo_isub : zP := zo_i2 (fun x y => x - y)
def zo_imul : zP := zo_i2 (fun x y => x * y)
def zo_iand : zP := zo_i2 (fun x y => x &&& y)
def zo_ior : zP := zo_i2 (fun x y => x ||| y)
def zo_ixor : zP := zo_i2 (fun x y => x ^^^ y)
def zo_ishl : zP := zo_i2 (fun x y => x <<< (y &&& 31))
def zo_ishr : zP := zo_i2 (fun x y => x >>> (y &&& 31))
def zo_iushr : zP := zo_i2 (fun x y => (x.toUInt32 >>> (y.toUInt32 &&& Int32.toUInt32 31)).toInt32)
def zo_ineg : zP := zo_i1 (fun x => -x)
def zo_i2b : zP := zo_i1 (fun x => x.toInt8.toInt32)
def zo_i2c : zP := zo_i1 (fun x => (x.toUInt32 % 65536).toInt32)
def zo_ladd : zP := zo_l2 (fun x y => x + y)
def zo_lsub : zP := zo_l2 (fun x y => x - y)
def zo_lmul : zP := zo_l2 (fun x y => x * y)
def zo_land : zP := zo_l2 (fun x y => x &&& y)
def zo_lor : zP := zo_l2 (fun x y => x ||| y)
def zo_lshl : zP := zo_lsh (fun x y => x <<< (y.toInt64 &&& 63))
def zo_lshr : zP := zo_lsh (fun x y => x >>> (y.toInt64 &&& 63))
def zo_lushr : zP := zo_lsh (fun x y => (x.toUInt64 >>> (y.toInt64.toUInt64 &&& Int64.toUInt64 63)).toInt64)
def zo_i2l : zP := fun st => match st with
  | .int x :: st => some (.long x.toInt64 :: st)
  | _ => none
def zo_l2i : zP := fun st => match st with
  | .long x :: st => some (.int x.toInt32 :: st)
  | _ => none
def zo_lcmp : zP := fun st => match st with
  | .long y :: .long x :: st => some (.int (lg_cmp x y) :: st)
  | _ => none
def zo_dup : zP := fun st => match st with
  | .int x :: st => some (.int x :: .int x :: st)
  | .ref x :: st => some (.ref x :: .ref x :: st)
  | _ => none
def zo_dup2 : zP := fun st => match st with
  | .int y :: .ref x :: st => some (.int y :: .ref x :: .int y :: .ref x :: st)
  | _ => none
def zo_dupx1 : zP := fun st => match st with
  | .int y :: .ref x :: st => some (.int y :: .ref x :: .int y :: st)
  | _ => none
def zo_pop : zP := fun st => match st with
  | .int _ :: st => some st
  | .ref _ :: st => some st
  | _ => none
/-- divisions -/
def zi_dv (f : Int32 → Int32 → Int32) (n : Nat) : zI := fun ls st h => match st with
  | .int y :: .int x :: st => if y = 0 then none else some (.inl (n, ls, .int (f x y) :: st, h))
  | _ => none
def zi_ldv (f : Int64 → Int64 → Int64) (n : Nat) : zI := fun ls st h => match st with
  | .long y :: .long x :: st => if y = 0 then none else some (.inl (n, ls, .long (f x y) :: st, h))
  | _ => none
def zf_idiv (x y : Int32) : Int32 := x / y
def zf_irem (x y : Int32) : Int32 := x - x / y * y
def zf_ldiv (x y : Int64) : Int64 := x / y
/-- Object's constructor -/
def zi_oi (n : Nat) : zI := fun ls st h => match st with
  | [.ref _] => some (.inl (n, ls, [], h))
  | _ => none
/-- a constructor's call, on a reference -/
def zi_r (k na : Nat) (hd : Option (Nat × Nat × Nat)) (n : Nat) : zI := fun ls st h => match (st.take na).reverse with
  | .ref b :: as => if na ≤ st.length ∧ zcat (st.drop na) ≤ 8 then some (.inr (.inr (k, .ref b :: as, hd, (n, ls, st.drop na, h)))) else none
  | _ => none
/-- a lambda that holds nothing -/
def zi_lamc (j n : Nat) : zI := fun ls st h => if zcat st ≤ 8 then some (.inl (n, ls, h.2.2.2 j :: st, h)) else none
/-- a NoSuchElementException made and thrown -/
def zi_nse : zI := fun _ st h => match st with
  | [] => some (.inr (.inl (.inr 5, zpush h (.inr (5, [])) 6)))
  | _ => none
def zi_iret : zI := fun _ st h => match st with
  | [.int x] => some (.inr (.inl (.inl (some (.int x)), h)))
  | _ => none
def zi_lret : zI := fun _ st h => match st with
  | [.long x] => some (.inr (.inl (.inl (some (.long x)), h)))
  | _ => none
def zi_aret : zI := fun _ st h => match st with
  | [.ref x] => some (.inr (.inl (.inl (some (.ref x)), h)))
  | _ => none
def zi_retc : zI := fun _ st h => match st with
  | [.int x] => if (x.toUInt32 % 65536).toInt32 = x then some (.inr (.inl (.inl (some (.int x)), h))) else none
  | _ => none
def zi_retb : zI := fun _ st h => match st with
  | [.int x] => if x.toInt8.toInt32 = x then some (.inr (.inl (.inl (some (.int x)), h))) else none
  | _ => none
/-- branches -/
def zq_lt (x y : Int32) : Bool := decide (x < y)
def zq_eq (x y : Int32) : Bool := decide (x = y)
def zq_gt (x y : Int32) : Bool := decide (y < x)
def zr_lt (x : Int32) : Bool := decide (x < nI 0)
def zr_eq (x : Int32) : Bool := decide (x = nI 0)
def zr_gt (x : Int32) : Bool := decide (nI 0 < x)
/-- a switch over lo, lo + 1 .. -/
def zsw (lo : Nat) (ts : List Nat) (d : Nat) (x : Int32) : Nat := if x.toInt < lo then d else (znth ts (x.toInt - lo).toNat).getD d
theorem znth_app {α : Type} (l1 l2 : List α) : ∀ i, znth (l1 ++ l2) (l1.length + i) = znth l2 i := by
  induction l1 with
  | nil => intro i; rw [List.length_nil, Nat.zero_add]; rfl
  | cons a l ih => intro i; rw [List.length_cons, show l.length + 1 + i = (l.length + i) + 1 by omega]; exact ih i
theorem znth_cut {α : Type} {l c t u : List α} {n i o : Nat} (h : znth l (n + (o + i)) = znth u (o + i)) (n' : Nat) (hn : n' = n) (hu : u = c ++ t) (ho : c.length = o := by rfl) : znth l (n + o + i) = znth t i := by
  subst hu; subst ho
  rw [Nat.add_assoc, h]
  exact znth_app c t i
section ZL
variable {pg : List zM} {M pc n t : Nat} {ls st : List Value} {h : zH}
theorem zu_dv {f : Int32 → Int32 → Int32} {x y : Int32} (hp : zat pg M pc = some (zi_dv f n)) : zs pg M pc ls (.int y :: .int x :: st) h = zgo pg (zdv (y = 0) (some (.int (f x y)))) M n ls st h := by
  unfold zdv
  by_cases e : y = 0
  · rw [if_pos e]
    exact zs_none hp (by unfold zi_dv; dsimp only; rw [if_pos e])
  · rw [if_neg e]
    exact zs_next hp (by unfold zi_dv; dsimp only; rw [if_neg e])
theorem zu_ldv {f : Int64 → Int64 → Int64} {x y : Int64} (hp : zat pg M pc = some (zi_ldv f n)) : zs pg M pc ls (.long y :: .long x :: st) h = zgo pg (zdv (y = 0) (some (.long (f x y)))) M n ls st h := by
  unfold zdv
  by_cases e : y = 0
  · rw [if_pos e]
    exact zs_none hp (by unfold zi_ldv; dsimp only; rw [if_pos e])
  · rw [if_neg e]
    exact zs_next hp (by unfold zi_ldv; dsimp only; rw [if_neg e])
theorem zu_rr {k na : Nat} {hd : Option (Nat × Nat × Nat)} {b : Nat} {as st' : List Value} (hp : zat pg M pc = some (zi_r k na hd n)) (h1 : (st.take na).reverse = .ref b :: as) (h2 : st.drop na = st') (h3 : na ≤ st.length) (h4 : zcat st' ≤ 8) : zs pg M pc ls st h = zbk pg (zc pg k (.ref b :: as) h) hd M n ls st' := by
  subst h2
  exact zs_call hp (by unfold zi_r; rw [h1]; dsimp only; rw [if_pos ⟨h3, h4⟩])
theorem zu_oi {x : Nat} (hp : zat pg M pc = some (zi_oi n)) : zs pg M pc ls [.ref x] h = zs pg M n ls [] h := zs_next hp rfl
theorem zu_lamc {j : Nat} (hp : zat pg M pc = some (zi_lamc j n)) (hz : zcat st ≤ 8) : zs pg M pc ls st h = zs pg M n ls (h.2.2.2 j :: st) h := zs_next hp (if_pos hz)
theorem zu_nse (hp : zat pg M pc = some zi_nse) : zs pg M pc ls [] h = some (.inr 5, zpush h (.inr (5, [])) 6) := zs_end hp rfl
theorem zu_iret {x : Int32} (hp : zat pg M pc = some zi_iret) : zs pg M pc ls [.int x] h = some (.inl (some (.int x)), h) := zs_end hp rfl
theorem zu_lret {x : Int64} (hp : zat pg M pc = some zi_lret) : zs pg M pc ls [.long x] h = some (.inl (some (.long x)), h) := zs_end hp rfl
theorem zu_aret {x : Nat} (hp : zat pg M pc = some zi_aret) : zs pg M pc ls [.ref x] h = some (.inl (some (.ref x)), h) := zs_end hp rfl
theorem zu_retc {x : Int32} (hp : zat pg M pc = some zi_retc) : zs pg M pc ls [.int x] h = zrt ((x.toUInt32 % 65536).toInt32 = x) (.int x) h := by
  unfold zrt
  by_cases hx : (x.toUInt32 % 65536).toInt32 = x
  · rw [if_pos hx]
    exact zs_end hp (by unfold zi_retc; dsimp only; rw [if_pos hx])
  · rw [if_neg hx]
    exact zs_none hp (by unfold zi_retc; dsimp only; rw [if_neg hx])
theorem zu_retb {x : Int32} (hp : zat pg M pc = some zi_retb) : zs pg M pc ls [.int x] h = zrt (x.toInt8.toInt32 = x) (.int x) h := by
  unfold zrt
  by_cases hx : x.toInt8.toInt32 = x
  · rw [if_pos hx]
    exact zs_end hp (by unfold zi_retb; dsimp only; rw [if_pos hx])
  · rw [if_neg hx]
    exact zs_none hp (by unfold zi_retb; dsimp only; rw [if_neg hx])
theorem zu_q_lt {x y : Int32} (hp : zat pg M pc = some (zi_b2 zq_lt t n)) : zs pg M pc ls (.int y :: .int x :: st) h = zbr pg (x < y) M t n ls st h := zu_b2 (p := fun x y => x < y) hp
theorem zu_q_eq {x y : Int32} (hp : zat pg M pc = some (zi_b2 zq_eq t n)) : zs pg M pc ls (.int y :: .int x :: st) h = zbr pg (x = y) M t n ls st h := zu_b2 (p := fun x y => x = y) hp
theorem zu_q_gt {x y : Int32} (hp : zat pg M pc = some (zi_b2 zq_gt t n)) : zs pg M pc ls (.int y :: .int x :: st) h = zbr pg (y < x) M t n ls st h := zu_b2 (p := fun x y => y < x) hp
theorem zu_r_lt {x : Int32} (hp : zat pg M pc = some (zi_b1 zr_lt t n)) : zs pg M pc ls (.int x :: st) h = zbr pg (x < nI 0) M t n ls st h := zu_b1 (p := fun x => x < nI 0) hp
theorem zu_r_eq {x : Int32} (hp : zat pg M pc = some (zi_b1 zr_eq t n)) : zs pg M pc ls (.int x :: st) h = zbr pg (x = nI 0) M t n ls st h := zu_b1 (p := fun x => x = nI 0) hp
theorem zu_r_gt {x : Int32} (hp : zat pg M pc = some (zi_b1 zr_gt t n)) : zs pg M pc ls (.int x :: st) h = zbr pg (nI 0 < x) M t n ls st h := zu_b1 (p := fun x => nI 0 < x) hp
end ZL
