/-! RULES OF NUMBERS FOR SYMBOLIC RUNS -/
theorem zlg (x y : Int64) : ((lg_cmp x y < nI 0) = (x < y)) ∧ ((nI 0 < lg_cmp x y) = (y < x)) ∧ ((lg_cmp x y = nI 0) = (x = y)) := ⟨propext (lg_cmp_lt x y), propext (lg_cmp_gt x y), propext (lg_cmp_eq x y)⟩
def zb (b : Bool) : Int32 := if b then 1 else 0
theorem zb_t : zb true = nI 1 := rfl
theorem zb_f : zb false = nI 0 := rfl
theorem zb_eq0 (b : Bool) : (zb b = nI 0) = (b = false) := by cases b <;> simp [zb] <;> decide
theorem zb_gt0 (b : Bool) : (nI 0 < zb b) = (b = true) := by cases b <;> simp [zb] <;> decide
theorem zrt_b (b : Bool) (v : Value) (h : zH) : zrt (zb b = 0 ∨ zb b = 1) v h = some (.inl (some v), h) := zrt_t (by cases b; exact Or.inl rfl; exact Or.inr rfl)
/-- an int between lo and hi -/
def kbt (x : Int32) (lo hi : Nat) : Prop := (lo : Int) ≤ x.toInt ∧ x.toInt ≤ (hi : Int)
def kbd (x : Int32) (lo hi : Nat) : Bool := decide ((lo : Int) ≤ x.toInt ∧ x.toInt ≤ (hi : Int))
theorem kbd_t {x : Int32} {lo hi : Nat} (h : kbt x lo hi) : kbd x lo hi = true := decide_eq_true (show (lo : Int) ≤ x.toInt ∧ x.toInt ≤ (hi : Int) from h)
theorem kbd_f {x : Int32} {lo hi : Nat} (h : ¬ kbt x lo hi) : kbd x lo hi = false := decide_eq_false (show ¬ ((lo : Int) ≤ x.toInt ∧ x.toInt ≤ (hi : Int)) from h)
theorem kbt_nI {k lo hi : Nat} (h1 : lo ≤ k) (h2 : k ≤ hi) (hk : k < 2147483648) : kbt (nI k) lo hi := by
  unfold kbt
  rw [nI_toInt hk]
  omega
theorem kbt_n {k lo hi : Nat} (h : k < lo ∨ hi < k) (hk : k < 2147483648) : ¬ kbt (nI k) lo hi := by
  unfold kbt
  rw [nI_toInt hk]
  omega
theorem kbt_of {x : Int32} {lo hi : Nat} (h : kbt x lo hi) : ∃ k, lo ≤ k ∧ k ≤ hi ∧ x = nI k := by
  have h0 := h.1
  have h1 := h.2
  have hl : x.toInt < 2 ^ 31 := x.toInt_lt
  refine ⟨x.toInt.toNat, by omega, by omega, ?_⟩
  apply Int32.toInt_inj.mp
  rw [nI_toInt (by omega)]
  omega
theorem kbd_nI {k lo hi : Nat} (h1 : lo ≤ k) (h2 : k ≤ hi) (hk : k < 2147483648) : kbd (nI k) lo hi = true := kbd_t (kbt_nI h1 h2 hk)
theorem kbd_in {x : Int32} {lo hi : Nat} (h1 : lo < 2 ^ 31) (h2 : hi < 2 ^ 31) : decide (¬ x.toInt64 < lN lo ∧ ¬ lN hi < x.toInt64) = kbd x lo hi := by
  have e : (¬ x.toInt64 < lN lo ∧ ¬ lN hi < x.toInt64) ↔ kbt x lo hi := by
    rw [Int64.lt_iff_toInt_lt, Int64.lt_iff_toInt_lt, Int32.toInt_toInt64, lN_toInt h1, lN_toInt h2]
    unfold kbt
    omega
  by_cases h : kbt x lo hi
  · rw [kbd_t h, decide_eq_true (e.mpr h)]
  · rw [kbd_f h, decide_eq_false (fun q => h (e.mp q))]
/-- the mark as a number from 0 on -/
def kun (x : Int32) : Nat := x.toBitVec.toNat
theorem kun_lt (x : Int32) : kun x < 2 ^ 32 := x.toBitVec.isLt
theorem kun_nI (x : Int32) : nI (kun x) = x := Int32.toBitVec_inj.mp (by show BitVec.ofNat 32 _ = _; unfold kun; simp)
theorem nI_kun {n : Nat} (h : n < 2 ^ 32) : kun (nI n) = n := pk_tn h
theorem kmask (x : Int32) : x.toInt64 &&& lN 4294967295 = lN (kun x) := by
  apply Int64.toBitVec_inj.mp
  apply BitVec.eq_of_toNat_eq
  have hx := kun_lt x
  show (x.toBitVec.signExtend 64 &&& 4294967295#64).toNat = (BitVec.ofNat 64 (kun x)).toNat
  rw [BitVec.toNat_and, show (4294967295#64).toNat = 2 ^ 32 - 1 from by decide, Nat.and_two_pow_sub_one_eq_mod, BitVec.toNat_ofNat, BitVec.toNat_signExtend, BitVec.toNat_setWidth]
  unfold kun at hx ⊢
  split <;> omega
theorem k_l2i (n : Nat) : (lN n).toInt32 = nI n := lN_i n
/-- amounts of shifts -/
theorem km63 {k : Nat} (hk : k < 64) : lN k &&& 63 = lN k := by
  have h := wb_c k hk
  rw [nI_l (by omega)] at h
  exact h
theorem km31 {k : Nat} (hk : k < 32) : nI k &&& 31 = nI k := by
  have h := pk_andN (n := k) (by omega) (m := 31) 5 (by decide)
  rw [Nat.mod_eq_of_lt (by omega)] at h
  exact h
theorem klshr {a k : Nat} (h : a < 2 ^ 62) (hk : k < 64) : lN a >>> lN k = lN (a / 2 ^ k) := by
  refine pf_shr (d := k) ?_ h
  rw [wb_tb, wb_sm k hk, BitVec.toNat_ofNat]
  exact Nat.mod_eq_of_lt (by omega)
theorem klshl (n : Nat) {k : Nat} (hk : k < 64) : lN n <<< lN k = lN (n * 2 ^ k) := by
  have h := wb_shl n hk
  rw [nI_l (by omega), km63 hk] at h
  exact h
theorem klushr {n k : Nat} (hn : n < 2 ^ 64) (hk : k < 64) : ((lN n).toUInt64 >>> ((lN k).toUInt64 &&& Int64.toUInt64 63)).toInt64 = lN (n / 2 ^ k) := by
  have h := wb_shr hn hk
  rw [nI_l (by omega)] at h
  exact h
theorem klmask {n k : Nat} (hn : n < 2 ^ 64) (hk : k < 64) : lN n &&& (lN (2 ^ k) - lN 1) = lN (n % 2 ^ k) := by
  have h1 : 1 ≤ 2 ^ k := Nat.pow_pos (by decide)
  rw [lN_sub h1]
  exact wb_mask hn hk
theorem kl1shl {k : Nat} (hk : k < 64) : lN 1 <<< lN k = lN (2 ^ k) := by rw [klshl 1 hk, Nat.one_mul]
theorem kland1 {n : Nat} (hn : n < 2 ^ 64) : lN n &&& lN 1 = lN (n % 2) := wb_a1 hn
theorem kiand1 {n : Nat} (hn : n < 2 ^ 32) : nI n &&& nI 1 = nI (n % 2) := pk_andN hn 1 (by decide)
theorem kishr {n k : Nat} (hn : n < 2 ^ 31) (hk : k < 32) : nI n >>> nI k = nI (n / 2 ^ k) := by
  have h := pk_shrN hn _ k (s_l k hk)
  rw [km31 hk] at h
  exact h
theorem kishl {n k : Nat} (hk : k < 32) (hn : n * 2 ^ k < 2 ^ 32) : nI n <<< nI k = nI (n * 2 ^ k) := by
  have h := pk_shlN (n := n) _ k (s_l k hk) hn
  rw [km31 hk] at h
  exact h
theorem kiushr {n k : Nat} (hn : n < 2 ^ 32) (hk : k < 32) : ((nI n).toUInt32 >>> ((nI k).toUInt32 &&& Int32.toUInt32 31)).toInt32 = nI (n / 2 ^ k) := pk_ushrN hn _ k (s_u k hk)
theorem k2p {p : Nat} (hp : p < 31) : nI 1 <<< nI p = nI (2 ^ p) := by
  have : 2 ^ p < 2 ^ 31 := Nat.pow_lt_pow_right (by decide) hp
  rw [kishl (by omega) (by omega), Nat.one_mul]
theorem k2p_le {p : Nat} (hp : p ≤ 8) : 2 ^ p ≤ 256 := Nat.pow_le_pow_right (by decide) hp
theorem k2p_ge {p : Nat} (hp : 4 ≤ p) : 16 ≤ 2 ^ p := Nat.pow_le_pow_right (n := 2) (by decide) hp
/-- an odd bit -/
theorem kbit {n k : Nat} : n / 2 ^ k % 2 = if n.testBit k then 1 else 0 := by
  rw [Nat.testBit_eq_decide_div_mod_eq]
  by_cases h : n / 2 ^ k % 2 = 1
  · simp [h]
  · have : n / 2 ^ k % 2 = 0 := by omega
    simp [this]
theorem zBl (pg : List zM) : (∀ (a b M t n : Nat) (ls st : List Value) (h : zH), a < b → b < 9223372036854775808 → zbr pg (lN a < lN b) M t n ls st h = zs pg M t ls st h) ∧ (∀ (a b M t n : Nat) (ls st : List Value) (h : zH), b ≤ a → a < 9223372036854775808 → zbr pg (lN a < lN b) M t n ls st h = zs pg M n ls st h) ∧ (∀ (a b M t n : Nat) (ls st : List Value) (h : zH), a = b → zbr pg (lN a = lN b) M t n ls st h = zs pg M t ls st h) ∧ (∀ (a b M t n : Nat) (ls st : List Value) (h : zH), a ≠ b → a < 9223372036854775808 → b < 9223372036854775808 → zbr pg (lN a = lN b) M t n ls st h = zs pg M n ls st h) :=
  ⟨fun _ _ _ _ _ _ _ _ h1 h2 => zbr_t ((pk_lLT (by omega) h2).mpr h1), fun _ _ _ _ _ _ _ _ h1 h2 => zbr_f (fun q => by have := (pk_lLT h2 (by omega)).mp q; omega), fun _ _ _ _ _ _ _ _ h1 => zbr_t (by rw [h1]), fun _ _ _ _ _ _ _ _ h1 h2 h3 => zbr_f (fun e => h1 ((pk_lEQ h2 h3).mp e))⟩
/-- a branch on a bool -/
theorem zBb (pg : List zM) : (∀ (M t n : Nat) (ls st : List Value) (h : zH), zbr pg (zb true = nI 0) M t n ls st h = zs pg M n ls st h) ∧ (∀ (M t n : Nat) (ls st : List Value) (h : zH), zbr pg (zb false = nI 0) M t n ls st h = zs pg M t ls st h) :=
  ⟨fun _ _ _ _ _ _ => zbr_f (by decide), fun _ _ _ _ _ _ => zbr_t rfl⟩
theorem zA3 : (∀ a b : Nat, b ≤ a → nI a - nI b = nI (a - b)) ∧ (∀ a d : Nat, a < 2147483648 → 0 < d → d < 2147483648 → nI a / nI d = nI (a / d)) ∧ (∀ a d : Nat, a < 2147483648 → 0 < d → d < 2147483648 → nI a - nI a / nI d * nI d = nI (a % d)) ∧ (∀ p : Nat, 0 < p → nI p + (-1) = nI (p - 1)) ∧ (∀ n : Nat, n < 2147483648 → (nI n).toInt64 = lN n) := ⟨fun _ _ h => pk_sub h, fun _ _ h1 h2 h3 => pk_div h1 h2 h3, fun _ _ h1 h2 h3 => pk_rem h1 h2 h3, fun _ h => sb_m1 h, fun _ h => nI_l h⟩
theorem zL3 : (∀ a b : Nat, lN a + lN b = lN (a + b)) ∧ (∀ a b : Nat, lN a * lN b = lN (a * b)) ∧ (∀ a b : Nat, b ≤ a → lN a - lN b = lN (a - b)) := ⟨lN_add, lN_mul, fun _ _ h => lN_sub h⟩
theorem zdv_l {b : Nat} {α : Type} {o : Option α} (h0 : 0 < b) (h : b < 9223372036854775808) : zdv (lN b = 0) o = o := zdv_f (fun e => by have := (pk_lEQ h (by decide : 0 < 2 ^ 63)).mp e; omega)
