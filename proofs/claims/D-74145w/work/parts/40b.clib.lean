/-! compareUnsigned, bitCount -/
theorem kun_of {k : Nat} (hk : k < 2 ^ 32) : kun (nI k) = k := by
  show (BitVec.ofNat 32 k).toNat = k
  rw [BitVec.toNat_ofNat, Nat.mod_eq_of_lt hk]
theorem kmin_toInt (x : Int32) : (x + (-2147483648)).toInt = (kun x : Int) - 2147483648 := by
  have hlt := kun_lt x
  have e : (x + (-2147483648)).toBitVec.toNat = (kun x + 2147483648) % 4294967296 := by
    show (x.toBitVec + 2147483648#32).toNat = _
    rw [BitVec.toNat_add]
    rfl
  show (x + (-2147483648)).toBitVec.toInt = _
  rw [BitVec.toInt_eq_toNat_cond, e]
  by_cases h : kun x < 2147483648
  · rw [Nat.mod_eq_of_lt (by omega), if_neg (by omega)]
    omega
  · rw [show (kun x + 2147483648) % 4294967296 = kun x - 2147483648 by omega, if_pos (by omega)]
    omega
def kcu (a b : Nat) : Int32 := if a < b then -1 else if a = b then nI 0 else nI 1
theorem j_cmpU (x y : Int32) (h : zH) : zc PG mJ0_compareUnsigned [.int x, .int y] h = some (.inl (some (.int (kcu (kun x) (kun y)))), h) := by
  have hl : (x + (-2147483648) < y + (-2147483648)) ↔ kun x < kun y := by
    rw [Int32.lt_iff_toInt_lt, kmin_toInt, kmin_toInt]
    omega
  have he : (x + (-2147483648) = y + (-2147483648)) ↔ kun x = kun y := by
    constructor
    · intro q
      have := congrArg Int32.toInt q
      rw [kmin_toInt, kmin_toInt] at this
      omega
    · intro q
      have : x = y := by rw [← kun_nI x, ← kun_nI y, q]
      rw [this]
  have hc : zc PG mJ0_compare [.int (x + (-2147483648)), .int (y + (-2147483648))] h = some (.inl (some (.int (kcu (kun x) (kun y)))), h) := by
    unfold kcu
    by_cases e1 : kun x < kun y
    · rw [if_pos e1]
      have e2 := hl.mpr e1
      simp (disch := assumption) only [eJ0_compare, uJ0_compare, zKK, zbr_t]
    · rw [if_neg e1]
      have e2 : ¬ (x + (-2147483648) < y + (-2147483648)) := fun q => e1 (hl.mp q)
      by_cases e3 : kun x = kun y
      · rw [if_pos e3]
        have e4 := he.mpr e3
        simp (disch := assumption) only [eJ0_compare, uJ0_compare, zKK, zbr_f, zbr_t]
      · rw [if_neg e3]
        have e4 : ¬ (x + (-2147483648) = y + (-2147483648)) := fun q => e3 (he.mp q)
        simp (disch := assumption) only [eJ0_compare, uJ0_compare, zKK, zbr_f]
  simp only [eJ0_compareUnsigned, uJ0_compareUnsigned, zKK, hc]
/-- what bitCount makes of a word -/
def kbc (x : Int32) : Int32 :=
  let a := x - ((x.toUInt32 >>> ((nI 1).toUInt32 &&& Int32.toUInt32 31)).toInt32 &&& nI 1431655765)
  let b := (a &&& nI 858993459) + ((a.toUInt32 >>> ((nI 2).toUInt32 &&& Int32.toUInt32 31)).toInt32 &&& nI 858993459)
  let c := (b + (b.toUInt32 >>> ((nI 4).toUInt32 &&& Int32.toUInt32 31)).toInt32) &&& nI 252645135
  let d := c + (c.toUInt32 >>> ((nI 8).toUInt32 &&& Int32.toUInt32 31)).toInt32
  let e := d + (d.toUInt32 >>> ((nI 16).toUInt32 &&& Int32.toUInt32 31)).toInt32
  e &&& nI 63
theorem j_bitC0 (x : Int32) (h : zH) : zc PG mJ0_bitCount [.int x] h = some (.inl (some (.int (kbc x))), h) := by
  simp only [eJ0_bitCount, uJ0_bitCount, zKK, kbc]
theorem kbc_6 : ∀ s, s < 64 → kbc (nI s) = nI (kpc s) := by decide
theorem j_bitC {s : Nat} (hs : s < 64) (h : zH) : zc PG mJ0_bitCount [.int (nI s)] h = some (.inl (some (.int (nI (kpc s)))), h) := by
  rw [j_bitC0, kbc_6 s hs]
