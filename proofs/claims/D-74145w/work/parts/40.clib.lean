/-! THE COMPONENT: what it takes from Integer -/
theorem j_tul (x : Int32) (h : zH) : zc PG mJ0_toUnsignedLong [.int x] h = some (.inl (some (.long (lN (kun x)))), h) := by
  simp (disch := omega) only [eJ0_toUnsignedLong, uJ0_toUnsignedLong, zKK, kmask]
theorem kbl_div {n d : Nat} (h : n / 2 ^ d ≠ 0) : kbl n = kbl (n / 2 ^ d) + d := by
  have := kbl_shift (n := n / 2 ^ d) (d := d) (low := n % 2 ^ d) h (Nat.mod_lt _ (Nat.pow_pos (by decide)))
  rw [← this, Nat.mul_comm, Nat.div_add_mod]
theorem knm2 {a : Nat} (h : 2 ≤ a) : nI a + (-2) = nI (a - 2) := by
  rw [show nI a + (-2) = nI a - 2 from (Int32.sub_eq_add_neg ..).symm]; exact pk_sub h
theorem knm4 {a : Nat} (h : 4 ≤ a) : nI a + (-4) = nI (a - 4) := by
  rw [show nI a + (-4) = nI a - 4 from (Int32.sub_eq_add_neg ..).symm]; exact pk_sub h
theorem knm8 {a : Nat} (h : 8 ≤ a) : nI a + (-8) = nI (a - 8) := by
  rw [show nI a + (-8) = nI a - 8 from (Int32.sub_eq_add_neg ..).symm]; exact pk_sub h
theorem knm16 {a : Nat} (h : 16 ≤ a) : nI a + (-16) = nI (a - 16) := by
  rw [show nI a + (-16) = nI a - 16 from (Int32.sub_eq_add_neg ..).symm]; exact pk_sub h
theorem j_nlz73 {n s : Nat} (h0 : 0 < n) (hn : n < 4) (hs : s ≤ 30) (h : zH) : zs PG mJ0_numberOfLeadingZeros 73 [.int (nI n), .int (nI (31 - s))] [] h = some (.inl (some (.int (nI (32 - s - kbl n)))), h) := by
  have e : 32 - s - kbl n = 31 - s - n / 2 ^ 1 := by
    have : kbl n = 1 + n / 2 := by
      match n, h0, hn with
      | 1, _, _ => rfl
      | 2, _, _ => rfl
      | 3, _, _ => rfl
    rw [this, Nat.pow_one]
    omega
  rw [e]
  simp (disch := omega) only [uJ0_numberOfLeadingZeros, zKK, kiushr, zA3]
theorem j_nlz61 {n s : Nat} (h0 : 0 < n) (hn : n < 16) (hs : s ≤ 28) (h : zH) : zs PG mJ0_numberOfLeadingZeros 61 [.int (nI n), .int (nI (31 - s))] [] h = some (.inl (some (.int (nI (32 - s - kbl n)))), h) := by
  by_cases e : n < 4
  · rw [← j_nlz73 h0 e (by omega) h]
    simp (disch := omega) only [uJ0_numberOfLeadingZeros_at61, uJ0_numberOfLeadingZeros_at62, uJ0_numberOfLeadingZeros_at63, zKK, zB]
  · have hd : kbl n = kbl (n / 2 ^ 2) + 2 := kbl_div (by omega)
    rw [hd, show 32 - s - (kbl (n / 2 ^ 2) + 2) = 32 - (s + 2) - kbl (n / 2 ^ 2) by omega, ← j_nlz73 (n := n / 2 ^ 2) (s := s + 2) (by omega) (by omega) (by omega) h, show 31 - (s + 2) = 31 - s - 2 by omega]
    simp (disch := omega) only [uJ0_numberOfLeadingZeros_at61, uJ0_numberOfLeadingZeros_at62, uJ0_numberOfLeadingZeros_at63, uJ0_numberOfLeadingZeros_at66, uJ0_numberOfLeadingZeros_at69, uJ0_numberOfLeadingZeros_at70, uJ0_numberOfLeadingZeros_at71, uJ0_numberOfLeadingZeros_at72, zKK, zB, knm2, kiushr]
theorem j_nlz48 {n s : Nat} (h0 : 0 < n) (hn : n < 256) (hs : s ≤ 24) (h : zH) : zs PG mJ0_numberOfLeadingZeros 48 [.int (nI n), .int (nI (31 - s))] [] h = some (.inl (some (.int (nI (32 - s - kbl n)))), h) := by
  by_cases e : n < 16
  · rw [← j_nlz61 h0 e (by omega) h]
    simp (disch := omega) only [uJ0_numberOfLeadingZeros_at48, uJ0_numberOfLeadingZeros_at49, uJ0_numberOfLeadingZeros_at51, zKK, zB]
  · have hd : kbl n = kbl (n / 2 ^ 4) + 4 := kbl_div (by omega)
    rw [hd, show 32 - s - (kbl (n / 2 ^ 4) + 4) = 32 - (s + 4) - kbl (n / 2 ^ 4) by omega, ← j_nlz61 (n := n / 2 ^ 4) (s := s + 4) (by omega) (by omega) (by omega) h, show 31 - (s + 4) = 31 - s - 4 by omega]
    simp (disch := omega) only [uJ0_numberOfLeadingZeros_at48, uJ0_numberOfLeadingZeros_at49, uJ0_numberOfLeadingZeros_at51, uJ0_numberOfLeadingZeros_at54, uJ0_numberOfLeadingZeros_at57, uJ0_numberOfLeadingZeros_at58, uJ0_numberOfLeadingZeros_at59, uJ0_numberOfLeadingZeros_at60, zKK, zB, knm4, kiushr]
theorem j_nlz33 {n s : Nat} (h0 : 0 < n) (hn : n < 65536) (hs : s ≤ 16) (h : zH) : zs PG mJ0_numberOfLeadingZeros 33 [.int (nI n), .int (nI (31 - s))] [] h = some (.inl (some (.int (nI (32 - s - kbl n)))), h) := by
  by_cases e : n < 256
  · rw [← j_nlz48 h0 e (by omega) h]
    simp (disch := omega) only [uJ0_numberOfLeadingZeros_at33, uJ0_numberOfLeadingZeros_at34, uJ0_numberOfLeadingZeros_at37, zKK, zB]
  · have hd : kbl n = kbl (n / 2 ^ 8) + 8 := kbl_div (by omega)
    rw [hd, show 32 - s - (kbl (n / 2 ^ 8) + 8) = 32 - (s + 8) - kbl (n / 2 ^ 8) by omega, ← j_nlz48 (n := n / 2 ^ 8) (s := s + 8) (by omega) (by omega) (by omega) h, show 31 - (s + 8) = 31 - s - 8 by omega]
    simp (disch := omega) only [uJ0_numberOfLeadingZeros_at33, uJ0_numberOfLeadingZeros_at34, uJ0_numberOfLeadingZeros_at37, uJ0_numberOfLeadingZeros_at40, uJ0_numberOfLeadingZeros_at43, uJ0_numberOfLeadingZeros_at44, uJ0_numberOfLeadingZeros_at46, uJ0_numberOfLeadingZeros_at47, zKK, zB, knm8, kiushr]
/-- leading zeros of a word -/
theorem j_nlz (x : Int32) (h : zH) : zc PG mJ0_numberOfLeadingZeros [.int x] h = some (.inl (some (.int (nI (32 - kbl (kun x))))), h) := by
  have hx := kun_nI x
  have hlt := kun_lt x
  generalize kun x = n at hx hlt
  subst hx
  by_cases e0 : n = 0
  · subst e0
    rw [kbl_0]
    simp (disch := omega) only [eJ0_numberOfLeadingZeros, uJ0_numberOfLeadingZeros, zKK, zB, Nat.sub_zero]
  · by_cases e1 : n < 2147483648
    · by_cases e2 : n < 65536
      · have := j_nlz33 (n := n) (s := 0) (by omega) e2 (by omega) h
        rw [Nat.sub_zero, Nat.sub_zero] at this
        rw [← this, eJ0_numberOfLeadingZeros]
        simp (disch := omega) only [uJ0_numberOfLeadingZeros_at0, uJ0_numberOfLeadingZeros_at1, uJ0_numberOfLeadingZeros_at15, uJ0_numberOfLeadingZeros_at17, uJ0_numberOfLeadingZeros_at18, uJ0_numberOfLeadingZeros_at19, uJ0_numberOfLeadingZeros_at22, zKK, zB]
      · have hd : kbl n = kbl (n / 2 ^ 16) + 16 := kbl_div (by omega)
        have := j_nlz33 (n := n / 2 ^ 16) (s := 16) (by omega) (by omega) (by omega) h
        rw [hd, show 32 - (kbl (n / 2 ^ 16) + 16) = 32 - 16 - kbl (n / 2 ^ 16) by omega, ← this, eJ0_numberOfLeadingZeros, show nI (31 - 16) = nI 31 + (-16) from rfl]
        simp (disch := omega) only [uJ0_numberOfLeadingZeros_at0, uJ0_numberOfLeadingZeros_at1, uJ0_numberOfLeadingZeros_at15, uJ0_numberOfLeadingZeros_at17, uJ0_numberOfLeadingZeros_at18, uJ0_numberOfLeadingZeros_at19, uJ0_numberOfLeadingZeros_at22, uJ0_numberOfLeadingZeros_at25, uJ0_numberOfLeadingZeros_at28, uJ0_numberOfLeadingZeros_at29, uJ0_numberOfLeadingZeros_at31, uJ0_numberOfLeadingZeros_at32, zKK, zB, kiushr]
    · have hb : kbl n = 32 := kbl_eq (j := 31) (by omega) (by omega)
      rw [hb]
      have n1 : ¬ nI 0 < nI n := fun q => by
        have := Int32.lt_iff_toInt_lt.mp q
        rw [nI_toInt (by omega : 0 < 2147483648)] at this
        have e3 : (nI n).toInt = (n : Int) - 4294967296 := by
          show (BitVec.ofNat 32 n).toInt = _
          rw [BitVec.toInt_eq_toNat_cond, BitVec.toNat_ofNat, Nat.mod_eq_of_lt hlt, if_neg (by omega)]
          rfl
        omega
      have n2 : ¬ nI n = nI 0 := fun q => by
        have := congrArg kun q
        have e4 : ∀ k, k < 2 ^ 32 → kun (nI k) = k := fun k hk => by
          show (BitVec.ofNat 32 k).toNat = k
          rw [BitVec.toNat_ofNat, Nat.mod_eq_of_lt hk]
        rw [e4 n hlt, e4 0 (by decide)] at this
        omega
      simp (disch := first | assumption | omega) only [eJ0_numberOfLeadingZeros, uJ0_numberOfLeadingZeros, zKK, zbr_f, Nat.sub_self]
