/-! THE COMPONENT: places and ranks of marks; marks come -/
theorem kishl' (m : Nat) {p : Nat} (hp : p < 32) : nI m <<< nI p = nI (m * 2 ^ p) := by
  apply Int32.toBitVec_inj.mp
  apply BitVec.eq_of_toNat_eq
  have hs := s_l p hp
  rw [km31 hp] at hs
  rw [Int32.toBitVec_shiftLeft, BitVec.shiftLeft_eq', BitVec.toNat_shiftLeft, hs, Nat.shiftLeft_eq]
  show (BitVec.ofNat 32 m).toNat * 2 ^ p % 2 ^ 32 = (BitVec.ofNat 32 (m * 2 ^ p)).toNat
  rw [BitVec.toNat_ofNat, BitVec.toNat_ofNat, Nat.mod_mul_mod]
theorem d_placeOf (h : zH) {m p : Nat} (hm : m < 4294967296) (h0 : 0 < p) (hp : p ≤ 8) : zc PG mX1_placeOf [.int (nI m), .int (nI p)] h = some (.inl (some (.int (nI (kpl m p)))), h) := by
  simp (disch := omega) only [eX1_placeOf, uX1_placeOf, zKK, zB, zBl, zBb, zlg, zA, zA3, zL3, km31, km63, klshr, kishr, k2p, kl1shl, klmask, kland1, kiand1, k_l2i, zrt_b, zrt_0, zrt_1, zdv_n, zdv_l, kiushr, kpl]
theorem d_rankOf (h : zH) {m p : Nat} (hm : m < 4294967296) (h0 : 0 < p) (hp : p ≤ 8) : zc PG mX1_rankOf [.int (nI m), .int (nI p)] h = some (.inl (some (.int (nI (krk m p)))), h) := by
  have hl : m % 2 ^ (32 - p) < 2 ^ (32 - p) := Nat.mod_lt _ (Nat.pow_pos (by decide))
  have e1 : m * 2 ^ p % 2 ^ 32 = m % 2 ^ (32 - p) * 2 ^ p := by
    rw [show 2 ^ 32 = 2 ^ (32 - p) * 2 ^ p by rw [← Nat.pow_add]; congr 1; omega, Nat.mul_mod_mul_right]
  have e2 : kun (nI m <<< nI p) = m % 2 ^ (32 - p) * 2 ^ p := by
    rw [kishl' m (by omega), ← e1]
    show (BitVec.ofNat 32 _).toNat = _
    rw [BitVec.toNat_ofNat]
  have ez := j_nlz (nI m <<< nI p) h
  rw [e2] at ez
  have hb := (kbl_le _ _).mpr hl
  have e3 : min (32 - kbl (m % 2 ^ (32 - p) * 2 ^ p)) (32 - p) + 1 = krk m p := by
    unfold krk
    by_cases e : m % 2 ^ (32 - p) = 0
    · rw [e, Nat.zero_mul, kbl_0]; omega
    · have := kbl_shift (d := p) (low := 0) e (Nat.pow_pos (by decide))
      rw [Nat.add_zero] at this
      rw [this]
      omega
  rw [← e3]
  simp (disch := omega) only [eX1_rankOf, uX1_rankOf, zKK, km31, ez, zA3, j_minI, zA]
theorem c_raises {h : zH} {D a a1 a2 n : Nat} {f : Nat → Int32} {C : kC} (e : cO h D a a1 a2 n f C) (i4 : 4 ≤ C.p) (i8 : C.p ≤ 8) (hr : ∀ y, C.r y ≤ 33 - C.p) {m : Nat} (hm : m < 4294967296) : ∃ h', zc PG mX2_raises [.ref a, .int (nI m)] h = some (.inl (some (.int (zb (decide (C.r (kpl m C.p) < krk m C.p))))), h') ∧ cO h' D a a1 a2 n f (C.p, C.l, C.d, C.m, krs C.r (kpl m C.p) (krk m C.p)) ∧ cK (fun q => q = a2) h h' := by
  have hb := (krk_bounds m (p := C.p) (by omega)).2
  obtain ⟨h', w1, w2, w3⟩ := c_raises2 e (fun y => by have := hr y; omega) (x := kpl m C.p) (r := krk m C.p) (kpl_256 hm i8) (by omega)
  exact ⟨h', by simp (disch := omega) only [eX2_raises, uX2_raises, zKK, zB, zBl, zBb, zlg, zA, zA3, zL3, km31, km63, klshr, kishr, k2p, kl1shl, klmask, kland1, kiand1, k_l2i, zrt_b, zrt_0, zrt_1, zdv_n, zdv_l, cg_p e, cg_is e, d_placeOf, d_rankOf, w1], w2, w3⟩
theorem kfd_in {m : Nat} {L : List Nat} (h : m ∈ L) : kfd m L = nI (kpos m L) := if_pos h
theorem kfd_out {m : Nat} {L : List Nat} (h : m ∉ L) : kfd m L = -1 - nI (kpos m L) := if_neg h
theorem kng_toInt {k : Nat} (hk : k < 2147483648) : (-1 - nI k).toInt = -1 - (k : Int) := by
  rw [Int32.toInt_sub, nI_toInt hk, show (-1 : Int32).toInt = -1 by decide]
  exact Int.bmod_eq_of_le (by show -(2147483648 : Int) ≤ _; omega) (by show _ < (2147483648 : Int); omega)
theorem kng_lt {k : Nat} (hk : k < 2147483648) : -1 - nI k < nI 0 := by
  rw [Int32.lt_iff_toInt_lt, kng_toInt hk, nI_toInt (by omega)]
  omega
theorem kng_2 (k : Nat) : -1 - (-1 - nI k) = nI k := by
  have : ∀ x : Int32, -1 - (-1 - x) = x := fun x => by
    apply Int32.toBitVec_inj.mp
    show (4294967295#32) - ((4294967295#32) - x.toBitVec) = x.toBitVec
    apply BitVec.eq_of_toNat_eq
    have := x.toBitVec.isLt
    rw [BitVec.toNat_sub, BitVec.toNat_sub, BitVec.toNat_ofNat]
    omega
  exact this _
/-- the branch on what find tells -/
theorem zBn (pg : List zM) : ∀ (k M t n : Nat) (ls st : List Value) (h : zH), k < 2147483648 → zbr pg (-1 - nI k < nI 0) M t n ls st h = zs pg M t ls st h := fun _ _ _ _ _ _ _ hk => zbr_t (kng_lt hk)
theorem n_wouldChange {h : zH} {D a : Nat} {C : kC} (e : cN h D a C) {m : Nat} (hm : m < 4294967296) : zc PG mX2_wouldChange [.ref a, .int (nI m)] h = some (.inl (some (.int (zb (kwould C m)))), h) := by
  obtain ⟨n, f, e1, e2, iC⟩ := e
  have i4 := iC.1
  have i8 := iC.2.1
  have hb := (krk_bounds m (p := C.p) (by omega)).2
  have hk := kpl_256 hm i8
  have hr := iC.2.2.2.2.1 (kpl m C.p)
  have hr1 := cr_r e1 (x := kpl m C.p) hk
  have gd := cg_d e1
  unfold kwould
  cases hd : C.d with
  | true =>
    rw [hd] at gd
    by_cases e3 : C.r (kpl m C.p) < krk m C.p
    · simp (disch := omega) only [eX2_wouldChange, uX2_wouldChange, zKK, zB, zBl, zBb, zlg, zA, zA3, zL3, km31, km63, klshr, kishr, k2p, kl1shl, klmask, kland1, kiand1, k_l2i, zrt_b, zrt_0, zrt_1, zdv_n, zdv_l, gd, cg_p e1, cg_r e1, d_placeOf, d_rankOf, hr1, e3, decide_true, if_true, zb_t]
    · simp (disch := omega) only [eX2_wouldChange, uX2_wouldChange, zKK, zB, zBl, zBb, zlg, zA, zA3, zL3, km31, km63, klshr, kishr, k2p, kl1shl, klmask, kland1, kiand1, k_l2i, zrt_b, zrt_0, zrt_1, zdv_n, zdv_l, gd, cg_p e1, cg_r e1, d_placeOf, d_rankOf, hr1, e3, decide_false, if_true, zb_f]
  | false =>
    rw [hd] at gd
    have hf := c_find e1 e2 iC hd hm
    have hl := kpos_le m C.m
    have hl2 := iC.2.2.2.2.2.2.2.2.2.1
    have hl3 := iC.2.2.2.1
    by_cases e3 : m ∈ C.m
    · rw [kfd_in e3] at hf
      simp (disch := omega) only [eX2_wouldChange, uX2_wouldChange, zKK, zB, zBl, zBb, zlg, zA, zA3, zL3, km31, km63, klshr, kishr, k2p, kl1shl, klmask, kland1, kiand1, k_l2i, zrt_b, zrt_0, zrt_1, zdv_n, zdv_l, gd, cg_is e1, hf, e3, not_true_eq_false, decide_false, Bool.false_eq_true, if_false, zb_f]
    · rw [kfd_out e3] at hf
      simp (disch := omega) only [eX2_wouldChange, uX2_wouldChange, zKK, zB, zBl, zBb, zlg, zA, zA3, zL3, km31, km63, klshr, kishr, k2p, kl1shl, klmask, kland1, kiand1, k_l2i, zrt_b, zrt_0, zrt_1, zdv_n, zdv_l, gd, cg_is e1, hf, zBn, e3, not_false_eq_true, decide_true, Bool.false_eq_true, if_false, zb_t]
theorem kins_cpy {m n : Nat} {L : List Nat} {f : Nat → Int32} (hn : n = L.length) (hf : ∀ k, k < n → f k = nI (L.getD k 0)) : ∀ k, k < n + 1 → va_up (va_cpy f f (kpos m L) (kpos m L + 1) (n - kpos m L)) (kpos m L) (nI m) k = nI ((kins m L).getD k 0) := by
  intro k hk
  have hl := kpos_le m L
  rw [kins_get]
  unfold va_up va_cpy
  by_cases h1 : k < kpos m L
  · rw [if_neg (by omega), if_neg (by omega), if_pos h1]
    exact hf k (by omega)
  · by_cases h2 : k = kpos m L
    · rw [if_pos h2, if_neg h1, if_pos h2]
    · rw [if_neg h2, if_pos ⟨by omega, by omega⟩, if_neg h1, if_neg h2, show kpos m L + (k - (kpos m L + 1)) = k - 1 by omega]
      exact hf _ (by omega)
theorem kPr : (∀ (p l : Nat) (d : Bool) (M : List Nat) (r : Nat → Nat), kC.p (p, l, d, M, r) = p) ∧ (∀ (p l : Nat) (d : Bool) (M : List Nat) (r : Nat → Nat), kC.l (p, l, d, M, r) = l) ∧ (∀ (p l : Nat) (d : Bool) (M : List Nat) (r : Nat → Nat), kC.d (p, l, d, M, r) = d) ∧ (∀ (p l : Nat) (d : Bool) (M : List Nat) (r : Nat → Nat), kC.m (p, l, d, M, r) = M) ∧ (∀ (p l : Nat) (d : Bool) (M : List Nat) (r : Nat → Nat), kC.r (p, l, d, M, r) = r) := ⟨fun _ _ _ _ _ => rfl, fun _ _ _ _ _ => rfl, fun _ _ _ _ _ => rfl, fun _ _ _ _ _ => rfl, fun _ _ _ _ _ => rfl⟩
/-- a mark comes -/
theorem n_adds {h : zH} {D a : Nat} {C : kC} (w : hW h) (e : cN h D a C) {m : Nat} (hm : m < 4294967296) : ∃ h', zc PG mX2_adds [.ref a, .int (nI m)] h = some (.inl (some (.int (zb (kwould C m)))), h') ∧ cN h' D a (kcomes C m) ∧ hF (cA a) 0 0 h h' := by
  have e0 := e
  obtain ⟨n, f, e1, e2, iC⟩ := e
  have i4 := iC.1
  have i8 := iC.2.1
  have hr := iC.2.2.2.2.1
  have hb := (krk_bounds m (p := C.p) (by omega)).2
  have hI := kI_comes iC hm
  have gd := cg_d e1
  have m1 : ∀ q, q = a → cA a q := fun q z => Or.inl z
  have m2 : ∀ q, q = a + 1 → cA a q := fun q z => Or.inr (Or.inl z)
  have m3 : ∀ q, q = a + 2 → cA a q := fun q z => Or.inr (Or.inr z)
  cases hd : C.d with
  | true =>
    rw [hd] at gd
    obtain ⟨h', r1, r2, r3⟩ := c_raises e1 i4 i8 hr hm
    have ek : kcomes C m = kraise C m := by unfold kcomes; rw [hd]; rfl
    have ew : kwould C m = decide (C.r (kpl m C.p) < krk m C.p) := by unfold kwould; rw [hd]; rfl
    rw [ek] at hI
    refine ⟨h', ?_, ?_, (r3.mono m3).f w (e0.ltA w)⟩
    · rw [ew]
      simp (disch := omega) only [eX2_adds, uX2_adds, zKK, zB, zBl, zBb, zlg, zA, zA3, zL3, km31, km63, klshr, kishr, k2p, kl1shl, klmask, kland1, kiand1, k_l2i, zrt_b, zrt_0, zrt_1, zdv_n, zdv_l, gd, cg_is e1, r1]
    · rw [ek]
      exact ⟨n, f, r2, ⟨e2.1, fun z => absurd (z.symm.trans (show (kraise C m).d = true from hd)) (by decide)⟩, hI⟩
  | false =>
    rw [hd] at gd
    obtain ⟨hn49, hM⟩ := e2
    obtain ⟨hn, hf⟩ := hM hd
    have hl := kpos_le m C.m
    have hl2 := iC.2.2.2.2.2.2.2.2.2.1
    have hl3 := iC.2.2.2.1
    have hfd := c_find e1 ⟨hn49, hM⟩ iC hd hm
    by_cases hin : m ∈ C.m
    · rw [kfd_in hin] at hfd
      have ek : kcomes C m = C := by unfold kcomes; rw [hd]; simp only [Bool.false_eq_true, if_false, hin, if_true]
      have ew : kwould C m = false := by unfold kwould; rw [hd]; simp only [Bool.false_eq_true, if_false, hin, not_true_eq_false, decide_false]
      refine ⟨h, ?_, ?_, hF.rf w _⟩
      · rw [ew]
        simp (disch := omega) only [eX2_adds, uX2_adds, zKK, zB, zBl, zBb, zlg, zA, zA3, zL3, km31, km63, klshr, kishr, k2p, kl1shl, klmask, kland1, kiand1, k_l2i, zrt_b, zrt_0, zrt_1, zdv_n, zdv_l, gd, cg_is e1, hfd, zBn, zb_f]
      · rw [ek]; exact e0
    · rw [kfd_out hin] at hfd
      have ew : kwould C m = true := by unfold kwould; rw [hd]; simp only [Bool.false_eq_true, if_false, hin, not_false_eq_true, decide_true]
      have ek : kcomes C m = (C.p, C.l, decide (C.l < C.m.length + 1), if C.l < C.m.length + 1 then [] else kins m C.m, krs C.r (kpl m C.p) (krk m C.p)) := by unfold kcomes; rw [hd]; simp only [Bool.false_eq_true, if_false, hin]
      obtain ⟨h1, p1, q1, k1⟩ := cw_cp e1 (i := kpos m C.m) (j := kpos m C.m + 1) (k := n - kpos m C.m) (by omega) (by omega)
      obtain ⟨h2, p2, q2, k2⟩ := cw_m q1 (i := kpos m C.m) (by omega) (nI m)
      obtain ⟨h3, p3, q3, k3⟩ := cw_n q2 (n + 1)
      obtain ⟨h4, p4, q4, k4⟩ := c_raises q3 i4 i8 hr hm
      have hfi := kins_cpy (m := m) hn hf
      rw [ek] at hI ⊢
      rw [ew, zb_t]
      by_cases hlt : C.l < C.m.length + 1
      · obtain ⟨h5, p5, q5, k5⟩ := cw_d q4 true []
        rw [zb_t] at p5
        rw [decide_eq_true hlt, if_pos hlt] at hI ⊢
        refine ⟨h5, ?_, ⟨n + 1, _, q5, ⟨by omega, fun z => by cases z⟩, hI⟩, ?_⟩
        · simp (disch := omega) only [eX2_adds, uX2_adds, zKK, zB, zBl, zBb, zlg, zA, zA3, zL3, km31, km63, klshr, kishr, k2p, kl1shl, klmask, kland1, kiand1, k_l2i, zrt_b, zrt_0, zrt_1, zdv_n, zdv_l, gd, cg_is e1, hfd, kng_2, cg_m e1, cg_n e1, p1, cg_m q1, p2, cg_n q2, p3, cg_is q3, p4, cg_n q4, cg_l q4, p5, kPr]
        · exact ((((k1.mono m2).trans (k2.mono m2)).trans (k3.mono m1)).trans (k4.mono m3)).trans (k5.mono m1) |>.f w (e0.ltA w)
      · obtain ⟨h5, p5, q5, k5⟩ := cw_d q4 false (kins m C.m)
        rw [zb_f] at p5
        rw [decide_eq_false hlt, if_neg hlt] at hI ⊢
        refine ⟨h5, ?_, ⟨n + 1, _, q5, ⟨by omega, fun z => ⟨?_, hfi⟩⟩, hI⟩, ?_⟩
        · simp (disch := omega) only [eX2_adds, uX2_adds, zKK, zB, zBl, zBb, zlg, zA, zA3, zL3, km31, km63, klshr, kishr, k2p, kl1shl, klmask, kland1, kiand1, k_l2i, zrt_b, zrt_0, zrt_1, zdv_n, zdv_l, gd, cg_is e1, hfd, kng_2, cg_m e1, cg_n e1, p1, cg_m q1, p2, cg_n q2, p3, cg_is q3, p4, cg_n q4, cg_l q4, p5, kPr]
        · show n + 1 = (kins m C.m).length
          rw [kins_len, hn]
        · exact ((((k1.mono m2).trans (k2.mono m2)).trans (k3.mono m1)).trans (k4.mono m3)).trans (k5.mono m1) |>.f w (e0.ltA w)
