/-! THE MODEL's PUBLIC METHODS: runs, gaps, ranks put -/
/-- runs of ranks: how many, the longest, where it begins, where the last one begins -/
def krf (r : Nat → Nat) : Nat → Nat × Nat × Nat × Nat
  | 0 => (0, 0, 0, 0)
  | x + 1 =>
    let b := if x = 0 ∨ r x ≠ r (x - 1) then x else (krf r x).2.2.2
    (if x = 0 ∨ r x ≠ r (x - 1) then (krf r x).1 + 1 else (krf r x).1, if (krf r x).2.1 < x + 1 - b then x + 1 - b else (krf r x).2.1, if (krf r x).2.1 < x + 1 - b then b else (krf r x).2.2.1, b)
theorem krf_le (r : Nat → Nat) (x : Nat) : (krf r x).1 ≤ x ∧ (krf r x).2.1 ≤ x ∧ (krf r x).2.2.1 ≤ x ∧ (krf r x).2.2.2 ≤ x ∧ (0 < x → (krf r x).2.2.1 < x) := by
  induction x with
  | zero => exact ⟨Nat.le_refl _, Nat.le_refl _, Nat.le_refl _, Nat.le_refl _, fun q => absurd q (Nat.lt_irrefl _)⟩
  | succ x ih =>
    obtain ⟨h1, h2, h3, h4, h5⟩ := ih
    unfold krf
    dsimp only
    by_cases e : x = 0 ∨ r x ≠ r (x - 1)
    · simp only [if_pos e]
      refine ⟨by omega, by split <;> omega, by split <;> omega, by omega, fun _ => by split <;> omega⟩
    · simp only [if_neg e]
      have : 0 < x := Nat.pos_of_ne_zero (fun q => e (Or.inl q))
      refine ⟨by omega, by split <;> omega, by split <;> omega, by omega, fun _ => ?_⟩
      have := h5 this
      split <;> omega
theorem t_runsOf_loop {α : Nat → Nat} (hα : mD α) (σ : mS) (h : zH) {c : Nat} {C : kC} (hR : mRd σ c C) (k : Nat) : ∀ x, x + k = 2 ^ C.p → zs PG mX3_runsOf 27 [.ref (α 0), .int (nI c), .int (nI (krf C.r x).1), .int (nI (krf C.r x).2.1), .int (nI (krf C.r x).2.2.1), .int (nI (krf C.r x).2.2.2), .int (nI x)] [] (mH α σ h) = zs PG mX3_runsOf 108 [.ref (α 0), .int (nI c), .int (nI (krf C.r (2 ^ C.p)).1), .int (nI (krf C.r (2 ^ C.p)).2.1), .int (nI (krf C.r (2 ^ C.p)).2.2.1), .int (nI (krf C.r (2 ^ C.p)).2.2.2), .int (nI (2 ^ C.p))] [] (mH α σ h) := by
  obtain ⟨hc, hb, h8, h4, hr, hr2⟩ := hR
  have h2 := k2p_le h8
  have hp := t_places hα σ h hc (by rw [hb]; exact h8)
  rw [hb] at hp
  induction k with
  | zero =>
    intro x hx
    have hx : x = 2 ^ C.p := hx
    subst hx
    rw [uX3_runsOf_at27]
    simp (disch := omega) only [uX3_runsOf_at29, uX3_runsOf_at30, uX3_runsOf_at31, uX3_runsOf_at34, mG, zKK, zB, hp]
  | succ k ih =>
    intro x hx
    have hr1 := hr x (by omega)
    have hr3 := hr2 x
    obtain ⟨l1, l2, l3, l4, l5⟩ := krf_le C.r x
    rw [← ih (x + 1) (by omega), uX3_runsOf_at27, krf]
    dsimp only
    by_cases e0 : x = 0
    · have e : x = 0 ∨ C.r x ≠ C.r (x - 1) := Or.inl e0
      simp only [if_pos e]
      by_cases e2 : (krf C.r x).2.1 < x + 1 - x
      · simp (disch := omega) only [uX3_runsOf_p0, uX3_runsOf_p1, mG, mP hα, mR hα, mW hα, mgs, zKK, zB, zBl, zBb, zlg, zA, zA3, zL3, km31, km63, klshr, kishr, k2p, kl1shl, klmask, kland1, kiand1, k_l2i, zrt_b, zrt_0, zrt_1, zdv_n, zdv_l, hp, if_pos e2]
      · exfalso
        omega
    · have hr4 := hr (x - 1) (by omega)
      have hr5 := hr2 (x - 1)
      by_cases e1 : C.r x = C.r (x - 1)
      · have e : ¬ (x = 0 ∨ C.r x ≠ C.r (x - 1)) := fun q => q.elim e0 (fun q => q e1)
        simp only [if_neg e]
        by_cases e2 : (krf C.r x).2.1 < x + 1 - (krf C.r x).2.2.2
        · simp (disch := omega) only [uX3_runsOf_p0, uX3_runsOf_p1, mG, mP hα, mR hα, mW hα, mgs, zKK, zB, zBl, zBb, zlg, zA, zA3, zL3, km31, km63, klshr, kishr, k2p, kl1shl, klmask, kland1, kiand1, k_l2i, zrt_b, zrt_0, zrt_1, zdv_n, zdv_l, hp, t_at, hr1, hr4, if_pos e2]
        · simp (disch := omega) only [uX3_runsOf_p0, uX3_runsOf_p1, mG, mP hα, mR hα, mW hα, mgs, zKK, zB, zBl, zBb, zlg, zA, zA3, zL3, km31, km63, klshr, kishr, k2p, kl1shl, klmask, kland1, kiand1, k_l2i, zrt_b, zrt_0, zrt_1, zdv_n, zdv_l, hp, t_at, hr1, hr4, if_neg e2]
      · have e : x = 0 ∨ C.r x ≠ C.r (x - 1) := Or.inr e1
        simp only [if_pos e]
        by_cases e2 : (krf C.r x).2.1 < x + 1 - x
        · simp (disch := omega) only [uX3_runsOf_p0, uX3_runsOf_p1, mG, mP hα, mR hα, mW hα, mgs, zKK, zB, zBl, zBb, zlg, zA, zA3, zL3, km31, km63, klshr, kishr, k2p, kl1shl, klmask, kland1, kiand1, k_l2i, zrt_b, zrt_0, zrt_1, zdv_n, zdv_l, hp, t_at, hr1, hr4, if_pos e2]
        · simp (disch := omega) only [uX3_runsOf_p0, uX3_runsOf_p1, mG, mP hα, mR hα, mW hα, mgs, zKK, zB, zBl, zBb, zlg, zA, zA3, zL3, km31, km63, klshr, kishr, k2p, kl1shl, klmask, kland1, kiand1, k_l2i, zrt_b, zrt_0, zrt_1, zdv_n, zdv_l, hp, t_at, hr1, hr4, if_neg e2]
def q_runsOf (S : kS) (c : Int32) : Int32 × kS := if kbd c 0 5 then (nI (krf (S.c (kN c)).r (2 ^ (S.c (kN c)).p)).1, S.s_w [lN (krf (S.c (kN c)).r (2 ^ (S.c (kN c)).p)).2.1, lN (krf (S.c (kN c)).r (2 ^ (S.c (kN c)).p)).2.2.1, lN ((S.c (kN c)).r (krf (S.c (kN c)).r (2 ^ (S.c (kN c)).p)).2.2.1)]) else (-1, S)
theorem M_runsOf {α : Nat → Nat} (hα : mD α) (σ : mS) (h : zH) {S : kS} (hR : mR6 S σ) (hI : kSI S) (c : Int32) : ∃ σ', zc PG mX3_runsOf [.ref (α 0), .int c] (mH α σ h) = some (.inl (some (.int (q_runsOf S c).1)), mH α σ' h) ∧ mR6 (q_runsOf S c).2 σ' := by
  unfold q_runsOf
  rcases kbd_cases c 0 5 with e1 | ⟨c, -, hc, rfl⟩
  · simp only [e1, Bool.false_eq_true, if_false]
    refine ⟨_, ?_, hR.th 0⟩
    simp (disch := omega) only [eX3_runsOf, uX3_runsOf_p0, uX3_runsOf_p1, mG, mP hα, mR hα, mW hα, mgs, zKK, zB, zBl, zBb, zlg, zA, zA3, zL3, km31, km63, klshr, kishr, k2p, kl1shl, klmask, kland1, kiand1, k_l2i, zrt_b, zrt_0, zrt_1, zdv_n, zdv_l, t_isCounter, e1]
  · have e1 := kbd_nI (Nat.zero_le c) hc (by omega)
    simp only [e1, if_true]
    rw [kN_nI (by omega)]
    have iC := hI.1 c (by omega)
    have sC := (hR.th 0).1 c (by omega)
    have rd := sC.rd iC (by omega)
    have h2 := k2p_le iC.2.1
    have h3 := k2p_ge iC.1
    have el := t_runsOf_loop hα (σ.s_th 0) h rd (2 ^ (S.c c).p) 0 (by omega)
    rw [show krf (S.c c).r 0 = (0, 0, 0, 0) from rfl] at el
    dsimp only at el
    obtain ⟨l1, l2, l3, l4, l5⟩ := krf_le (S.c c).r (2 ^ (S.c c).p)
    have l5 := l5 (by omega)
    have g6 := sC.eq.2.2.2.2.2 (krf (S.c c).r (2 ^ (S.c c).p)).2.2.1 (by omega)
    have g7 := rd.2.2.2.2.2 (krf (S.c c).r (2 ^ (S.c c).p)).2.2.1
    refine ⟨_, ?_, (((hR.th 0).rm0.tell (lN (krf (S.c c).r (2 ^ (S.c c).p)).2.1)).tell (lN (krf (S.c c).r (2 ^ (S.c c).p)).2.2.1)).tell (lN ((S.c c).r (krf (S.c c).r (2 ^ (S.c c).p)).2.2.1))⟩
    simp (disch := omega) only [eX3_runsOf, uX3_runsOf_p0, uX3_runsOf_p1, mG, mP hα, mR hα, mW hα, mgs, zKK, zB, zBl, zBb, zlg, zA, zA3, zL3, km31, km63, klshr, kishr, k2p, kl1shl, klmask, kland1, kiand1, k_l2i, zrt_b, zrt_0, zrt_1, zdv_n, zdv_l, t_isCounter, e1, el, t_tell_s hα, t_at, g6]
/-- empty places from x on, around -/
def kgn (r : Nat → Nat) (m x : Nat) : Nat → Nat → Nat
  | 0, n => n
  | f + 1, n => if r ((x + n) % m) = 0 then kgn r m x f (n + 1) else n
theorem kgn_le (r : Nat → Nat) (m x f : Nat) : ∀ n, kgn r m x f n ≤ n + f := by
  induction f with
  | zero => intro n; exact Nat.le_refl _
  | succ f ih =>
    intro n
    unfold kgn
    split
    · have := ih (n + 1); omega
    · omega
theorem t_gap_inner {α : Nat → Nat} (hα : mD α) (σ : mS) (h : zH) {c : Nat} {C : kC} (hR : mRd σ c C) (a3 a4 : Int32) {x : Nat} (hx : x < 2 ^ C.p) (f : Nat) : ∀ n, n + f = 2 ^ C.p → zs PG mX3_gap 37 [.ref (α 0), .int (nI c), .int (nI (2 ^ C.p)), .int a3, .int a4, .int (nI x), .int (nI n)] [] (mH α σ h) = zs PG mX3_gap 68 [.ref (α 0), .int (nI c), .int (nI (2 ^ C.p)), .int a3, .int a4, .int (nI x), .int (nI (kgn C.r (2 ^ C.p) x f n))] [] (mH α σ h) := by
  obtain ⟨hc, hb, h8, h4, hr, hr2⟩ := hR
  have h2 := k2p_le h8
  induction f with
  | zero =>
    intro n hn
    rw [uX3_gap_at37]
    simp (disch := omega) only [uX3_gap_at39, uX3_gap_at40, zKK, zB, kgn]
  | succ f ih =>
    intro n hn
    have hlt : (x + n) % 2 ^ C.p < 2 ^ C.p := Nat.mod_lt _ (by omega)
    have hr1 := hr ((x + n) % 2 ^ C.p) (by omega)
    have hr3 := hr2 ((x + n) % 2 ^ C.p)
    have em : nI (x + n) - nI (x + n) / nI (2 ^ C.p) * nI (2 ^ C.p) = nI ((x + n) % 2 ^ C.p) := pk_rem (by omega) (by omega) (by omega)
    rw [uX3_gap_at37]
    unfold kgn
    by_cases e : C.r ((x + n) % 2 ^ C.p) = 0
    · rw [if_pos e, ← ih (n + 1) (by omega)]
      simp (disch := omega) only [uX3_gap, mG, mR hα, zKK, zB, zA, zdv_n, em, t_at, hr1]
    · rw [if_neg e]
      simp (disch := omega) only [uX3_gap, mG, mR hα, zKK, zB, zA, zdv_n, em, t_at, hr1]
def kgp (r : Nat → Nat) (m : Nat) : Nat → Nat × Int32
  | 0 => (0, -1)
  | x + 1 => if (kgp r m x).1 < kgn r m x m 0 then (kgn r m x m 0, nI x) else kgp r m x
theorem kgp_le (r : Nat → Nat) (m x : Nat) : (kgp r m x).1 ≤ m := by
  induction x with
  | zero => exact Nat.zero_le _
  | succ x ih =>
    unfold kgp
    split
    · have := kgn_le r m x m 0
      show kgn r m x m 0 ≤ m
      omega
    · exact ih
theorem t_gap_loop {α : Nat → Nat} (hα : mD α) (σ : mS) (h : zH) {c : Nat} {C : kC} (hR : mRd σ c C) (k : Nat) : ∀ (x : Nat) (u : Value), x + k = 2 ^ C.p → ∃ u', zs PG mX3_gap 28 [.ref (α 0), .int (nI c), .int (nI (2 ^ C.p)), .int (nI (kgp C.r (2 ^ C.p) x).1), .int (kgp C.r (2 ^ C.p) x).2, .int (nI x), u] [] (mH α σ h) = zs PG mX3_gap 90 [.ref (α 0), .int (nI c), .int (nI (2 ^ C.p)), .int (nI (kgp C.r (2 ^ C.p) (2 ^ C.p)).1), .int (kgp C.r (2 ^ C.p) (2 ^ C.p)).2, .int (nI (2 ^ C.p)), u'] [] (mH α σ h) := by
  have h2 := k2p_le hR.2.2.1
  induction k with
  | zero =>
    intro x u hx
    have hx : x = 2 ^ C.p := hx
    subst hx
    refine ⟨u, ?_⟩
    rw [uX3_gap_at28]
    simp (disch := omega) only [uX3_gap_at30, uX3_gap_at31, zKK, zB]
  | succ k ih =>
    intro x u hx
    have l1 := kgp_le C.r (2 ^ C.p) x
    have l2 := kgn_le C.r (2 ^ C.p) x (2 ^ C.p) 0
    have ei := t_gap_inner hα σ h hR (nI (kgp C.r (2 ^ C.p) x).1) (kgp C.r (2 ^ C.p) x).2 (x := x) (by omega) (2 ^ C.p) 0 (by omega)
    obtain ⟨u', r⟩ := ih (x + 1) (.int (nI (kgn C.r (2 ^ C.p) x (2 ^ C.p) 0))) (by omega)
    refine ⟨u', ?_⟩
    rw [← r, uX3_gap_at28, kgp]
    by_cases e : (kgp C.r (2 ^ C.p) x).1 < kgn C.r (2 ^ C.p) x (2 ^ C.p) 0
    · rw [if_pos e]
      simp (disch := omega) only [uX3_gap, zKK, zB, zA, ei]
    · rw [if_neg e]
      simp (disch := omega) only [uX3_gap, zKK, zB, zA, ei]
def q_gap (S : kS) (c : Int32) : Int32 × kS := if kbd c 0 5 then (nI (kgp (S.c (kN c)).r (2 ^ (S.c (kN c)).p) (2 ^ (S.c (kN c)).p)).1, S.s_w [(kgp (S.c (kN c)).r (2 ^ (S.c (kN c)).p) (2 ^ (S.c (kN c)).p)).2.toInt64]) else (-1, S)
theorem M_gap {α : Nat → Nat} (hα : mD α) (σ : mS) (h : zH) {S : kS} (hR : mR6 S σ) (hI : kSI S) (c : Int32) : ∃ σ', zc PG mX3_gap [.ref (α 0), .int c] (mH α σ h) = some (.inl (some (.int (q_gap S c).1)), mH α σ' h) ∧ mR6 (q_gap S c).2 σ' := by
  unfold q_gap
  rcases kbd_cases c 0 5 with e1 | ⟨c, -, hc, rfl⟩
  · simp only [e1, Bool.false_eq_true, if_false]
    refine ⟨_, ?_, hR.th 0⟩
    simp (disch := omega) only [eX3_gap, uX3_gap, mG, mP hα, mR hα, mW hα, mgs, zKK, zB, zBl, zBb, zlg, zA, zA3, zL3, km31, km63, klshr, kishr, k2p, kl1shl, klmask, kland1, kiand1, k_l2i, zrt_b, zrt_0, zrt_1, zdv_n, zdv_l, t_isCounter, e1]
  · have e1 := kbd_nI (Nat.zero_le c) hc (by omega)
    simp only [e1, if_true]
    rw [kN_nI (by omega)]
    have rd := ((hR.th 0).1 c (by omega)).rd (hI.1 c (by omega)) (by omega)
    have hp := t_places hα (σ.s_th 0) h (c := c) (by omega) (by rw [rd.2.1]; exact rd.2.2.1)
    rw [rd.2.1] at hp
    obtain ⟨u, el⟩ := t_gap_loop hα (σ.s_th 0) h rd (2 ^ (S.c c).p) 0 zJ (by omega)
    rw [show kgp (S.c c).r (2 ^ (S.c c).p) 0 = (0, -1) from rfl] at el
    dsimp only at el
    refine ⟨_, ?_, (hR.th 0).rm0.tell (kgp (S.c c).r (2 ^ (S.c c).p) (2 ^ (S.c c).p)).2.toInt64⟩
    simp (disch := omega) only [eX3_gap, uX3_gap, mG, mP hα, mR hα, mW hα, mgs, zKK, zB, zBl, zBb, zlg, zA, zA3, zL3, km31, km63, klshr, kishr, k2p, kl1shl, klmask, kland1, kiand1, k_l2i, zrt_b, zrt_0, zrt_1, zdv_n, zdv_l, t_isCounter, e1, hp, el, t_tell_s hα]
/-! ranks put -/
/-- rank x of a row of bits -/
def kr5 (w : Int64) (x : Nat) : Nat := w.toBitVec.toNat / 2 ^ (5 * x) % 32
theorem kr5_lt (w : Int64) (x : Nat) : kr5 w x < 32 := Nat.mod_lt _ (by decide)
theorem klshr_and (w : Int64) {k : Nat} (hk : k ≤ 59) : w >>> lN k &&& lN 31 = lN (w.toBitVec.toNat / 2 ^ k % 32) := by
  apply Int64.toBitVec_inj.mp
  apply BitVec.eq_of_getLsbD_eq
  intro i hi
  have hs : ((lN k).toBitVec.smod 64).toNat = k := by
    rw [wb_tb, wb_sm k (by omega), BitVec.toNat_ofNat]
    exact Nat.mod_eq_of_lt (by omega)
  show ((w.toBitVec.sshiftRight ((lN k).toBitVec.smod 64).toNat) &&& 31#64).getLsbD i = (BitVec.ofNat 64 (w.toBitVec.toNat / 2 ^ k % 32)).getLsbD i
  have h31 : (31#64).getLsbD i = decide (i < 5) := by
    have : ∀ i : Fin 64, (31#64).getLsbD i.val = decide (i.val < 5) := by decide +kernel
    exact this ⟨i, hi⟩
  rw [hs, BitVec.getLsbD_and, BitVec.getLsbD_sshiftRight, h31, BitVec.getLsbD_ofNat]
  rw [show (32 : Nat) = 2 ^ 5 from rfl, Nat.testBit_mod_two_pow, Nat.testBit_div_two_pow]
  by_cases h5 : i < 5
  · have e1 : ¬ 64 ≤ i := by omega
    have e2 : k + i < 64 := by omega
    simp [hi, h5, e1, e2, BitVec.getLsbD, Nat.add_comm]
  · simp [h5]
theorem klshr60 (w : Int64) : (w >>> lN 60 = lN 0) = (w.toBitVec.toNat < 2 ^ 60) := by
  have hs : ((lN 60).toBitVec.smod 64).toNat = 60 := by decide
  apply propext
  constructor
  · intro e
    have e1 : (w.toBitVec.sshiftRight ((lN 60).toBitVec.smod 64).toNat) = 0#64 := congrArg Int64.toBitVec e
    rw [hs] at e1
    refine Nat.not_le.mp fun hge => ?_
    have hlt := w.toBitVec.isLt
    have hz : ∀ i, i < 4 → w.toBitVec.getLsbD (60 + i) = false := by
      intro i hi
      have := congrArg (fun z => z.getLsbD i) e1
      simp only [BitVec.getLsbD_sshiftRight] at this
      rw [if_pos (by omega)] at this
      simpa [show ¬ 64 ≤ i by omega] using this
    have h60 : w.toBitVec.toNat / 2 ^ 60 = 0 := by
      apply Nat.eq_of_testBit_eq
      intro i
      rw [Nat.testBit_div_two_pow, Nat.zero_testBit]
      by_cases hi : i < 4
      · have := hz i hi
        rw [Nat.add_comm] at this
        exact this
      · exact Nat.testBit_lt_two_pow (Nat.lt_of_lt_of_le hlt (Nat.pow_le_pow_right (by decide) (by omega)))
    have := (Nat.div_eq_zero_iff).mp h60
    omega
  · intro hlt
    apply Int64.toBitVec_inj.mp
    show (w.toBitVec.sshiftRight ((lN 60).toBitVec.smod 64).toNat) = 0#64
    rw [hs]
    apply BitVec.eq_of_getLsbD_eq
    intro i hi
    rw [BitVec.getLsbD_sshiftRight]
    have hb : ∀ j, 60 ≤ j → w.toBitVec.getLsbD j = false := fun j hj => Nat.testBit_lt_two_pow (Nat.lt_of_lt_of_le hlt (Nat.pow_le_pow_right (by decide) hj))
    by_cases e : 60 + i < 64
    · rw [if_pos e, hb _ (by omega)]
      simp
    · rw [if_neg e, BitVec.msb_eq_getLsbD_last, hb _ (by decide)]
      simp
/-- the most that rank x of row j may be -/
def kpm (C : kC) (j x : Nat) : Nat := if 12 * j + x < 2 ^ C.p then 33 - C.p else 0
def kpk (C : kC) (j : Nat) (w : Int64) : Nat → Nat → Bool
  | 0, _ => true
  | n + 1, x => if kpm C j x < kr5 w x then false else kpk C j w n (x + 1)
/-- how many ranks are others, the ranks then -/
def kpo (r : Nat → Nat) (o : Nat) (w : Int64) : Nat → Nat × (Nat → Nat)
  | 0 => (0, r)
  | x + 1 => ((kpo r o w x).1 + (if r (o + x) = kr5 w x then 0 else 1), va_up (kpo r o w x).2 (o + x) (kr5 w x))
theorem kpo_ge (r : Nat → Nat) (o : Nat) (w : Int64) (n : Nat) : (kpo r o w n).1 ≤ n ∧ ∀ y, o + n ≤ y → (kpo r o w n).2 y = r y := by
  induction n with
  | zero => exact ⟨Nat.le_refl _, fun _ _ => rfl⟩
  | succ n ih =>
    unfold kpo
    dsimp only
    refine ⟨by have := ih.1; split <;> omega, fun y hy => ?_⟩
    rw [va_up_ne _ _ (by omega), ih.2 y (by omega)]
theorem t_puts_check {α : Nat → Nat} (hα : mD α) (σ : mS) (h : zH) {c : Nat} {C : kC} (hR : mRd σ c C) {j : Nat} (hj : j ≤ 21) (w : Int64) (n : Nat) : ∀ (x : Nat) (u : Value), x + n = 12 → zs PG mX3_puts 50 [.ref (α 0), .int (nI c), .int (nI j), .long w, zJ, .int (nI x), u, zJ] [] (mH α σ h) = if kpk C j w n x then zs PG mX3_puts 119 [.ref (α 0), .int (nI c), .int (nI j), .long w, zJ, .int (nI 0), .int (nI 0), zJ] [] (mH α σ h) else some (.inl (some (.int (-3))), mH α σ h) := by
  obtain ⟨hc, hb, h8, h4, hr, hr2⟩ := hR
  have h2 := k2p_le h8
  have hp := t_places hα σ h hc (by rw [hb]; exact h8)
  rw [hb] at hp
  induction n with
  | zero =>
    intro x u hx
    rw [uX3_puts_at50, kpk]
    simp (disch := omega) only [uX3_puts_p0, uX3_puts_p1, uX3_puts_p2, mG, mP hα, mR hα, mW hα, mgs, zKK, zB, zBl, zBb, zlg, zA, zA3, zL3, km31, km63, klshr, kishr, k2p, kl1shl, klmask, kland1, kiand1, k_l2i, zrt_b, zrt_0, zrt_1, zdv_n, zdv_l, if_true]
  | succ n ih =>
    intro x u hx
    have hk5 : w >>> lN (5 * x) &&& lN 31 = lN (kr5 w x) := klshr_and w (by omega)
    have hk := kr5_lt w x
    rw [uX3_puts_at50, kpk]
    by_cases e1 : 12 * j + x < 2 ^ C.p
    · have em : kpm C j x = 33 - C.p := if_pos e1
      rw [em]
      by_cases e2 : 33 - C.p < kr5 w x
      · rw [if_pos e2]
        simp (disch := omega) only [uX3_puts_p0, uX3_puts_p1, uX3_puts_p2, mG, mP hα, mR hα, mW hα, mgs, zKK, zB, zBl, zBb, zlg, zA, zA3, zL3, km31, km63, klshr, kishr, k2p, kl1shl, klmask, kland1, kiand1, k_l2i, zrt_b, zrt_0, zrt_1, zdv_n, zdv_l, hk5, hp, hb, Bool.false_eq_true, if_false]
      · rw [if_neg e2, ← ih (x + 1) (.long (lN (kr5 w x))) (by omega)]
        simp (disch := omega) only [uX3_puts_p0, uX3_puts_p1, uX3_puts_p2, mG, mP hα, mR hα, mW hα, mgs, zKK, zB, zBl, zBb, zlg, zA, zA3, zL3, km31, km63, klshr, kishr, k2p, kl1shl, klmask, kland1, kiand1, k_l2i, zrt_b, zrt_0, zrt_1, zdv_n, zdv_l, hk5, hp, hb]
    · have em : kpm C j x = 0 := if_neg e1
      rw [em]
      by_cases e2 : 0 < kr5 w x
      · rw [if_pos e2]
        simp (disch := omega) only [uX3_puts_p0, uX3_puts_p1, uX3_puts_p2, mG, mP hα, mR hα, mW hα, mgs, zKK, zB, zBl, zBb, zlg, zA, zA3, zL3, km31, km63, klshr, kishr, k2p, kl1shl, klmask, kland1, kiand1, k_l2i, zrt_b, zrt_0, zrt_1, zdv_n, zdv_l, hk5, hp, hb, Bool.false_eq_true, if_false]
      · rw [if_neg e2, ← ih (x + 1) (.long (lN (kr5 w x))) (by omega)]
        simp (disch := omega) only [uX3_puts_p0, uX3_puts_p1, uX3_puts_p2, mG, mP hα, mR hα, mW hα, mgs, zKK, zB, zBl, zBb, zlg, zA, zA3, zL3, km31, km63, klshr, kishr, k2p, kl1shl, klmask, kland1, kiand1, k_l2i, zrt_b, zrt_0, zrt_1, zdv_n, zdv_l, hk5, hp, hb]
theorem t_puts_put {α : Nat → Nat} (hα : mD α) (σ : mS) (h : zH) {c : Nat} {C : kC} (hc : c < 10) (hb : σ.bi c = C.p) (h8 : C.p ≤ 8) (hr : ∀ x, x < 256 → σ.ra (256 * c + x) = C.r x) (hr2 : ∀ x, C.r x ≤ 29) {j : Nat} (hj : 12 * j < 2 ^ C.p) (w : Int64) (n : Nat) : ∀ (x : Nat) (u : Value), x + n = min 12 (2 ^ C.p - 12 * j) → zs PG mX3_puts 119 [.ref (α 0), .int (nI c), .int (nI j), .long w, zJ, .int (nI (kpo C.r (12 * j) w x).1), .int (nI x), u] [] (mH α (σ.s_ra (mblk σ.ra c (kpo C.r (12 * j) w x).2)) h) = some (.inl (some (.int (nI (kpo C.r (12 * j) w (min 12 (2 ^ C.p - 12 * j))).1))), mH α (σ.s_ra (mblk σ.ra c (kpo C.r (12 * j) w (min 12 (2 ^ C.p - 12 * j))).2)) h) := by
  have h2 := k2p_le h8
  have hp : ∀ v, zc PG mX3_places [.ref (α 0), .int (nI c)] (mH α (σ.s_ra v) h) = some (.inl (some (.int (nI (2 ^ C.p)))), mH α (σ.s_ra v) h) := by
    intro v
    have e := t_places hα (σ.s_ra v) h hc (by simp only [mgs]; omega)
    simp only [mgs] at e
    rw [hb] at e
    exact e
  induction n with
  | zero =>
    intro x u hx
    have hx : x = min 12 (2 ^ C.p - 12 * j) := hx
    rw [uX3_puts_at119, ← hx]
    by_cases e : x < 12
    · simp (disch := omega) only [uX3_puts_p0, uX3_puts_p1, uX3_puts_p2, mG, mP hα, mR hα, mW hα, mgs, zKK, zB, zBl, zBb, zlg, zA, zA3, zL3, km31, km63, klshr, kishr, k2p, kl1shl, klmask, kland1, kiand1, k_l2i, zrt_b, zrt_0, zrt_1, zdv_n, zdv_l, hp]
    · simp (disch := omega) only [uX3_puts_p0, uX3_puts_p1, uX3_puts_p2, mG, mP hα, mR hα, mW hα, mgs, zKK, zB, zBl, zBb, zlg, zA, zA3, zL3, km31, km63, klshr, kishr, k2p, kl1shl, klmask, kland1, kiand1, k_l2i, zrt_b, zrt_0, zrt_1, zdv_n, zdv_l, hp]
  | succ n ih =>
    intro x u hx
    have hk5 : w >>> lN (5 * x) &&& lN 31 = lN (kr5 w x) := klshr_and w (by omega)
    have hk := kr5_lt w x
    obtain ⟨l1, l2⟩ := kpo_ge C.r (12 * j) w x
    have e1 : mblk σ.ra c (kpo C.r (12 * j) w x).2 (256 * c + (12 * j + x)) = C.r (12 * j + x) := by
      rw [mblk_s (by omega), l2 _ (by omega)]
    have hr3 := hr2 (12 * j + x)
    rw [uX3_puts_at119, ← ih (x + 1) (.int (nI (kr5 w x))) (by omega), kpo]
    dsimp only
    by_cases e2 : C.r (12 * j + x) = kr5 w x
    · rw [if_pos e2]
      simp (disch := omega) only [uX3_puts_p0, uX3_puts_p1, uX3_puts_p2, mG, mP hα, mR hα, mW hα, mgs, zKK, zB, zBl, zBb, zlg, zA, zA3, zL3, km31, km63, klshr, kishr, k2p, kl1shl, klmask, kland1, kiand1, k_l2i, zrt_b, zrt_0, zrt_1, zdv_n, zdv_l, hk5, hp, t_at, e1, mblk_up, mss]
    · rw [if_neg e2]
      simp (disch := omega) only [uX3_puts_p0, uX3_puts_p1, uX3_puts_p2, mG, mP hα, mR hα, mW hα, mgs, zKK, zB, zBl, zBb, zlg, zA, zA3, zL3, km31, km63, klshr, kishr, k2p, kl1shl, klmask, kland1, kiand1, k_l2i, zrt_b, zrt_0, zrt_1, zdv_n, zdv_l, hk5, hp, t_at, e1, mblk_up, mss]
def kput (C : kC) (j : Nat) (w : Int64) : kC := (C.p, C.l, true, [], (kpo C.r (12 * j) w (min 12 (2 ^ C.p - 12 * j))).2)
def q_puts (S : kS) (c j : Int32) (w : Int64) : Int32 × kS := if kbd c 0 5 && kbd j 0 ((2 ^ (S.c (kN c)).p - 1) / 12) then (if (S.c (kN c)).d then (if decide (w.toBitVec.toNat < 2 ^ 60) && kpk (S.c (kN c)) (kN j) w 12 0 then (nI (kpo (S.c (kN c)).r (12 * kN j) w (min 12 (2 ^ (S.c (kN c)).p - 12 * kN j))).1, S.s_c (kN c) (kput (S.c (kN c)) (kN j) w)) else (-3, S)) else (-2, S)) else (-1, S)
theorem M_puts {α : Nat → Nat} (hα : mD α) (σ : mS) (h : zH) {S : kS} (hR : mR6 S σ) (hI : kSI S) (c j : Int32) (w : Int64) : ∃ σ', zc PG mX3_puts [.ref (α 0), .int c, .int j, .long w] (mH α σ h) = some (.inl (some (.int (q_puts S c j w).1)), mH α σ' h) ∧ mR6 (q_puts S c j w).2 σ' := by
  unfold q_puts
  rcases kbd_cases c 0 5 with e1 | ⟨c, -, hc, rfl⟩
  · simp only [e1, Bool.false_and, Bool.false_eq_true, if_false]
    refine ⟨_, ?_, hR.th 0⟩
    simp (disch := omega) only [eX3_puts, uX3_puts_p0, uX3_puts_p1, uX3_puts_p2, mG, mP hα, mR hα, mW hα, mgs, zKK, zB, zBl, zBb, zlg, zA, zA3, zL3, km31, km63, klshr, kishr, k2p, kl1shl, klmask, kland1, kiand1, k_l2i, zrt_b, zrt_0, zrt_1, zdv_n, zdv_l, t_isCounter, e1]
  · have e1 := kbd_nI (Nat.zero_le c) hc (by omega)
    rw [kN_nI (by omega : c < 2147483648)]
    have iC := hI.1 c (by omega)
    have sC := (hR.th 0).1 c (by omega)
    have rd := sC.rd iC (by omega)
    have h2 := k2p_le iC.2.1
    have h3 := k2p_ge iC.1
    have er := t_isRow hα (σ.s_th 0) h rd j
    have dC : σ.de c = (S.c c).d := sC.eq.2.2.1
    rcases kbd_cases j 0 ((2 ^ (S.c c).p - 1) / 12) with e2 | ⟨j, -, hj, rfl⟩
    · rw [e2] at er
      simp only [e1, e2, Bool.and_false, Bool.false_eq_true, if_false]
      refine ⟨_, ?_, hR.th 0⟩
      simp (disch := omega) only [eX3_puts, uX3_puts_p0, uX3_puts_p1, uX3_puts_p2, mG, mP hα, mR hα, mW hα, mgs, zKK, zB, zBl, zBb, zlg, zA, zA3, zL3, km31, km63, klshr, kishr, k2p, kl1shl, klmask, kland1, kiand1, k_l2i, zrt_b, zrt_0, zrt_1, zdv_n, zdv_l, t_isCounter, e1, er]
    · have e2 := kbd_nI (Nat.zero_le j) hj (by omega)
      rw [e2] at er
      simp only [e1, e2, Bool.and_self, if_true]
      rw [kN_nI (by omega)]
      cases hd : (S.c c).d with
      | false =>
        rw [hd] at dC
        simp only [Bool.false_eq_true, if_false]
        refine ⟨_, ?_, hR.th 0⟩
        simp (disch := omega) only [eX3_puts, uX3_puts_p0, uX3_puts_p1, uX3_puts_p2, mG, mP hα, mR hα, mW hα, mgs, zKK, zB, zBl, zBb, zlg, zA, zA3, zL3, km31, km63, klshr, kishr, k2p, kl1shl, klmask, kland1, kiand1, k_l2i, zrt_b, zrt_0, zrt_1, zdv_n, zdv_l, t_isCounter, e1, er, dC]
      | true =>
        rw [hd] at dC
        simp only [if_true]
        have h60 := klshr60 w
        have ec := t_puts_check hα (σ.s_th 0) h rd (j := j) (by omega) w 12 0 zJ (by omega)
        by_cases e3 : w.toBitVec.toNat < 2 ^ 60
        · rw [eq_true e3] at h60
          rw [decide_eq_true e3, Bool.true_and]
          cases e4 : kpk (S.c c) j w 12 0 with
          | false =>
            rw [e4] at ec
            simp only [Bool.false_eq_true, if_false] at ec ⊢
            refine ⟨_, ?_, hR.th 0⟩
            simp (disch := omega) only [eX3_puts, uX3_puts_p0, uX3_puts_p1, uX3_puts_p2, mG, mP hα, mR hα, mgs, zKK, zBb, zA3, km63, zlg, t_isCounter, e1, er, dC, h60, ec]
          | true =>
            rw [e4] at ec
            simp only [if_true] at ec ⊢
            have ep := t_puts_put hα (σ.s_th 0) h (c := c) (C := S.c c) (by omega) sC.1 iC.2.1 sC.2.2.2.2.2.1 rd.2.2.2.2.2 (j := j) (by omega) w (min 12 (2 ^ (S.c c).p - 12 * j)) 0 zJ (by omega)
            have y1 : mblk (σ.s_th 0).ra c (kpo (S.c c).r (12 * j) w 0).2 = (σ.s_th 0).ra := by
              conv => rhs; rw [← mblk_self (σ.s_th 0).ra c]
              exact mblk_ext fun x hx => (sC.2.2.2.2.2.1 x hx).symm
            rw [y1, show (kpo (S.c c).r (12 * j) w 0).1 = 0 from rfl] at ep
            simp only [msi] at ep
            have s2 := mSl_ra sC (kpo (S.c c).r (12 * j) w (min 12 (2 ^ (S.c c).p - 12 * j))).2
            rw [hd, show (S.c c).m = [] from iC.2.2.2.2.2.2.1 hd] at s2
            refine ⟨_, ?_, (hR.th 0).one (mFr_ra (σ.s_th 0) c _) s2⟩
            simp (disch := omega) only [eX3_puts, uX3_puts_p0, uX3_puts_p1, uX3_puts_p2, mG, mP hα, mR hα, mgs, zKK, zBb, zA3, km63, zlg, t_isCounter, e1, er, dC, h60, ec]
            exact ep
        · rw [eq_false e3] at h60
          rw [decide_eq_false e3, Bool.false_and]
          simp only [Bool.false_eq_true, if_false]
          refine ⟨_, ?_, hR.th 0⟩
          simp (disch := omega) only [eX3_puts, uX3_puts_p0, uX3_puts_p1, uX3_puts_p2, mG, mP hα, mR hα, mgs, zKK, zBb, zA3, km63, zlg, t_isCounter, e1, er, dC, h60]
