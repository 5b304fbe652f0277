/-! THE COMPONENT's PUBLIC METHODS: ranks put -/
/-- the first n ranks of a row are at most b -/
def kpq (b : Nat) (w : Int64) : Nat → Nat → Bool
  | 0, _ => true
  | n + 1, x => if b < kr5 w x then false else kpq b w n (x + 1)
theorem kpq_iff {b : Nat} {w : Int64} (n : Nat) : ∀ x, kpq b w n x = true ↔ ∀ y, x ≤ y → y < x + n → kr5 w y ≤ b := by
  induction n with
  | zero => intro x; exact ⟨fun _ y h1 h2 => by omega, fun _ => rfl⟩
  | succ n ih =>
    intro x
    unfold kpq
    by_cases e : b < kr5 w x
    · rw [if_pos e]
      exact ⟨(fun q => by cases q), fun q => by have := q x (Nat.le_refl _) (by omega); omega⟩
    · rw [if_neg e, ih]
      constructor
      · intro q y h1 h2
        by_cases z : y = x
        · rw [z]; omega
        · exact q y (by omega) (by omega)
      · intro q y h1 h2
        exact q y (by omega) (by omega)
theorem kpk_iff {C : kC} {j : Nat} {w : Int64} (n : Nat) : ∀ x, kpk C j w n x = true ↔ ∀ y, x ≤ y → y < x + n → kr5 w y ≤ kpm C j y := by
  induction n with
  | zero => intro x; exact ⟨fun _ y h1 h2 => by omega, fun _ => rfl⟩
  | succ n ih =>
    intro x
    unfold kpk
    by_cases e : kpm C j x < kr5 w x
    · rw [if_pos e]
      exact ⟨(fun q => by cases q), fun q => by have := q x (Nat.le_refl _) (by omega); omega⟩
    · rw [if_neg e, ih]
      constructor
      · intro q y h1 h2
        by_cases z : y = x
        · rw [z]; omega
        · exact q y (by omega) (by omega)
      · intro q y h1 h2
        exact q y (by omega) (by omega)
theorem kr5_down {w : Int64} {n k : Nat} (h : w.toBitVec.toNat < 2 ^ (5 * (n + k))) (hz : ∀ y, n ≤ y → y < n + k → kr5 w y = 0) : w.toBitVec.toNat < 2 ^ (5 * n) := by
  induction k with
  | zero => exact h
  | succ k ih =>
    refine ih ?_ (fun y h1 h2 => hz y h1 (by omega))
    have h0 := hz (n + k) (by omega) (by omega)
    unfold kr5 at h0
    have h1 : w.toBitVec.toNat / 2 ^ (5 * (n + k)) < 32 := by
      rw [Nat.div_lt_iff_lt_mul (Nat.pow_pos (by decide)), show (32 : Nat) = 2 ^ 5 from rfl, ← Nat.pow_add, show 5 + 5 * (n + k) = 5 * (n + (k + 1)) by omega]
      exact h
    rw [Nat.mod_eq_of_lt h1] at h0
    exact (Nat.div_eq_zero_iff.mp h0).resolve_left (Nat.ne_of_gt (Nat.pow_pos (by decide)))
theorem kr5_up {w : Int64} {n y : Nat} (h : w.toBitVec.toNat < 2 ^ (5 * n)) (hy : n ≤ y) : kr5 w y = 0 := by
  unfold kr5
  rw [Nat.div_eq_of_lt (Nat.lt_of_lt_of_le h (Nat.pow_le_pow_right (by decide) (by omega)))]
theorem kput_ok {C : kC} {j : Nat} {w : Int64} {n : Nat} (hn : n = min 12 (2 ^ C.p - 12 * j)) (h1 : 12 * j < 2 ^ C.p) : (decide (w.toBitVec.toNat < 2 ^ (5 * n)) && kpq (33 - C.p) w n 0) = (decide (w.toBitVec.toNat < 2 ^ 60) && kpk C j w 12 0) := by
  have hm : ∀ y, y < n → kpm C j y = 33 - C.p := fun y hy => if_pos (by omega)
  have hm2 : ∀ y, n ≤ y → y < 12 → kpm C j y = 0 := fun y hy hy2 => if_neg (by omega)
  rw [Bool.eq_iff_iff, Bool.and_eq_true_iff, Bool.and_eq_true_iff, decide_eq_true_eq, decide_eq_true_eq, kpq_iff, kpk_iff]
  constructor
  · rintro ⟨a1, a2⟩
    refine ⟨Nat.lt_of_lt_of_le a1 (Nat.pow_le_pow_right (by decide) (by omega)), fun y _ hy => ?_⟩
    by_cases z : y < n
    · rw [hm y z]; exact a2 y (Nat.zero_le _) (by omega)
    · rw [kr5_up a1 (by omega)]; exact Nat.zero_le _
  · rintro ⟨a1, a2⟩
    refine ⟨kr5_down (k := 12 - n) (by rw [show n + (12 - n) = 12 by omega]; exact a1) (fun y hy1 hy2 => ?_), fun y _ hy => ?_⟩
    · have := a2 y (Nat.zero_le _) (by omega)
      rw [hm2 y hy1 (by omega)] at this
      omega
    · rw [← hm y (by omega)]; exact a2 y (Nat.zero_le _) (by omega)
theorem lN_un (w : Int64) : lN w.toBitVec.toNat = w := Int64.toBitVec_inj.mp (by show BitVec.ofNat 64 _ = _; simp)
section DR
variable {h h1 : zH} {D B : Nat} {al : Nat → Nat} {S : kS} {X : dX}
theorem d_rankIn (w : Int64) {i : Nat} (hi : i < 12) (h : zH) : zc PG mX1_rankIn [.long w, .int (nI i)] h = some (.inl (some (.int (nI (kr5 w i)))), h) := by
  have e := klshr_and w (k := 5 * i) (by omega)
  simp (disch := omega) only [eX1_rankIn, uX1_rankIn, zKK, zA, zA3, km63, e, k_l2i, kr5]
theorem d_puts_1 {a : Nat} {C : kC} (e : cN h D a C) (c : Int32) {j n : Nat} (hn : n ≤ 12) (w : Int64) (k : Nat) : ∀ i, i + k = n → zs PG mX1_puts 90 [.ref D, .int c, .int (nI j), .long w, zJ, .ref a, .int (nI n), .int (nI i), zJ] [] h = if kpq (33 - C.p) w k i then zs PG mX1_puts 123 [.ref D, .int c, .int (nI j), .long w, zJ, .ref a, .int (nI n), .int (nI n), zJ] [] h else some (.inl (some (.int (-3))), h) := by
  have i8 := e.I.2.1
  induction k with
  | zero =>
    intro i hi
    have hi : i = n := hi
    subst hi
    rw [uX1_puts_at90, kpq]
    simp only [if_true]
    simp (disch := omega) only [uX1_puts_p0, uX1_puts_p1, zKK, zB, zBl, zBb, zlg, zA, zA3, zL3, km31, km63, klshr, kishr, k2p, kl1shl, klmask, kland1, kiand1, k_l2i, zrt_b, zrt_0, zrt_1, zdv_n, zdv_l]
  | succ k ih =>
    intro i hi
    have er := d_rankIn w (i := i) (by omega) h
    have hr := kr5_lt w i
    rw [uX1_puts_at90, kpq]
    by_cases e1 : 33 - C.p < kr5 w i
    · rw [if_pos e1]
      simp (disch := omega) only [uX1_puts_p0, uX1_puts_p1, zKK, zB, zBl, zBb, zlg, zA, zA3, zL3, km31, km63, klshr, kishr, k2p, kl1shl, klmask, kland1, kiand1, k_l2i, zrt_b, zrt_0, zrt_1, zdv_n, zdv_l, er, nG e, Bool.false_eq_true, if_false]
    · rw [if_neg e1, ← ih (i + 1) (by omega)]
      simp (disch := omega) only [uX1_puts_p0, uX1_puts_p1, zKK, zB, zBl, zBb, zlg, zA, zA3, zL3, km31, km63, klshr, kishr, k2p, kl1shl, klmask, kland1, kiand1, k_l2i, zrt_b, zrt_0, zrt_1, zdv_n, zdv_l, er, nG e]
theorem d_puts_2 {a : Nat} {C : kC} (iC : kI C) (c : Int32) {j n m : Nat} {f : Nat → Int32} (hn : n ≤ 12) (hj : 12 * j + n ≤ 2 ^ C.p) (w : Int64) (k : Nat) : ∀ i h, i + k = n → cO h D a (a + 1) (a + 2) m f (C.p, C.l, C.d, C.m, (kpo C.r (12 * j) w i).2) → ∃ h', zs PG mX1_puts 129 [.ref D, .int c, .int (nI j), .long w, zJ, .ref a, .int (nI n), .int (nI (kpo C.r (12 * j) w i).1), .int (nI i)] [] h = some (.inl (some (.int (nI (kpo C.r (12 * j) w n).1))), h') ∧ cO h' D a (a + 1) (a + 2) m f (C.p, C.l, C.d, C.m, (kpo C.r (12 * j) w n).2) ∧ cK (cA a) h h' := by
  have h2 := k2p_le iC.2.1
  induction k with
  | zero =>
    intro i h hi e
    have hi : i = n := hi
    subst hi
    refine ⟨h, ?_, e, cK.rf _ _⟩
    rw [uX1_puts_at129]
    simp (disch := omega) only [uX1_puts_p0, uX1_puts_p1, zKK, zB, zBl, zBb, zlg, zA, zA3, zL3, km31, km63, klshr, kishr, k2p, kl1shl, klmask, kland1, kiand1, k_l2i, zrt_b, zrt_0, zrt_1, zdv_n, zdv_l]
  | succ k ih =>
    intro i h hi e
    have er := d_rankIn w (i := i) (by omega)
    have hr := kr5_lt w i
    obtain ⟨l1, l2⟩ := kpo_ge C.r (12 * j) w i
    have g := cr_r e (x := 12 * j + i) (by omega)
    simp only [kPr] at g
    rw [l2 _ (Nat.le_refl _)] at g
    have hb := iC.2.2.2.2.1 (12 * j + i)
    obtain ⟨h1, p1, q1, k1⟩ := cw_r e (x := 12 * j + i) (r := kr5 w i) (by omega) (by omega)
    obtain ⟨h', r1, r2, r3⟩ := ih (i + 1) h1 (by omega) q1
    refine ⟨h', ?_, r2, (k1.mono (fun q z => Or.inr (Or.inr z))).trans r3⟩
    rw [← r1, uX1_puts_at129, kpo]
    by_cases e1 : C.r (12 * j + i) = kr5 w i
    · rw [e1] at g
      rw [if_pos e1, Nat.add_zero]
      simp (disch := omega) only [uX1_puts_p0, uX1_puts_p1, zKK, zB, zBl, zBb, zlg, zA, zA3, zL3, km31, km63, klshr, kishr, k2p, kl1shl, klmask, kland1, kiand1, k_l2i, zrt_b, zrt_0, zrt_1, zdv_n, zdv_l, er, cg_r e, g, kby8, p1, Nat.add_zero]
    · rw [if_neg e1]
      simp (disch := omega) only [uX1_puts_p0, uX1_puts_p1, zKK, zB, zBl, zBb, zlg, zA, zA3, zL3, km31, km63, klshr, kishr, k2p, kl1shl, klmask, kland1, kiand1, k_l2i, zrt_b, zrt_0, zrt_1, zdv_n, zdv_l, er, cg_r e, g, kby8, p1]
theorem D_puts (H : dW D B S h) (c j : Int32) (w : Int64) : ∃ h', zc PG mX1_puts [.ref D, .int c, .int j, .long w] h = some (.inl (some (.int (q_puts S c j w).1)), h') ∧ dQ D B (q_puts S c j w).2 h h' := by
  obtain ⟨al, X, R⟩ := H
  have f1 := hv1_F R.w c
  have R1 := R.nw f1
  unfold q_puts
  rcases kbd_cases c 0 5 with e | ⟨c, -, hc, rfl⟩
  · simp only [e, Bool.false_and, Bool.false_eq_true, if_false]
    refine ⟨hv1 h c, ?_, R1.q f1.A⟩
    simp (disch := omega) only [eX1_puts, uX1_puts_p0, uX1_puts_p1, zKK, zB, zBl, zBb, zlg, zA, zA3, zL3, km31, km63, klshr, kishr, k2p, kl1shl, klmask, kland1, kiand1, k_l2i, zrt_b, zrt_0, zrt_1, zdv_n, zdv_l, znew_k, zast_p0, zast_p2, d_are1, d_are2, d_are3, e]
  · have e := kbd_nI (Nat.zero_le c) hc (by omega)
    have hc : c < 6 := by omega
    rw [kN_nI (by omega : c < 2147483648)]
    have c1 : cN (hv1 h (nI c)) D (al c) (S.c c) := R1.c hc
    have iC := c1.I
    have h2 := k2p_le iC.2.1
    have h3 := k2p_ge iC.1
    rcases kbd_cases j 0 ((2 ^ (S.c c).p - 1) / 12) with e2 | ⟨j, -, hj, rfl⟩
    · simp only [e, e2, Bool.and_false, Bool.false_eq_true, if_false]
      refine ⟨hv1 h (nI c), ?_, R1.q f1.A⟩
      rcases kbd_out e2 (by omega) with e3 | ⟨e3, e4⟩
      · simp (disch := omega) only [eX1_puts, uX1_puts_p0, uX1_puts_p1, zKK, zB, zBl, zBb, zlg, zA, zA3, zL3, km31, km63, klshr, kishr, k2p, kl1shl, klmask, kland1, kiand1, k_l2i, zrt_b, zrt_0, zrt_1, zdv_n, zdv_l, znew_k, zast_p0, zast_p2, d_are1, d_are2, d_are3, e, e3]
      · simp (disch := omega) only [eX1_puts, uX1_puts_p0, uX1_puts_p1, zKK, zB, zBl, zBb, zlg, zA, zA3, zL3, km31, km63, klshr, kishr, k2p, kl1shl, klmask, kland1, kiand1, k_l2i, zrt_b, zrt_0, zrt_1, zdv_n, zdv_l, znew_k, zast_p0, zast_p2, d_are1, d_are2, d_are3, e, e3, dG R1, nG c1, n_m c1, e4]
    · have e2 := kbd_nI (Nat.zero_le j) hj (by omega)
      simp only [e, e2, Bool.and_self, if_true]
      rw [kN_nI (by omega)]
      have g1 := nG c1
      cases hd : (S.c c).d with
      | false =>
        rw [hd] at g1
        refine ⟨hv1 h (nI c), ?_, ?_⟩
        · simp (disch := omega) only [eX1_puts, uX1_puts_p0, uX1_puts_p1, zKK, zB, zBl, zBb, zlg, zA, zA3, zL3, km31, km63, klshr, kishr, k2p, kl1shl, klmask, kland1, kiand1, k_l2i, zrt_b, zrt_0, zrt_1, zdv_n, zdv_l, znew_k, zast_p0, zast_p2, d_are1, d_are2, d_are3, e, dG R1, g1, n_m c1, Bool.false_eq_true, if_false]
        · simp only [Bool.false_eq_true, if_false]
          exact R1.q f1.A
      | true =>
        rw [hd] at g1
        simp only [if_true]
        have hmn : min 12 (2 ^ (S.c c).p - 12 * j) ≤ 12 := by omega
        have hmn2 : 1 ≤ min 12 (2 ^ (S.c c).p - 12 * j) := by omega
        rw [← kput_ok (C := S.c c) (j := j) (w := w) rfl (by omega)]
        generalize hn : min 12 (2 ^ (S.c c).p - 12 * j) = n at hmn hmn2
        have hsh : (w.toUInt64 >>> ((lN (5 * n)).toUInt64 &&& Int64.toUInt64 63)).toInt64 = lN (w.toBitVec.toNat / 2 ^ (5 * n)) := by
          have := klushr (n := w.toBitVec.toNat) (k := 5 * n) w.toBitVec.isLt (by omega)
          rw [lN_un] at this
          exact this
        have hpp : 2 ^ 1 ≤ 2 ^ (5 * n) := Nat.pow_le_pow_right (by decide) (by omega)
        have hq : w.toBitVec.toNat / 2 ^ (5 * n) ≤ w.toBitVec.toNat / 2 := Nat.div_le_div_left hpp (by decide)
        have hw := w.toBitVec.isLt
        have em : zc PG mJ1_min [.int (nI 12), .int (nI (2 ^ (S.c c).p - 12 * j))] (hv1 h (nI c)) = some (.inl (some (.int (nI n))), hv1 h (nI c)) := by
          rw [j_minI (by omega) (by omega), hn]
        have l1 := d_puts_1 c1 (nI c) (j := j) (n := n) hmn w n 0 (Nat.zero_add _)
        by_cases e3 : w.toBitVec.toNat < 2 ^ (5 * n)
        · rw [decide_eq_true e3]
          have hz : w.toBitVec.toNat / 2 ^ (5 * n) = 0 := Nat.div_eq_of_lt e3
          rw [hz] at hsh
          cases e4 : kpq (33 - (S.c c).p) w n 0 with
          | false =>
            rw [e4] at l1
            simp only [Bool.false_eq_true, if_false] at l1
            refine ⟨hv1 h (nI c), ?_, ?_⟩
            · simp (disch := omega) only [eX1_puts, uX1_puts_p0, uX1_puts_p1, zKK, zB, zBl, zBb, zlg, zA, zA3, zL3, km31, km63, klshr, kishr, k2p, kl1shl, klmask, kland1, kiand1, k_l2i, zrt_b, zrt_0, zrt_1, zdv_n, zdv_l, znew_k, zast_p0, zast_p2, d_are1, d_are2, d_are3, e, dG R1, g1, n_m c1, em, hsh, l1, Bool.and_false, Bool.false_eq_true, if_false]
            · simp only [Bool.and_false, Bool.false_eq_true, if_false]
              exact R1.q f1.A
          | true =>
            rw [e4] at l1
            simp only [if_true] at l1
            obtain ⟨m, f, o1, o2, -⟩ := c1
            have c1 : cN (hv1 h (nI c)) D (al c) (S.c c) := R1.c hc
            have o1' : cO (hv1 h (nI c)) D (al c) (al c + 1) (al c + 2) m f ((S.c c).p, (S.c c).l, (S.c c).d, (S.c c).m, (kpo (S.c c).r (12 * j) w 0).2) := o1
            obtain ⟨h3, r1, r2, r3⟩ := d_puts_2 iC (nI c) (j := j) (n := n) hmn (by omega) w n 0 _ (Nat.zero_add _) o1'
            have hI : kI ((S.c c).p, (S.c c).l, true, [], (kpo (S.c c).r (12 * j) w n).2) := by
              refine ⟨iC.1, iC.2.1, iC.2.2.1, iC.2.2.2.1, kpo_ok iC.2.2.2.2.1 _ (fun y hy => (kpq_iff n 0).mp e4 y (Nat.zero_le _) (by omega)), fun y hy => ?_, fun _ => rfl, (fun m q => absurd q List.not_mem_nil), List.Pairwise.nil, Nat.zero_le _, fun q => by cases q⟩
              have hy : 2 ^ (S.c c).p ≤ y := hy
              show (kpo (S.c c).r (12 * j) w n).2 y = 0
              rw [(kpo_ge _ _ _ _).2 y (by omega)]
              exact iC.2.2.2.2.2.1 y hy
            rw [hd] at r2
            have c3 : cN h3 D (al c) (kput (S.c c) j w) := by
              unfold kput
              rw [hn]
              exact ⟨m, f, r2, ⟨o2.1, fun z => by cases z⟩, hI⟩
            have F3 := r3.f R1.w (c1.ltA R1.w)
            have z0 : (kpo (S.c c).r (12 * j) w 0).1 = 0 := rfl
            rw [z0] at r1
            refine ⟨h3, ?_, ?_⟩
            · simp (disch := omega) only [eX1_puts, uX1_puts_p0, uX1_puts_p1, zKK, zB, zBl, zBb, zlg, zA, zA3, zL3, km31, km63, klshr, kishr, k2p, kl1shl, klmask, kland1, kiand1, k_l2i, zrt_b, zrt_0, zrt_1, zdv_n, zdv_l, znew_k, zast_p0, zast_p2, d_are1, d_are2, d_are3, e, dG R1, g1, n_m c1, em, hsh, l1, r1, Bool.and_self, if_true]
            · simp only [Bool.and_self, if_true]
              exact (R1.one hc F3 c3).q (f1.A.tr1 (F3.dD (R1.cA hc)))
        · rw [decide_eq_false e3]
          have hz : 0 < w.toBitVec.toNat / 2 ^ (5 * n) := Nat.div_pos (by omega) (Nat.pow_pos (by decide))
          refine ⟨hv1 h (nI c), ?_, ?_⟩
          · simp (disch := omega) only [eX1_puts, uX1_puts_p0, uX1_puts_p1, zKK, zB, zBl, zBb, zlg, zA, zA3, zL3, km31, km63, klshr, kishr, k2p, kl1shl, klmask, kland1, kiand1, k_l2i, zrt_b, zrt_0, zrt_1, zdv_n, zdv_l, znew_k, zast_p0, zast_p2, d_are1, d_are2, d_are3, e, dG R1, g1, n_m c1, em, hsh, Bool.false_and, Bool.false_eq_true, if_false]
          · simp only [Bool.false_and, Bool.false_eq_true, if_false]
            exact R1.q f1.A
end DR
