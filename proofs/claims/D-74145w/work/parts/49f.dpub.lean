/-! THE COMPONENT's PUBLIC METHODS: forms, ranks, marks, searches -/
section DR
variable {h h1 : zH} {D B : Nat} {al : Nat → Nat} {S : kS} {X : dX}
theorem D_form (H : dW D B S h) (c w : Int32) : ∃ h', zc PG mX1_form [.ref D, .int c, .int w] h = some (.inl (some (.int (q_form S c w))), h') ∧ dQ D B S h h' := by
  obtain ⟨al, X, R⟩ := H
  have f1 := hv1_F R.w c
  have R1 := R.nw f1
  refine ⟨hv1 h c, ?_, R1.q f1.A⟩
  unfold q_form
  rcases kbd_cases c 0 5 with e | ⟨c, -, hc, rfl⟩
  · simp only [e, Bool.false_eq_true, if_false]
    simp (disch := omega) only [eX1_form, uX1_form, zKK, zB, zBl, zBb, zlg, zA, zA3, zL3, km31, km63, klshr, kishr, k2p, kl1shl, klmask, kland1, kiand1, k_l2i, zrt_b, zrt_0, zrt_1, zdv_n, zdv_l, znew_k, zast_p0, zast_p2, d_are1, d_are2, d_are3, e]
  · have e := kbd_nI (Nat.zero_le c) hc (by omega)
    simp only [e, if_true]
    rw [kN_nI (by omega)]
    have c1 : cN (hv1 h (nI c)) D (al c) (S.c c) := R1.c (by omega)
    have g := nG c1
    rcases kbd_cases w 0 5 with e2 | ⟨w, -, hw, rfl⟩
    · have es := zsw_out (lo := 0) (ts := [60, 65, 70, 83, 99, 104]) (d := 109) (x := w) e2 (by decide)
      simp only [e2, Bool.false_eq_true, if_false]
      simp (disch := omega) only [eX1_form, uX1_form, zKK, zB, zBl, zBb, zlg, zA, zA3, zL3, km31, km63, klshr, kishr, k2p, kl1shl, klmask, kland1, kiand1, k_l2i, zrt_b, zrt_0, zrt_1, zdv_n, zdv_l, znew_k, zast_p0, zast_p2, d_are1, d_are2, d_are3, e, dG R1, es]
    · have e2 := kbd_nI (Nat.zero_le w) hw (by omega)
      simp only [e2, if_true]
      rw [kN_nI (by omega)]
      have h' : w = 0 ∨ w = 1 ∨ w = 2 ∨ w = 3 ∨ w = 4 ∨ w = 5 := by omega
      rcases h' with rfl | rfl | rfl | rfl | rfl | rfl
      · simp (disch := omega) only [eX1_form, uX1_form, zKK, zB, zBl, zBb, zlg, zA, zA3, zL3, km31, km63, klshr, kishr, k2p, kl1shl, klmask, kland1, kiand1, k_l2i, zrt_b, zrt_0, zrt_1, zdv_n, zdv_l, znew_k, zast_p0, zast_p2, d_are1, d_are2, d_are3, e, dG R1, show zsw 0 [60, 65, 70, 83, 99, 104] 109 (nI 0) = 60 by decide, g]
      · simp (disch := omega) only [eX1_form, uX1_form, zKK, zB, zBl, zBb, zlg, zA, zA3, zL3, km31, km63, klshr, kishr, k2p, kl1shl, klmask, kland1, kiand1, k_l2i, zrt_b, zrt_0, zrt_1, zdv_n, zdv_l, znew_k, zast_p0, zast_p2, d_are1, d_are2, d_are3, e, dG R1, show zsw 0 [60, 65, 70, 83, 99, 104] 109 (nI 1) = 65 by decide, g]
      · cases hd : (S.c c).d with
        | true => rw [hd] at g; simp (disch := omega) only [eX1_form, uX1_form, zKK, zB, zBl, zBb, zlg, zA, zA3, zL3, km31, km63, klshr, kishr, k2p, kl1shl, klmask, kland1, kiand1, k_l2i, zrt_b, zrt_0, zrt_1, zdv_n, zdv_l, znew_k, zast_p0, zast_p2, d_are1, d_are2, d_are3, e, dG R1, show zsw 0 [60, 65, 70, 83, 99, 104] 109 (nI 2) = 70 by decide, g, zb_t]
        | false => rw [hd] at g; simp (disch := omega) only [eX1_form, uX1_form, zKK, zB, zBl, zBb, zlg, zA, zA3, zL3, km31, km63, klshr, kishr, k2p, kl1shl, klmask, kland1, kiand1, k_l2i, zrt_b, zrt_0, zrt_1, zdv_n, zdv_l, znew_k, zast_p0, zast_p2, d_are1, d_are2, d_are3, e, dG R1, show zsw 0 [60, 65, 70, 83, 99, 104] 109 (nI 2) = 70 by decide, g, zb_f]
      · cases hd : (S.c c).d with
        | true => rw [hd] at g; simp (disch := omega) only [eX1_form, uX1_form, zKK, zB, zBl, zBb, zlg, zA, zA3, zL3, km31, km63, klshr, kishr, k2p, kl1shl, klmask, kland1, kiand1, k_l2i, zrt_b, zrt_0, zrt_1, zdv_n, zdv_l, znew_k, zast_p0, zast_p2, d_are1, d_are2, d_are3, e, dG R1, show zsw 0 [60, 65, 70, 83, 99, 104] 109 (nI 3) = 83 by decide, g, if_true]
        | false => rw [hd] at g; simp (disch := omega) only [eX1_form, uX1_form, zKK, zB, zBl, zBb, zlg, zA, zA3, zL3, km31, km63, klshr, kishr, k2p, kl1shl, klmask, kland1, kiand1, k_l2i, zrt_b, zrt_0, zrt_1, zdv_n, zdv_l, znew_k, zast_p0, zast_p2, d_are1, d_are2, d_are3, e, dG R1, show zsw 0 [60, 65, 70, 83, 99, 104] 109 (nI 3) = 83 by decide, g, nM c1 hd, Bool.false_eq_true, if_false]
      · simp (disch := omega) only [eX1_form, uX1_form, zKK, zB, zBl, zBb, zlg, zA, zA3, zL3, km31, km63, klshr, kishr, k2p, kl1shl, klmask, kland1, kiand1, k_l2i, zrt_b, zrt_0, zrt_1, zdv_n, zdv_l, znew_k, zast_p0, zast_p2, d_are1, d_are2, d_are3, e, dG R1, show zsw 0 [60, 65, 70, 83, 99, 104] 109 (nI 4) = 99 by decide, g, n_greatest c1]
      · simp (disch := omega) only [eX1_form, uX1_form, zKK, zB, zBl, zBb, zlg, zA, zA3, zL3, km31, km63, klshr, kishr, k2p, kl1shl, klmask, kland1, kiand1, k_l2i, zrt_b, zrt_0, zrt_1, zdv_n, zdv_l, znew_k, zast_p0, zast_p2, d_are1, d_are2, d_are3, e, dG R1, show zsw 0 [60, 65, 70, 83, 99, 104] 109 (nI 5) = 104 by decide, g, n_empty c1]
theorem d_isPlace (R : dR h D B al S X) (c x : Int32) : zc PG mX1_isPlace [.ref D, .int c, .int x] h = some (.inl (some (.int (zb (kbd c 0 5 && kbd x 0 (2 ^ (S.c (kN c)).p - 1))))), hv1 h c) := by
  have f1 := hv1_F R.w c
  have R1 := R.nw f1
  rcases kbd_cases c 0 5 with e | ⟨c, -, hc, rfl⟩
  · simp (disch := omega) only [eX1_isPlace, uX1_isPlace, zKK, zB, zBl, zBb, zlg, zA, zA3, zL3, km31, km63, klshr, kishr, k2p, kl1shl, klmask, kland1, kiand1, k_l2i, zrt_b, zrt_0, zrt_1, zdv_n, zdv_l, znew_k, zast_p0, zast_p2, d_are1, d_are2, d_are3, e, Bool.false_and, zb_f]
  · have e := kbd_nI (Nat.zero_le c) hc (by omega)
    rw [kN_nI (by omega)]
    have c1 : cN (hv1 h (nI c)) D (al c) (S.c c) := R1.c (by omega)
    have h2 := k2p_le c1.I.2.1
    have h3 := k2p_ge c1.I.1
    cases e2 : kbd x 0 (2 ^ (S.c c).p - 1) with
    | true => simp (disch := omega) only [eX1_isPlace, uX1_isPlace, zKK, zB, zBl, zBb, zlg, zA, zA3, zL3, km31, km63, klshr, kishr, k2p, kl1shl, klmask, kland1, kiand1, k_l2i, zrt_b, zrt_0, zrt_1, zdv_n, zdv_l, znew_k, zast_p0, zast_p2, d_are1, d_are2, d_are3, e, dG R1, nG c1, n_m c1, d_ini, e2, Bool.and_self, zb_t]
    | false => simp (disch := omega) only [eX1_isPlace, uX1_isPlace, zKK, zB, zBl, zBb, zlg, zA, zA3, zL3, km31, km63, klshr, kishr, k2p, kl1shl, klmask, kland1, kiand1, k_l2i, zrt_b, zrt_0, zrt_1, zdv_n, zdv_l, znew_k, zast_p0, zast_p2, d_are1, d_are2, d_are3, e, dG R1, nG c1, n_m c1, d_ini, e2, Bool.and_false, zb_f]
theorem D_rank (H : dW D B S h) (c x : Int32) : ∃ h', zc PG mX1_rank [.ref D, .int c, .int x] h = some (.inl (some (.int (q_rank S c x))), h') ∧ dQ D B S h h' := by
  obtain ⟨al, X, R⟩ := H
  have f1 := hv1_F R.w c
  have R1 := R.nw f1
  have ep := d_isPlace R c x
  refine ⟨hv1 h c, ?_, R1.q f1.A⟩
  unfold q_rank
  cases e : (kbd c 0 5 && kbd x 0 (2 ^ (S.c (kN c)).p - 1)) with
  | false =>
    rw [e] at ep
    simp (disch := omega) only [eX1_rank, uX1_rank, zKK, zB, zBl, zBb, zlg, zA, zA3, zL3, km31, km63, klshr, kishr, k2p, kl1shl, klmask, kland1, kiand1, k_l2i, zrt_b, zrt_0, zrt_1, zdv_n, zdv_l, znew_k, zast_p0, zast_p2, d_are1, d_are2, d_are3, dG R, ep, Bool.false_eq_true, if_false]
  | true =>
    rw [e] at ep
    obtain ⟨e1, e2⟩ := Bool.and_eq_true_iff.mp e
    rcases kbd_cases c 0 5 with z | ⟨c, -, hc, rfl⟩
    · rw [z] at e1; cases e1
    rw [kN_nI (by omega)] at e2 ⊢
    have c1 : cN (hv1 h (nI c)) D (al c) (S.c c) := R1.c (by omega)
    have h2 := k2p_le c1.I.2.1
    have h3 := k2p_ge c1.I.1
    rcases kbd_cases x 0 (2 ^ (S.c c).p - 1) with z | ⟨x, -, hx, rfl⟩
    · rw [z] at e2; cases e2
    rw [kN_nI (by omega)]
    simp (disch := omega) only [eX1_rank, uX1_rank, zKK, zB, zBl, zBb, zlg, zA, zA3, zL3, km31, km63, klshr, kishr, k2p, kl1shl, klmask, kland1, kiand1, k_l2i, zrt_b, zrt_0, zrt_1, zdv_n, zdv_l, znew_k, zast_p0, zast_p2, d_are1, d_are2, d_are3, dG R, ep, dG R1, nG c1, if_true]
theorem d_ranks_loop (R : dR h D B al S X) {c : Nat} (hc : c < 6) {v : Nat} (hv : v ≤ 29) (k : Nat) : ∀ x, x + k = 2 ^ (S.c c).p → zs PG mX1_ranks 38 [.ref D, .int (nI c), .int (nI v), .int (nI (kfl (S.c c).r v x).1), .int (kfl (S.c c).r v x).2.1, .int (kfl (S.c c).r v x).2.2, .int (nI x)] [] h = zs PG mX1_ranks 97 [.ref D, .int (nI c), .int (nI v), .int (nI (kfl (S.c c).r v (2 ^ (S.c c).p)).1), .int (kfl (S.c c).r v (2 ^ (S.c c).p)).2.1, .int (kfl (S.c c).r v (2 ^ (S.c c).p)).2.2, .int (nI (2 ^ (S.c c).p))] [] h := by
  have c1 := R.c hc
  have h2 := k2p_le c1.I.2.1
  have hp := n_m c1
  induction k with
  | zero =>
    intro x hx
    have hx : x = 2 ^ (S.c c).p := hx
    rw [uX1_ranks_at38, hx]
    simp (disch := omega) only [uX1_ranks_at40, uX1_ranks_at41, uX1_ranks_at44, uX1_ranks_at45, uX1_ranks_at46, uX1_ranks_at49, dG R, nG c1, zKK, zB, hp]
  | succ k ih =>
    intro x hx
    have hr1 := (nG c1).2.2.2.2.2.2.2 x (by omega)
    have hr3 := c1.I.2.2.2.2.1 x
    have hl := kfl_le (S.c c).r v x
    rw [← ih (x + 1) (by omega), uX1_ranks_at38, kfl]
    by_cases e : (S.c c).r x = v
    · by_cases e2 : (kfl (S.c c).r v x).1 = 0
      · simp (disch := omega) only [uX1_ranks_p0, uX1_ranks_p1, zKK, zB, zBl, zBb, zlg, zA, zA3, zL3, km31, km63, klshr, kishr, k2p, kl1shl, klmask, kland1, kiand1, k_l2i, zrt_b, zrt_0, zrt_1, zdv_n, zdv_l, dG R, nG c1, hp, hr1, if_pos e, e, if_true, e2]
      · simp (disch := omega) only [uX1_ranks_p0, uX1_ranks_p1, zKK, zB, zBl, zBb, zlg, zA, zA3, zL3, km31, km63, klshr, kishr, k2p, kl1shl, klmask, kland1, kiand1, k_l2i, zrt_b, zrt_0, zrt_1, zdv_n, zdv_l, dG R, nG c1, hp, hr1, if_pos e, e, if_true, if_neg e2]
    · simp (disch := omega) only [uX1_ranks_p0, uX1_ranks_p1, zKK, zB, zBl, zBb, zlg, zA, zA3, zL3, km31, km63, klshr, kishr, k2p, kl1shl, klmask, kland1, kiand1, k_l2i, zrt_b, zrt_0, zrt_1, zdv_n, zdv_l, dG R, nG c1, hp, hr1, if_neg e]
theorem D_ranks (H : dW D B S h) (c v : Int32) : ∃ h', zc PG mX1_ranks [.ref D, .int c, .int v] h = some (.inl (some (.int (q_ranks S c v).1)), h') ∧ dQ D B (q_ranks S c v).2 h h' := by
  obtain ⟨al, X, R⟩ := H
  have f1 := hv1_F R.w c
  have R1 := R.nw f1
  unfold q_ranks
  rcases kbd_cases c 0 5 with e1 | ⟨c, -, hc, rfl⟩
  · simp only [e1, Bool.false_and, Bool.false_eq_true, if_false]
    refine ⟨_, ?_, R1.q f1.A⟩
    simp (disch := omega) only [eX1_ranks, uX1_ranks_p0, uX1_ranks_p1, zKK, zB, zBl, zBb, zlg, zA, zA3, zL3, km31, km63, klshr, kishr, k2p, kl1shl, klmask, kland1, kiand1, k_l2i, zrt_b, zrt_0, zrt_1, zdv_n, zdv_l, znew_k, zast_p0, zast_p2, d_are1, d_are2, d_are3, e1]
  · have e1 := kbd_nI (Nat.zero_le c) hc (by omega)
    rcases kbd_cases v 0 29 with e2 | ⟨v, -, hv, rfl⟩
    · simp only [e1, e2, Bool.and_false, Bool.false_eq_true, if_false]
      refine ⟨_, ?_, R1.q f1.A⟩
      simp (disch := omega) only [eX1_ranks, uX1_ranks_p0, uX1_ranks_p1, zKK, zB, zBl, zBb, zlg, zA, zA3, zL3, km31, km63, klshr, kishr, k2p, kl1shl, klmask, kland1, kiand1, k_l2i, zrt_b, zrt_0, zrt_1, zdv_n, zdv_l, znew_k, zast_p0, zast_p2, d_are1, d_are2, d_are3, d_ini, e1, e2]
    · have e2 := kbd_nI (Nat.zero_le v) hv (by omega)
      simp only [e1, e2, Bool.and_self, if_true]
      rw [kN_nI (by omega), kN_nI (by omega)]
      have el := d_ranks_loop R1 (c := c) (by omega) hv (2 ^ (S.c c).p) 0 (by omega)
      simp only [kfl] at el
      obtain ⟨h2, X2, n1, R2, F2⟩ := d_row2 R1 (kfl (S.c c).r v (2 ^ (S.c c).p)).2.1.toInt64 (kfl (S.c c).r v (2 ^ (S.c c).p)).2.2.toInt64
      refine ⟨h2, ?_, R2.q (f1.A.tr1 F2.E)⟩
      simp (disch := omega) only [eX1_ranks, uX1_ranks_p0, uX1_ranks_p1, zKK, zB, zBl, zBb, zlg, zA, zA3, zL3, km31, km63, klshr, kishr, k2p, kl1shl, klmask, kland1, kiand1, k_l2i, zrt_b, zrt_0, zrt_1, zdv_n, zdv_l, znew_k, zast_p0, zast_p2, d_are1, d_are2, d_are3, d_inN, e1, e2, el, dGp R1, n1]
theorem d_inx (x : Int32) {n : Nat} (hn : n < 2147483648) (h : zH) : zc PG mX1_in [.long x.toInt64, .long (lN 0), .long (nI n - nI 1).toInt64] h = some (.inl (some (.int (zb (kix x n)))), h) := by
  rw [d_in, kix_in hn]
theorem D_marked (H : dW D B S h) (c i : Int32) : ∃ h', zc PG mX1_marked [.ref D, .int c, .int i] h = some (.inl (some (.long (q_marked S c i))), h') ∧ dQ D B S h h' := by
  obtain ⟨al, X, R⟩ := H
  have f1 := hv1_F R.w c
  have R1 := R.nw f1
  refine ⟨hv1 h c, ?_, R1.q f1.A⟩
  unfold q_marked
  rcases kbd_cases c 0 5 with e | ⟨c, -, hc, rfl⟩
  · simp only [e, Bool.false_eq_true, if_false]
    simp (disch := omega) only [eX1_marked, uX1_marked, zKK, zB, zBl, zBb, zlg, zA, zA3, zL3, km31, km63, klshr, kishr, k2p, kl1shl, klmask, kland1, kiand1, k_l2i, zrt_b, zrt_0, zrt_1, zdv_n, zdv_l, znew_k, zast_p0, zast_p2, d_are1, d_are2, d_are3, e]
  · have e := kbd_nI (Nat.zero_le c) hc (by omega)
    simp only [e, if_true]
    rw [kN_nI (by omega)]
    have c1 : cN (hv1 h (nI c)) D (al c) (S.c c) := R1.c (by omega)
    have g := nG c1
    have hl := c1.I.2.2.2.2.2.2.2.2.2.1
    have hl3 := c1.I.2.2.2.1
    cases hd : (S.c c).d with
    | true =>
      rw [hd] at g
      by_cases e2 : i < nI 0
      · simp (disch := omega) only [eX1_marked, uX1_marked, zKK, zB, zBl, zBb, zlg, zA, zA3, zL3, km31, km63, klshr, kishr, k2p, kl1shl, klmask, kland1, kiand1, k_l2i, zrt_b, zrt_0, zrt_1, zdv_n, zdv_l, znew_k, zast_p0, zast_p2, d_are1, d_are2, d_are3, e, e2, if_true]
      · simp (disch := omega) only [eX1_marked, uX1_marked, zKK, zB, zBl, zBb, zlg, zA, zA3, zL3, km31, km63, klshr, kishr, k2p, kl1shl, klmask, kland1, kiand1, k_l2i, zrt_b, zrt_0, zrt_1, zdv_n, zdv_l, znew_k, zast_p0, zast_p2, d_are1, d_are2, d_are3, e, e2, dG R1, g, if_true, if_false]
    | false =>
      rw [hd] at g
      rcases kix_cases i (n := (S.c c).m.length) (by omega) with e3 | ⟨i, hi, rfl, e3⟩
      · rw [e3]
        have ex := d_inx i (n := (S.c c).m.length) (by omega) (hv1 h (nI c))
        rw [e3] at ex
        by_cases e2 : i < nI 0
        · simp (disch := omega) only [eX1_marked, uX1_marked, zKK, zB, zBl, zBb, zlg, zA, zA3, zL3, km31, km63, klshr, kishr, k2p, kl1shl, klmask, kland1, kiand1, k_l2i, zrt_b, zrt_0, zrt_1, zdv_n, zdv_l, znew_k, zast_p0, zast_p2, d_are1, d_are2, d_are3, e, e2, Bool.false_eq_true, if_false]
        · simp (disch := omega) only [eX1_marked, uX1_marked, zKK, zBb, znew_k, zast_p0, d_are1, e, e2, dG R1, g, nM c1 hd, ex, Bool.false_eq_true, if_false]
      · have ex := d_inx (nI i) (n := (S.c c).m.length) (by omega) (hv1 h (nI c))
        rw [e3] at ex
        rw [e3, kN_nI (by omega)]
        have hm := c1.I.2.2.2.2.2.2.2.1 _ (kget_mem hi)
        have et := j_tul (nI ((S.c c).m.getD i 0)) (hv1 h (nI c))
        rw [kun_of hm] at et
        simp (disch := omega) only [eX1_marked, uX1_marked, zKK, zB, zBb, znew_k, zast_p0, d_are1, e, dG R1, g, nM c1 hd, ex, et, Bool.false_eq_true, if_false, if_true]
theorem D_may (H : dW D B S h) (c t : Int32) : ∃ h', zc PG mX1_may [.ref D, .int c, .int t] h = some (.inl (some (.int (q_may S c t))), h') ∧ dQ D B S h h' := by
  obtain ⟨al, X, R⟩ := H
  have f1 := hv1_F R.w c
  have R1 := R.nw f1
  refine ⟨hv1 h c, ?_, R1.q f1.A⟩
  unfold q_may
  rcases kbd_cases c 0 5 with e | ⟨c, -, hc, rfl⟩
  · simp only [e, Bool.false_eq_true, if_false]
    simp (disch := omega) only [eX1_may, uX1_may, zKK, zB, zBl, zBb, zlg, zA, zA3, zL3, km31, km63, klshr, kishr, k2p, kl1shl, klmask, kland1, kiand1, k_l2i, zrt_b, zrt_0, zrt_1, zdv_n, zdv_l, znew_k, zast_p0, zast_p2, d_are1, d_are2, d_are3, e]
  · have e := kbd_nI (Nat.zero_le c) hc (by omega)
    simp only [e, if_true]
    rw [kN_nI (by omega)]
    have c1 : cN (hv1 h (nI c)) D (al c) (S.c c) := R1.c (by omega)
    have ew := n_wouldChange c1 (kmk_lt S t)
    cases hw : kwould (S.c c) (kmk S t) with
    | true => rw [hw] at ew; simp (disch := omega) only [eX1_may, uX1_may, zKK, zB, zBl, zBb, zlg, zA, zA3, zL3, km31, km63, klshr, kishr, k2p, kl1shl, klmask, kland1, kiand1, k_l2i, zrt_b, zrt_0, zrt_1, zdv_n, zdv_l, znew_k, zast_p0, zast_p2, d_are1, d_are2, d_are3, e, dG R1, d_markOf R1, nG c1, ew, Bool.not_true, zb_f]
    | false => rw [hw] at ew; simp (disch := omega) only [eX1_may, uX1_may, zKK, zB, zBl, zBb, zlg, zA, zA3, zL3, km31, km63, klshr, kishr, k2p, kl1shl, klmask, kland1, kiand1, k_l2i, zrt_b, zrt_0, zrt_1, zdv_n, zdv_l, znew_k, zast_p0, zast_p2, d_are1, d_are2, d_are3, e, dG R1, d_markOf R1, nG c1, ew, Bool.not_false, zb_t]
theorem d_first_loop (R : dR h D B al S X) {c : Nat} (hc : c < 6) (a s : Int32) {n : Nat} (hn : n ≤ 1000) (j : Nat) : ∀ k, k + j = n → ∃ h' X', zs PG mX1_first 31 [.ref D, .int (nI c), .int a, .int s, .int (nI n), .int (nI k)] [] h = some (.inl (some (.int ((match kfi (fun k => kwould (S.c c) (kms S.a S.b a s k)) j k with | some k => (nI k, S.s_w [(a + nI k * s).toInt64]) | none => (-2, S)) : Int32 × kS).1)), h') ∧ dR h' D B al ((match kfi (fun k => kwould (S.c c) (kms S.a S.b a s k)) j k with | some k => (nI k, S.s_w [(a + nI k * s).toInt64]) | none => (-2, S)) : Int32 × kS).2 X' ∧ hF (dE D) 1 1 h h' := by
  have c1 := R.c hc
  induction j with
  | zero =>
    intro k hk
    refine ⟨h, X, ?_, R, (hF.rf R.w _).up (fun _ _ z => z) (by omega) (by omega)⟩
    rw [uX1_first_at31]
    simp (disch := omega) only [uX1_first, zKK, zB, zBl, zBb, zlg, zA, zA3, zL3, km31, km63, klshr, kishr, k2p, kl1shl, klmask, kland1, kiand1, k_l2i, zrt_b, zrt_0, zrt_1, zdv_n, zdv_l, kfi]
  | succ j ih =>
    intro k hk
    have ew := n_wouldChange c1 (m := kms S.a S.b a s k) (kmk_lt S _)
    have mk : zc PG mX1_markOf [.ref D, .int (a + nI k * s)] h = some (.inl (some (.int (nI (kms S.a S.b a s k)))), h) := d_markOf R _
    unfold kfi
    cases hw : kwould (S.c c) (kms S.a S.b a s k) with
    | true =>
      rw [hw] at ew
      simp only [if_true]
      obtain ⟨h2, X2, n1, R2, F2⟩ := d_row1 R (a + nI k * s).toInt64
      refine ⟨h2, X2, ?_, R2, F2⟩
      rw [uX1_first_at31]
      simp (disch := omega) only [uX1_first, zKK, zB, zBl, zBb, zlg, zA, zA3, zL3, km31, km63, klshr, kishr, k2p, kl1shl, klmask, kland1, kiand1, k_l2i, zrt_b, zrt_0, zrt_1, zdv_n, zdv_l, dG R, mk, nG c1, ew, znew_k, zast_p2, dGp R, n1]
    | false =>
      rw [hw] at ew
      simp only [Bool.false_eq_true, if_false]
      obtain ⟨h', X', r1, r2, r3⟩ := ih (k + 1) (by omega)
      refine ⟨h', X', ?_, r2, r3⟩
      rw [uX1_first_at31, ← r1]
      simp (disch := omega) only [uX1_first, zKK, zB, zBl, zBb, zlg, zA, zA3, zL3, km31, km63, klshr, kishr, k2p, kl1shl, klmask, kland1, kiand1, k_l2i, zrt_b, zrt_0, zrt_1, zdv_n, zdv_l, dG R, mk, nG c1, ew]
theorem D_first (H : dW D B S h) (c a s n : Int32) : ∃ h', zc PG mX1_first [.ref D, .int c, .int a, .int s, .int n] h = some (.inl (some (.int (q_first S c a s n).1)), h') ∧ dQ D B (q_first S c a s n).2 h h' := by
  obtain ⟨al, X, R⟩ := H
  have f1 := hv1_F R.w c
  have R1 := R.nw f1
  unfold q_first
  rcases kbd_cases c 0 5 with e1 | ⟨c, -, hc, rfl⟩
  · simp only [e1, Bool.false_and, Bool.false_eq_true, if_false]
    refine ⟨_, ?_, R1.q f1.A⟩
    simp (disch := omega) only [eX1_first, uX1_first, zKK, zB, zBl, zBb, zlg, zA, zA3, zL3, km31, km63, klshr, kishr, k2p, kl1shl, klmask, kland1, kiand1, k_l2i, zrt_b, zrt_0, zrt_1, zdv_n, zdv_l, znew_k, zast_p0, zast_p2, d_are1, d_are2, d_are3, e1]
  · have e1 := kbd_nI (Nat.zero_le c) hc (by omega)
    rcases kbd_cases n 1 1000 with e2 | ⟨n, h1, hn, rfl⟩
    · simp only [e1, e2, Bool.and_false, Bool.false_eq_true, if_false]
      refine ⟨_, ?_, R1.q f1.A⟩
      simp (disch := omega) only [eX1_first, uX1_first, zKK, zB, zBl, zBb, zlg, zA, zA3, zL3, km31, km63, klshr, kishr, k2p, kl1shl, klmask, kland1, kiand1, k_l2i, zrt_b, zrt_0, zrt_1, zdv_n, zdv_l, znew_k, zast_p0, zast_p2, d_are1, d_are2, d_are3, d_ini, e1, e2]
    · have e2 := kbd_nI h1 hn (by omega)
      simp only [e1, e2, Bool.and_self, if_true]
      rw [kN_nI (by omega), kN_nI (by omega)]
      obtain ⟨h2, X2, r1, R2, F2⟩ := d_first_loop R1 (c := c) (by omega) a s hn n 0 (by omega)
      refine ⟨h2, ?_, R2.q (f1.A.tr1 F2.E)⟩
      simp (disch := omega) only [eX1_first, uX1_first, zKK, zB, zBl, zBb, zlg, zA, zA3, zL3, km31, km63, klshr, kishr, k2p, kl1shl, klmask, kland1, kiand1, k_l2i, zrt_b, zrt_0, zrt_1, zdv_n, zdv_l, znew_k, zast_p0, zast_p2, d_are1, d_are2, d_are3, d_inN, e1, e2, r1]
      rfl
theorem D_table (H : dW D B S h) (p z : Int32) : ∃ h', zc PG mX1_table [.ref D, .int p, .int z] h = some (.inl (some (.int (q_table p z))), h') ∧ dQ D B S h h' := by
  obtain ⟨al, X, R⟩ := H
  refine ⟨h, ?_, R.q (hF.rf R.w _)⟩
  unfold q_table
  rcases kbd_cases p 4 8 with e | ⟨p, h4, h8, rfl⟩
  · simp only [e, Bool.false_and, Bool.false_eq_true, if_false]
    simp (disch := omega) only [eX1_table, uX1_table, zKK, zB, zBl, zBb, zlg, zA, zA3, zL3, km31, km63, klshr, kishr, k2p, kl1shl, klmask, kland1, kiand1, k_l2i, zrt_b, zrt_0, zrt_1, zdv_n, zdv_l, znew_k, zast_p0, zast_p2, d_are1, d_are2, d_are3, d_isP, e]
  · have e := kbd_nI h4 h8 (by omega)
    have h2 := k2p_le h8
    rw [kN_nI (by omega)]
    rcases kbd_cases z 0 (2 ^ p) with e2 | ⟨z, -, hz, rfl⟩
    · simp only [e, e2, Bool.and_false, Bool.false_eq_true, if_false]
      simp (disch := omega) only [eX1_table, uX1_table, zKK, zB, zBl, zBb, zlg, zA, zA3, zL3, km31, km63, klshr, kishr, k2p, kl1shl, klmask, kland1, kiand1, k_l2i, zrt_b, zrt_0, zrt_1, zdv_n, zdv_l, znew_k, zast_p0, zast_p2, d_are1, d_are2, d_are3, d_isP, e, d_ini, e2]
    · have e2 := kbd_nI (Nat.zero_le z) hz (by omega)
      simp only [e, e2, Bool.and_self, if_true]
      rw [kN_nI (by omega)]
      have t1 := (dTG R.t).2.2.2.1 p h8
      have t2 := (dTG R.t).2.2.2.2 p z h4 h8 hz
      simp (disch := omega) only [eX1_table, uX1_table, zKK, zB, zBl, zBb, zlg, zA, zA3, zL3, km31, km63, klshr, kishr, k2p, kl1shl, klmask, kland1, kiand1, k_l2i, zrt_b, zrt_0, zrt_1, zdv_n, zdv_l, znew_k, zast_p0, zast_p2, d_are1, d_are2, d_are3, d_isP, e, d_inN, e2, dTG R.t, t1, t2]
theorem D_all (H : dW D B S h) (c : Int32) : ∃ h', zc PG mX1_all [.ref D, .int c] h = some (.inl (some (.long (q_all S c))), h') ∧ dQ D B S h h' := by
  obtain ⟨al, X, R⟩ := H
  have f1 := hv1_F R.w c
  have R1 := R.nw f1
  refine ⟨hv1 h c, ?_, R1.q f1.A⟩
  unfold q_all
  rcases kbd_cases c 0 5 with e | ⟨c, -, hc, rfl⟩
  · simp only [e, Bool.false_eq_true, if_false]
    simp (disch := omega) only [eX1_all, uX1_all, zKK, zB, zBl, zBb, zlg, zA, zA3, zL3, km31, km63, klshr, kishr, k2p, kl1shl, klmask, kland1, kiand1, k_l2i, zrt_b, zrt_0, zrt_1, zdv_n, zdv_l, znew_k, zast_p0, zast_p2, d_are1, d_are2, d_are3, e]
  · have e := kbd_nI (Nat.zero_le c) hc (by omega)
    simp only [e, if_true]
    rw [kN_nI (by omega)]
    have c1 : cN (hv1 h (nI c)) D (al c) (S.c c) := R1.c (by omega)
    simp (disch := omega) only [eX1_all, uX1_all, zKK, zB, zBl, zBb, zlg, zA, zA3, zL3, km31, km63, klshr, kishr, k2p, kl1shl, klmask, kland1, kiand1, k_l2i, zrt_b, zrt_0, zrt_1, zdv_n, zdv_l, znew_k, zast_p0, zast_p2, d_are1, d_are2, d_are3, e, dG R1, nG c1, n_all c1]
end DR
