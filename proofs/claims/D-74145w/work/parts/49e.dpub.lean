/-! THE COMPONENT's PUBLIC METHODS: forms, joins, what they tell -/
section DR
variable {h h1 : zH} {D B : Nat} {al : Nat → Nat} {S : kS} {X : dX}
theorem D_dense (H : dW D B S h) (c : Int32) : ∃ h', zc PG mX1_dense [.ref D, .int c] h = some (.inl (some (.int (q_dense S c).1)), h') ∧ dQ D B (q_dense S c).2 h h' := by
  obtain ⟨al, X, R⟩ := H
  have f1 := hv1_F R.w c
  have R1 := R.nw f1
  unfold q_dense
  rcases kbd_cases c 0 5 with e | ⟨k, -, hk, rfl⟩
  · rw [e]
    refine ⟨hv1 h c, ?_, R1.q f1.A⟩
    simp (disch := omega) only [eX1_dense, uX1_dense, zKK, zB, zBl, zBb, zlg, zA, zA3, zL3, km31, km63, klshr, kishr, k2p, kl1shl, klmask, kland1, kiand1, k_l2i, zrt_b, zrt_0, zrt_1, zdv_n, zdv_l, znew_k, zast_p0, zast_p2, d_are1, d_are2, d_are3, e, Bool.false_eq_true, if_false]
  · have e := kbd_nI (Nat.zero_le k) hk (by omega)
    have hk6 : k < 6 := by omega
    have c1 := R1.c hk6
    have g1 := nG c1
    rw [e, kN_nI (by omega)]
    cases hd : (S.c k).d with
    | true =>
      rw [hd] at g1
      refine ⟨hv1 h (nI k), ?_, R1.q f1.A⟩
      simp (disch := omega) only [eX1_dense, uX1_dense, zKK, zB, zBl, zBb, zlg, zA, zA3, zL3, km31, km63, klshr, kishr, k2p, kl1shl, klmask, kland1, kiand1, k_l2i, zrt_b, zrt_0, zrt_1, zdv_n, zdv_l, znew_k, zast_p0, zast_p2, d_are1, d_are2, d_are3, e, dG R1, g1, if_true]
    | false =>
      rw [hd] at g1
      obtain ⟨h2, a1, a2, a3⟩ := n_dense R1.w c1
      have R2 := R1.one hk6 a3 a2
      have e2 := d_filled a2
      have e3 : krd (kdense (S.c k)).r (2 ^ (kdense (S.c k)).p) = krd (S.c k).r (2 ^ (S.c k).p) := rfl
      rw [e3] at e2
      refine ⟨h2, ?_, R2.q (f1.A.tr1 (a3.dD (R1.cA hk6)))⟩
      simp (disch := omega) only [eX1_dense, uX1_dense, zKK, zB, zBl, zBb, zlg, zA, zA3, zL3, km31, km63, klshr, kishr, k2p, kl1shl, klmask, kland1, kiand1, k_l2i, zrt_b, zrt_0, zrt_1, zdv_n, zdv_l, znew_k, zast_p0, zast_p2, d_are1, d_are2, d_are3, e, dG R1, g1, a1, dG R2, e2, if_true, Bool.false_eq_true, if_false]
theorem D_folds (H : dW D B S h) (c p : Int32) : ∃ h', zc PG mX1_folds [.ref D, .int c, .int p] h = some (.inl (some (.int (q_folds S c p).1)), h') ∧ dQ D B (q_folds S c p).2 h h' := by
  obtain ⟨al, X, R⟩ := H
  have f1 := hv1_F R.w c
  have R1 := R.nw f1
  unfold q_folds
  rcases kbd_cases c 0 5 with e | ⟨k, -, hk, rfl⟩
  · rw [e]
    refine ⟨hv1 h c, ?_, R1.q f1.A⟩
    simp (disch := omega) only [eX1_folds, uX1_folds, zKK, zB, zBl, zBb, zlg, zA, zA3, zL3, km31, km63, klshr, kishr, k2p, kl1shl, klmask, kland1, kiand1, k_l2i, zrt_b, zrt_0, zrt_1, zdv_n, zdv_l, znew_k, zast_p0, zast_p2, d_are1, d_are2, d_are3, e, Bool.false_and, Bool.false_eq_true, if_false]
  · have e := kbd_nI (Nat.zero_le k) hk (by omega)
    have hk6 : k < 6 := by omega
    have c1 := R1.c hk6
    have i8 := c1.I.2.1
    have i8' : (S.c k).p ≤ 8 := i8
    rw [e, kN_nI (by omega)]
    rcases kbd_cases p 4 (S.c k).p with e2 | ⟨p, h4, hp, rfl⟩
    · rw [e2]
      refine ⟨hv1 h (nI k), ?_, R1.q f1.A⟩
      simp (disch := omega) only [eX1_folds, uX1_folds, zKK, zB, zBl, zBb, zlg, zA, zA3, zL3, km31, km63, klshr, kishr, k2p, kl1shl, klmask, kland1, kiand1, k_l2i, zrt_b, zrt_0, zrt_1, zdv_n, zdv_l, znew_k, zast_p0, zast_p2, d_are1, d_are2, d_are3, e, dG R1, nG c1, d_ini, e2, Bool.and_false, Bool.false_eq_true, if_false]
    · have e2 := kbd_nI h4 hp (by omega)
      rw [e2, kN_nI (by omega)]
      by_cases e3 : p = (S.c k).p
      · subst e3
        refine ⟨hv1 h (nI k), ?_, ?_⟩
        · simp (disch := omega) only [eX1_folds, uX1_folds, zKK, zB, zBl, zBb, zlg, zA, zA3, zL3, km31, km63, klshr, kishr, k2p, kl1shl, klmask, kland1, kiand1, k_l2i, zrt_b, zrt_0, zrt_1, zdv_n, zdv_l, znew_k, zast_p0, zast_p2, d_are1, d_are2, d_are3, e, dG R1, nG c1, d_inN, e2, Bool.and_self, if_true]
        · simp only [Bool.and_self, if_true]
          exact R1.q f1.A
      · obtain ⟨h2, t1, t2, t3⟩ := n_copy R1.w c1 h4 hp
        obtain ⟨s1, R2, F2⟩ := R1.setN t3 hk6 t2 (Nat.le_refl _)
        have g2 := R2.c (c := k) hk6
        have hz : va_up al k (hv1 h (nI k)).2.1 k = (hv1 h (nI k)).2.1 := if_pos rfl
        rw [kS_ck, hz] at g2
        have e4 := d_filled g2
        have e5 : krd (kfoldC (S.c k) p).r (2 ^ (kfoldC (S.c k) p).p) = krd (kfoldC (S.c k) p).r (2 ^ p) := rfl
        rw [e5] at e4
        refine ⟨hC h2 D (va_up al k (hv1 h (nI k)).2.1), ?_, ?_⟩
        rotate_left
        · simp only [Bool.and_self, if_true, e3, if_false]
          exact R2.q (f1.A.tr1 F2)
        · simp (disch := omega) only [eX1_folds, uX1_folds, zKK, zB, zBl, zBb, zlg, zA, zA3, zL3, km31, km63, klshr, kishr, k2p, kl1shl, klmask, kland1, kiand1, k_l2i, zrt_b, zrt_0, zrt_1, zdv_n, zdv_l, znew_k, zast_p0, zast_p2, d_are1, d_are2, d_are3, e, dG R1, dGp R1, nG c1, d_inN, e2, e3, t1, s1, dG R2, hz, e4, Bool.and_self, if_true, if_false]
theorem D_copies (H : dW D B S h) (c k : Int32) : ∃ h', zc PG mX1_copies [.ref D, .int c, .int k] h = some (.inl (some (.int (q_copies S c k).1)), h') ∧ dQ D B (q_copies S c k).2 h h' := by
  obtain ⟨al, X, R⟩ := H
  have f1 := hv2_F R.w c k
  have R1 := R.nw f1
  unfold q_copies
  cases e : (kbd c 0 5 && kbd k 0 5) with
  | false =>
    refine ⟨hv2 h c k, ?_, R1.q f1.A⟩
    simp (disch := omega) only [eX1_copies, uX1_copies, zKK, zB, zBl, zBb, zlg, zA, zA3, zL3, km31, km63, klshr, kishr, k2p, kl1shl, klmask, kland1, kiand1, k_l2i, zrt_b, zrt_0, zrt_1, zdv_n, zdv_l, znew_k, zast_p0, zast_p2, d_are1, d_are2, d_are3, e, Bool.false_eq_true, if_false]
  | true =>
    obtain ⟨e1, e2⟩ := Bool.and_eq_true_iff.mp e
    rcases kbd_cases c 0 5 with z | ⟨c, -, hc, rfl⟩
    · rw [z] at e1; cases e1
    rcases kbd_cases k 0 5 with z | ⟨k, -, hk, rfl⟩
    · rw [z] at e2; cases e2
    obtain ⟨h2, t1, t2, t3⟩ := d_copy1 R1 (a := c) (by omega)
    obtain ⟨s1, R2, F2⟩ := d_becomes R1 t3 (k := k) (by omega) t2 (Nat.le_succ _)
    have st := zast_p3 R1.w (R1.c (c := c) (by omega)) (n := 1) (m := 1) (i := 0) (g := fun _ => zdef 3) (by omega) (by omega)
    rw [kN_nI (by omega), kN_nI (by omega)]
    refine ⟨_, ?_, R2.q (f1.A.tr1 F2)⟩
    simp (disch := omega) only [eX1_copies, uX1_copies, zKK, zB, zBl, zBb, zlg, zA, zA3, zL3, km31, km63, klshr, kishr, k2p, kl1shl, klmask, kland1, kiand1, k_l2i, zrt_b, zrt_0, zrt_1, zdv_n, zdv_l, znew_k, zast_p0, zast_p2, d_are1, d_are2, d_are3, e, dG R1, dGp R1, st, t1, dG (R1.nw t3), s1, if_true]
theorem D_joins (H : dW D B S h) (a b k : Int32) : ∃ h', zc PG mX1_joins [.ref D, .int a, .int b, .int k] h = some (.inl (some (.int (q_joins S a b k).1)), h') ∧ dQ D B (q_joins S a b k).2 h h' := by
  obtain ⟨al, X, R⟩ := H
  have f1 := hv3_F R.w a b k
  have R1 := R.nw f1
  unfold q_joins
  cases e : (kbd a 0 5 && kbd b 0 5 && kbd k 0 5) with
  | false =>
    refine ⟨hv3 h a b k, ?_, R1.q f1.A⟩
    simp (disch := omega) only [eX1_joins, uX1_joins, zKK, zB, zBl, zBb, zlg, zA, zA3, zL3, km31, km63, klshr, kishr, k2p, kl1shl, klmask, kland1, kiand1, k_l2i, zrt_b, zrt_0, zrt_1, zdv_n, zdv_l, znew_k, zast_p0, zast_p2, d_are1, d_are2, d_are3, e, Bool.false_eq_true, if_false]
  | true =>
    obtain ⟨e12, e3⟩ := Bool.and_eq_true_iff.mp e
    obtain ⟨e1, e2⟩ := Bool.and_eq_true_iff.mp e12
    rcases kbd_cases a 0 5 with z | ⟨a, -, ha, rfl⟩
    · rw [z] at e1; cases e1
    rcases kbd_cases b 0 5 with z | ⟨b, -, hb, rfl⟩
    · rw [z] at e2; cases e2
    rcases kbd_cases k 0 5 with z | ⟨k, -, hk, rfl⟩
    · rw [z] at e3; cases e3
    obtain ⟨h2, t1, t2, t3⟩ := d_join2 R1 (a := a) (b := b) (by omega) (by omega)
    obtain ⟨s1, R2, F2⟩ := d_becomes R1 t3 (k := k) (by omega) t2 (Nat.le_succ _)
    have st := fun g => zast_p3 R1.w (R1.c (c := a) (by omega)) (n := 2) (m := 2) (i := 0) (g := g) (by omega) (by omega)
    have st2 := fun g => zast_p3 R1.w (R1.c (c := b) (by omega)) (n := 2) (m := 2) (i := 1) (g := g) (by omega) (by omega)
    rw [kN_nI (by omega), kN_nI (by omega), kN_nI (by omega)]
    refine ⟨_, ?_, R2.q (f1.A.tr1 F2)⟩
    simp (disch := omega) only [eX1_joins, uX1_joins, zKK, zB, zBl, zBb, zlg, zA, zA3, zL3, km31, km63, klshr, kishr, k2p, kl1shl, klmask, kland1, kiand1, k_l2i, zrt_b, zrt_0, zrt_1, zdv_n, zdv_l, znew_k, zast_p0, zast_p2, d_are1, d_are2, d_are3, e, dG R1, dGp R1, st, st2, t1, dG (R1.nw t3), s1, if_true]
theorem D_gathers (H : dW D B S h) (s k : Int32) : ∃ h', zc PG mX1_gathers [.ref D, .int s, .int k] h = some (.inl (some (.int (q_gathers S s k).1)), h') ∧ dQ D B (q_gathers S s k).2 h h' := by
  obtain ⟨al, X, R⟩ := H
  have f1 := hv1_F R.w k
  have R1 := R.nw f1
  unfold q_gathers
  rcases kbd_cases s 1 63 with e | ⟨s, h1, hs, rfl⟩
  · rw [e]
    refine ⟨h, ?_, R.q (hF.rf R.w _)⟩
    simp (disch := omega) only [eX1_gathers, uX1_gathers, zKK, zB, zBl, zBb, zlg, zA, zA3, zL3, km31, km63, klshr, kishr, k2p, kl1shl, klmask, kland1, kiand1, k_l2i, zrt_b, zrt_0, zrt_1, zdv_n, zdv_l, znew_k, zast_p0, zast_p2, d_are1, d_are2, d_are3, d_isSet, e, Bool.false_and, Bool.false_eq_true, if_false]
  · have e := kbd_nI h1 hs (by omega)
    rcases kbd_cases k 0 5 with e2 | ⟨k, -, hk, rfl⟩
    · rw [e, e2]
      refine ⟨hv1 h k, ?_, R1.q f1.A⟩
      simp (disch := omega) only [eX1_gathers, uX1_gathers, zKK, zB, zBl, zBb, zlg, zA, zA3, zL3, km31, km63, klshr, kishr, k2p, kl1shl, klmask, kland1, kiand1, k_l2i, zrt_b, zrt_0, zrt_1, zdv_n, zdv_l, znew_k, zast_p0, zast_p2, d_are1, d_are2, d_are3, d_isSet, e, e2, Bool.and_false, Bool.false_eq_true, if_false]
    · have e2 := kbd_nI (Nat.zero_le k) hk (by omega)
      obtain ⟨g1, h2, t1, t2, t3, t4, t5, t6⟩ := d_joinS R1 (s := s) (by omega) h1
      obtain ⟨s1, R2, F2⟩ := d_becomes R1 t6 (k := k) (by omega) t4 t5
      rw [e, e2, kN_nI (by omega), kN_nI (by omega)]
      refine ⟨_, ?_, R2.q (f1.A.tr1 F2)⟩
      simp (disch := omega) only [eX1_gathers, uX1_gathers, zKK, zB, zBl, zBb, zlg, zA, zA3, zL3, km31, km63, klshr, kishr, k2p, kl1shl, klmask, kland1, kiand1, k_l2i, zrt_b, zrt_0, zrt_1, zdv_n, zdv_l, znew_k, zast_p0, zast_p2, d_are1, d_are2, d_are3, d_isSet, e, e2, dG R1, t1, t2, t3, dG (R1.nw t6), s1, Bool.and_self, if_true]
theorem D_takes (H : dW D B S h) (c t : Int32) : ∃ h', zc PG mX1_takes_2 [.ref D, .int c, .int t] h = some (.inl (some (.int (q_takes S c t).1)), h') ∧ dQ D B (q_takes S c t).2 h h' := by
  obtain ⟨al, X, R⟩ := H
  have f1 := hv1_F R.w c
  have R1 := R.nw f1
  unfold q_takes
  rcases kbd_cases c 0 5 with e | ⟨k, -, hk, rfl⟩
  · rw [e]
    refine ⟨hv1 h c, ?_, R1.q f1.A⟩
    simp (disch := omega) only [eX1_takes_2, uX1_takes_2, zKK, zB, zBl, zBb, zlg, zA, zA3, zL3, km31, km63, klshr, kishr, k2p, kl1shl, klmask, kland1, kiand1, k_l2i, zrt_b, zrt_0, zrt_1, zdv_n, zdv_l, znew_k, zast_p0, zast_p2, d_are1, d_are2, d_are3, e, Bool.false_eq_true, if_false]
  · have e := kbd_nI (Nat.zero_le k) hk (by omega)
    have hk6 : k < 6 := by omega
    have c1 : cN (hv1 h (nI k)) D (al k) (S.c k) := R1.c hk6
    have g1 := nG c1
    rw [e, kN_nI (by omega)]
    cases hd : (S.c k).d with
    | true =>
      rw [hd] at g1
      refine ⟨hv1 h (nI k), ?_, R1.q f1.A⟩
      simp (disch := omega) only [eX1_takes_2, uX1_takes_2, zKK, zB, zBl, zBb, zlg, zA, zA3, zL3, km31, km63, klshr, kishr, k2p, kl1shl, klmask, kland1, kiand1, k_l2i, zrt_b, zrt_0, zrt_1, zdv_n, zdv_l, znew_k, zast_p0, zast_p2, d_are1, d_are2, d_are3, e, dG R1, g1, if_true]
    | false =>
      rw [hd] at g1
      obtain ⟨h2, a1, a2, a3⟩ := n_drops R1.w c1 hd (kmk_lt S t)
      have R2 := R1.one hk6 a3 a2
      refine ⟨h2, ?_, R2.q (f1.A.tr1 (a3.dD (R1.cA hk6)))⟩
      by_cases hin : kmk S t ∈ (S.c k).m
      · rw [decide_eq_true hin] at a1
        have hl := (kwo_get c1.I.2.2.2.2.2.2.2.2.1 hin).1
        rw [show (S.c k).m.length - (kwo (kmk S t) (S.c k).m).length = 1 by omega]
        simp (disch := omega) only [eX1_takes_2, uX1_takes_2, zKK, zB, zBl, zBb, zlg, zA, zA3, zL3, km31, km63, klshr, kishr, k2p, kl1shl, klmask, kland1, kiand1, k_l2i, zrt_b, zrt_0, zrt_1, zdv_n, zdv_l, znew_k, zast_p0, zast_p2, d_are1, d_are2, d_are3, e, dG R1, g1, d_markOf R1, a1, if_true, Bool.false_eq_true, if_false]
      · rw [decide_eq_false hin] at a1
        rw [kwo_self hin, Nat.sub_self]
        simp (disch := omega) only [eX1_takes_2, uX1_takes_2, zKK, zB, zBl, zBb, zlg, zA, zA3, zL3, km31, km63, klshr, kishr, k2p, kl1shl, klmask, kland1, kiand1, k_l2i, zrt_b, zrt_0, zrt_1, zdv_n, zdv_l, znew_k, zast_p0, zast_p2, d_are1, d_are2, d_are3, e, dG R1, g1, d_markOf R1, a1, if_true, Bool.false_eq_true, if_false]
theorem D_guess (H : dW D B S h) (c : Int32) : ∃ h', zc PG mX1_guess [.ref D, .int c] h = some (.inl (some (.int (q_guess S c).1)), h') ∧ dQ D B (q_guess S c).2 h h' := by
  obtain ⟨al, X, R⟩ := H
  have f1 := hv1_F R.w c
  have R1 := R.nw f1
  unfold q_guess
  rcases kbd_cases c 0 5 with e | ⟨k, -, hk, rfl⟩
  · rw [e]
    refine ⟨hv1 h c, ?_, R1.q f1.A⟩
    simp (disch := omega) only [eX1_guess, uX1_guess, zKK, zB, zBl, zBb, zlg, zA, zA3, zL3, km31, km63, klshr, kishr, k2p, kl1shl, klmask, kland1, kiand1, k_l2i, zrt_b, zrt_0, zrt_1, zdv_n, zdv_l, znew_k, zast_p0, zast_p2, d_are1, d_are2, d_are3, e, Bool.false_eq_true, if_false]
  · have e := kbd_nI (Nat.zero_le k) hk (by omega)
    have hk6 : k < 6 := by omega
    have c1 : cN (hv1 h (nI k)) D (al k) (S.c k) := R1.c hk6
    have g1 := nGp R1.w c1
    have hz := kz_le2 (S.c k)
    have h2 := k2p_le c1.I.2.1
    have hh : khow (S.c k).p (kz (S.c k)) ≤ 2 := by unfold khow; split <;> omega
    rw [e, kN_nI (by omega)]
    cases hd : (S.c k).d with
    | true =>
      rw [hd] at g1
      obtain ⟨h2, X2, n1, R2, F2⟩ := d_row2 R1 (lN (khow (S.c k).p (kz (S.c k)))) (lN (kz (S.c k)))
      have c2 : cN h2 D (al k) (S.c k) := R2.c hk6
      refine ⟨h2, ?_, R2.q (f1.A.tr1 F2.E)⟩
      simp (disch := omega) only [eX1_guess, uX1_guess, zKK, zB, zBl, zBb, zlg, zA, zA3, zL3, km31, km63, klshr, kishr, k2p, kl1shl, klmask, kland1, kiand1, k_l2i, zrt_b, zrt_0, zrt_1, zdv_n, zdv_l, znew_k, zast_p0, zast_p2, d_are1, d_are2, d_are3, e, dG R1, dGp R1, g1, nTp R1.w c1 R1.t, n1, dG R2, nG c2, n_guess c2 R2.t, if_true]
    | false =>
      rw [hd] at g1
      obtain ⟨h2, X2, n1, R2, F2⟩ := d_row2 R1 (lN 0) (lN (kz (S.c k)))
      have c2 : cN h2 D (al k) (S.c k) := R2.c hk6
      refine ⟨h2, ?_, R2.q (f1.A.tr1 F2.E)⟩
      simp (disch := omega) only [eX1_guess, uX1_guess, zKK, zB, zBl, zBb, zlg, zA, zA3, zL3, km31, km63, klshr, kishr, k2p, kl1shl, klmask, kland1, kiand1, k_l2i, zrt_b, zrt_0, zrt_1, zdv_n, zdv_l, znew_k, zast_p0, zast_p2, d_are1, d_are2, d_are3, e, dG R1, dGp R1, g1, n1, dG R2, nG c2, n_guess c2 R2.t, if_true]
theorem D_roughly (H : dW D B S h) (c : Int32) : ∃ h', zc PG mX1_roughly [.ref D, .int c] h = some (.inl (some (.int (q_roughly S c).1)), h') ∧ dQ D B (q_roughly S c).2 h h' := by
  obtain ⟨al, X, R⟩ := H
  have f1 := hv1_F R.w c
  have R1 := R.nw f1
  unfold q_roughly
  rcases kbd_cases c 0 5 with e | ⟨k, -, hk, rfl⟩
  · rw [e]
    refine ⟨hv1 h c, ?_, R1.q f1.A⟩
    simp (disch := omega) only [eX1_roughly, uX1_roughly, zKK, zB, zBl, zBb, zlg, zA, zA3, zL3, km31, km63, klshr, kishr, k2p, kl1shl, klmask, kland1, kiand1, k_l2i, zrt_b, zrt_0, zrt_1, zdv_n, zdv_l, znew_k, zast_p0, zast_p2, d_are1, d_are2, d_are3, e, Bool.false_eq_true, if_false]
  · have e := kbd_nI (Nat.zero_le k) hk (by omega)
    have hk6 : k < 6 := by omega
    have c1 : cN (hv1 h (nI k)) D (al k) (S.c k) := R1.c hk6
    have hz := kz_le2 (S.c k)
    have h2 := k2p_le c1.I.2.1
    have hh : khow (S.c k).p (kz (S.c k)) ≤ 2 := by unfold khow; split <;> omega
    rw [e, kN_nI (by omega)]
    obtain ⟨h2, X2, n1, R2, F2⟩ := d_row2 R1 (lN (khow (S.c k).p (kz (S.c k)))) (lN (kz (S.c k)))
    have c2 : cN h2 D (al k) (S.c k) := R2.c hk6
    refine ⟨h2, ?_, R2.q (f1.A.tr1 F2.E)⟩
    simp (disch := omega) only [eX1_roughly, uX1_roughly, zKK, zB, zBl, zBb, zlg, zA, zA3, zL3, km31, km63, klshr, kishr, k2p, kl1shl, klmask, kland1, kiand1, k_l2i, zrt_b, zrt_0, zrt_1, zdv_n, zdv_l, znew_k, zast_p0, zast_p2, d_are1, d_are2, d_are3, e, dG R1, dGp R1, nGp R1.w c1, nTp R1.w c1 R1.t, n1, dG R2, nG c2, n_roughly c2 R2.t, if_true]
end DR
