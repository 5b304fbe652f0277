/-! THE COMPONENT's PUBLIC METHODS: marks, counters opened, marks added -/
section DR
variable {h h1 : zH} {D B : Nat} {al : Nat → Nat} {S : kS} {X : dX}
theorem hF.A {n s : Nat} (F : hF hN n s h h1) : hF (dA D B) n s h h1 := F.new
theorem hF.E {n s : Nat} (F : hF (dE D) n s h h1) : hF (dA D B) n s h h1 := F.dD (fun _ z => dE_A z)
/-- a counter that is new stands for another one -/
theorem dR.setN (R : dR h D B al S X) {n s k a : Nat} (F : hF hN n s h h1) (hk : k < 6) {C : kC} (e : cN h1 D a C) (ha : h.2.1 ≤ a) : zast h1 (D + 12) 3 (nI k) (.ref a) = some (hC h1 D (va_up al k a)) ∧ dR (hC h1 D (va_up al k a)) D B (va_up al k a) (S.s_c k C) X ∧ hF (dA D B) n s h (hC h1 D (va_up al k a)) := by
  have b := R.b
  obtain ⟨r1, r2, r3⟩ := (R.nw F).set hk e (Nat.le_trans b.2 ha) (fun c hc z => by have := (R.c hc).lt R.w; omega)
  exact ⟨r1, r2, (F.A (D := D) (B := B)).tr1 (r3.dD (fun q z => Or.inl (by omega)))⟩
theorem kS_cc (S : kS) (k : Nat) (C C' : kC) : (S.s_c k C).s_c k C' = S.s_c k C' := by
  refine Prod.ext (funext fun j => ?_) rfl
  show (if j = k then C' else if j = k then C else S.c j) = if j = k then C' else S.c j
  by_cases z : j = k
  · rw [if_pos z, if_pos z]
  · rw [if_neg z, if_neg z, if_neg z]
theorem kS_ck (S : kS) (k : Nat) (C : kC) : (S.s_c k C).c k = C := if_pos rfl
theorem kS_self (S : kS) (k : Nat) : S.s_c k (S.c k) = S := by
  refine Prod.ext (funext fun j => ?_) rfl
  show (if j = k then S.c k else S.c j) = S.c j
  by_cases z : j = k
  · rw [if_pos z, z]
  · rw [if_neg z]
theorem D_mixes (H : dW D B S h) (a b : Int32) : ∃ h', zc PG mX1_mixes [.ref D, .int a, .int b] h = some (.inl (some (.int (zb (q_mixes S a b).1))), h') ∧ dQ D B (q_mixes S a b).2 h h' := by
  obtain ⟨al, X, R⟩ := H
  unfold q_mixes
  by_cases e : a - a / nI 2 * nI 2 = nI 0
  · rw [if_pos e]
    refine ⟨h, ?_, R.q (hF.rf R.w _)⟩
    simp (disch := omega) only [eX1_mixes, uX1_mixes, zKK, zdv_n, e, zrt_0, zb_f]
  · rw [if_neg e]
    have R1 : dR (hD h D (S.c, a, S.b, S.t, S.w) X) D B al (S.c, a, S.b, S.t, S.w) X := R.fld rfl rfl rfl rfl (fun k => R.xt) (fun k => R.wr)
    have R2 : dR (hD (hD h D (S.c, a, S.b, S.t, S.w) X) D (S.c, a, b, S.t, S.w) X) D B al (S.c, a, b, S.t, S.w) X := R1.fld rfl rfl rfl rfl (fun k => R.xt) (fun k => R.wr)
    have p2 : zput (hD h D (S.c, a, S.b, S.t, S.w) X) D 1 3 0 (.int b) = some (hD (hD h D (S.c, a, S.b, S.t, S.w) X) D (S.c, a, b, S.t, S.w) X) := (dP R1).2.1 b
    have F : hF (dE D) 0 0 h (hD (hD h D (S.c, a, S.b, S.t, S.w) X) D (S.c, a, b, S.t, S.w) X) := ((hD_F R _ _).tr1 (hD_F R1 _ _)).up (fun q _ z => show dE D q by unfold dE; omega) (Nat.le_refl _) (Nat.le_refl _)
    refine ⟨_, ?_, R2.q F.E⟩
    simp (disch := omega) only [eX1_mixes, uX1_mixes, zKK, zdv_n, e, zrt_1, dP R, p2, zb_t]
theorem D_mark (H : dW D B S h) (t : Int32) : ∃ h', zc PG mX1_mark [.ref D, .int t] h = some (.inl (some (.int (S.a * t + S.b))), h') ∧ dQ D B S h h' := by
  obtain ⟨al, X, R⟩ := H
  refine ⟨h, ?_, R.q (hF.rf R.w _)⟩
  simp (disch := omega) only [eX1_mark, uX1_mark, zKK, dG R, d_markOf R, kmk_nI]
theorem D_place (H : dW D B S h) (p t : Int32) : ∃ h', zc PG mX1_place [.ref D, .int p, .int t] h = some (.inl (some (.int (q_place S p t).1)), h') ∧ dQ D B (q_place S p t).2 h h' := by
  obtain ⟨al, X, R⟩ := H
  unfold q_place
  rcases kbd_cases p 4 8 with e | ⟨k, h4, h8, rfl⟩
  · rw [e]
    refine ⟨h, ?_, R.q (hF.rf R.w _)⟩
    simp (disch := omega) only [eX1_place, uX1_place, zKK, zB, zBl, zBb, zlg, zA, zA3, zL3, km31, km63, klshr, kishr, k2p, kl1shl, klmask, kland1, kiand1, k_l2i, zrt_b, zrt_0, zrt_1, zdv_n, zdv_l, d_isP, e, Bool.false_eq_true, if_false]
  · have e := kbd_nI h4 h8 (by omega)
    have hm := kmk_lt S t
    have hb := krk_bounds (kmk S t) (p := k) (by omega)
    have ek : kN (nI k) = k := kN_nI (by omega)
    rw [e, ek]
    have R0 := R.nw (hF_push R.w (.inl (2, 1, fun _ => zdef 2)) 1)
    obtain ⟨h', X', n1, R', F'⟩ := d_row1 R (lN (krk (kmk S t) k))
    have mk : zc PG mX1_markOf [.ref D, .int t] h' = some (.inl (some (.int (nI (kmk S t)))), h') := d_markOf R' t
    refine ⟨h', ?_, R'.q F'.E⟩
    simp (disch := omega) only [eX1_place, uX1_place, zKK, zB, zBl, zBb, zlg, zA, zA3, zL3, km31, km63, klshr, kishr, k2p, kl1shl, klmask, kland1, kiand1, k_l2i, zrt_b, zrt_0, zrt_1, zdv_n, zdv_l, d_isP, e, znew_k, dG R, dGp R, d_markOf R0, d_rankOf, zast_p2, dG R', n1, mk, d_placeOf, if_true]
theorem D_opens (H : dW D B S h) (c p l : Int32) : ∃ h', zc PG mX1_opens [.ref D, .int c, .int p, .int l] h = some (.inl (some (.int (q_opens S c p l).1)), h') ∧ dQ D B (q_opens S c p l).2 h h' := by
  obtain ⟨al, X, R⟩ := H
  have f1 := hv1_F R.w c
  have R1 := R.nw f1
  unfold q_opens
  rcases kbd_cases c 0 5 with e | ⟨k, -, hk, rfl⟩
  · rw [e]
    refine ⟨hv1 h c, ?_, R1.q f1.A⟩
    simp (disch := omega) only [eX1_opens, uX1_opens, zKK, zB, zBl, zBb, zlg, zA, zA3, zL3, km31, km63, klshr, kishr, k2p, kl1shl, klmask, kland1, kiand1, k_l2i, zrt_b, zrt_0, zrt_1, zdv_n, zdv_l, znew_k, zast_p0, d_are1, e, Bool.false_and, Bool.false_eq_true, if_false]
  · have e := kbd_nI (Nat.zero_le k) hk (by omega)
    rcases kbd_cases p 4 8 with e2 | ⟨p, h4, h8, rfl⟩
    · rw [e, e2]
      refine ⟨hv1 h (nI k), ?_, R1.q f1.A⟩
      simp (disch := omega) only [eX1_opens, uX1_opens, zKK, zB, zBl, zBb, zlg, zA, zA3, zL3, km31, km63, klshr, kishr, k2p, kl1shl, klmask, kland1, kiand1, k_l2i, zrt_b, zrt_0, zrt_1, zdv_n, zdv_l, znew_k, zast_p0, d_are1, d_isP, e, e2, Bool.false_and, Bool.and_false, Bool.false_eq_true, if_false]
    · have e2 := kbd_nI h4 h8 (by omega)
      rcases kbd_cases l 1 48 with e3 | ⟨l, h1, h48, rfl⟩
      · rw [e, e2, e3]
        refine ⟨hv1 h (nI k), ?_, R1.q f1.A⟩
        simp (disch := omega) only [eX1_opens, uX1_opens, zKK, zB, zBl, zBb, zlg, zA, zA3, zL3, km31, km63, klshr, kishr, k2p, kl1shl, klmask, kland1, kiand1, k_l2i, zrt_b, zrt_0, zrt_1, zdv_n, zdv_l, znew_k, zast_p0, d_are1, d_isP, d_ini, e, e2, e3, Bool.and_false, Bool.false_eq_true, if_false]
      · have e3 := kbd_nI h1 h48 (by omega)
        have f2 := hNew_F R1.w D p l
        have n1 := hNew_N (h := hv1 h (nI k)) D h4 h8 h1 h48
        obtain ⟨s1, R2, F2⟩ := R1.setN f2 (k := k) (by omega) n1 (Nat.le_refl _)
        have g2 := R2.c (c := k) (by omega)
        rw [kS_ck] at g2
        have hz : va_up al k (hv1 h (nI k)).2.1 k = (hv1 h (nI k)).2.1 := if_pos rfl
        rw [hz] at g2
        rw [e, e2, e3, kN_nI (by omega), kN_nI (by omega), kN_nI (by omega)]
        refine ⟨_, ?_, R2.q (f1.A.tr1 F2)⟩
        have m2 := n_m g2
        simp (disch := omega) only [eX1_opens, uX1_opens, zKK, zB, zBl, zBb, zlg, zA, zA3, zL3, km31, km63, klshr, kishr, k2p, kl1shl, klmask, kland1, kiand1, k_l2i, zrt_b, zrt_0, zrt_1, zdv_n, zdv_l, znew_k, zast_p0, d_are1, d_isP, d_inN, e, e2, e3, dG R1, n_new, s1, dG R2, hz, nG g2, m2, Bool.and_true, if_true]
        rfl
theorem D_adds (H : dW D B S h) (c t : Int32) : ∃ h', zc PG mX1_adds [.ref D, .int c, .int t] h = some (.inl (some (.int (q_adds S c t).1)), h') ∧ dQ D B (q_adds S c t).2 h h' := by
  obtain ⟨al, X, R⟩ := H
  have f1 := hv1_F R.w c
  have R1 := R.nw f1
  unfold q_adds
  rcases kbd_cases c 0 5 with e | ⟨k, -, hk, rfl⟩
  · rw [e]
    refine ⟨hv1 h c, ?_, R1.q f1.A⟩
    simp (disch := omega) only [eX1_adds, uX1_adds, zKK, zB, zBl, zBb, zlg, zA, zA3, zL3, km31, km63, klshr, kishr, k2p, kl1shl, klmask, kland1, kiand1, k_l2i, zrt_b, zrt_0, zrt_1, zdv_n, zdv_l, znew_k, zast_p0, d_are1, e, Bool.false_eq_true, if_false]
  · have e := kbd_nI (Nat.zero_le k) hk (by omega)
    have hk6 : k < 6 := by omega
    obtain ⟨h2, a1, a2, a3⟩ := n_adds R1.w (R1.c hk6) (kmk_lt S t)
    rw [e, kN_nI (by omega)]
    refine ⟨h2, ?_, (R1.one hk6 a3 a2).q (f1.A.tr1 (a3.dD (R1.cA hk6)))⟩
    cases ew : kwould (S.c k) (kmk S t) with
    | true =>
      rw [ew] at a1
      simp (disch := omega) only [eX1_adds, uX1_adds, zKK, zB, zBl, zBb, zlg, zA, zA3, zL3, km31, km63, klshr, kishr, k2p, kl1shl, klmask, kland1, kiand1, k_l2i, zrt_b, zrt_0, zrt_1, zdv_n, zdv_l, znew_k, zast_p0, d_are1, e, dG R1, d_markOf R1, nG (R1.c hk6), a1, if_true, ew, zb_t]
    | false =>
      rw [ew] at a1
      simp (disch := omega) only [eX1_adds, uX1_adds, zKK, zB, zBl, zBb, zlg, zA, zA3, zL3, km31, km63, klshr, kishr, k2p, kl1shl, klmask, kland1, kiand1, k_l2i, zrt_b, zrt_0, zrt_1, zdv_n, zdv_l, znew_k, zast_p0, d_are1, e, dG R1, d_markOf R1, nG (R1.c hk6), a1, if_true, ew, zb_f]
theorem d_runs_loop {c : Nat} (hc : c < 6) (a s : Int32) {n : Nat} (hn : n ≤ 1000) (C : kC) (j : Nat) : ∀ (k : Nat) (h : zH), k + j = n → (krn (kms S.a S.b a s) C k).2 ≤ k → dR h D B al (S.s_c c (krn (kms S.a S.b a s) C k).1) X → ∃ h', zs PG mX1_runs 33 [.ref D, .int (nI c), .int a, .int (nI n), .int s, .int (nI (krn (kms S.a S.b a s) C k).2), .int (nI k)] [] h = some (.inl (some (.int (nI (krn (kms S.a S.b a s) C n).2))), h') ∧ dR h' D B al (S.s_c c (krn (kms S.a S.b a s) C n).1) X ∧ hF (dA D B) 0 0 h h' := by
  induction j with
  | zero =>
    intro k h hk hb R
    have hk : k = n := hk
    subst hk
    refine ⟨h, ?_, R, hF.rf R.w _⟩
    rw [uX1_runs_at33]
    simp (disch := omega) only [uX1_runs, zKK, zB, zBl, zBb, zlg, zA, zA3, zL3, km31, km63, klshr, kishr, k2p, kl1shl, klmask, kland1, kiand1, k_l2i, zrt_b, zrt_0, zrt_1, zdv_n, zdv_l]
  | succ j ih =>
    intro k h hk hb R
    have rc := R.c hc
    rw [kS_ck] at rc
    have hm : kms S.a S.b a s k = kmk (S.s_c c (krn (kms S.a S.b a s) C k).1) (a + nI k * s) := rfl
    obtain ⟨h1, a1, a2, a3⟩ := n_adds R.w rc (m := kms S.a S.b a s k) (kmk_lt S _)
    have R1 := R.one hc a3 a2
    rw [kS_cc] at R1
    have mk := d_markOf R (a + nI k * s)
    rw [← hm] at mk
    have e1 : (krn (kms S.a S.b a s) C (k + 1)).1 = kcomes (krn (kms S.a S.b a s) C k).1 (kms S.a S.b a s k) := rfl
    have e2 : (krn (kms S.a S.b a s) C (k + 1)).2 = (krn (kms S.a S.b a s) C k).2 + if kwould (krn (kms S.a S.b a s) C k).1 (kms S.a S.b a s k) then 1 else 0 := rfl
    obtain ⟨h', r1, r2, r3⟩ := ih (k + 1) h1 (by omega) (by rw [e2]; split <;> omega) (by rw [e1]; exact R1)
    refine ⟨h', ?_, r2, (a3.dD (R.cA hc)).tr1 r3⟩
    rw [← r1, uX1_runs_at33, e2]
    cases ew : kwould (krn (kms S.a S.b a s) C k).1 (kms S.a S.b a s k) with
    | true =>
      rw [ew] at a1
      simp (disch := omega) only [uX1_runs, zKK, zB, zBl, zBb, zlg, zA, zA3, zL3, km31, km63, klshr, kishr, k2p, kl1shl, klmask, kland1, kiand1, k_l2i, zrt_b, zrt_0, zrt_1, zdv_n, zdv_l, dG R, mk, nG rc, a1, if_true]
    | false =>
      rw [ew] at a1
      simp (disch := omega) only [uX1_runs, zKK, zB, zBl, zBb, zlg, zA, zA3, zL3, km31, km63, klshr, kishr, k2p, kl1shl, klmask, kland1, kiand1, k_l2i, zrt_b, zrt_0, zrt_1, zdv_n, zdv_l, dG R, mk, nG rc, a1, if_false, Bool.false_eq_true]
theorem D_runs (H : dW D B S h) (c a n s : Int32) : ∃ h', zc PG mX1_runs [.ref D, .int c, .int a, .int n, .int s] h = some (.inl (some (.int (q_runs S c a n s).1)), h') ∧ dQ D B (q_runs S c a n s).2 h h' := by
  obtain ⟨al, X, R⟩ := H
  have f1 := hv1_F R.w c
  have R1 := R.nw f1
  unfold q_runs
  rcases kbd_cases c 0 5 with e | ⟨k, -, hk, rfl⟩
  · rw [e]
    refine ⟨hv1 h c, ?_, R1.q f1.A⟩
    simp (disch := omega) only [eX1_runs, uX1_runs, zKK, zB, zBl, zBb, zlg, zA, zA3, zL3, km31, km63, klshr, kishr, k2p, kl1shl, klmask, kland1, kiand1, k_l2i, zrt_b, zrt_0, zrt_1, zdv_n, zdv_l, znew_k, zast_p0, d_are1, e, Bool.false_and, Bool.false_eq_true, if_false]
  · have e := kbd_nI (Nat.zero_le k) hk (by omega)
    rcases kbd_cases n 0 1000 with e2 | ⟨n, -, h1000, rfl⟩
    · rw [e, e2]
      refine ⟨hv1 h (nI k), ?_, R1.q f1.A⟩
      simp (disch := omega) only [eX1_runs, uX1_runs, zKK, zB, zBl, zBb, zlg, zA, zA3, zL3, km31, km63, klshr, kishr, k2p, kl1shl, klmask, kland1, kiand1, k_l2i, zrt_b, zrt_0, zrt_1, zdv_n, zdv_l, znew_k, zast_p0, d_are1, d_ini, e, e2, Bool.and_false, Bool.false_eq_true, if_false]
    · have e2 := kbd_nI (Nat.zero_le n) h1000 (by omega)
      have hk6 : k < 6 := by omega
      obtain ⟨h2, r1, R2, F2⟩ := d_runs_loop (S := S) hk6 a s h1000 (S.c k) n 0 (hv1 h (nI k)) (Nat.zero_add _) (Nat.le_refl _) (by show dR _ D B al (S.s_c k (S.c k)) X; rw [kS_self]; exact R1)
      rw [e, e2, kN_nI (by omega), kN_nI (by omega)]
      refine ⟨h2, ?_, R2.q (f1.A.tr1 F2)⟩
      have z0 : (krn (kms S.a S.b a s) (S.c k) 0).2 = 0 := rfl
      rw [z0] at r1
      simp (disch := omega) only [eX1_runs, uX1_runs, zKK, zB, zBl, zBb, zlg, zA, zA3, zL3, km31, km63, klshr, kishr, k2p, kl1shl, klmask, kland1, kiand1, k_l2i, zrt_b, zrt_0, zrt_1, zdv_n, zdv_l, znew_k, zast_p0, d_are1, d_inN, e, e2, r1, Bool.and_self, if_true]
end DR
