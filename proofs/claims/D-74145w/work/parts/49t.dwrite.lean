/-! THE COMPONENT: a counter that is written -/
theorem kiand15 {n : Nat} (hn : n < 2 ^ 32) : nI n &&& nI 15 = nI (n % 16) := by
  apply Int32.toBitVec_inj.mp
  apply BitVec.eq_of_toNat_eq
  show (BitVec.ofNat 32 n &&& BitVec.ofNat 32 15).toNat = (BitVec.ofNat 32 (n % 16)).toNat
  rw [BitVec.toNat_and, BitVec.toNat_ofNat, BitVec.toNat_ofNat, BitVec.toNat_ofNat, Nat.mod_eq_of_lt hn, show 15 % 2 ^ 32 = 2 ^ 4 - 1 from rfl, Nat.and_two_pow_sub_one_eq_mod]
  omega
theorem kdn4 {p : Nat} (hp : 4 ≤ p) : nI p + (-4) = nI (p - 4) := by
  have e : nI p = nI (p - 4) + nI 4 := by rw [zA.1]; congr 1; omega
  rw [e, Int32.add_assoc]
  have e4 : nI 4 + (-4) = 0 := by decide
  rw [e4, Int32.add_zero]
theorem kdn0 : nI 0 + (-4) < nI 0 := by decide
theorem ksn_d {C : kC} (hd : C.d = true) (i : Nat) : ksn C (khd C + i) = ksg (C.r i) := by
  have := khd_le C
  unfold ksn
  rw [if_neg (by omega), if_neg (by omega), if_neg (by omega), hd]
  simp only [if_true]
  congr 2
  omega
theorem ksn_s {C : kC} (hd : C.d = false) (i : Nat) {t : Nat} (ht : t < 8) : ksn C (khd C + 8 * i + t) = ksg (C.m.getD i 0 / 2 ^ (28 - 4 * t) % 16) := by
  have := khd_le C
  unfold ksn
  rw [if_neg (by omega), if_neg (by omega), if_neg (by omega), hd]
  simp only [Bool.false_eq_true, if_false]
  have e1 : (khd C + 8 * i + t - khd C) / 8 = i := by omega
  have e2 : (khd C + 8 * i + t - khd C) % 8 = t := by omega
  rw [e1, e2]
theorem ksg_lt : ∀ k, k < 30 → ksg k < 128 := fun k hk => (ksg_ds k hk).2
section WR
variable {h0 : zH} {D a b : Nat} {C : kC}
theorem wr_dense (w0 : hW h0) (K0 : dC h0 D) (N0 : cN h0 D a C) (hd : C.d = true) (j : Nat) : ∀ i h, i + j = 2 ^ C.p → sB h0 h b 0 (kwL C (khd C + i)) → ∃ h', zs PG mX1_write 48 [.ref D, .ref a, .ref b, .int (nI i), zJ] [] h = zs PG mX1_write 136 [.ref D, .ref a, .ref b, .int (nI (2 ^ C.p)), zJ] [] h' ∧ sB h0 h' b 0 (kwL C (khd C + 2 ^ C.p)) := by
  have iC := N0.I
  have h2 := k2p_le iC.2.1
  have hh := khd_le C
  induction j with
  | zero =>
    intro i h hi e
    have hi : i = 2 ^ C.p := by omega
    subst hi
    have N := N0.nw w0 e.fr
    obtain ⟨n, f, O, -, -⟩ := N
    have cm := c_m O iC.2.1
    refine ⟨h, ?_, e⟩
    rw [uX1_write_at48]
    simp (disch := omega) only [uX1_write_p0, uX1_write_p1, zKK, zB, zBl, zBb, zlg, zA, zA3, zL3, km31, km63, klshr, kishr, k2p, kl1shl, klmask, kland1, kiand1, k_l2i, zrt_b, zrt_0, zrt_1, zdv_n, zdv_l, cg_is O, cm]
  | succ j ih =>
    intro i h hi e
    have N := N0.nw w0 e.fr
    obtain ⟨n, f, O, -, -⟩ := N
    have cm := c_m O iC.2.1
    have K := K0.fr w0 e.fr (fun _ _ z => z)
    have hr : C.r i < 30 := by have := iC.2.2.2.2.1 i; have := iC.1; omega
    obtain ⟨x, y1, y2, y3⟩ := s_sign K hr
    obtain ⟨h1, k1, e1⟩ := s_app e (ksg_lt _ hr) (by rw [kwL_l]; omega)
    rw [← ksn_d hd, ← kwL_s] at e1
    obtain ⟨h', k2, e2⟩ := ih (i + 1) h1 (by omega) e1
    refine ⟨h', ?_, e2⟩
    rw [← k2, uX1_write_at48]
    simp (disch := omega) only [uX1_write_p0, uX1_write_p1, zKK, zB, zBl, zBb, zlg, zA, zA3, zL3, km31, km63, klshr, kishr, k2p, kl1shl, klmask, kland1, kiand1, k_l2i, zrt_b, zrt_0, zrt_1, zdv_n, zdv_l, cg_is O, cm, y1, cg_r O, cr_r O, y2, y3, e.is, k1]
theorem wr_sign (w0 : hW h0) (K0 : dC h0 D) (N0 : cN h0 D a C) (hd : C.d = false) {i t : Nat} (hi : i < C.m.length) (ht : t < 8) {h : zH} (e : sB h0 h b 0 (kwL C (khd C + 8 * i + t))) : ∃ h', zs PG mX1_write 96 [.ref D, .ref a, .ref b, .int (nI i), .int (nI (28 - 4 * t))] [] h = zs PG mX1_write 96 [.ref D, .ref a, .ref b, .int (nI i), .int (nI (28 - 4 * t) + (-4))] [] h' ∧ sB h0 h' b 0 (kwL C (khd C + 8 * i + (t + 1))) := by
  have iC := N0.I
  have hh := khd_le C
  have hml : C.m.length ≤ C.l := iC.2.2.2.2.2.2.2.2.2.1
  have h48 := iC.2.2.2.1
  have N := N0.nw w0 e.fr
  obtain ⟨n, f, O, M, -⟩ := N
  obtain ⟨en, ef⟩ := M.2 hd
  have hf := ef i (by omega)
  have hm2 : C.m.getD i 0 < 2 ^ 32 := iC.2.2.2.2.2.2.2.1 _ (kget_mem hi)
  have hm3 : C.m.getD i 0 / 2 ^ (28 - 4 * t) ≤ C.m.getD i 0 := Nat.div_le_self _ _
  have K := K0.fr w0 e.fr (fun _ _ z => z)
  have hr : C.m.getD i 0 / 2 ^ (28 - 4 * t) % 16 < 30 := by omega
  obtain ⟨x, y1, y2, y3⟩ := s_sign K hr
  obtain ⟨h1, k1, e1⟩ := s_app e (ksg_lt _ hr) (by rw [kwL_l]; omega)
  rw [← ksn_s hd i ht, ← kwL_s] at e1
  refine ⟨h1, ?_, e1⟩
  have ld := cr_m O (i := i) (by omega)
  rw [hf] at ld
  rw [uX1_write_at96]
  simp (disch := omega) only [uX1_write_p0, uX1_write_p1, zKK, zB, zBl, zBb, zlg, zA, zA3, zL3, km31, km63, klshr, kishr, k2p, kl1shl, klmask, kland1, kiand1, k_l2i, zrt_b, zrt_0, zrt_1, zdv_n, zdv_l, y1, cg_m O, ld, kiushr, kiand15, y2, y3, e.is, k1]
theorem wr_mark (w0 : hW h0) (K0 : dC h0 D) (N0 : cN h0 D a C) (hd : C.d = false) {i : Nat} (hi : i < C.m.length) (j : Nat) : ∀ t h, t + j = 7 → sB h0 h b 0 (kwL C (khd C + 8 * i + t)) → ∃ h' z, zs PG mX1_write 96 [.ref D, .ref a, .ref b, .int (nI i), .int (nI (28 - 4 * t))] [] h = zs PG mX1_write 130 [.ref D, .ref a, .ref b, .int (nI i), .int z] [] h' ∧ sB h0 h' b 0 (kwL C (khd C + 8 * (i + 1))) := by
  induction j with
  | zero =>
    intro t h ht e
    have ht : t = 7 := by omega
    subst ht
    obtain ⟨h1, k1, e1⟩ := wr_sign w0 K0 N0 hd hi (by omega) e
    refine ⟨h1, nI 0 + (-4), ?_, by rw [show khd C + 8 * (i + 1) = khd C + 8 * i + (7 + 1) by omega]; exact e1⟩
    rw [k1, uX1_write_at96]
    have q := eq_true kdn0
    simp only [show 28 - 4 * 7 = 0 from rfl]
    simp only [uX1_write_p0, uX1_write_p1, zKK, q]
  | succ j ih =>
    intro t h ht e
    obtain ⟨h1, k1, e1⟩ := wr_sign w0 K0 N0 hd hi (by omega) e
    rw [kdn4 (by omega), show 28 - 4 * t - 4 = 28 - 4 * (t + 1) by omega] at k1
    obtain ⟨h', z, k2, e2⟩ := ih (t + 1) h1 (by omega) e1
    exact ⟨h', z, k1.trans k2, e2⟩
theorem wr_sparse (w0 : hW h0) (K0 : dC h0 D) (N0 : cN h0 D a C) (hd : C.d = false) (j : Nat) : ∀ i h u, i + j = C.m.length → sB h0 h b 0 (kwL C (khd C + 8 * i)) → ∃ h' u', zs PG mX1_write 84 [.ref D, .ref a, .ref b, .int (nI i), u] [] h = zs PG mX1_write 136 [.ref D, .ref a, .ref b, .int (nI C.m.length), u'] [] h' ∧ sB h0 h' b 0 (kwL C (khd C + 8 * C.m.length)) := by
  have iC := N0.I
  have hml : C.m.length ≤ C.l := iC.2.2.2.2.2.2.2.2.2.1
  have h48 := iC.2.2.2.1
  induction j with
  | zero =>
    intro i h u hi e
    have hi : i = C.m.length := by omega
    have N := N0.nw w0 e.fr
    obtain ⟨n, f, O, M, -⟩ := N
    obtain ⟨en, -⟩ := M.2 hd
    subst hi
    refine ⟨h, u, ?_, e⟩
    have gn := cg_n O
    rw [en] at gn
    rw [uX1_write_at84]
    simp (disch := omega) only [uX1_write_p0, uX1_write_p1, zKK, zB, zBl, zBb, zlg, zA, zA3, zL3, km31, km63, klshr, kishr, k2p, kl1shl, klmask, kland1, kiand1, k_l2i, zrt_b, zrt_0, zrt_1, zdv_n, zdv_l, gn]
  | succ j ih =>
    intro i h u hi e
    have N := N0.nw w0 e.fr
    obtain ⟨n, f, O, M, -⟩ := N
    obtain ⟨en, -⟩ := M.2 hd
    have gn := cg_n O
    rw [en] at gn
    obtain ⟨h1, z, k1, e1⟩ := wr_mark w0 K0 N0 hd (i := i) (by omega) 7 0 h rfl e
    obtain ⟨h', u', k2, e2⟩ := ih (i + 1) h1 (.int z) (by omega) e1
    refine ⟨h', u', ?_, e2⟩
    rw [← k2, uX1_write_at84]
    have k1' : zs PG mX1_write 96 [.ref D, .ref a, .ref b, .int (nI i), .int (nI 28)] [] h = _ := k1
    simp (disch := omega) only [uX1_write_p0, uX1_write_p1, zKK, zB, zBl, zBb, zlg, zA, zA3, zL3, km31, km63, klshr, kishr, k2p, kl1shl, klmask, kland1, kiand1, k_l2i, zrt_b, zrt_0, zrt_1, zdv_n, zdv_l, gn, k1']
theorem d_write (w0 : hW h0) (K0 : dC h0 D) (hD : D ≤ h0.2.1) (N0 : cN h0 D a C) : ∃ h' x y g, zc PG mX1_write [.ref D, .ref a] h0 = some (.inl (some (.ref x)), h') ∧ h'.1 x = some (true, .inr (7, [.ref y, .int (nI 0), .int 0, .int 0])) ∧ h'.1 y = some (true, .inl (4, kwn C, g)) ∧ (∀ k, k < kwn C → g k = .int (nI (ksn C k))) ∧ hF hN 900 3000 h0 h' := by
  have iC := N0.I
  have h8 := iC.2.1
  have h48 := iC.2.2.2.1
  have hh := khd_le C
  have N := N0
  obtain ⟨n0, f0, O0, -, -⟩ := N
  obtain ⟨h1, k1, e1⟩ := s_init w0
  have N := N0.nw w0 e1.fr
  obtain ⟨n1, f1, O1, -, -⟩ := N
  obtain ⟨h2, k2, e2⟩ := s_num w0 K0 hD e1 (x := C.p) (by omega) (by decide)
  have N := N0.nw w0 e2.fr
  obtain ⟨n2, f2, O2, -, -⟩ := N
  have lk : ∀ x, (kdec x).length ≤ 2 := fun x => by unfold kdec; split <;> simp
  have l1 := lk C.p
  have l2 := lk C.l
  obtain ⟨h3, k3, e3⟩ := s_num w0 K0 hD e2 (x := C.l) (by omega) (by simp only [List.nil_append]; omega)
  have N := N0.nw w0 e3.fr
  obtain ⟨n3, f3, O3, -, -⟩ := N
  obtain ⟨h4, k4, e4⟩ := s_app e3 (c := if C.d then 100 else 115) (by split <;> omega) (by simp only [List.nil_append, List.length_append]; omega)
  rw [← kwL_h h8 h48] at e4
  have N := N0.nw w0 e4.fr
  obtain ⟨n4, f4, O4, -, -⟩ := N
  have key : ∃ h5 i u, zs PG mX1_write 39 [.ref D, .ref a, .ref h0.2.1, zJ, zJ] [] h4 = zs PG mX1_write 136 [.ref D, .ref a, .ref h0.2.1, .int i, u] [] h5 ∧ sB h0 h5 h0.2.1 0 (kwL C (kwn C)) := by
    unfold kwn
    cases hd : C.d with
    | true =>
      obtain ⟨h5, k5, e5⟩ := wr_dense w0 K0 N0 hd (2 ^ C.p) 0 h4 (Nat.zero_add _) e4
      refine ⟨h5, nI (2 ^ C.p), zJ, ?_, e5⟩
      have gd := cg_d O4
      rw [hd, zb_t] at gd
      simp (disch := omega) only [uX1_write_p0, uX1_write_p1, zKK, zB, zBl, zBb, zlg, zA, zA3, zL3, km31, km63, klshr, kishr, k2p, kl1shl, klmask, kland1, kiand1, k_l2i, zrt_b, zrt_0, zrt_1, zdv_n, zdv_l, gd, k5]
    | false =>
      obtain ⟨h5, u, k5, e5⟩ := wr_sparse w0 K0 N0 hd C.m.length 0 h4 zJ (Nat.zero_add _) e4
      refine ⟨h5, nI C.m.length, u, ?_, e5⟩
      have gd := cg_d O4
      rw [hd, zb_f] at gd
      simp (disch := omega) only [uX1_write_p0, uX1_write_p1, zKK, zB, zBl, zBb, zlg, zA, zA3, zL3, km31, km63, klshr, kishr, k2p, kl1shl, klmask, kland1, kiand1, k_l2i, zrt_b, zrt_0, zrt_1, zdv_n, zdv_l, gd, k5]
  obtain ⟨h5, i, u, k5, e5⟩ := key
  have hm : kwn C % 8 = 3 ∨ kwn C % 8 = 4 := by
    have e8 : 2 ^ C.p = 8 * 2 ^ (C.p - 3) := by
      rw [show 8 = 2 ^ 3 from rfl, ← Nat.pow_add]
      congr 1
      have := iC.1
      omega
    unfold kwn
    split <;> omega
  obtain ⟨h6, x, y, g, k6, x1, x2, x3, F6⟩ := s_str e5 (by rw [kwL_l]; exact hm)
  rw [kwL_l] at x2 x3
  refine ⟨h6, x, y, g, ?_, x1, x2, fun k hk => by rw [x3 k hk, kwL_g C hk], F6⟩
  have gd := cg_d O3
  cases hd : C.d with
  | true =>
    rw [hd, zb_t] at gd
    rw [hd] at k4
    simp only [if_true] at k4
    simp (disch := omega) only [eX1_write, uX1_write_p0, uX1_write_p1, zKK, zB, zBl, zBb, zlg, zA, zA3, zL3, km31, km63, klshr, kishr, k2p, kl1shl, klmask, kland1, kiand1, k_l2i, zrt_b, zrt_0, zrt_1, zdv_n, zdv_l, k1, cg_p O1, e1.is, k2, cg_l O2, e2.is, k3, gd, e3.is, k4, k5, e5.is, k6]
  | false =>
    rw [hd, zb_f] at gd
    rw [hd] at k4
    simp only [Bool.false_eq_true, if_false] at k4
    simp (disch := omega) only [eX1_write, uX1_write_p0, uX1_write_p1, zKK, zB, zBl, zBb, zlg, zA, zA3, zL3, km31, km63, klshr, kishr, k2p, kl1shl, klmask, kland1, kiand1, k_l2i, zrt_b, zrt_0, zrt_1, zdv_n, zdv_l, k1, cg_p O1, e1.is, k2, cg_l O2, e2.is, k3, gd, e3.is, k4, k5, e5.is, k6]
end WR
theorem ksn_lt {C : kC} (iC : kI C) {i : Nat} (hi : i < kwn C) : ksn C i < 128 := by
  have h8 := iC.2.1
  have h48 := iC.2.2.2.1
  unfold ksn
  split
  · omega
  · split
    · split <;> omega
    · split
      · split <;> omega
      · split
        · refine ksg_lt _ ?_
          have := iC.2.2.2.2.1 (i - khd C)
          have := iC.1
          omega
        · exact ksg_lt _ (by omega)
theorem D_written {D B : Nat} {S : kS} {h : zH} (H : dW D B S h) (c i : Int32) : ∃ h', zc PG mX1_written [.ref D, .int c, .int i] h = some (.inl (some (.int (q_written S c i))), h') ∧ dQ D B S h h' := by
  obtain ⟨al, X, R⟩ := H
  unfold q_written
  have f1 : hF hN 1 1 h (hv1 h c) := hF_push R.w _ _
  have R1 := R.nw f1
  have g1 := dG R1
  rcases kbd_cases c 0 5 with e1 | ⟨c, -, hc, rfl⟩
  · simp only [e1, Bool.false_eq_true, if_false]
    refine ⟨_, ?_, R1.q f1.A⟩
    simp (disch := omega) only [eX1_written, uX1_written, zKK, zB, zBl, zBb, zlg, zA, zA3, zL3, km31, km63, klshr, kishr, k2p, kl1shl, klmask, kland1, kiand1, k_l2i, zrt_b, zrt_0, zrt_1, zdv_n, zdv_l, znew_k, zast_p0, zast_p2, d_are1, d_are2, d_are3, e1, zb_f]
  · have e1 := kbd_nI (Nat.zero_le c) hc (by omega)
    simp only [e1, if_true]
    rw [kN_nI (by omega : c < 2147483648)]
    obtain ⟨h2, x, y, g, k2, x1, x2, x3, F2⟩ := d_write R1.w R1.k (by have := R1.b; omega) (R1.c (c := c) (by omega))
    have R2 := R1.nw F2
    have iC := (R1.c (c := c) (by omega)).I
    have hw : kwn (S.c c) = khd (S.c c) + (if (S.c c).d then 2 ^ (S.c c).p else 8 * (S.c c).m.length) := rfl
    have hml : (S.c c).m.length ≤ (S.c c).l := iC.2.2.2.2.2.2.2.2.2.1
    have h48 := iC.2.2.2.1
    have h2p := k2p_le iC.2.1
    have hhd := khd_le (S.c c)
    have hwl : kwn (S.c c) ≤ 400 := by rw [hw]; split <;> omega
    have hwg : 3 ≤ kwn (S.c c) := by rw [hw]; omega
    obtain ⟨l1, l2⟩ := s_length x1 x2 (by omega)
    refine ⟨h2, ?_, R2.q (f1.tr1 F2).A⟩
    by_cases e2 : i = -1
    · rw [if_pos e2]
      simp (disch := omega) only [eX1_written, uX1_written, zKK, zB, zBl, zBb, zlg, zA, zA3, zL3, km31, km63, klshr, kishr, k2p, kl1shl, klmask, kland1, kiand1, k_l2i, zrt_b, zrt_0, zrt_1, zdv_n, zdv_l, znew_k, zast_p0, zast_p2, d_are1, d_are2, d_are3, e1, zb_t, g1, k2, e2, l1, l2]
    · rw [if_neg e2]
      rcases kbd_cases i 0 (kwn (S.c c) - 1) with e3 | ⟨i, -, hi, rfl⟩
      · simp only [e3, Bool.false_eq_true, if_false]
        have e2' := eq_false e2
        simp (disch := omega) only [eX1_written, uX1_written, zKK, zB, zBl, zBb, zlg, zA, zA3, zL3, km31, km63, klshr, kishr, k2p, kl1shl, klmask, kland1, kiand1, k_l2i, zrt_b, zrt_0, zrt_1, zdv_n, zdv_l, znew_k, zast_p0, zast_p2, d_are1, d_are2, d_are3, e1, zb_t, g1, k2, e2', l1, l2, d_ini, e3, zb_f]
      · have e3 := kbd_nI (Nat.zero_le i) hi (by omega)
        simp only [e3, if_true]
        rw [kN_nI (by omega)]
        obtain ⟨-, ca⟩ := s_charAt R2.k x1 x2 (k := i) (by omega) (by omega) (ksn_lt iC (by omega)) (x3 i (by omega))
        have e2' := eq_false e2
        simp (disch := omega) only [eX1_written, uX1_written, zKK, zB, zBl, zBb, zlg, zA, zA3, zL3, km31, km63, klshr, kishr, k2p, kl1shl, klmask, kland1, kiand1, k_l2i, zrt_b, zrt_0, zrt_1, zdv_n, zdv_l, znew_k, zast_p0, zast_p2, d_are1, d_are2, d_are3, e1, zb_t, g1, k2, e2', l1, l2, d_inN, e3, ca]
