/-! THE COMPONENT: reads -/
section DR
variable {h h1 : zH} {D B : Nat} {al : Nat → Nat} {S : kS} {X : dX}
theorem rd_lim {T : List Nat} {p l i N M : Nat} (h4 : 4 ≤ p) (h8 : p ≤ 8) (hl1 : 1 ≤ l) (hl48 : l ≤ 48) (c : Int32) {h0 : zH} (R : dR h D B al S X) (hT : dTx T X) (hl : i ≤ T.length) (F : hF (dA D B) N M h0 h) (hN : N ≤ 2) (hM : M ≤ 10) (lt : zc PG mX1_limitTold [.ref D] (zpush h (.inr (2, [.int 0, .int 0, .null, .null, .int 0, .int 0, .null])) 7) = some (.inl (some (.int (nI l))), hD (zpush h (.inr (2, [.int 0, .int 0, .null, .null, .int 0, .int 0, .null])) 7) D S (nI i, X.2))) : dRd D B S c h0 (zs PG mX1_reads 45 [.ref D, .int c, .int (nI p), zJ, zJ] [] h) (krt T p l i) := by
  have hlt := R.lt
  have ez : hD (zpush h (.inr (2, [.int 0, .int 0, .null, .null, .int 0, .int 0, .null])) 7) D S (nI i, X.2) = zpush (hD h D S (nI i, X.2)) (.inr (2, [.int 0, .int 0, .null, .null, .int 0, .int 0, .null])) 7 := zup_po _ _ _ _ (by omega)
  rw [ez] at lt
  obtain ⟨-, R1, F1⟩ := R.at (nI i)
  have f2 := hNew_F R1.w D p l
  have n2 := hNew_N (h := hD h D S (nI i, X.2)) D h4 h8 hl1 hl48
  have R2 := R1.nw f2
  have gp := (dGp R (.inr (2, [.int 0, .int 0, .null, .null, .int 0, .int 0, .null])) 7).2.2.2.1
  have st : zs PG mX1_reads 45 [.ref D, .int c, .int (nI p), zJ, zJ] [] h = zs PG mX1_reads 59 [.ref D, .int c, .int (nI p), .ref h.2.1, zJ] [] (hNew (hD h D S (nI i, X.2)) D p l) := by
    have nn := n_new (hD h D S (nI i, X.2)) D p l
    rw [show (hD h D S (nI i, X.2)).2.1 = h.2.1 from rfl] at nn
    simp (disch := omega) only [uX1_reads_p0, uX1_reads_p1, zKK, zB, zBl, zBb, zlg, zA, zA3, zL3, km31, km63, klshr, kishr, k2p, kl1shl, klmask, kland1, kiand1, k_l2i, zrt_b, zrt_0, zrt_1, zdv_n, zdv_l, gp, lt, nn]
  rw [st]
  have hb := R.b
  exact rd_rest (a := h.2.1) hlt hb.2 (fun k hk => (R.c hk).lt R.w) c R2 hT rfl hl n2 ((F.tr1 F1.E).tr1 f2.A) (by omega) (by omega)
theorem rd_all {T : List Nat} (R : dR h D B al S X) (hT : dTx T X) (hi : X.i = nI 0) (c : Int32) {h0 : zH} (F : hF (dA D B) 0 0 h0 h) : dRd D B S c h0 (zs PG mX1_reads 4 [.ref D, .int c, zJ, zJ, zJ] [] h) (kctr T) := by
  have dg := d_isDigit R hT hi (Nat.zero_le _)
  have g := dG R
  rw [hi] at g
  have h600 := hT.2.2.1
  unfold kctr
  by_cases e0 : 0 < T.length ∧ 52 ≤ T.getD 0 0 ∧ T.getD 0 0 ≤ 56
  · rw [if_pos e0]
    have ek : kisd T 0 = true := decide_eq_true ⟨e0.1, by omega, by omega⟩
    rw [ek] at dg
    have ld := hT.2.1 0 e0.1
    have kb := kbd_nI (k := T.getD 0 0 - 48) (lo := 4) (hi := 8) (by omega) (by omega) (by omega)
    have sg := d_signTold1 R hT hi (b := 9) (by omega) (kdig e0.1 (by omega) (by omega) (by omega))
    obtain ⟨-, R1, F1⟩ := R.at (nI 1)
    have st : zs PG mX1_reads 4 [.ref D, .int c, zJ, zJ, zJ] [] h = zs PG mX1_reads 45 [.ref D, .int c, .int (nI (T.getD 0 0 - 48)), zJ, zJ] [] (hD h D S (nI 1, X.2)) := by
      simp (disch := omega) only [uX1_reads_p0, uX1_reads_p1, zKK, zB, zBl, zBb, zlg, zA, zA3, zL3, km31, km63, klshr, kishr, k2p, kl1shl, klmask, kland1, kiand1, k_l2i, zrt_b, zrt_0, zrt_1, zdv_n, zdv_l, g, dg, ld, d_isP, kb, d_must1, sg]
    rw [st]
    have F1' := F.tr1 (F1.E (B := B))
    have f2 := hF_push R1.w (.inr (2, [.int 0, .int 0, .null, .null, .int 0, .int 0, .null])) 7
    have R2 := R1.nw f2
    obtain ⟨la, lb⟩ := d_limitTold (T := T) R2 hT rfl (show 1 ≤ T.length by omega)
    have gp := (dGp R1 (.inr (2, [.int 0, .int 0, .null, .null, .int 0, .int 0, .null])) 7).2.2.2.1
    by_cases e1 : 1 < T.length ∧ 49 ≤ T.getD 1 0 ∧ T.getD 1 0 ≤ 57
    · rw [if_pos e1]
      obtain ⟨lc, ld2⟩ := lb e1
      by_cases e2 : 2 < T.length ∧ 48 ≤ T.getD 2 0 ∧ T.getD 2 0 ≤ 57
      · rw [if_pos e2]
        obtain ⟨le, lf⟩ := ld2 e2
        by_cases e3 : 48 < 10 * (T.getD 1 0 - 48) + T.getD 2 0 - 48
        · rw [if_pos e3]
          obtain ⟨h3, l3, R3, F3⟩ := le e3
          have st2 : zs PG mX1_reads 45 [.ref D, .int c, .int (nI (T.getD 0 0 - 48)), zJ, zJ] [] (hD h D S (nI 1, X.2)) = zs PG mX1_reads 188 [.ref D, .int c, zJ, zJ, zJ] [] h3 := by
            simp (disch := omega) only [uX1_reads_p0, uX1_reads_p1, zKK, zB, zBl, zBb, zlg, zA, zA3, zL3, km31, km63, klshr, kishr, k2p, kl1shl, klmask, kland1, kiand1, k_l2i, zrt_b, zrt_0, zrt_1, zdv_n, zdv_l, gp, l3, rd_h]
          rw [st2]
          exact rd_fail R3 rfl c _ _ ((F1'.tr1 f2.A).tr1 F3.E) (by omega) (by omega)
        · rw [if_neg e3]
          exact rd_lim (by omega) (by omega) (by omega) (by omega) c R1 hT (show 3 ≤ T.length by omega) F1' (by omega) (by omega) (lf e3)
      · rw [if_neg e2]
        exact rd_lim (by omega) (by omega) (by omega) (by omega) c R1 hT (show 2 ≤ T.length by omega) F1' (by omega) (by omega) (lc e2)
    · rw [if_neg e1]
      obtain ⟨h3, l3, R3, F3⟩ := la e1
      have st2 : zs PG mX1_reads 45 [.ref D, .int c, .int (nI (T.getD 0 0 - 48)), zJ, zJ] [] (hD h D S (nI 1, X.2)) = zs PG mX1_reads 188 [.ref D, .int c, zJ, zJ, zJ] [] h3 := by
        simp (disch := omega) only [uX1_reads_p0, uX1_reads_p1, zKK, zB, zBl, zBb, zlg, zA, zA3, zL3, km31, km63, klshr, kishr, k2p, kl1shl, klmask, kland1, kiand1, k_l2i, zrt_b, zrt_0, zrt_1, zdv_n, zdv_l, gp, l3, rd_h]
      rw [st2]
      exact rd_fail R3 rfl c _ _ ((F1'.tr1 f2.A).tr1 F3.E) (by omega) (by omega)
  · rw [if_neg e0]
    obtain ⟨h3, m3, F3⟩ := d_must0 R
    have st : zs PG mX1_reads 4 [.ref D, .int c, zJ, zJ, zJ] [] h = zs PG mX1_reads 188 [.ref D, .int c, zJ, zJ, zJ] [] h3 := by
      cases ek : kisd T 0 with
      | false =>
        rw [ek] at dg
        simp (disch := omega) only [uX1_reads_p0, uX1_reads_p1, zKK, zB, zBl, zBb, zlg, zA, zA3, zL3, km31, km63, klshr, kishr, k2p, kl1shl, klmask, kland1, kiand1, k_l2i, zrt_b, zrt_0, zrt_1, zdv_n, zdv_l, g, dg, m3, rd_h]
      | true =>
        rw [ek] at dg
        have e' : 0 < T.length ∧ 48 ≤ T.getD 0 0 ∧ T.getD 0 0 ≤ 57 := of_decide_eq_true ek
        have ld := hT.2.1 0 e'.1
        have kb : kbd (nI (T.getD 0 0 - 48)) 4 8 = false := kbd_f (kbt_n (by omega) (by omega))
        simp (disch := omega) only [uX1_reads_p0, uX1_reads_p1, zKK, zB, zBl, zBb, zlg, zA, zA3, zL3, km31, km63, klshr, kishr, k2p, kl1shl, klmask, kland1, kiand1, k_l2i, zrt_b, zrt_0, zrt_1, zdv_n, zdv_l, g, dg, ld, d_isP, kb, m3, rd_h]
    rw [st]
    exact rd_fail (R.nw F3) hi c _ _ (F.tr1 F3.A) (by omega) (by omega)
theorem D_reads (H : dW D B S h) (hI : kSI S) (c : Int32) : ∃ h', zc PG mX1_reads [.ref D, .int c] h = some (.inl (some (.int (q_reads S c).1)), h') ∧ dQ D B (q_reads S c).2 h h' := by
  obtain ⟨al, X, R⟩ := H
  obtain ⟨g1, X1, b1, R1, T1, i1, F1⟩ := d_begins R hI
  have r := rd_all R1 T1 i1 c (h0 := h) F1.E
  have st : zc PG mX1_reads [.ref D, .int c] h = zs PG mX1_reads 4 [.ref D, .int c, zJ, zJ, zJ] [] g1 := by
    simp (disch := omega) only [eX1_reads, uX1_reads_p0, uX1_reads_p1, zKK, zB, zBl, zBb, zlg, zA, zA3, zL3, km31, km63, klshr, kishr, k2p, kl1shl, klmask, kland1, kiand1, k_l2i, zrt_b, zrt_0, zrt_1, zdv_n, zdv_l, dG R, b1]
  rw [← st] at r
  unfold q_reads
  cases e : kctr S.t with
  | mk o q =>
    rw [e] at r
    obtain ⟨h', r1, r2, r3⟩ := r
    have up : hF (dA D B) 9000 100000 h h' := r3.up (fun _ _ z => z) (by omega) (by omega)
    cases o with
    | none => exact ⟨h', r1, r2, up⟩
    | some C =>
      dsimp only at r1 r2 ⊢
      cases ek : kbd c 0 5 with
      | true => rw [ek] at r1 r2; exact ⟨h', r1, r2, up⟩
      | false => rw [ek] at r1 r2; exact ⟨h', r1, r2, up⟩
end DR
