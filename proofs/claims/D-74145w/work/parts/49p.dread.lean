/-! THE COMPONENT: a counter that is read -/
theorem ksg_ds : ∀ k, k < 30 → kds (ksg k) = k ∧ ksg k < 128 := by decide
theorem kds_sg : ∀ c, c < 256 → kds c < 30 → ksg (kds c) = c := by decide +kernel
theorem ki2b : ∀ c, c < 256 → ∀ k, k < 30 → (nI (ksg k) = (nI c).toInt8.toInt32 ↔ ksg k = c) := by
  have key : ((List.range 256).all fun c => (List.range 30).all fun k => decide (nI (ksg k) = (nI c).toInt8.toInt32) == decide (ksg k = c)) = true := by decide +kernel
  intro c hc k hk
  have := List.all_eq_true.mp (List.all_eq_true.mp key c (List.mem_range.mpr hc)) k (List.mem_range.mpr hk)
  simpa using this
/-- where a sign stands -/
def kidx (c : Nat) : Int32 := if kds c < 30 then nI (kds c) else -1
theorem j_indexOfChar {h : zH} {y : Nat} {b : Bool} (ey : h.1 y = some (b, .inl (4, 30, fun k => .int (nI (ksg k))))) {c : Nat} (hc : c < 256) (j : Nat) : ∀ k, k + j = 30 → (∀ m, m < k → ksg m ≠ c) → zs PG mJ11_indexOfChar 7 [.ref y, .int (nI c), .int (nI 0), .int (nI 30), .int (nI c).toInt8.toInt32, .int (nI k)] [] h = some (.inl (some (.int (kidx c))), h) := by
  induction j with
  | zero =>
    intro k hk hm
    have hk : k = 30 := by omega
    subst hk
    have hn : ¬ kds c < 30 := fun q => hm _ q (kds_sg c hc q)
    unfold kidx
    rw [if_neg hn, uJ11_indexOfChar_at7]
    simp (disch := omega) only [uJ11_indexOfChar, zKK, zB, zBl, zBb, zlg, zA, zA3, zL3, km31, km63, klshr, kishr, k2p, kl1shl, klmask, kland1, kiand1, k_l2i, zrt_b, zrt_0, zrt_1, zdv_n, zdv_l]
  | succ j ih =>
    intro k hk hm
    have ld := zald_k ey (i := k) (by omega) (by omega)
    have hb := ki2b c hc k (by omega)
    rw [uJ11_indexOfChar_at7]
    by_cases e : ksg k = c
    · have e1 := eq_true (hb.mpr e)
      have e2 : kidx c = nI k := by
        unfold kidx
        rw [← e, (ksg_ds k (by omega)).1, if_pos (by omega)]
      rw [e2]
      simp (disch := omega) only [uJ11_indexOfChar, zKK, zB, zBl, zBb, zlg, zA, zA3, zL3, km31, km63, klshr, kishr, k2p, kl1shl, klmask, kland1, kiand1, k_l2i, zrt_b, zrt_0, zrt_1, zdv_n, zdv_l, ld, e1]
    · have e1 := eq_false (fun q => e (hb.mp q))
      rw [← ih (k + 1) (by omega) (fun m hm2 => by
        by_cases z : m = k
        · rw [z]; exact e
        · exact hm m (by omega))]
      simp (disch := omega) only [uJ11_indexOfChar, zKK, zB, zBl, zBb, zlg, zA, zA3, zL3, km31, km63, klshr, kishr, k2p, kl1shl, klmask, kland1, kiand1, k_l2i, zrt_b, zrt_0, zrt_1, zdv_n, zdv_l, ld, e1]
section DR
variable {h h1 : zH} {D B : Nat} {al : Nat → Nat} {S : kS} {X : dX}
theorem d_indexOf (R : dR h D B al S X) {c : Nat} (hc : c < 256) : ∃ x, h.2.2.2 0 = .ref x ∧ zis h x 7 = true ∧ zc PG mJ6_indexOf [.ref x, .int (nI c)] h = some (.inl (some (.int (kidx c))), h) := by
  obtain ⟨x, y, b, b', u, v, e1, e2, e3, e4, e5⟩ := R.k.1
  have g0 : zget h x 7 0 = some (.ref y) := by unfold zget; rw [e4]; rfl
  have g1 : zget h x 7 1 = some (.int (nI 0)) := by unfold zget; rw [e4]; rfl
  have gi : zis h x 7 = true := by unfold zis; rw [e4]; rfl
  have gl : zlen h y = some (.int (nI 30)) := by unfold zlen; rw [e5]
  have lp := j_indexOfChar e5 hc 30 0 (Nat.zero_add _) (fun m hm => absurd hm (Nat.not_lt_zero _))
  refine ⟨x, e1, gi, ?_⟩
  have l0 : zc PG mJ6_coder [.ref x] h = some (.inl (some (.int (nI 0))), h) := by
    simp (disch := omega) only [eJ6_coder, uJ6_coder, zKK, zB, zBl, zBb, zlg, zA, zA3, zL3, km31, km63, klshr, kishr, k2p, kl1shl, klmask, kland1, kiand1, k_l2i, zrt_b, zrt_0, zrt_1, zdv_n, zdv_l, g1, zrt_t (show (nI 0).toInt8.toInt32 = nI 0 by decide)]
  have l1 : zc PG mJ6_length [.ref x] h = some (.inl (some (.int (nI 30))), h) := by
    simp (disch := omega) only [eJ6_length, uJ6_length, zKK, zB, zBl, zBb, zlg, zA, zA3, zL3, km31, km63, klshr, kishr, k2p, kl1shl, klmask, kland1, kiand1, k_l2i, zrt_b, zrt_0, zrt_1, zdv_n, zdv_l, g0, gl, gi, l0]
  have l2 : zc PG mJ6_isLatin1 [.ref x] h = some (.inl (some (.int (nI 1))), h) := by
    simp (disch := omega) only [eJ6_isLatin1, uJ6_isLatin1, zKK, zB, zBl, zBb, zlg, zA, zA3, zL3, km31, km63, klshr, kishr, k2p, kl1shl, klmask, kland1, kiand1, k_l2i, zrt_b, zrt_0, zrt_1, zdv_n, zdv_l, g1]
  have l3 : zc PG mJ11_canEncode_2 [.int (nI c)] h = some (.inl (some (.int (nI 1))), h) := by
    simp (disch := omega) only [eJ11_canEncode_2, uJ11_canEncode_2, zKK, zB, zBl, zBb, zlg, zA, zA3, zL3, km31, km63, klshr, kishr, k2p, kl1shl, klmask, kland1, kiand1, k_l2i, zrt_b, zrt_0, zrt_1, zdv_n, zdv_l]
  have l4 : zc PG mJ11_indexOfChar [.ref y, .int (nI c), .int (nI 0), .int (nI 30)] h = some (.inl (some (.int (kidx c))), h) := by
    simp (disch := omega) only [eJ11_indexOfChar, uJ11_indexOfChar, zKK, zB, zBl, zBb, zlg, zA, zA3, zL3, km31, km63, klshr, kishr, k2p, kl1shl, klmask, kland1, kiand1, k_l2i, zrt_b, zrt_0, zrt_1, zdv_n, zdv_l, lp]
  have l5 : zc PG mJ11_indexOf [.ref y, .int (nI c), .int (nI 0), .int (nI 30)] h = some (.inl (some (.int (kidx c))), h) := by
    simp (disch := omega) only [eJ11_indexOf, uJ11_indexOf, zKK, zB, zBl, zBb, zlg, zA, zA3, zL3, km31, km63, klshr, kishr, k2p, kl1shl, klmask, kland1, kiand1, k_l2i, zrt_b, zrt_0, zrt_1, zdv_n, zdv_l, l3, j_maxI, j_minI, gl, Nat.max_self, Nat.min_self, l4]
  simp (disch := omega) only [eJ6_indexOf, uJ6_indexOf, zKK, zB, zBl, zBb, zlg, zA, zA3, zL3, km31, km63, klshr, kishr, k2p, kl1shl, klmask, kland1, kiand1, k_l2i, zrt_b, zrt_0, zrt_1, zdv_n, zdv_l, gi, eJ6_indexOf_2, uJ6_indexOf_2, l2, g0, l1, l5]
theorem zup_up (h : zH) (a : Nat) (e e' : zE) : zup (zup h a e) a e' = zup h a e' := by
  refine Prod.ext (funext fun q => ?_) rfl
  show (if q = a then some (true, e') else if q = a then some (true, e) else h.1 q) = if q = a then some (true, e') else h.1 q
  by_cases z : q = a
  · rw [if_pos z, if_pos z]
  · rw [if_neg z, if_neg z, if_neg z]
theorem hD_hD (h : zH) (D : Nat) (S S' : kS) (X X' : dX) : hD (hD h D S X) D S' X' = hD h D S' X' := zup_up _ _ _ _
theorem d_signTold1 (R : dR h D B al S X) {T : List Nat} (hT : dTx T X) {i : Nat} (hi : X.i = nI i) {b v : Nat} (hb : b ≤ 29) (e : ksv T i (b + 1) = some v) : zc PG mX1_signTold [.ref D, .int (nI b)] h = some (.inl (some (.int (nI v))), hD h D S (nI (i + 1), X.2)) := by
  obtain ⟨e1, e2⟩ := ksv_lt e
  obtain ⟨t1, t2, t3, t4⟩ := hT
  have hc : T.getD i 0 < 256 := t4 _ (kget_mem e1)
  have ev : kds (T.getD i 0) = v := by
    unfold ksv at e
    split at e
    · cases e; rfl
    · cases e
  obtain ⟨x, y1, y2, y3⟩ := d_indexOf R hc
  have ek : kidx (T.getD i 0) = nI v := by unfold kidx; rw [ev, if_pos (by omega)]
  rw [ek] at y3
  have g := dG R
  rw [hi, t1] at g
  have ld := t2 i e1
  have kb := kbd_nI (Nat.zero_le v) (show v ≤ b by omega) (by omega)
  have p := (R.at (nI (i + 1))).1
  simp (disch := omega) only [eX1_signTold, uX1_signTold, zKK, zB, zBl, zBb, zlg, zA, zA3, zL3, km31, km63, klshr, kishr, k2p, kl1shl, klmask, kland1, kiand1, k_l2i, zrt_b, zrt_0, zrt_1, zdv_n, zdv_l, g, y1, ld, y2, y3, d_inN, kb, zb_t, d_must1, p]
theorem d_signTold0 (R : dR h D B al S X) {T : List Nat} (hT : dTx T X) {i : Nat} (hi : X.i = nI i) (hl : i ≤ T.length) {b : Nat} (hb : b ≤ 29) (e : ksv T i (b + 1) = none) : ∃ h', zc PG mX1_signTold [.ref D, .int (nI b)] h = some (.inr 4, h') ∧ hF hN 1 6 h h' := by
  obtain ⟨t1, t2, t3, t4⟩ := hT
  obtain ⟨h', m1, F1⟩ := d_must0 R
  refine ⟨h', ?_, F1⟩
  have g := dG R
  rw [hi, t1] at g
  by_cases e1 : i < T.length
  · have hc : T.getD i 0 < 256 := t4 _ (kget_mem e1)
    have en : ¬ kds (T.getD i 0) < b + 1 := fun q => by
      unfold ksv at e
      rw [if_pos ⟨e1, q⟩] at e
      cases e
    obtain ⟨x, y1, y2, y3⟩ := d_indexOf R hc
    have ld := t2 i e1
    have kb : kbd (kidx (T.getD i 0)) 0 b = false := by
      unfold kidx
      split
      · exact kbd_f (kbt_n (by omega) (by omega))
      · exact kbd_n1 _ _
    simp (disch := omega) only [eX1_signTold, uX1_signTold, zKK, zB, zBl, zBb, zlg, zA, zA3, zL3, km31, km63, klshr, kishr, k2p, kl1shl, klmask, kland1, kiand1, k_l2i, zrt_b, zrt_0, zrt_1, zdv_n, zdv_l, g, y1, ld, y2, y3, d_ini, kb, zb_f, m1]
  · simp (disch := omega) only [eX1_signTold, uX1_signTold, zKK, zB, zBl, zBb, zlg, zA, zA3, zL3, km31, km63, klshr, kishr, k2p, kl1shl, klmask, kland1, kiand1, k_l2i, zrt_b, zrt_0, zrt_1, zdv_n, zdv_l, g, d_ini, kbd_n1, zb_f, m1]
/-- a new counter's cells are none of D's -/
theorem cN.hD {a : Nat} {C : kC} (e : cN h D a C) (R : dR h D B al S X) (ha : D + 34 ≤ a) (S' : kS) (X' : dX) : cN (hD h D S' X') D a C := e.fr R.w (hD_F R S' X') (fun q hq z => by have := cA_ge hq; omega)
theorem kdig {T : List Nat} {i b : Nat} (e1 : i < T.length) (e2 : 48 ≤ T.getD i 0) (e3 : T.getD i 0 ≤ 57) (hb : 10 ≤ b) : ksv T i b = some (T.getD i 0 - 48) := by
  have : kds (T.getD i 0) = T.getD i 0 - 48 := by unfold kds; rw [if_pos ⟨e2, e3⟩]
  unfold ksv
  rw [this, if_pos ⟨e1, by omega⟩]
theorem d_limitTold {T : List Nat} (R : dR h D B al S X) (hT : dTx T X) {i : Nat} (hi : X.i = nI i) (hl : i ≤ T.length) : (¬ (i < T.length ∧ 49 ≤ T.getD i 0 ∧ T.getD i 0 ≤ 57) → ∃ h', zc PG mX1_limitTold [.ref D] h = some (.inr 4, h') ∧ dR h' D B al S X ∧ hF (dE D) 1 6 h h') ∧ (i < T.length ∧ 49 ≤ T.getD i 0 ∧ T.getD i 0 ≤ 57 → (¬ (i + 1 < T.length ∧ 48 ≤ T.getD (i + 1) 0 ∧ T.getD (i + 1) 0 ≤ 57) → zc PG mX1_limitTold [.ref D] h = some (.inl (some (.int (nI (T.getD i 0 - 48)))), hD h D S (nI (i + 1), X.2))) ∧ (i + 1 < T.length ∧ 48 ≤ T.getD (i + 1) 0 ∧ T.getD (i + 1) 0 ≤ 57 → (48 < 10 * (T.getD i 0 - 48) + T.getD (i + 1) 0 - 48 → ∃ h', zc PG mX1_limitTold [.ref D] h = some (.inr 4, h') ∧ dR h' D B al S (nI (i + 1), X.2) ∧ hF (dE D) 1 6 h h') ∧ (¬ 48 < 10 * (T.getD i 0 - 48) + T.getD (i + 1) 0 - 48 → zc PG mX1_limitTold [.ref D] h = some (.inl (some (.int (nI (10 * (T.getD i 0 - 48) + T.getD (i + 1) 0 - 48)))), hD h D S (nI (i + 2), X.2))))) := by
  have dg := d_isDigit R hT hi hl
  have t1 := hT.1
  have t2 := hT.2.1
  have t3 := hT.2.2.1
  have t4 := hT.2.2.2
  have g := dG R
  rw [hi] at g
  constructor
  · intro hn
    obtain ⟨h', m1, F1⟩ := d_must0 R
    refine ⟨h', ?_, R.nw F1, F1.new⟩
    cases ek : kisd T i with
    | false =>
      rw [ek] at dg
      simp (disch := omega) only [eX1_limitTold, uX1_limitTold, zKK, zB, zBl, zBb, zlg, zA, zA3, zL3, km31, km63, klshr, kishr, k2p, kl1shl, klmask, kland1, kiand1, k_l2i, zrt_b, zrt_0, zrt_1, zdv_n, zdv_l, g, dg, m1]
    | true =>
      rw [ek] at dg
      have e' : i < T.length ∧ 48 ≤ T.getD i 0 ∧ T.getD i 0 ≤ 57 := of_decide_eq_true ek
      have ld := t2 i e'.1
      have e8 : T.getD i 0 = 48 := by omega
      rw [e8] at ld
      simp (disch := omega) only [eX1_limitTold, uX1_limitTold, zKK, zB, zBl, zBb, zlg, zA, zA3, zL3, km31, km63, klshr, kishr, k2p, kl1shl, klmask, kland1, kiand1, k_l2i, zrt_b, zrt_0, zrt_1, zdv_n, zdv_l, g, dg, ld, m1]
  · intro hy
    have ek : kisd T i = true := decide_eq_true ⟨hy.1, by omega, hy.2.2⟩
    rw [ek] at dg
    have ld := t2 i hy.1
    have sg := d_signTold1 R hT hi (b := 9) (by omega) (kdig hy.1 (by omega) hy.2.2 (by omega))
    obtain ⟨-, R1, F1⟩ := R.at (nI (i + 1))
    have dg1 := d_isDigit R1 (T := T) hT rfl (by omega)
    have g1 := dG R1
    have gi1 : zget (hD h D S (nI (i + 1), X.2)) D 1 7 = some (.int (nI (i + 1))) := g1.2.2.2.2.2.1
    constructor
    · intro hn
      have ek1 : kisd T (i + 1) = false := decide_eq_false hn
      rw [ek1] at dg1
      simp (disch := omega) only [eX1_limitTold, uX1_limitTold, zKK, zB, zBl, zBb, zlg, zA, zA3, zL3, km31, km63, klshr, kishr, k2p, kl1shl, klmask, kland1, kiand1, k_l2i, zrt_b, zrt_0, zrt_1, zdv_n, zdv_l, g, dg, ld, d_must1, sg, g1.2.2.2.2.2.2.2.2.2.2.2.1, dg1]
    · intro hy1
      have ek1 : kisd T (i + 1) = true := decide_eq_true hy1
      rw [ek1] at dg1
      have ld1 := t2 (i + 1) hy1.1
      have ld1' : zald (hD h D S (nI (i + 1), X.2)) (D + 31) 0 (nI (i + 1)) = some (.int (nI (T.getD (i + 1) 0))) := by
        rw [g1.2.2.2.2.2.2.2.2.2.2.2.2.2.1 (i + 1) (by omega)]
        show some (Value.int (X.x (i + 1))) = _
        rw [ld1]
      have g15 := g1.2.2.2.1
      have gz := g1.2.2.2.2.2.2.2.2.2.2.2.1
      constructor
      · intro h48
        obtain ⟨h', m1, F2⟩ := d_must0 R1
        refine ⟨h', ?_, R1.nw F2, F1.tr1 F2.new⟩
        simp (disch := omega) only [eX1_limitTold, uX1_limitTold, zKK, zB, zBl, zBb, zlg, zA, zA3, zL3, km31, km63, klshr, kishr, k2p, kl1shl, klmask, kland1, kiand1, k_l2i, zrt_b, zrt_0, zrt_1, zdv_n, zdv_l, g, dg, ld, d_must1, sg, gz, dg1, g15, gi1, ld1', m1]
      · intro h48
        have sg1 := d_signTold1 R1 (T := T) hT rfl (b := 9) (by omega) (kdig hy1.1 hy1.2.1 hy1.2.2 (by omega))
        rw [hD_hD] at sg1
        have e10 : 10 * (T.getD i 0 - 48) + T.getD (i + 1) 0 - 48 = 10 * (T.getD i 0 - 48) + (T.getD (i + 1) 0 - 48) := by omega
        rw [e10]
        simp (disch := omega) only [eX1_limitTold, uX1_limitTold, zKK, zB, zBl, zBb, zlg, zA, zA3, zL3, km31, km63, klshr, kishr, k2p, kl1shl, klmask, kland1, kiand1, k_l2i, zrt_b, zrt_0, zrt_1, zdv_n, zdv_l, g, dg, ld, d_must1, sg, gz, dg1, g15, gi1, ld1', sg1]
end DR
