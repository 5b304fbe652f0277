/-! THE COMPONENT: copies of counters, tables, guesses -/
theorem cA_ge {a q : Nat} (h : cA a q) : a ≤ q := by rcases h with rfl | rfl | rfl <;> omega
theorem n_copy {h : zH} {D b : Nat} {C : kC} (w : hW h) (eb : cN h D b C) {q : Nat} (h4 : 4 ≤ q) (hq : q ≤ C.p) : ∃ h', zc PG mX2_init_2 [.ref h.2.1, .ref D, .ref b, .int (nI q)] (zpush h (.inr (2, [.int 0, .int 0, .null, .null, .int 0, .int 0, .null])) 7) = some (.inl none, h') ∧ cN h' D h.2.1 (kfoldC C q) ∧ hF hN 4 314 h h' := by
  have iC := eb.I
  have hb := eb.lt w
  have e1 := eb.nw w (hF_push w (.inr (2, [.int 0, .int 0, .null, .null, .int 0, .int 0, .null])) 7)
  have f1 := hNew_F w D q C.l
  have n1 := hNew_N (h := h) D h4 (Nat.le_trans hq iC.2.1) iC.2.2.1 iC.2.2.2.1
  obtain ⟨h', t1, t2, t3⟩ := n_takes f1.1 n1 (eb.nw w f1) (by omega) hq
  rw [ktk_open iC hq] at t2
  refine ⟨h', ?_, t2, f1.tr t3 (fun q hq z => by have := cA_ge z; omega)⟩
  simp (disch := omega) only [eX2_init_2, uX2_init_2, zKK, nG e1, n_new, nG n1, t1]
theorem zald_k {h : zH} {a t n i : Nat} {g : Nat → Value} {b : Bool} (e : h.1 a = some (b, .inl (t, n, g))) (hi : i < n) (hn : n < 2147483648) : zald h a t (nI i) = some (g i) := by
  unfold zald
  rw [e]
  dsimp only
  rw [if_pos ⟨rfl, kNb hi hn⟩, nI_clamp (by omega)]
/-- the tables that are laid first -/
def dT (h : zH) (D : Nat) : Prop := (∃ fs, h.1 D = some (true, .inr (1, .ref (D + 1) :: .ref (D + 2) :: fs))) ∧ (∃ g, h.1 (D + 1) = some (true, .inl (0, 5, g)) ∧ ∀ p, 4 ≤ p → p ≤ 8 → g (p - 4) = .int (nI (kalpha p))) ∧ h.1 (D + 2) = some (true, .inl (5, 9, fun i => .ref (D + 3 + i))) ∧ ∀ p, 4 ≤ p → p ≤ 8 → ∃ g, h.1 (D + 3 + p) = some (true, .inl (0, 257, g)) ∧ ∀ z, z ≤ 2 ^ p → g z = .int (nI (ktb p z))
theorem dT.fr {A : Nat → Prop} {m s : Nat} {h h' : zH} {D : Nat} (e : dT h D) (w : hW h) (F : hF A m s h h') (hA : ∀ q, D ≤ q → q < D + 12 → ¬ A q) : dT h' D := by
  obtain ⟨⟨fs, e1⟩, ⟨g, e2, e3⟩, e4, e5⟩ := e
  refine ⟨⟨fs, F.at w e1 (hA _ (by omega) (by omega))⟩, ⟨g, F.at w e2 (hA _ (by omega) (by omega)), e3⟩, F.at w e4 (hA _ (by omega) (by omega)), fun p h4 h8 => ?_⟩
  obtain ⟨g, e6, e7⟩ := e5 p h4 h8
  exact ⟨g, F.at w e6 (hA _ (by omega) (by omega)), e7⟩
theorem dT.nw {m s : Nat} {h h' : zH} {D : Nat} (e : dT h D) (w : hW h) (F : hF hN m s h h') : dT h' D := e.fr w F (fun _ _ _ z => z)
theorem dTG {h : zH} {D : Nat} (e : dT h D) : zget h D 1 0 = some (.ref (D + 1)) ∧ zget h D 1 1 = some (.ref (D + 2)) ∧ (∀ p, 4 ≤ p → p ≤ 8 → zald h (D + 1) 0 (nI (p - 4)) = some (.int (nI (kalpha p)))) ∧ (∀ p, p ≤ 8 → zald h (D + 2) 5 (nI p) = some (.ref (D + 3 + p))) ∧ (∀ p z, 4 ≤ p → p ≤ 8 → z ≤ 2 ^ p → zald h (D + 3 + p) 0 (nI z) = some (.int (nI (ktb p z)))) := by
  obtain ⟨⟨fs, e1⟩, ⟨g, e2, e3⟩, e4, e5⟩ := e
  refine ⟨?_, ?_, fun p h4 h8 => ?_, fun p h8 => zald_k e4 (by omega) (by decide), fun p z h4 h8 hz => ?_⟩
  · unfold zget; rw [e1]; rfl
  · unfold zget; rw [e1]; rfl
  · rw [zald_k e2 (by omega) (by decide), e3 p h4 h8]
  · obtain ⟨g, e6, e7⟩ := e5 p h4 h8
    have := k2p_le h8
    rw [zald_k e6 (by omega) (by decide), e7 z hz]
theorem n_by {h : zH} {D a : Nat} {C : kC} (e : cN h D a C) (t : dT h D) {z : Nat} (hz : z ≤ 2 ^ C.p) : zc PG mX2_isByTable [.ref a, .int (nI z)] h = some (.inl (some (.int (zb (kby C.p z)))), h) := by
  have h4 := e.I.1
  have h8 := e.I.2.1
  have h2 := k2p_le h8
  have ht := ktb_le h8 z
  have t1 := (dTG t).2.2.2.1 C.p h8
  have t2 := (dTG t).2.2.2.2 C.p z h4 h8 hz
  unfold kby
  by_cases e1 : 0 < z
  · by_cases e2 : ktb C.p z ≤ 2500 * 2 ^ C.p
    · simp (disch := omega) only [eX2_isByTable, uX2_isByTable, zKK, zB, zBl, zBb, zlg, zA, zA3, zL3, km31, km63, klshr, kishr, k2p, kl1shl, klmask, kland1, kiand1, k_l2i, zrt_b, zrt_0, zrt_1, zdv_n, zdv_l, nG e, dTG t, t1, t2, n_m e, e1, e2, and_self, decide_true, zb_t]
    · simp (disch := omega) only [eX2_isByTable, uX2_isByTable, zKK, zB, zBl, zBb, zlg, zA, zA3, zL3, km31, km63, klshr, kishr, k2p, kl1shl, klmask, kland1, kiand1, k_l2i, zrt_b, zrt_0, zrt_1, zdv_n, zdv_l, nG e, dTG t, t1, t2, n_m e, e1, e2, and_false, decide_false, zb_f]
  · simp (disch := omega) only [eX2_isByTable, uX2_isByTable, zKK, zB, zBl, zBb, zlg, zA, zA3, zL3, km31, km63, klshr, kishr, k2p, kl1shl, klmask, kland1, kiand1, k_l2i, zrt_b, zrt_0, zrt_1, zdv_n, zdv_l, e1, false_and, decide_false, zb_f]
theorem n_guessBy {h : zH} {D a : Nat} {C : kC} (e : cN h D a C) (t : dT h D) {z all : Nat} (hz : z ≤ 2 ^ C.p) (ha : 0 < all) (ha2 : all < 2 ^ 50) : zc PG mX2_guessBy [.ref a, .int (nI z), .long (lN all)] h = some (.inl (some (.int (nI (kgb C.p z all)))), h) := by
  have h4 := e.I.1
  have h8 := e.I.2.1
  have h2 := k2p_le h8
  have h16 := k2p_ge h4
  have ht := ktb_le h8 z
  have hal := kalpha_le C.p
  have hm1 : kalpha C.p * 2 ^ C.p ≤ 718 * 256 := Nat.mul_le_mul hal h2
  have hm2 : kalpha C.p * 2 ^ C.p * 2 ^ C.p ≤ 718 * 256 * 256 := Nat.mul_le_mul hm1 h2
  have hm3 : kalpha C.p * 2 ^ C.p * 2 ^ C.p * 536870912 ≤ 718 * 256 * 256 * 536870912 := Nat.mul_le_mul hm2 (Nat.le_refl _)
  have hm4 : kalpha C.p * 2 ^ C.p * 2 ^ C.p * 536870912 / (1000 * all) ≤ kalpha C.p * 2 ^ C.p * 2 ^ C.p * 536870912 := Nat.div_le_self _ _
  have hdv : lN (kalpha C.p * 2 ^ C.p * 2 ^ C.p * 536870912) / lN (1000 * all) = lN (kalpha C.p * 2 ^ C.p * 2 ^ C.p * 536870912 / (1000 * all)) := pk_lDiv (by omega) (by omega) (by omega)
  have t1 := (dTG t).2.2.2.1 C.p h8
  have t2 := (dTG t).2.2.2.2 C.p z h4 h8 hz
  have t3 := (dTG t).2.2.1 C.p h4 h8
  have hb := n_by e t hz
  unfold kgb
  cases hk : kby C.p z with
  | true =>
    rw [hk] at hb
    simp (disch := omega) only [eX2_guessBy, uX2_guessBy, zKK, zB, zBl, zBb, zlg, zA, zA3, zL3, km31, km63, klshr, kishr, k2p, kl1shl, klmask, kland1, kiand1, k_l2i, zrt_b, zrt_0, zrt_1, zdv_n, zdv_l, hb, nG e, dTG t, t1, t2, if_true]
  | false =>
    rw [hk] at hb
    simp (disch := omega) only [eX2_guessBy, uX2_guessBy, zKK, zB, zBl, zBb, zlg, zA, zA3, zL3, km31, km63, klshr, kishr, k2p, kl1shl, klmask, kland1, kiand1, k_l2i, zrt_b, zrt_0, zrt_1, zdv_n, zdv_l, hb, nG e, dTG t, t3, n_m e, klshl, j_minL, hdv, if_false, Bool.false_eq_true]
theorem kz_le2 (C : kC) : kz C ≤ 2 ^ C.p := Nat.sub_le _ _
theorem n_roughly {h : zH} {D a : Nat} {C : kC} (e : cN h D a C) (t : dT h D) : zc PG mX2_roughly [.ref a] h = some (.inl (some (.int (nI (kdg C)))), h) := by
  have eg := n_guessBy e t (z := kz C) (all := kall C) (kz_le2 C) (kal_pos _ (Nat.pow_pos (by decide))) (kall_lt e.I.2.1)
  simp (disch := omega) only [eX2_roughly, uX2_roughly, zKK, zB, zBl, zBb, zlg, zA, zA3, zL3, km31, km63, klshr, kishr, k2p, kl1shl, klmask, kland1, kiand1, k_l2i, zrt_b, zrt_0, zrt_1, zdv_n, zdv_l, nG e, n_empty e, n_all e, eg, kdg]
theorem n_guess {h : zH} {D a : Nat} {C : kC} (e : cN h D a C) (t : dT h D) : zc PG mX2_guess [.ref a] h = some (.inl (some (.int (nI (kguess C)))), h) := by
  have g := nG e
  unfold kguess
  cases hd : C.d with
  | true =>
    rw [hd] at g
    simp (disch := omega) only [eX2_guess, uX2_guess, zKK, zB, zBl, zBb, zlg, zA, zA3, zL3, km31, km63, klshr, kishr, k2p, kl1shl, klmask, kland1, kiand1, k_l2i, zrt_b, zrt_0, zrt_1, zdv_n, zdv_l, g, n_roughly e t, if_true]
  | false =>
    rw [hd] at g
    simp (disch := omega) only [eX2_guess, uX2_guess, zKK, zB, zBl, zBb, zlg, zA, zA3, zL3, km31, km63, klshr, kishr, k2p, kl1shl, klmask, kland1, kiand1, k_l2i, zrt_b, zrt_0, zrt_1, zdv_n, zdv_l, g, nM e hd, Bool.false_eq_true, if_false]
theorem n_how {h : zH} {D a : Nat} {C : kC} (e : cN h D a C) (t : dT h D) : zc PG mX2_how [.ref a] h = some (.inl (some (.int (nI (khow C.p (kz C))))), h) := by
  have hb := n_by e t (kz_le2 C)
  unfold khow
  cases hk : kby C.p (kz C) with
  | true =>
    rw [hk] at hb
    simp (disch := omega) only [eX2_how, uX2_how, zKK, zB, zBl, zBb, zlg, zA, zA3, zL3, km31, km63, klshr, kishr, k2p, kl1shl, klmask, kland1, kiand1, k_l2i, zrt_b, zrt_0, zrt_1, zdv_n, zdv_l, nG e, n_empty e, hb, if_true]
  | false =>
    rw [hk] at hb
    simp (disch := omega) only [eX2_how, uX2_how, zKK, zB, zBl, zBb, zlg, zA, zA3, zL3, km31, km63, klshr, kishr, k2p, kl1shl, klmask, kland1, kiand1, k_l2i, zrt_b, zrt_0, zrt_1, zdv_n, zdv_l, nG e, n_empty e, hb, if_false, Bool.false_eq_true]
