/-! THE COMPONENT: all, folded -/
theorem c_all_loop {h : zH} {D a a1 a2 n : Nat} {f : Nat → Int32} {C : kC} (e : cO h D a a1 a2 n f C) (iC : kI C) (k : Nat) : ∀ x, x + k = 2 ^ C.p → zs PG mX2_all 4 [.ref a, .long (lN (kal C.r x)), zJ, .int (nI x)] [] h = some (.inl (some (.long (lN (kall C)))), h) := by
  have h2 := k2p_le iC.2.1
  have h4 := iC.1
  have hm := c_m e iC.2.1
  induction k with
  | zero =>
    intro x hx
    have hx : x = 2 ^ C.p := hx
    rw [uX2_all_at4]
    unfold kall
    rw [← hx]
    rw [← hx] at hm h2
    simp (disch := omega) only [uX2_all, zKK, zB, zBl, zBb, zlg, zA, zA3, zL3, km31, km63, klshr, kishr, k2p, kl1shl, klmask, kland1, kiand1, k_l2i, zrt_b, zrt_0, zrt_1, zdv_n, zdv_l, hm, cg_is e]
  | succ k ih =>
    intro x hx
    have hr := iC.2.2.2.2.1 x
    have hr1 := cr_r e (x := x) (by omega)
    rw [← ih (x + 1) (by omega), uX2_all_at4, kal]
    simp (disch := omega) only [uX2_all, zKK, zB, zBl, zBb, zlg, zA, zA3, zL3, km31, km63, klshr, kishr, k2p, kl1shl, klmask, kland1, kiand1, k_l2i, zrt_b, zrt_0, zrt_1, zdv_n, zdv_l, hm, cg_is e, cg_r e, hr1]
theorem c_all {h : zH} {D a a1 a2 n : Nat} {f : Nat → Int32} {C : kC} (e : cO h D a a1 a2 n f C) (iC : kI C) : zc PG mX2_all [.ref a] h = some (.inl (some (.long (lN (kall C)))), h) := by
  simp only [eX2_all, uX2_all]
  exact c_all_loop e iC _ 0 (Nat.zero_add _)
theorem c_folded (h : zH) (a : Nat) {x r d : Nat} (hx : x < 256) (hr : r < 100) (hd : d ≤ 8) : zc PG mX2_folded [.ref a, .int (nI x), .int (nI r), .int (nI d)] h = some (.inl (some (.int (nI (kfv d x r)))), h) := by
  have h2 := k2p_le hd
  have h1 : 0 < 2 ^ d := Nat.pow_pos (by decide)
  have hm : nI x &&& nI (2 ^ d - 1) = nI (x % 2 ^ d) := pk_andN (by omega) d (kun_of (by omega))
  have hl : x % 2 ^ d < 2 ^ d := Nat.mod_lt _ h1
  unfold kfv
  by_cases e : x % 2 ^ d = 0
  · rw [if_pos e]
    rw [e] at hm
    simp (disch := omega) only [eX2_folded, uX2_folded, zKK, zB, zBl, zBb, zlg, zA, zA3, zL3, km31, km63, klshr, kishr, k2p, kl1shl, klmask, kland1, kiand1, k_l2i, zrt_b, zrt_0, zrt_1, zdv_n, zdv_l, hm]
  · rw [if_neg e]
    have hb := (kbl_le (x % 2 ^ d) d).mpr hl
    have hb1 := kbl_pos e
    have ez := j_nlz (nI (x % 2 ^ d)) h
    rw [kun_of (by omega)] at ez
    rw [show d + 1 - kbl (x % 2 ^ d) = d - (31 - (32 - kbl (x % 2 ^ d))) by omega]
    simp (disch := omega) only [eX2_folded, uX2_folded, zKK, zB, zBl, zBb, zlg, zA, zA3, zL3, km31, km63, klshr, kishr, k2p, kl1shl, klmask, kland1, kiand1, k_l2i, zrt_b, zrt_0, zrt_1, zdv_n, zdv_l, hm, ez]
