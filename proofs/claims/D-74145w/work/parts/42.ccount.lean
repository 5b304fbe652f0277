/-! THE COMPONENT: a counter's methods that only read -/
theorem c_m {h : zH} {D a a1 a2 n : Nat} {f : Nat → Int32} {C : kC} (e : cO h D a a1 a2 n f C) (h8 : C.p ≤ 8) : zc PG mX2_m [.ref a] h = some (.inl (some (.int (nI (2 ^ C.p)))), h) := by
  simp (disch := omega) only [eX2_m, uX2_m, zKK, zB, zBl, zBb, zlg, zA, zA3, zL3, km31, km63, klshr, kishr, k2p, kl1shl, klmask, kland1, kiand1, k_l2i, zrt_b, zrt_0, zrt_1, zdv_n, zdv_l, cg_p e]
theorem c_empty_loop {h : zH} {D a a1 a2 n : Nat} {f : Nat → Int32} {C : kC} (e : cO h D a a1 a2 n f C) (iC : kI C) (k : Nat) : ∀ x, x + k = 2 ^ C.p → zs PG mX2_empty 7 [.ref a, .int (nI (2 ^ C.p - krd C.r x)), .int (nI x)] [] h = some (.inl (some (.int (nI (kz C)))), h) := by
  have h2 := k2p_le iC.2.1
  have hm := c_m e iC.2.1
  induction k with
  | zero =>
    intro x hx
    have hx : x = 2 ^ C.p := hx
    rw [uX2_empty_at7]
    unfold kz
    rw [← hx]
    rw [← hx] at hm h2
    simp (disch := omega) only [uX2_empty, zKK, zB, zBl, zBb, zlg, zA, zA3, zL3, km31, km63, klshr, kishr, k2p, kl1shl, klmask, kland1, kiand1, k_l2i, zrt_b, zrt_0, zrt_1, zdv_n, zdv_l, hm, cg_is e]
  | succ k ih =>
    intro x hx
    have hr := iC.2.2.2.2.1 x
    have hc := krd_le C.r x
    have hr1 := cr_r e (x := x) (by omega)
    rw [← ih (x + 1) (by omega), uX2_empty_at7]
    by_cases e0 : 0 < C.r x
    · rw [show krd C.r (x + 1) = krd C.r x + 1 by rw [krd, if_pos e0], show 2 ^ C.p - (krd C.r x + 1) = 2 ^ C.p - krd C.r x - 1 by omega]
      simp (disch := omega) only [uX2_empty, zKK, zB, zBl, zBb, zlg, zA, zA3, zL3, km31, km63, klshr, kishr, k2p, kl1shl, klmask, kland1, kiand1, k_l2i, zrt_b, zrt_0, zrt_1, zdv_n, zdv_l, hm, cg_is e, cg_r e, hr1]
    · rw [show krd C.r (x + 1) = krd C.r x by rw [krd, if_neg e0]; rfl]
      simp (disch := omega) only [uX2_empty, zKK, zB, zBl, zBb, zlg, zA, zA3, zL3, km31, km63, klshr, kishr, k2p, kl1shl, klmask, kland1, kiand1, k_l2i, zrt_b, zrt_0, zrt_1, zdv_n, zdv_l, hm, cg_is e, cg_r e, hr1, Nat.sub_zero]
theorem c_empty {h : zH} {D a a1 a2 n : Nat} {f : Nat → Int32} {C : kC} (e : cO h D a a1 a2 n f C) (iC : kI C) : zc PG mX2_empty [.ref a] h = some (.inl (some (.int (nI (kz C)))), h) := by
  have el := c_empty_loop e iC (2 ^ C.p) 0 (Nat.zero_add _)
  rw [show krd C.r 0 = 0 from rfl, Nat.sub_zero] at el
  simp (disch := omega) only [eX2_empty, uX2_empty, zKK, zB, zBl, zBb, zlg, zA, zA3, zL3, km31, km63, klshr, kishr, k2p, kl1shl, klmask, kland1, kiand1, k_l2i, zrt_b, zrt_0, zrt_1, zdv_n, zdv_l, c_m e iC.2.1, cg_is e, el]
theorem c_greatest_loop {h : zH} {D a a1 a2 n : Nat} {f : Nat → Int32} {C : kC} (e : cO h D a a1 a2 n f C) (iC : kI C) (k : Nat) : ∀ x, x + k = 2 ^ C.p → kgr C.r x ≤ 33 → zs PG mX2_greatest 4 [.ref a, .int (nI (kgr C.r x)), .int (nI x)] [] h = some (.inl (some (.int (nI (kgr C.r (2 ^ C.p))))), h) := by
  have h2 := k2p_le iC.2.1
  have hm := c_m e iC.2.1
  induction k with
  | zero =>
    intro x hx hg
    have hx : x = 2 ^ C.p := hx
    rw [uX2_greatest_at4, ← hx]
    rw [← hx] at hm h2
    simp (disch := omega) only [uX2_greatest, zKK, zB, zBl, zBb, zlg, zA, zA3, zL3, km31, km63, klshr, kishr, k2p, kl1shl, klmask, kland1, kiand1, k_l2i, zrt_b, zrt_0, zrt_1, zdv_n, zdv_l, hm, cg_is e]
  | succ k ih =>
    intro x hx hg
    have hr := iC.2.2.2.2.1 x
    have hr1 := cr_r e (x := x) (by omega)
    rw [← ih (x + 1) (by omega) (by unfold kgr; omega), uX2_greatest_at4, kgr]
    simp (disch := omega) only [uX2_greatest, zKK, zB, zBl, zBb, zlg, zA, zA3, zL3, km31, km63, klshr, kishr, k2p, kl1shl, klmask, kland1, kiand1, k_l2i, zrt_b, zrt_0, zrt_1, zdv_n, zdv_l, hm, cg_is e, cg_r e, hr1, j_maxI]
theorem c_greatest {h : zH} {D a a1 a2 n : Nat} {f : Nat → Int32} {C : kC} (e : cO h D a a1 a2 n f C) (iC : kI C) : zc PG mX2_greatest [.ref a] h = some (.inl (some (.int (nI (kgr C.r (2 ^ C.p))))), h) := by
  simp only [eX2_greatest, uX2_greatest]
  exact c_greatest_loop e iC _ 0 (Nat.zero_add _) (Nat.zero_le _)
/-- where a mark stands, or would -/
def kfd (m : Nat) (L : List Nat) : Int32 := if m ∈ L then nI (kpos m L) else -1 - nI (kpos m L)
theorem kpos_mem {m : Nat} {L : List Nat} (hs : ksrt L) : m ∈ L ↔ kpos m L < L.length ∧ L.getD (kpos m L) 0 = m := by
  constructor
  · intro q
    obtain ⟨j, hj, e⟩ := kmem_get q
    have h1 : ¬ j < kpos m L := fun q2 => by have := kpos_lt m L j q2; omega
    have h2 : ¬ kpos m L < j := fun q2 => by
      have := kpos_ge hs (kpos m L) (Nat.le_refl _) (by omega)
      have := ksrt_lt hs q2 hj
      omega
    have h3 : j = kpos m L := by omega
    rw [← h3]
    exact ⟨hj, e⟩
  · intro q
    rw [← q.2]
    exact kget_mem q.1
theorem kcu_lt (a b : Nat) : (kcu a b < nI 0) ↔ a < b := by
  unfold kcu
  by_cases e : a < b
  · rw [if_pos e]; exact ⟨fun _ => e, fun _ => by decide⟩
  · rw [if_neg e]
    by_cases e2 : a = b
    · rw [if_pos e2]; exact ⟨fun q => absurd q (by decide), fun q => absurd q e⟩
    · rw [if_neg e2]; exact ⟨fun q => absurd q (by decide), fun q => absurd q e⟩
theorem c_find_loop {h : zH} {D a a1 a2 n : Nat} {f : Nat → Int32} {C : kC} (e : cO h D a a1 a2 n f C) (eM : cM n f C) (iC : kI C) (hd : C.d = false) {m : Nat} (hm : m < 2 ^ 32) (d : Nat) : ∀ (lo hi : Nat) (u : Value), hi ≤ lo + d → lo ≤ kpos m C.m → kpos m C.m ≤ hi → hi ≤ C.m.length → zs PG mX2_find 7 [.ref a, .int (nI m), .int (nI lo), .int (nI hi), u] [] h = some (.inl (some (.int (kfd m C.m))), h) := by
  obtain ⟨hn49, hM⟩ := eM
  obtain ⟨hn, hf⟩ := hM hd
  have hs := iC.2.2.2.2.2.2.2.2.1
  have hlt := iC.2.2.2.2.2.2.2.1
  have hfin : ∀ (lo hi : Nat) (u : Value), hi ≤ lo → lo ≤ kpos m C.m → kpos m C.m ≤ hi → hi ≤ C.m.length → zs PG mX2_find 7 [.ref a, .int (nI m), .int (nI lo), .int (nI hi), u] [] h = some (.inl (some (.int (kfd m C.m))), h) := by
    intro lo hi u h1 h2 h3 h4
    have e1 : lo = kpos m C.m := by omega
    have e2 : hi = kpos m C.m := by omega
    subst e1
    rw [e2]
    unfold kfd
    rw [uX2_find_at7]
    by_cases e3 : kpos m C.m < C.m.length
    · have r1 := cr_m e (i := kpos m C.m) (by omega)
      rw [hf _ (by omega)] at r1
      have hb : C.m.getD (kpos m C.m) 0 < 2 ^ 32 := hlt _ (kget_mem e3)
      by_cases e4 : C.m.getD (kpos m C.m) 0 = m
      · rw [if_pos ((kpos_mem hs).mpr ⟨e3, e4⟩)]
        rw [e4] at r1
        have et : (nI m = nI m) = True := eq_true rfl
        simp (disch := first | omega | rfl) only [uX2_find, zKK, zB, zBl, zBb, zlg, zA, zA3, zL3, km31, km63, klshr, kishr, k2p, kl1shl, klmask, kland1, kiand1, k_l2i, zrt_b, zrt_0, zrt_1, zdv_n, zdv_l, cg_n e, cg_m e, r1, zbr_t]
      · rw [if_neg (fun q => e4 ((kpos_mem hs).mp q).2)]
        have en : ¬ nI (C.m.getD (kpos m C.m) 0) = nI m := fun q => e4 (by
          have := congrArg kun q
          rw [kun_of hb, kun_of hm] at this
          exact this)
        simp (disch := first | omega | assumption) only [uX2_find, zKK, zB, zBl, zBb, zlg, zA, zA3, zL3, km31, km63, klshr, kishr, k2p, kl1shl, klmask, kland1, kiand1, k_l2i, zrt_b, zrt_0, zrt_1, zdv_n, zdv_l, cg_n e, cg_m e, r1, zbr_f]
    · rw [if_neg (fun q => e3 ((kpos_mem hs).mp q).1)]
      simp (disch := omega) only [uX2_find, zKK, zB, zBl, zBb, zlg, zA, zA3, zL3, km31, km63, klshr, kishr, k2p, kl1shl, klmask, kland1, kiand1, k_l2i, zrt_b, zrt_0, zrt_1, zdv_n, zdv_l, cg_n e]
  induction d with
  | zero => intro lo hi u h1 h2 h3 h4; exact hfin lo hi u (by omega) h2 h3 h4
  | succ d ih =>
    intro lo hi u h1 h2 h3 h4
    by_cases e0 : hi ≤ lo
    · exact hfin lo hi u e0 h2 h3 h4
    · have hmid : (lo + hi) / 2 ^ 1 < C.m.length := by omega
      have r1 := cr_m e (i := (lo + hi) / 2 ^ 1) (by omega)
      rw [hf _ (by omega)] at r1
      have hb : C.m.getD ((lo + hi) / 2 ^ 1) 0 < 2 ^ 32 := hlt _ (kget_mem hmid)
      have ec := j_cmpU (nI (C.m.getD ((lo + hi) / 2 ^ 1) 0)) (nI m) h
      rw [kun_of hb, kun_of hm] at ec
      by_cases e5 : C.m.getD ((lo + hi) / 2 ^ 1) 0 < m
      · have en := (kcu_lt _ _).mpr e5
        have hk : (lo + hi) / 2 ^ 1 < kpos m C.m := Nat.lt_of_not_le (fun q => by have := kpos_ge hs _ q hmid; omega)
        rw [← ih ((lo + hi) / 2 ^ 1 + 1) hi (.int (nI ((lo + hi) / 2 ^ 1))) (by omega) (by omega) h3 h4, uX2_find_at7]
        simp (disch := first | omega | assumption) only [uX2_find, zKK, zB, zBl, zBb, zlg, zA, zA3, zL3, km31, km63, klshr, kishr, k2p, kl1shl, klmask, kland1, kiand1, k_l2i, zrt_b, zrt_0, zrt_1, zdv_n, zdv_l, cg_n e, cg_m e, kiushr, r1, ec, zbr_t]
      · have en : ¬ kcu (C.m.getD ((lo + hi) / 2 ^ 1) 0) m < nI 0 := fun q => e5 ((kcu_lt _ _).mp q)
        have hk : kpos m C.m ≤ (lo + hi) / 2 ^ 1 := Nat.le_of_not_lt (fun q => e5 (kpos_lt m C.m _ q))
        rw [← ih lo ((lo + hi) / 2 ^ 1) (.int (nI ((lo + hi) / 2 ^ 1))) (by omega) h2 hk (by omega), uX2_find_at7]
        simp (disch := first | omega | assumption) only [uX2_find, zKK, zB, zBl, zBb, zlg, zA, zA3, zL3, km31, km63, klshr, kishr, k2p, kl1shl, klmask, kland1, kiand1, k_l2i, zrt_b, zrt_0, zrt_1, zdv_n, zdv_l, cg_n e, cg_m e, kiushr, r1, ec, zbr_f]
theorem c_find {h : zH} {D a a1 a2 n : Nat} {f : Nat → Int32} {C : kC} (e : cO h D a a1 a2 n f C) (eM : cM n f C) (iC : kI C) (hd : C.d = false) {m : Nat} (hm : m < 2 ^ 32) : zc PG mX2_find [.ref a, .int (nI m)] h = some (.inl (some (.int (kfd m C.m))), h) := by
  have el := c_find_loop e eM iC hd hm C.m.length 0 C.m.length zJ (by omega) (Nat.zero_le _) (kpos_le _ _) (Nat.le_refl _)
  have hn := (eM.2 hd).1
  rw [← hn] at el
  simp (disch := omega) only [eX2_find, uX2_find, zKK, zB, zBl, zBb, zlg, zA, zA3, zL3, km31, km63, klshr, kishr, k2p, kl1shl, klmask, kland1, kiand1, k_l2i, zrt_b, zrt_0, zrt_1, zdv_n, zdv_l, cg_n e, el]
