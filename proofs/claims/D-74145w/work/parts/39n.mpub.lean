/-! a counter written -/
def khd (C : kC) : Nat := if C.l < 10 then 3 else 4
def ksg (v : Nat) : Nat := if v < 10 then 48 + v else 97 + v - 10
def ksn (C : kC) (i : Nat) : Nat := if i = 0 then 48 + C.p else if i = khd C - 1 then (if C.d then 100 else 115) else if i < khd C then (if i = 1 ∧ khd C = 4 then 48 + C.l / 10 else 48 + C.l % 10) else if C.d then ksg (C.r (i - khd C)) else ksg (C.m.getD ((i - khd C) / 8) 0 / 2 ^ (28 - 4 * ((i - khd C) % 8)) % 16)
def kwn (C : kC) : Nat := khd C + (if C.d then 2 ^ C.p else 8 * C.m.length)
theorem khd_le (C : kC) : 3 ≤ khd C ∧ khd C ≤ 4 := by unfold khd; split <;> omega
theorem kmd (a d : Nat) : a - a / d * d = a % d := by
  have := Nat.div_add_mod a d
  rw [Nat.mul_comm] at this
  omega
theorem kland15 {n : Nat} (hn : n < 2 ^ 64) : lN n &&& lN 15 = lN (n % 16) := klmask (k := 4) hn (by decide)
theorem t_signOf (h : zH) {v : Nat} (hv : v < 1000) : zc PG mX3_signOf [.int (nI v)] h = some (.inl (some (.int (nI (ksg v)))), h) := by
  unfold ksg
  by_cases e : v < 10
  · rw [if_pos e]
    simp (disch := omega) only [eX3_signOf, uX3_signOf, zKK, zB, zBl, zBb, zlg, zA, zA3, zL3, km31, km63, klshr, kishr, k2p, kl1shl, klmask, kland1, kiand1, k_l2i, zrt_b, zrt_0, zrt_1, zdv_n, zdv_l]
  · rw [if_neg e]
    simp (disch := omega) only [eX3_signOf, uX3_signOf, zKK, zB, zBl, zBb, zlg, zA, zA3, zL3, km31, km63, klshr, kishr, k2p, kl1shl, klmask, kland1, kiand1, k_l2i, zrt_b, zrt_0, zrt_1, zdv_n, zdv_l]
theorem t_headSigns {α : Nat → Nat} (hα : mD α) (σ : mS) (h : zH) {c : Nat} (hc : c < 10) {C : kC} (hC : mSl σ c C) (hI : kI C) : zc PG mX3_headSigns [.ref (α 0), .int (nI c)] (mH α σ h) = some (.inl (some (.int (nI (khd C)))), mH α σ h) := by
  have hl : σ.li c = C.l := hC.2.1
  have h48 := hI.2.2.2.1
  unfold khd
  by_cases e : C.l < 10
  · rw [if_pos e]
    simp (disch := omega) only [eX3_headSigns, uX3_headSigns, mG, mP hα, mR hα, mW hα, mgs, zKK, zB, zBl, zBb, zlg, zA, zA3, zL3, km31, km63, klshr, kishr, k2p, kl1shl, klmask, kland1, kiand1, k_l2i, zrt_b, zrt_0, zrt_1, zdv_n, zdv_l, hl]
  · rw [if_neg e]
    simp (disch := omega) only [eX3_headSigns, uX3_headSigns, mG, mP hα, mR hα, mW hα, mgs, zKK, zB, zBl, zBb, zlg, zA, zA3, zL3, km31, km63, klshr, kishr, k2p, kl1shl, klmask, kland1, kiand1, k_l2i, zrt_b, zrt_0, zrt_1, zdv_n, zdv_l, hl]
theorem t_signAt {α : Nat → Nat} (hα : mD α) (σ : mS) (h : zH) {c : Nat} (hc : c < 10) {C : kC} (hC : mSl σ c C) (hI : kI C) {i : Nat} (hi : i < kwn C) : zc PG mX3_signAt [.ref (α 0), .int (nI c), .int (nI i)] (mH α σ h) = some (.inl (some (.int (nI (ksn C i)))), mH α σ h) := by
  have eh := t_headSigns hα σ h hc hC hI
  have hl : σ.li c = C.l := hC.2.1
  have hb : σ.bi c = C.p := hC.1
  have hd : σ.de c = C.d := hC.2.2.1
  have h48 := hI.2.2.2.1
  have h8 := hI.2.1
  have h2 := k2p_le h8
  have hml : C.m.length ≤ C.l := hI.2.2.2.2.2.2.2.2.2.1
  obtain ⟨g3, g4⟩ := khd_le C
  unfold ksn
  by_cases e0 : i = 0
  · subst e0
    rw [if_pos rfl]
    simp (disch := omega) only [eX3_signAt, uX3_signAt_p0, uX3_signAt_p1, mG, mP hα, mR hα, mW hα, mgs, zKK, zB, zBl, zBb, zlg, zA, zA3, zL3, km31, km63, klshr, kishr, k2p, kl1shl, klmask, kland1, kiand1, k_l2i, zrt_b, zrt_0, zrt_1, zdv_n, zdv_l, eh, hb]
  · rw [if_neg e0]
    by_cases e1 : i = khd C - 1
    · rw [if_pos e1]
      cases ed : C.d with
      | true =>
        rw [ed] at hd
        simp only [if_true]
        simp (disch := omega) only [eX3_signAt, uX3_signAt_p0, uX3_signAt_p1, mG, mP hα, mR hα, mW hα, mgs, zKK, zB, zBl, zBb, zlg, zA, zA3, zL3, km31, km63, klshr, kishr, k2p, kl1shl, klmask, kland1, kiand1, k_l2i, zrt_b, zrt_0, zrt_1, zdv_n, zdv_l, eh, hd]
      | false =>
        rw [ed] at hd
        simp only [Bool.false_eq_true, if_false]
        simp (disch := omega) only [eX3_signAt, uX3_signAt_p0, uX3_signAt_p1, mG, mP hα, mR hα, mW hα, mgs, zKK, zB, zBl, zBb, zlg, zA, zA3, zL3, km31, km63, klshr, kishr, k2p, kl1shl, klmask, kland1, kiand1, k_l2i, zrt_b, zrt_0, zrt_1, zdv_n, zdv_l, eh, hd]
    · rw [if_neg e1]
      by_cases e2 : i < khd C
      · rw [if_pos e2]
        by_cases e3 : i = 1 ∧ khd C = 4
        · rw [if_pos e3]
          simp (disch := omega) only [eX3_signAt, uX3_signAt_p0, uX3_signAt_p1, mG, mP hα, mR hα, mW hα, mgs, zKK, zB, zBl, zBb, zlg, zA, zA3, zL3, km31, km63, klshr, kishr, k2p, kl1shl, klmask, kland1, kiand1, k_l2i, zrt_b, zrt_0, zrt_1, zdv_n, zdv_l, eh, hl]
        · rw [if_neg e3]
          by_cases e4 : i = 1
          · have e5 : khd C ≠ 4 := fun q => e3 ⟨e4, q⟩
            simp (disch := omega) only [eX3_signAt, uX3_signAt_p0, uX3_signAt_p1, mG, mP hα, mR hα, mW hα, mgs, zKK, zB, zBl, zBb, zlg, zA, zA3, zL3, km31, km63, klshr, kishr, k2p, kl1shl, klmask, kland1, kiand1, k_l2i, zrt_b, zrt_0, zrt_1, zdv_n, zdv_l, eh, hl, kmd]
          · simp (disch := omega) only [eX3_signAt, uX3_signAt_p0, uX3_signAt_p1, mG, mP hα, mR hα, mW hα, mgs, zKK, zB, zBl, zBb, zlg, zA, zA3, zL3, km31, km63, klshr, kishr, k2p, kl1shl, klmask, kland1, kiand1, k_l2i, zrt_b, zrt_0, zrt_1, zdv_n, zdv_l, eh, hl, kmd]
      · rw [if_neg e2]
        unfold kwn at hi
        cases ed : C.d with
        | true =>
          rw [ed] at hd hi
          simp only [if_true] at hi ⊢
          have hr := hC.2.2.2.2.2.1 (i - khd C) (by omega)
          have hr2 := hI.2.2.2.2.1 (i - khd C)
          simp (disch := omega) only [eX3_signAt, uX3_signAt_p0, uX3_signAt_p1, mG, mP hα, mR hα, mW hα, mgs, zKK, zB, zBl, zBb, zlg, zA, zA3, zL3, km31, km63, klshr, kishr, k2p, kl1shl, klmask, kland1, kiand1, k_l2i, zrt_b, zrt_0, zrt_1, zdv_n, zdv_l, eh, hd, t_at, hr, t_signOf]
        | false =>
          rw [ed] at hd hi
          simp only [Bool.false_eq_true, if_false] at hi ⊢
          have hk : (i - khd C) / 8 < C.m.length := by omega
          have hm := hC.2.2.2.2.1 ((i - khd C) / 8) hk
          have hm2 : C.m.getD ((i - khd C) / 8) 0 < 2 ^ 32 := hI.2.2.2.2.2.2.2.1 _ (kget_mem hk)
          have hm3 : C.m.getD ((i - khd C) / 8) 0 / 2 ^ (28 - 4 * ((i - khd C) % 8)) ≤ C.m.getD ((i - khd C) / 8) 0 := Nat.div_le_self _ _
          simp (disch := omega) only [eX3_signAt, uX3_signAt_p0, uX3_signAt_p1, mG, mP hα, mR hα, mW hα, mgs, zKK, zB, zBl, zBb, zlg, zA, zA3, zL3, km31, km63, klshr, kishr, k2p, kl1shl, klmask, kland1, kiand1, k_l2i, zrt_b, zrt_0, zrt_1, zdv_n, zdv_l, eh, hd, hm, kmd, kland15, t_signOf]
def q_written (S : kS) (c i : Int32) : Int32 := if kbd c 0 5 then (if i = -1 then nI (kwn (S.c (kN c))) else if kbd i 0 (kwn (S.c (kN c)) - 1) then nI (ksn (S.c (kN c)) (kN i)) else -1) else -1
theorem M_written {α : Nat → Nat} (hα : mD α) (σ : mS) (h : zH) {S : kS} (hR : mR6 S σ) (hI : kSI S) (c i : Int32) : ∃ σ', zc PG mX3_written [.ref (α 0), .int c, .int i] (mH α σ h) = some (.inl (some (.int (q_written S c i))), mH α σ' h) ∧ mR6 S σ' := by
  unfold q_written
  refine ⟨_, ?_, hR.th 0⟩
  rcases kbd_cases c 0 5 with e1 | ⟨c, -, hc, rfl⟩
  · simp only [e1, Bool.false_eq_true, if_false]
    simp (disch := omega) only [eX3_written, uX3_written, mG, mP hα, mR hα, mW hα, mgs, zKK, zB, zBl, zBb, zlg, zA, zA3, zL3, km31, km63, klshr, kishr, k2p, kl1shl, klmask, kland1, kiand1, k_l2i, zrt_b, zrt_0, zrt_1, zdv_n, zdv_l, t_isCounter, e1]
  · have e1 := kbd_nI (Nat.zero_le c) hc (by omega)
    simp only [e1, if_true]
    rw [kN_nI (by omega : c < 2147483648)]
    have iC := hI.1 c (by omega)
    have sC := (hR.th 0).1 c (by omega)
    have eh := t_headSigns hα (σ.s_th 0) h (c := c) (by omega) sC iC
    have hd : (σ.s_th 0).de c = (S.c c).d := sC.2.2.1
    have hm : (σ.s_th 0).mm c = (S.c c).m.length := sC.2.2.2.1
    have hp := t_places hα (σ.s_th 0) h (c := c) (by omega) (by rw [sC.1]; exact iC.2.1)
    rw [sC.1] at hp
    simp only [mgs] at hd hm
    have h48 := iC.2.2.2.1
    have hml : (S.c c).m.length ≤ (S.c c).l := iC.2.2.2.2.2.2.2.2.2.1
    have h2 := k2p_le iC.2.1
    have h3 := k2p_ge iC.1
    obtain ⟨g3, g4⟩ := khd_le (S.c c)
    have hw : kwn (S.c c) = khd (S.c c) + (if (S.c c).d then 2 ^ (S.c c).p else 8 * (S.c c).m.length) := rfl
    have hall : zs PG mX3_written 0 [.ref (α 0), .int (nI c), .int i, zJ] [] (mH α σ h) = zs PG mX3_written 47 [.ref (α 0), .int (nI c), .int i, .int (nI (kwn (S.c c)))] [] (mH α (σ.s_th 0) h) := by
      rw [hw]
      cases ed : (S.c c).d with
      | true =>
        rw [ed] at hd
        simp only [if_true]
        simp (disch := omega) only [uX3_written, mG, mP hα, mR hα, mW hα, mgs, zKK, zB, zBl, zBb, zlg, zA, zA3, zL3, km31, km63, klshr, kishr, k2p, kl1shl, klmask, kland1, kiand1, k_l2i, zrt_b, zrt_0, zrt_1, zdv_n, zdv_l, t_isCounter, e1, eh, hd, hp]
      | false =>
        rw [ed] at hd
        simp only [Bool.false_eq_true, if_false]
        simp (disch := omega) only [uX3_written, mG, mP hα, mR hα, mW hα, mgs, zKK, zB, zBl, zBb, zlg, zA, zA3, zL3, km31, km63, klshr, kishr, k2p, kl1shl, klmask, kland1, kiand1, k_l2i, zrt_b, zrt_0, zrt_1, zdv_n, zdv_l, t_isCounter, e1, eh, hd, hm]
    rw [eX3_written, hall]
    have hwl : kwn (S.c c) ≤ 400 := by rw [hw]; split <;> omega
    have hwg : 3 ≤ kwn (S.c c) := by rw [hw]; omega
    by_cases e2 : i = -1
    · rw [if_pos e2]
      simp (disch := omega) only [uX3_written, mG, mP hα, mR hα, mW hα, mgs, zKK, zB, zBl, zBb, zlg, zA, zA3, zL3, km31, km63, klshr, kishr, k2p, kl1shl, klmask, kland1, kiand1, k_l2i, zrt_b, zrt_0, zrt_1, zdv_n, zdv_l, e2]
    · rw [if_neg e2]
      rcases kbd_cases i 0 (kwn (S.c c) - 1) with e3 | ⟨i, -, hi, rfl⟩
      · simp only [e3, Bool.false_eq_true, if_false]
        simp (disch := omega) only [uX3_written, mG, mP hα, mR hα, mW hα, mgs, zKK, zB, zBl, zBb, zlg, zA, zA3, zL3, km31, km63, klshr, kishr, k2p, kl1shl, klmask, kland1, kiand1, k_l2i, zrt_b, zrt_0, zrt_1, zdv_n, zdv_l, e2, t_ini, e3]
      · have e3 := kbd_nI (Nat.zero_le i) hi (by omega)
        simp only [e3, if_true]
        rw [kN_nI (by omega)]
        have ea := t_signAt hα (σ.s_th 0) h (c := c) (by omega) sC iC (i := i) (by omega)
        simp (disch := omega) only [uX3_written, mG, mP hα, mR hα, mW hα, mgs, zKK, zB, zBl, zBb, zlg, zA, zA3, zL3, km31, km63, klshr, kishr, k2p, kl1shl, klmask, kland1, kiand1, k_l2i, zrt_b, zrt_0, zrt_1, zdv_n, zdv_l, e2, t_inN, e3, ea]
