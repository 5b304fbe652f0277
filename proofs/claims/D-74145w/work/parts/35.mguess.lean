/-! JDK's Math, and the model's guesses -/
theorem j_minI {a b : Nat} (ha : a < 2147483648) (hb : b < 2147483648) (h : zH) : zc PG mJ1_min [.int (nI a), .int (nI b)] h = some (.inl (some (.int (nI (min a b)))), h) := by
  by_cases e : a ≤ b
  · simp (disch := omega) only [eJ1_min, uJ1_min, zKK, zB, zBl, zBb, zlg, zA, zA3, zL3, km31, km63, klshr, kishr, k2p, kl1shl, klmask, kland1, kiand1, k_l2i, zrt_b, zrt_0, zrt_1, zdv_n, zdv_l, Nat.min_eq_left e]
  · simp (disch := omega) only [eJ1_min, uJ1_min, zKK, zB, zBl, zBb, zlg, zA, zA3, zL3, km31, km63, klshr, kishr, k2p, kl1shl, klmask, kland1, kiand1, k_l2i, zrt_b, zrt_0, zrt_1, zdv_n, zdv_l, Nat.min_eq_right (show b ≤ a by omega)]
theorem j_maxI {a b : Nat} (ha : a < 2147483648) (hb : b < 2147483648) (h : zH) : zc PG mJ1_max [.int (nI a), .int (nI b)] h = some (.inl (some (.int (nI (max a b)))), h) := by
  by_cases e : a < b
  · simp (disch := omega) only [eJ1_max, uJ1_max, zKK, zB, zBl, zBb, zlg, zA, zA3, zL3, km31, km63, klshr, kishr, k2p, kl1shl, klmask, kland1, kiand1, k_l2i, zrt_b, zrt_0, zrt_1, zdv_n, zdv_l, Nat.max_eq_right (show a ≤ b by omega)]
  · simp (disch := omega) only [eJ1_max, uJ1_max, zKK, zB, zBl, zBb, zlg, zA, zA3, zL3, km31, km63, klshr, kishr, k2p, kl1shl, klmask, kland1, kiand1, k_l2i, zrt_b, zrt_0, zrt_1, zdv_n, zdv_l, Nat.max_eq_left (show b ≤ a by omega)]
theorem j_minL {a b : Nat} (ha : a < 9223372036854775808) (hb : b < 9223372036854775808) (h : zH) : zc PG mJ1_min_2 [.long (lN a), .long (lN b)] h = some (.inl (some (.long (lN (min a b)))), h) := by
  by_cases e : a ≤ b
  · simp (disch := omega) only [eJ1_min_2, uJ1_min_2, zKK, zB, zBl, zBb, zlg, zA, zA3, zL3, km31, km63, klshr, kishr, k2p, kl1shl, klmask, kland1, kiand1, k_l2i, zrt_b, zrt_0, zrt_1, zdv_n, zdv_l, Nat.min_eq_left e]
  · simp (disch := omega) only [eJ1_min_2, uJ1_min_2, zKK, zB, zBl, zBb, zlg, zA, zA3, zL3, km31, km63, klshr, kishr, k2p, kl1shl, klmask, kland1, kiand1, k_l2i, zrt_b, zrt_0, zrt_1, zdv_n, zdv_l, Nat.min_eq_right (show b ≤ a by omega)]
/-- the greater of two longs, as Math.max has it -/
def klmax (x y : Int64) : Int64 := if x < y then y else x
theorem j_maxL (x y : Int64) (h : zH) : zc PG mJ1_max_2 [.long x, .long y] h = some (.inl (some (.long (klmax x y))), h) := by
  unfold klmax
  by_cases e : x < y
  · simp (disch := omega) only [eJ1_max_2, uJ1_max_2, zKK, zB, zBl, zBb, zlg, zA, zA3, zL3, km31, km63, klshr, kishr, k2p, kl1shl, klmask, kland1, kiand1, k_l2i, zrt_b, zrt_0, zrt_1, zdv_n, zdv_l, e, if_true]
  · simp (disch := omega) only [eJ1_max_2, uJ1_max_2, zKK, zB, zBl, zBb, zlg, zA, zA3, zL3, km31, km63, klshr, kishr, k2p, kl1shl, klmask, kland1, kiand1, k_l2i, zrt_b, zrt_0, zrt_1, zdv_n, zdv_l, e, if_false]
def kabs (x : Int32) : Int32 := if x < nI 0 then -x else x
theorem j_abs (x : Int32) (h : zH) : zc PG mJ1_abs [.int x] h = some (.inl (some (.int (kabs x))), h) := by
  unfold kabs
  by_cases e : x < nI 0
  · simp (disch := omega) only [eJ1_abs, uJ1_abs, zKK, zB, zBl, zBb, zlg, zA, zA3, zL3, km31, km63, klshr, kishr, k2p, kl1shl, klmask, kland1, kiand1, k_l2i, zrt_b, zrt_0, zrt_1, zdv_n, zdv_l, e, if_true]
  · simp (disch := omega) only [eJ1_abs, uJ1_abs, zKK, zB, zBl, zBb, zlg, zA, zA3, zL3, km31, km63, klshr, kishr, k2p, kl1shl, klmask, kland1, kiand1, k_l2i, zrt_b, zrt_0, zrt_1, zdv_n, zdv_l, e, if_false]
theorem t_wouldChange {α : Nat → Nat} (hα : mD α) (σ : mS) (h : zH) {c m : Nat} (hc : c < 10) (hm1 : m < 4294967296) {C : kC} (hC : mSl σ c C) (hI : kI C) : zc PG mX3_wouldChange [.ref (α 0), .int (nI c), .long (lN m)] (mH α σ h) = some (.inl (some (.int (zb (kwould C m)))), mH α σ h) := by
  obtain ⟨h1, h2, h3, h4, h5, h6, h7⟩ := hC
  obtain ⟨a1, a2, a3, a4, a5, a6, a7, a8, a9, a10, a11⟩ := hI
  have hk := kpl_256 hm1 a2
  have hb := (krk_bounds m (p := C.p) (by omega)).2
  have hr := h6 (kpl m C.p) hk
  have hr2 := a5 (kpl m C.p)
  have hh := t_hasMark hα σ h hc hm1 h4 h7 h5 a8
  unfold kwould
  cases hd : C.d with
  | true =>
    rw [hd] at h3
    by_cases e : C.r (kpl m C.p) < krk m C.p
    · simp (disch := omega) only [eX3_wouldChange, uX3_wouldChange, mG, mP hα, mR hα, mW hα, mgs, zKK, zB, zBl, zBb, zlg, zA, zA3, zL3, km31, km63, klshr, kishr, k2p, kl1shl, klmask, kland1, kiand1, k_l2i, zrt_b, zrt_0, zrt_1, zdv_n, zdv_l, h1, h3, t_placeOf, t_rankOf, t_at, hr, e, decide_true, if_true, zb_t]
    · simp (disch := omega) only [eX3_wouldChange, uX3_wouldChange, mG, mP hα, mR hα, mW hα, mgs, zKK, zB, zBl, zBb, zlg, zA, zA3, zL3, km31, km63, klshr, kishr, k2p, kl1shl, klmask, kland1, kiand1, k_l2i, zrt_b, zrt_0, zrt_1, zdv_n, zdv_l, h1, h3, t_placeOf, t_rankOf, t_at, hr, e, decide_false, if_true, zb_f]
  | false =>
    rw [hd] at h3
    by_cases e : m ∈ C.m
    · rw [decide_eq_true e] at hh
      simp (disch := omega) only [eX3_wouldChange, uX3_wouldChange, mG, mP hα, mR hα, mW hα, mgs, zKK, zB, zBl, zBb, zlg, zA, zA3, zL3, km31, km63, klshr, kishr, k2p, kl1shl, klmask, kland1, kiand1, k_l2i, zrt_b, zrt_0, zrt_1, zdv_n, zdv_l, h3, hh, e, not_true_eq_false, decide_false, Bool.false_eq_true, if_false, zb_f]
    · rw [decide_eq_false e] at hh
      simp (disch := omega) only [eX3_wouldChange, uX3_wouldChange, mG, mP hα, mR hα, mW hα, mgs, zKK, zB, zBl, zBb, zlg, zA, zA3, zL3, km31, km63, klshr, kishr, k2p, kl1shl, klmask, kland1, kiand1, k_l2i, zrt_b, zrt_0, zrt_1, zdv_n, zdv_l, h3, hh, e, not_false_eq_true, decide_true, Bool.false_eq_true, if_false, zb_t]
theorem t_comes {α : Nat → Nat} (hα : mD α) (σ : mS) (h : zH) {c m : Nat} (hc : c < 10) (hm1 : m < 4294967296) {C : kC} (hC : mSl σ c C) (hI : kI C) : ∃ σ', zc PG mX3_comes [.ref (α 0), .int (nI c), .long (lN m)] (mH α σ h) = some (.inl (some (.int (zb (kwould C m)))), mH α σ' h) ∧ mSl σ' c (kcomes C m) ∧ mFr (fun d => d = c) σ σ' := by
  have hC0 := hC
  obtain ⟨h1, h2, h3, h4, h5, h6, h7⟩ := hC
  obtain ⟨a1, a2, a3, a4, a5, a6, a7, a8, a9, a10, a11⟩ := hI
  have hk := kpl_256 hm1 a2
  have hb := (krk_bounds m (p := C.p) (by omega)).2
  have hr := h6 (kpl m C.p) hk
  have hr2 := a5 (kpl m C.p)
  have hh := t_hasMark hα σ h hc hm1 h4 h7 h5 a8
  have hblk : ∀ σ1 : mS, (∀ x, x < 256 → σ1.ra (256 * c + x) = C.r x) → krs σ1.ra (256 * c + kpl m C.p) (krk m C.p) = mblk σ1.ra c (krs C.r (kpl m C.p) (krk m C.p)) := by
    intro σ1 hs
    have e : mblk σ1.ra c C.r = σ1.ra := by
      rw [← mblk_self σ1.ra c]
      rw [mblk_twice]
      exact mblk_ext fun x hx => (hs x hx).symm
    rw [← mblk_rs hk, e]
  unfold kwould kcomes
  cases hd : C.d with
  | true =>
    rw [hd] at h3
    have er := t_raises hα σ h (c := c) (m := m) hc (by omega) (by omega) hm1 (by rw [h1, hr]; omega)
    rw [h1, hr, hblk σ h6] at er
    refine ⟨σ.s_ra (mblk σ.ra c (krs C.r (kpl m C.p) (krk m C.p))), ?_, mSl_ra hC0 _, mFr_ra _ _ _⟩
    simp (disch := omega) only [eX3_comes, uX3_comes, mG, mP hα, mR hα, mW hα, mgs, zKK, zB, zBl, zBb, zlg, zA, zA3, zL3, km31, km63, klshr, kishr, k2p, kl1shl, klmask, kland1, kiand1, k_l2i, zrt_b, zrt_0, zrt_1, zdv_n, zdv_l, h3, er, if_true]
  | false =>
    rw [hd] at h3
    by_cases e : m ∈ C.m
    · rw [decide_eq_true e] at hh
      refine ⟨σ, ?_, ?_, mFr.rf _ _⟩
      · simp (disch := omega) only [eX3_comes, uX3_comes, mG, mP hα, mR hα, mW hα, mgs, zKK, zB, zBl, zBb, zlg, zA, zA3, zL3, km31, km63, klshr, kishr, k2p, kl1shl, klmask, kland1, kiand1, k_l2i, zrt_b, zrt_0, zrt_1, zdv_n, zdv_l, h3, hh, e, not_true_eq_false, decide_false, Bool.false_eq_true, if_false, zb_f]
      · simp only [Bool.false_eq_true, if_false, e, if_true]
        exact hC0
    · rw [decide_eq_false e] at hh
      obtain ⟨σ1, e1, s1, f1⟩ := t_insert hα σ h hc hm1 hC0 (by omega) a9 e a8
      obtain ⟨g1, g2, g3, g4, g5, g6, g7⟩ := s1
      have g6' : ∀ x, x < 256 → σ1.ra (256 * c + x) = C.r x := g6
      have g4' : σ1.mm c = C.m.length + 1 := g4.trans (kins_len m C.m)
      have er := t_raises hα σ1 h (c := c) (m := m) hc (by rw [g1]; exact a1) (by rw [g1]; exact a2) hm1 (by rw [g1]; have := g6' (kpl m C.p) hk; show σ1.ra (256 * c + kpl m C.p) < _; omega)
      have g1' : σ1.bi c = C.p := g1
      have g2' : σ1.li c = C.l := g2
      rw [g1', hblk σ1 g6'] at er
      by_cases hl : C.l < C.m.length + 1
      · refine ⟨((σ1.s_ra (mblk σ1.ra c (krs C.r (kpl m C.p) (krk m C.p)))).s_de (va_up σ1.de c true)).s_mm (va_up σ1.mm c 0), ?_, ?_, ?_⟩
        · simp (disch := omega) only [eX3_comes, uX3_comes, mG, mP hα, mR hα, mW hα, mgs, zKK, zB, zBl, zBb, zlg, zA, zA3, zL3, km31, km63, klshr, kishr, k2p, kl1shl, klmask, kland1, kiand1, k_l2i, zrt_b, zrt_0, zrt_1, zdv_n, zdv_l, h3, hh, e1, er, g4', g2', t_becomesDense hα, e, not_false_eq_true, decide_true, Bool.false_eq_true, if_false, zb_t]
        · simp only [Bool.false_eq_true, if_false, e, hl, decide_true, if_true]
          exact mSl_dense (mSl_ra ⟨g1, g2, g3, g4, g5, g6, g7⟩ _)
        · exact (f1.trans (mFr_ra σ1 c _)).trans (mFr_dense _ c)
      · refine ⟨σ1.s_ra (mblk σ1.ra c (krs C.r (kpl m C.p) (krk m C.p))), ?_, ?_, ?_⟩
        · simp (disch := omega) only [eX3_comes, uX3_comes, mG, mP hα, mR hα, mW hα, mgs, zKK, zB, zBl, zBb, zlg, zA, zA3, zL3, km31, km63, klshr, kishr, k2p, kl1shl, klmask, kland1, kiand1, k_l2i, zrt_b, zrt_0, zrt_1, zdv_n, zdv_l, h3, hh, e1, er, g4', g2', e, not_false_eq_true, decide_true, Bool.false_eq_true, if_false, zb_t]
        · simp only [Bool.false_eq_true, if_false, e, hl, decide_false]
          have := mSl_ra (σ := σ1) (c := c) ⟨g1, g2, g3, g4, g5, g6, g7⟩ (krs C.r (kpl m C.p) (krk m C.p))
          rw [hd] at this
          exact this
        · exact f1.trans (mFr_ra σ1 c _)
