/-! THE MODEL's GUESSES AND FOLDS -/
theorem kstep (a s : Int32) (k : Nat) : a + nI k * s + s = a + nI (k + 1) * s := by
  rw [← nI_add, Int32.add_mul, show nI 1 * s = s from Int32.one_mul s, Int32.add_assoc]
theorem kstep0 (a s : Int32) : a + nI 0 * s = a := by
  rw [show nI 0 * s = 0 from Int32.zero_mul, Int32.add_zero]
theorem kI_rn {f : Nat → Nat} (hf : ∀ k, f k < 2 ^ 32) {C : kC} (h : kI C) (n : Nat) : kI (krn f C n).1 := by
  induction n with
  | zero => exact h
  | succ n ih => exact kI_comes ih (hf n)
/-- the marks of things a, a + s, .. -/
def kms (tm mo a s : Int32) (k : Nat) : Nat := kun (tm * (a + nI k * s) + mo)
theorem kms_lt (tm mo a s : Int32) (k : Nat) : kms tm mo a s k < 4294967296 := kun_lt _
theorem t_runsInto_loop {α : Nat → Nat} (hα : mD α) (h : zH) {c : Nat} (hc : c < 10) (a s : Int32) {n : Nat} (hn : n ≤ 1000) (tm mo : Int32) {C : kC} (hI : kI C) (j : Nat) : ∀ (k : Nat) (σ : mS), k + j = n → σ.tm = tm → σ.mo = mo → mSl σ c (krn (kms tm mo a s) C k).1 → ∃ σ', zs PG mX3_runsInto 9 [.ref (α 0), .int (nI c), .int a, .int (nI n), .int s, .int (nI (krn (kms tm mo a s) C k).2), .int (a + nI k * s), .int (nI k)] [] (mH α σ h) = some (.inl (some (.int (nI (krn (kms tm mo a s) C n).2))), mH α σ' h) ∧ mSl σ' c (krn (kms tm mo a s) C n).1 ∧ mFr (fun d => d = c) σ σ' := by
  induction j with
  | zero =>
    intro k σ hk ht hm hs
    have hk : k = n := by omega
    subst hk
    refine ⟨σ, ?_, hs, mFr.rf _ _⟩
    rw [uX3_runsInto_at9]
    simp (disch := omega) only [uX3_runsInto, mG, mP hα, mR hα, mW hα, mgs, zKK, zB, zBl, zBb, zlg, zA, zA3, zL3, km31, km63, klshr, kishr, k2p, kl1shl, klmask, kland1, kiand1, k_l2i, zrt_b, zrt_0, zrt_1, zdv_n, zdv_l]
  | succ j ih =>
    intro k σ hk ht hm hs
    have hmk : mmk σ (a + nI k * s) = kms tm mo a s k := by unfold mmk kms; rw [ht, hm]
    obtain ⟨σ1, e1, s1, f1⟩ := t_comes hα σ h hc (kms_lt tm mo a s k) hs (kI_rn (kms_lt tm mo a s) hI k)
    obtain ⟨σ2, e2, s2, f2⟩ := ih (k + 1) σ1 (by omega) (f1.1.1.trans ht) (f1.1.2.1.trans hm) s1
    refine ⟨σ2, ?_, s2, f1.trans f2⟩
    rw [uX3_runsInto_at9, ← e2, ← kstep]
    rw [show (krn (kms tm mo a s) C (k + 1)).2 = (krn (kms tm mo a s) C k).2 + if kwould (krn (kms tm mo a s) C k).1 (kms tm mo a s k) then 1 else 0 from rfl]
    cases hw : kwould (krn (kms tm mo a s) C k).1 (kms tm mo a s k) with
    | true =>
      rw [hw] at e1
      simp (disch := omega) only [uX3_runsInto, mG, mP hα, mR hα, mW hα, mgs, zKK, zB, zBl, zBb, zlg, zA, zA3, zL3, km31, km63, klshr, kishr, k2p, kl1shl, klmask, kland1, kiand1, k_l2i, zrt_b, zrt_0, zrt_1, zdv_n, zdv_l, t_markOf hα, hmk, e1, if_true]
    | false =>
      rw [hw] at e1
      simp (disch := omega) only [uX3_runsInto, mG, mP hα, mR hα, mW hα, mgs, zKK, zB, zBl, zBb, zlg, zA, zA3, zL3, km31, km63, klshr, kishr, k2p, kl1shl, klmask, kland1, kiand1, k_l2i, zrt_b, zrt_0, zrt_1, zdv_n, zdv_l, t_markOf hα, hmk, e1, Bool.false_eq_true, if_false]
theorem t_runsInto {α : Nat → Nat} (hα : mD α) (σ : mS) (h : zH) {c : Nat} (hc : c < 10) (a s : Int32) {n : Nat} (hn : n ≤ 1000) {C : kC} (hC : mSl σ c C) (hI : kI C) : ∃ σ', zc PG mX3_runsInto [.ref (α 0), .int (nI c), .int a, .int (nI n), .int s] (mH α σ h) = some (.inl (some (.int (nI (krn (kms σ.tm σ.mo a s) C n).2))), mH α σ' h) ∧ mSl σ' c (krn (kms σ.tm σ.mo a s) C n).1 ∧ mFr (fun d => d = c) σ σ' := by
  obtain ⟨σ', e, q⟩ := t_runsInto_loop hα h hc a s hn σ.tm σ.mo hI n 0 σ (by omega) rfl rfl hC
  refine ⟨σ', ?_, q⟩
  rw [kstep0] at e
  simp only [eX3_runsInto, uX3_runsInto]
  exact e
theorem t_ranked_loop {α : Nat → Nat} (hα : mD α) (σ : mS) (h : zH) {c : Nat} (hc : c < 10) {C : kC} (hb : σ.bi c = C.p) (h8 : C.p ≤ 8) (hr : ∀ x, x < 256 → σ.ra (256 * c + x) = C.r x) (hr2 : ∀ x, C.r x ≤ 33) (k : Nat) : ∀ x, x + k = 2 ^ C.p → zs PG mX3_ranked 4 [.ref (α 0), .int (nI c), .int (nI (krd C.r x)), .int (nI x)] [] (mH α σ h) = some (.inl (some (.int (nI (krd C.r (2 ^ C.p))))), mH α σ h) := by
  have h2 := k2p_le h8
  have hp := t_places hα σ h hc (by rw [hb]; exact h8)
  rw [hb] at hp
  induction k with
  | zero =>
    intro x hx
    have hx : x = 2 ^ C.p := hx
    subst hx
    simp (disch := omega) only [uX3_ranked_at4, uX3_ranked, mG, mP hα, mR hα, mW hα, mgs, zKK, zB, zBl, zBb, zlg, zA, zA3, zL3, km31, km63, klshr, kishr, k2p, kl1shl, klmask, kland1, kiand1, k_l2i, zrt_b, zrt_0, zrt_1, zdv_n, zdv_l, hp]
  | succ k ih =>
    intro x hx
    have hr1 := hr x (by omega)
    have hr3 := hr2 x
    rw [← ih (x + 1) (by omega), uX3_ranked_at4, krd]
    by_cases e : 0 < C.r x
    · simp (disch := omega) only [uX3_ranked, mG, mP hα, mR hα, mW hα, mgs, zKK, zB, zBl, zBb, zlg, zA, zA3, zL3, km31, km63, klshr, kishr, k2p, kl1shl, klmask, kland1, kiand1, k_l2i, zrt_b, zrt_0, zrt_1, zdv_n, zdv_l, hp, t_at, hr1, if_pos e]
    · simp (disch := omega) only [uX3_ranked, mG, mP hα, mR hα, mW hα, mgs, zKK, zB, zBl, zBb, zlg, zA, zA3, zL3, km31, km63, klshr, kishr, k2p, kl1shl, klmask, kland1, kiand1, k_l2i, zrt_b, zrt_0, zrt_1, zdv_n, zdv_l, hp, t_at, hr1, if_neg e]
theorem t_ranked {α : Nat → Nat} (hα : mD α) (σ : mS) (h : zH) {c : Nat} (hc : c < 10) {C : kC} (hb : σ.bi c = C.p) (h8 : C.p ≤ 8) (hr : ∀ x, x < 256 → σ.ra (256 * c + x) = C.r x) (hr2 : ∀ x, C.r x ≤ 33) : zc PG mX3_ranked [.ref (α 0), .int (nI c)] (mH α σ h) = some (.inl (some (.int (nI (krd C.r (2 ^ C.p))))), mH α σ h) := by
  simp only [eX3_ranked, uX3_ranked]
  exact t_ranked_loop hα σ h hc hb h8 hr hr2 _ 0 (Nat.zero_add _)
/-- what reads of a slot need -/
def mRd (σ : mS) (c : Nat) (C : kC) : Prop := c < 10 ∧ σ.bi c = C.p ∧ C.p ≤ 8 ∧ 4 ≤ C.p ∧ (∀ x, x < 256 → σ.ra (256 * c + x) = C.r x) ∧ (∀ x, C.r x ≤ 29)
theorem mSl.rd {σ : mS} {c : Nat} {C : kC} (h : mSl σ c C) (hI : kI C) (hc : c < 10) : mRd σ c C := ⟨hc, h.1, hI.2.1, hI.1, h.2.2.2.2.2.1, fun x => by have := hI.2.2.2.2.1 x; have := hI.1; omega⟩
theorem t_zeros {α : Nat → Nat} (hα : mD α) (σ : mS) (h : zH) {c : Nat} {C : kC} (hR : mRd σ c C) : zc PG mX3_zeros [.ref (α 0), .int (nI c)] (mH α σ h) = some (.inl (some (.int (nI (kz C)))), mH α σ h) := by
  obtain ⟨hc, hb, h8, h4, hr, hr2⟩ := hR
  have hp := t_places hα σ h hc (by rw [hb]; exact h8)
  rw [hb] at hp
  have e := t_ranked hα σ h hc hb h8 hr (fun x => Nat.le_trans (hr2 x) (by decide))
  have hl := krd_le C.r (2 ^ C.p)
  simp (disch := omega) only [eX3_zeros, uX3_zeros, mG, mP hα, mR hα, mW hα, mgs, zKK, zB, zBl, zBb, zlg, zA, zA3, zL3, km31, km63, klshr, kishr, k2p, kl1shl, klmask, kland1, kiand1, k_l2i, zrt_b, zrt_0, zrt_1, zdv_n, zdv_l, hp, e, kz]
theorem t_allOf_loop {α : Nat → Nat} (hα : mD α) (σ : mS) (h : zH) {c : Nat} {C : kC} (hR : mRd σ c C) (k : Nat) : ∀ x, x + k = 2 ^ C.p → zs PG mX3_allOf 5 [.ref (α 0), .int (nI c), .long (lN (kal C.r x)), zJ, .int (nI x)] [] (mH α σ h) = some (.inl (some (.long (lN (kall C)))), mH α σ h) := by
  obtain ⟨hc, hb, h8, h4, hr, hr2⟩ := hR
  have h2 := k2p_le h8
  have hp := t_places hα σ h hc (by rw [hb]; exact h8)
  rw [hb] at hp
  induction k with
  | zero =>
    intro x hx
    have hx : x = 2 ^ C.p := hx
    subst hx
    simp (disch := omega) only [uX3_allOf_at5, uX3_allOf, mG, mP hα, mR hα, mW hα, mgs, zKK, zB, zBl, zBb, zlg, zA, zA3, zL3, km31, km63, klshr, kishr, k2p, kl1shl, klmask, kland1, kiand1, k_l2i, zrt_b, zrt_0, zrt_1, zdv_n, zdv_l, hp, kall]
  | succ k ih =>
    intro x hx
    have hr1 := hr x (by omega)
    have hr3 := hr2 x
    rw [← ih (x + 1) (by omega), uX3_allOf_at5, kal]
    simp (disch := omega) only [uX3_allOf, mG, mP hα, mR hα, mW hα, mgs, zKK, zB, zBl, zBb, zlg, zA, zA3, zL3, km31, km63, klshr, kishr, k2p, kl1shl, klmask, kland1, kiand1, k_l2i, zrt_b, zrt_0, zrt_1, zdv_n, zdv_l, hp, t_at, hr1]
theorem t_allOf {α : Nat → Nat} (hα : mD α) (σ : mS) (h : zH) {c : Nat} {C : kC} (hR : mRd σ c C) : zc PG mX3_allOf [.ref (α 0), .int (nI c)] (mH α σ h) = some (.inl (some (.long (lN (kall C)))), mH α σ h) := by
  simp only [eX3_allOf, uX3_allOf]
  exact t_allOf_loop hα σ h hR _ 0 (Nat.zero_add _)
theorem t_greatest_loop {α : Nat → Nat} (hα : mD α) (σ : mS) (h : zH) {c : Nat} {C : kC} (hR : mRd σ c C) (k : Nat) : ∀ x, x + k = 2 ^ C.p → kgr C.r x ≤ 29 → zs PG mX3_greatest 4 [.ref (α 0), .int (nI c), .int (nI (kgr C.r x)), .int (nI x)] [] (mH α σ h) = some (.inl (some (.int (nI (kgr C.r (2 ^ C.p))))), mH α σ h) := by
  obtain ⟨hc, hb, h8, h4, hr, hr2⟩ := hR
  have h2 := k2p_le h8
  have hp := t_places hα σ h hc (by rw [hb]; exact h8)
  rw [hb] at hp
  induction k with
  | zero =>
    intro x hx hg
    have hx : x = 2 ^ C.p := hx
    subst hx
    simp (disch := omega) only [uX3_greatest_at4, uX3_greatest, mG, mP hα, mR hα, mW hα, mgs, zKK, zB, zBl, zBb, zlg, zA, zA3, zL3, km31, km63, klshr, kishr, k2p, kl1shl, klmask, kland1, kiand1, k_l2i, zrt_b, zrt_0, zrt_1, zdv_n, zdv_l, hp]
  | succ k ih =>
    intro x hx hg
    have hr1 := hr x (by omega)
    have hr3 := hr2 x
    rw [← ih (x + 1) (by omega) (by rw [kgr]; omega), uX3_greatest_at4, kgr]
    simp (disch := omega) only [uX3_greatest, mG, mP hα, mR hα, mW hα, mgs, zKK, zB, zBl, zBb, zlg, zA, zA3, zL3, km31, km63, klshr, kishr, k2p, kl1shl, klmask, kland1, kiand1, k_l2i, zrt_b, zrt_0, zrt_1, zdv_n, zdv_l, hp, t_at, hr1, j_maxI]
theorem t_greatest {α : Nat → Nat} (hα : mD α) (σ : mS) (h : zH) {c : Nat} {C : kC} (hR : mRd σ c C) : zc PG mX3_greatest [.ref (α 0), .int (nI c)] (mH α σ h) = some (.inl (some (.int (nI (kgr C.r (2 ^ C.p))))), mH α σ h) := by
  simp only [eX3_greatest, uX3_greatest]
  exact t_greatest_loop hα σ h hR _ 0 (Nat.zero_add _) (Nat.zero_le _)
theorem t_tableOf_loop (h : zH) {p z : Nat} (h8 : p ≤ 8) (hz : z ≤ 2 ^ p) (k : Nat) : ∀ n, z + n + k = 2 ^ p → zs PG mX3_tableOf 11 [.int (nI p), .int (nI z), .int (nI (2 ^ p)), .int (nI (ktbs p z n)), .int (nI (z + 1 + n))] [] h = some (.inl (some (.int (nI (ktb p z)))), h) := by
  have h2 := k2p_le h8
  induction k with
  | zero =>
    intro n hn
    have hn : n = 2 ^ p - z := by omega
    subst hn
    rw [uX3_tableOf_at11]
    simp (disch := omega) only [uX3_tableOf, zKK, zB, zBl, zBb, zlg, zA, zA3, zL3, km31, km63, klshr, kishr, k2p, kl1shl, klmask, kland1, kiand1, k_l2i, zrt_b, zrt_0, zrt_1, zdv_n, zdv_l, ktb]
  | succ k ih =>
    intro n hn
    rw [← ih (n + 1) (by omega), uX3_tableOf_at11, ktbs]
    simp (disch := omega) only [uX3_tableOf, zKK, zB, zBl, zBb, zlg, zA, zA3, zL3, km31, km63, klshr, kishr, k2p, kl1shl, klmask, kland1, kiand1, k_l2i, zrt_b, zrt_0, zrt_1, zdv_n, zdv_l, Nat.add_assoc]
theorem t_tableOf (h : zH) {p z : Nat} (h8 : p ≤ 8) (hz : z ≤ 2 ^ p) : zc PG mX3_tableOf [.int (nI p), .int (nI z)] h = some (.inl (some (.int (nI (ktb p z)))), h) := by
  have e := t_tableOf_loop h h8 hz (2 ^ p - z) 0 (by omega)
  simp (disch := omega) only [eX3_tableOf, uX3_tableOf, zKK, zB, zBl, zBb, zlg, zA, zA3, zL3, km31, km63, klshr, kishr, k2p, kl1shl, klmask, kland1, kiand1, k_l2i, zrt_b, zrt_0, zrt_1, zdv_n, zdv_l]
  exact e
theorem t_alpha (h : zH) {p : Nat} (h4 : 4 ≤ p) (h8 : p ≤ 8) : zc PG mX3_alpha [.int (nI p)] h = some (.inl (some (.int (nI (kalpha p)))), h) := by
  have h' : p = 4 ∨ p = 5 ∨ p = 6 ∨ p = 7 ∨ p = 8 := by omega
  rcases h' with rfl | rfl | rfl | rfl | rfl
  · simp only [eX3_alpha, uX3_alpha, show zsw 4 [32, 36, 40, 44] 48 (nI 4) = 32 by decide]; rfl
  · simp only [eX3_alpha, uX3_alpha, show zsw 4 [32, 36, 40, 44] 48 (nI 5) = 36 by decide]; rfl
  · simp only [eX3_alpha, uX3_alpha, show zsw 4 [32, 36, 40, 44] 48 (nI 6) = 40 by decide]; rfl
  · simp only [eX3_alpha, uX3_alpha, show zsw 4 [32, 36, 40, 44] 48 (nI 7) = 44 by decide]; rfl
  · simp only [eX3_alpha, uX3_alpha, show zsw 4 [32, 36, 40, 44] 48 (nI 8) = 48 by decide]; rfl
theorem t_guessBy {α : Nat → Nat} (hα : mD α) (σ : mS) (h : zH) {p z all : Nat} (h4 : 4 ≤ p) (h8 : p ≤ 8) (hz : z ≤ 2 ^ p) (ha : 0 < all) (ha2 : all < 2 ^ 50) : zc PG mX3_guessBy [.ref (α 0), .int (nI p), .int (nI z), .long (lN all)] (mH α σ h) = some (.inl (some (.int (nI (kgb p z all)))), mH α (σ.s_hw (khow p z)) h) := by
  have h2 := k2p_le h8
  have h16 := k2p_ge h4
  have ht := ktb_le h8 z
  have hal := kalpha_le p
  have hm1 : kalpha p * 2 ^ p ≤ 718 * 256 := Nat.mul_le_mul hal h2
  have hm2 : kalpha p * 2 ^ p * 2 ^ p ≤ 718 * 256 * 256 := Nat.mul_le_mul hm1 h2
  have hm3 : kalpha p * 2 ^ p * 2 ^ p * 536870912 ≤ 718 * 256 * 256 * 536870912 := Nat.mul_le_mul hm2 (Nat.le_refl _)
  have hm4 : kalpha p * 2 ^ p * 2 ^ p * 536870912 / (1000 * all) ≤ kalpha p * 2 ^ p * 2 ^ p * 536870912 := Nat.div_le_self _ _
  have hdv : lN (kalpha p * 2 ^ p * 2 ^ p * 536870912) / lN (1000 * all) = lN (kalpha p * 2 ^ p * 2 ^ p * 536870912 / (1000 * all)) := pk_lDiv (by omega) (by omega) (by omega)
  unfold kgb khow kby
  by_cases e1 : 0 < z
  · by_cases e2 : ktb p z ≤ 2500 * 2 ^ p
    · simp (disch := omega) only [eX3_guessBy, uX3_guessBy, mG, mP hα, mR hα, mW hα, mgs, zKK, zB, zBl, zBb, zlg, zA, zA3, zL3, km31, km63, klshr, kishr, k2p, kl1shl, klmask, kland1, kiand1, k_l2i, zrt_b, zrt_0, zrt_1, zdv_n, zdv_l, t_tableOf, t_alpha, j_minL, e1, e2, and_self, decide_true, if_true, true_and]
    · simp (disch := omega) only [eX3_guessBy, uX3_guessBy, mG, mP hα, mR hα, mW hα, mgs, zKK, zB, zBl, zBb, zlg, zA, zA3, zL3, km31, km63, klshr, kishr, k2p, kl1shl, klmask, kland1, kiand1, k_l2i, zrt_b, zrt_0, zrt_1, zdv_n, zdv_l, t_tableOf, t_alpha, j_minL, hdv, e1, e2, and_false, decide_false, if_false, Bool.false_eq_true]
  · simp (disch := omega) only [eX3_guessBy, uX3_guessBy, mG, mP hα, mR hα, mW hα, mgs, zKK, zB, zBl, zBb, zlg, zA, zA3, zL3, km31, km63, klshr, kishr, k2p, kl1shl, klmask, kland1, kiand1, k_l2i, zrt_b, zrt_0, zrt_1, zdv_n, zdv_l, t_tableOf, t_alpha, j_minL, hdv, e1, false_and, decide_false, if_false, Bool.false_eq_true]
theorem kall_lt {C : kC} (h8 : C.p ≤ 8) : kall C < 2 ^ 50 := by
  have h1 := kal_le C.r (2 ^ C.p)
  have h2 := k2p_le h8
  have h3 : 2 ^ C.p * 2 ^ 29 ≤ 256 * 2 ^ 29 := Nat.mul_le_mul h2 (Nat.le_refl _)
  unfold kall
  omega
theorem t_denseGuess {α : Nat → Nat} (hα : mD α) (σ : mS) (h : zH) {c : Nat} {C : kC} (hR : mRd σ c C) : zc PG mX3_denseGuess [.ref (α 0), .int (nI c)] (mH α σ h) = some (.inl (some (.int (nI (kdg C)))), mH α (σ.s_hw (khow C.p (kz C))) h) := by
  have ez := t_zeros hα σ h hR
  have ea := t_allOf hα σ h hR
  obtain ⟨hc, hb, h8, h4, hr, hr2⟩ := hR
  have eg := t_guessBy hα σ h (p := C.p) (z := kz C) (all := kall C) h4 h8 (Nat.sub_le _ _) (kal_pos _ (Nat.pow_pos (by decide))) (kall_lt h8)
  simp (disch := omega) only [eX3_denseGuess, uX3_denseGuess, mG, mP hα, mR hα, mW hα, mgs, zKK, zB, zBl, zBb, zlg, zA, zA3, zL3, km31, km63, klshr, kishr, k2p, kl1shl, klmask, kland1, kiand1, k_l2i, zrt_b, zrt_0, zrt_1, zdv_n, zdv_l, hb, ez, ea, eg, kdg]
theorem t_guessOf {α : Nat → Nat} (hα : mD α) (σ : mS) (h : zH) {c : Nat} {C : kC} (hC : mSl σ c C) (hI : kI C) (hc : c < 10) : zc PG mX3_guessOf [.ref (α 0), .int (nI c)] (mH α σ h) = some (.inl (some (.int (nI (kguess C)))), mH α (σ.s_hw (if C.d then khow C.p (kz C) else 0)) h) := by
  have ed := t_denseGuess hα σ h (hC.rd hI hc)
  obtain ⟨h1, h2, h3, h4, h5, h6, h7⟩ := hC
  unfold kguess
  cases hd : C.d with
  | true =>
    rw [hd] at h3
    simp (disch := omega) only [eX3_guessOf, uX3_guessOf, mG, mP hα, mR hα, mW hα, mgs, zKK, zB, zBl, zBb, zlg, zA, zA3, zL3, km31, km63, klshr, kishr, k2p, kl1shl, klmask, kland1, kiand1, k_l2i, zrt_b, zrt_0, zrt_1, zdv_n, zdv_l, h3, ed, if_true]
  | false =>
    rw [hd] at h3
    simp (disch := omega) only [eX3_guessOf, uX3_guessOf, mG, mP hα, mR hα, mW hα, mgs, zKK, zB, zBl, zBb, zlg, zA, zA3, zL3, km31, km63, klshr, kishr, k2p, kl1shl, klmask, kland1, kiand1, k_l2i, zrt_b, zrt_0, zrt_1, zdv_n, zdv_l, h3, h4, Bool.false_eq_true, if_false]
