/-! THE MODEL's METHODS: the small ones -/
theorem t_in (v lo hi : Int64) (h : zH) : zc PG mX3_in [.long v, .long lo, .long hi] h = some (.inl (some (.int (zb (decide (¬ v < lo ∧ ¬ hi < v))))), h) := by
  by_cases h1 : v < lo
  · simp only [eX3_in, uX3_in, zlg, h1, zKK, zrt_0, not_true_eq_false, false_and, decide_false, zb_f]
  · by_cases h2 : hi < v
    · simp only [eX3_in, uX3_in, zlg, h1, h2, zKK, zrt_0, not_true_eq_false, and_false, decide_false, zb_f]
    · simp only [eX3_in, uX3_in, zlg, h1, h2, zKK, zrt_1, not_false_eq_true, and_self, decide_true, zb_t]
theorem t_ini (x : Int32) {lo hi : Nat} (h1 : lo < 2147483648) (h2 : hi < 2147483648) (h : zH) : zc PG mX3_in [.long x.toInt64, .long (lN lo), .long (lN hi)] h = some (.inl (some (.int (zb (kbd x lo hi)))), h) := by
  rw [t_in, kbd_in h1 h2]
theorem t_isCounter (c : Int32) (h : zH) : zc PG mX3_isCounter [.int c] h = some (.inl (some (.int (zb (kbd c 0 5)))), h) := by
  simp (disch := omega) only [eX3_isCounter, uX3_isCounter, t_ini, zKK, zrt_b]
theorem t_isSet (c : Int32) (h : zH) : zc PG mX3_isSet [.int c] h = some (.inl (some (.int (zb (kbd c 1 63)))), h) := by
  simp (disch := omega) only [eX3_isSet, uX3_isSet, t_ini, zKK, zrt_b]
theorem t_thrown {α : Nat → Nat} (hα : mD α) (σ : mS) (h : zH) : zc PG mX3_thrown [.ref (α 0)] (mH α σ h) = some (.inl (some (.int (nI σ.th))), mH α σ h) := by
  simp only [eX3_thrown, uX3_thrown, mG, zKK]
theorem t_lost {α : Nat → Nat} (hα : mD α) (σ : mS) (h : zH) : zc PG mX3_lost [.ref (α 0)] (mH α σ h) = some (.inl (some (.int (nI 0))), mH α (σ.s_th 1) h) := by
  simp only [eX3_lost, uX3_lost, mP hα, zKK]
theorem t_tell {α : Nat → Nat} (hα : mD α) (σ : mS) (h : zH) (v : Int64) (hr : σ.rm < 16) : zc PG mX3_tell [.ref (α 0), .long v] (mH α σ h) = some (.inl none, mH α ((σ.s_ro (va_up σ.ro σ.rm v)).s_rm (σ.rm + 1)) h) := by
  simp (disch := omega) only [eX3_tell, uX3_tell, mG, mP hα, mR hα, mW hα, mgs, zKK, zB, zBl, zBb, zlg, zA, zA3, zL3, km31, km63, klshr, kishr, k2p, kl1shl, klmask, kland1, kiand1, k_l2i, zrt_b, zrt_0, zrt_1, zdv_n, zdv_l]
/-- the mark of a thing -/
def mmk (σ : mS) (t : Int32) : Nat := kun (σ.tm * t + σ.mo)
theorem mmk_lt (σ : mS) (t : Int32) : mmk σ t < 4294967296 := kun_lt _
theorem t_markOf {α : Nat → Nat} (hα : mD α) (σ : mS) (h : zH) (t : Int32) : zc PG mX3_markOf [.ref (α 0), .int t] (mH α σ h) = some (.inl (some (.long (lN (mmk σ t)))), mH α σ h) := by
  simp only [eX3_markOf, uX3_markOf, mG, zKK, kmask, mmk]
theorem t_placeOf (h : zH) {m p : Nat} (hm : m < 4294967296) (hp : p ≤ 32) : zc PG mX3_placeOf [.long (lN m), .int (nI p)] h = some (.inl (some (.int (nI (kpl m p)))), h) := by
  simp (disch := omega) only [eX3_placeOf, uX3_placeOf, zKK, zB, zBl, zBb, zlg, zA, zA3, zL3, km31, km63, klshr, kishr, k2p, kl1shl, klmask, kland1, kiand1, k_l2i, zrt_b, zrt_0, zrt_1, zdv_n, zdv_l, kpl]
theorem t_rankOf_loop (h : zH) {p : Nat} (rest : Nat) (hp : p ≤ 32) (a0 : Int64) (j : Nat) : j ≤ 32 - p → rest < 2 ^ j → zs PG mX3_rankOf 20 [.long a0, zJ, .int (nI p), .long (lN rest), zJ, .int (nI (33 - p - j)), .int (nI j + (-1))] [] h = some (.inl (some (.int (nI (33 - p - kbl rest)))), h) := by
  induction j with
  | zero =>
    intro _ hr
    have : rest = 0 := by omega
    subst this
    rw [uX3_rankOf_at20]
    have e : (nI 0 + (-1) < nI 0) = True := eq_true (by decide)
    simp only [uX3_rankOf, zKK, e, kbl_0, Nat.sub_zero]
  | succ j ih =>
    intro hj hr
    have h32 : 2 ^ j ≤ 2 ^ 31 := Nat.pow_le_pow_right (by decide) (by omega)
    rw [uX3_rankOf_at20]
    rw [show nI (j + 1) + (-1) = nI j from pk_m1 j]
    have hr2 : rest < 2 ^ j * 2 := by rw [← Nat.pow_succ]; exact hr
    have hdiv : rest / 2 ^ j < 2 := by rw [Nat.div_lt_iff_lt_mul (Nat.pow_pos (by decide))]; omega
    by_cases hb : rest < 2 ^ j
    · have hd : rest / 2 ^ j = 0 := Nat.div_eq_of_lt hb
      rw [← ih (by omega) hb, show 33 - p - j = 33 - p - (j + 1) + 1 by omega, ← nI_add]
      simp (disch := omega) only [uX3_rankOf, zKK, zB, zBl, zA3, km63, klshr, hd, zlg, kland1]
    · have hd : rest / 2 ^ j = 1 := by
        have : 0 < rest / 2 ^ j := Nat.div_pos (by omega) (Nat.pow_pos (by decide))
        omega
      have hk : kbl rest = j + 1 := kbl_eq (by omega) hr
      simp (disch := omega) only [uX3_rankOf, zKK, zB, zBl, zA3, km63, klshr, hd, zlg, kland1, hk]
theorem t_rankOf (h : zH) {m p : Nat} (hm : m < 4294967296) (h0 : 0 < p) (hp : p < 32) : zc PG mX3_rankOf [.long (lN m), .int (nI p)] h = some (.inl (some (.int (nI (krk m p)))), h) := by
  have e := t_rankOf_loop h (p := p) (m % 2 ^ (32 - p)) (by omega) (lN m) (32 - p) (Nat.le_refl _) (Nat.mod_lt _ (Nat.pow_pos (by decide)))
  rw [show 33 - p - (32 - p) = 1 by omega, show nI (32 - p) + (-1) = nI (31 - p) by rw [show 32 - p = 31 - p + 1 by omega, pk_m1]] at e
  simp (disch := omega) only [eX3_rankOf, uX3_rankOf, zA3, km63, kl1shl, klmask, e, krk]
theorem t_mark {α : Nat → Nat} (hα : mD α) (σ : mS) (h : zH) (t : Int32) : zc PG mX3_mark [.ref (α 0), .int t] (mH α σ h) = some (.inl (some (.int (σ.tm * t + σ.mo))), mH α (σ.s_th 0) h) := by
  simp only [eX3_mark, uX3_mark, mG, mP hα, zKK, t_markOf hα, k_l2i, mmk, mgs, kun_nI]
theorem t_places {α : Nat → Nat} (hα : mD α) (σ : mS) (h : zH) {c : Nat} (hc : c < 10) (hb : σ.bi c ≤ 8) : zc PG mX3_places [.ref (α 0), .int (nI c)] (mH α σ h) = some (.inl (some (.int (nI (2 ^ σ.bi c)))), mH α σ h) := by
  simp (disch := omega) only [eX3_places, uX3_places, mG, mP hα, mR hα, mW hα, mgs, zKK, zB, zBl, zBb, zlg, zA, zA3, zL3, km31, km63, klshr, kishr, k2p, kl1shl, klmask, kland1, kiand1, k_l2i, zrt_b, zrt_0, zrt_1, zdv_n, zdv_l]
theorem t_at (h : zH) (c x : Nat) : zc PG mX3_at [.int (nI c), .int (nI x)] h = some (.inl (some (.int (nI (256 * c + x)))), h) := by
  simp only [eX3_at, uX3_at, zA]
