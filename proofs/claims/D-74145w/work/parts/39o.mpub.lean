/-! a counter that is read -/
/-- a sign's value; 99 where it has none -/
def kds (c : Nat) : Nat := if 48 ≤ c ∧ c ≤ 57 then c - 48 else if 97 ≤ c ∧ c ≤ 122 then c - 87 else 99
def ksv (T : List Nat) (i b : Nat) : Option Nat := if i < T.length ∧ kds (T.getD i 0) < b then some (kds (T.getD i 0)) else none
theorem ksv_lt {T : List Nat} {i b v : Nat} (h : ksv T i b = some v) : i < T.length ∧ v < b := by
  unfold ksv at h
  by_cases e : i < T.length ∧ kds (T.getD i 0) < b
  · rw [if_pos e] at h
    cases h
    exact e
  · rw [if_neg e] at h
    cases h
theorem t_readsSign {α : Nat → Nat} (hα : mD α) (σ : mS) (h : zH) {T : List Nat} (hT : mTx T σ) {i : Nat} (hh : σ.hr = i) (hi : i ≤ T.length) {b : Nat} (hb : b ≤ 36) : zc PG mX3_readsSign [.ref (α 0), .int (nI b)] (mH α σ h) = match ksv T i b with
    | none => some (.inl (some (.int (-1))), mH α σ h)
    | some v => some (.inl (some (.int (nI v))), mH α (σ.s_hr (i + 1)) h) := by
  have es := t_sees hα σ h hT (by rw [hh]; exact hi)
  rw [hh] at es
  have h600 := hT.2.2.1
  unfold ksv
  by_cases e : i < T.length
  · have hc : T.getD i 0 < 256 := hT.2.2.2 _ (kget_mem e)
    rw [show ksee T i = nI (T.getD i 0) by unfold ksee; rw [if_pos e]] at es
    generalize T.getD i 0 = c at es hc
    unfold kds
    by_cases e1 : 48 ≤ c ∧ c ≤ 57
    · have k1 := kbd_nI e1.1 e1.2 (by omega)
      rw [if_pos e1]
      by_cases e3 : c - 48 < b
      · rw [if_pos ⟨e, e3⟩]
        simp (disch := omega) only [eX3_readsSign, uX3_readsSign, mG, mP hα, mR hα, mW hα, mgs, zKK, zB, zBl, zBb, zlg, zA, zA3, zL3, km31, km63, klshr, kishr, k2p, kl1shl, klmask, kland1, kiand1, k_l2i, zrt_b, zrt_0, zrt_1, zdv_n, zdv_l, es, t_inN, k1, hh]
      · rw [if_neg (fun q => e3 q.2)]
        simp (disch := omega) only [eX3_readsSign, uX3_readsSign, mG, mP hα, mR hα, mW hα, mgs, zKK, zB, zBl, zBb, zlg, zA, zA3, zL3, km31, km63, klshr, kishr, k2p, kl1shl, klmask, kland1, kiand1, k_l2i, zrt_b, zrt_0, zrt_1, zdv_n, zdv_l, es, t_inN, k1]
    · have k1 : kbd (nI c) 48 57 = false := kbd_f (kbt_n (by omega) (by omega))
      rw [if_neg e1]
      by_cases e2 : 97 ≤ c ∧ c ≤ 122
      · have k2 := kbd_nI e2.1 e2.2 (by omega)
        rw [if_pos e2]
        have ec : c - 97 + 10 = c - 87 := by omega
        by_cases e3 : c - 87 < b
        · rw [if_pos ⟨e, e3⟩]
          simp (disch := omega) only [eX3_readsSign, uX3_readsSign, mG, mP hα, mR hα, mW hα, mgs, zKK, zB, zBl, zBb, zlg, zA, zA3, zL3, km31, km63, klshr, kishr, k2p, kl1shl, klmask, kland1, kiand1, k_l2i, zrt_b, zrt_0, zrt_1, zdv_n, zdv_l, es, t_inN, k1, k2, ec, hh]
        · rw [if_neg (fun q => e3 q.2)]
          simp (disch := omega) only [eX3_readsSign, uX3_readsSign, mG, mP hα, mR hα, mW hα, mgs, zKK, zB, zBl, zBb, zlg, zA, zA3, zL3, km31, km63, klshr, kishr, k2p, kl1shl, klmask, kland1, kiand1, k_l2i, zrt_b, zrt_0, zrt_1, zdv_n, zdv_l, es, t_inN, k1, k2, ec]
      · have k2 : kbd (nI c) 97 122 = false := kbd_f (kbt_n (by omega) (by omega))
        rw [if_neg e2, if_neg (fun q => by omega)]
        have en : ((-1 : Int32) < nI 0) = True := eq_true (by decide)
        simp (disch := omega) only [eX3_readsSign, uX3_readsSign, mG, mP hα, mR hα, mW hα, mgs, zKK, zB, zBl, zBb, zlg, zA, zA3, zL3, km31, km63, klshr, kishr, k2p, kl1shl, klmask, kland1, kiand1, k_l2i, zrt_b, zrt_0, zrt_1, zdv_n, zdv_l, es, t_inN, k1, k2, en]
  · rw [show ksee T i = -1 by unfold ksee; rw [if_neg e]] at es
    rw [if_neg (fun q => e q.1)]
    have en : ((-1 : Int32) < nI 0) = True := eq_true (by decide)
    simp (disch := omega) only [eX3_readsSign, uX3_readsSign, mG, mP hα, mR hα, mW hα, mgs, zKK, zB, zBl, zBb, zlg, zA, zA3, zL3, km31, km63, klshr, kishr, k2p, kl1shl, klmask, kland1, kiand1, k_l2i, zrt_b, zrt_0, zrt_1, zdv_n, zdv_l, es, t_ini, kbd_n1, en]
/-- eight signs make a mark -/
def khx (T : List Nat) : Nat → Nat → Nat → Option Nat × Nat
  | 0, i, v => (some v, i)
  | n + 1, i, v => match ksv T i 16 with
    | none => (none, i)
    | some d => khx T n (i + 1) (16 * v + d)
theorem khx_ok (T : List Nat) (n : Nat) : ∀ i v, i ≤ T.length → i ≤ (khx T n i v).2 ∧ (khx T n i v).2 ≤ T.length ∧ (∀ m, (khx T n i v).1 = some m → (khx T n i v).2 = i + n ∧ (v < 16 ^ (8 - n) → n ≤ 8 → m < 4294967296)) := by
  induction n with
  | zero => intro i v hi; exact ⟨Nat.le_refl _, hi, fun m q => by cases q; exact ⟨rfl, fun w _ => w⟩⟩
  | succ n ih =>
    intro i v hi
    unfold khx
    cases e : ksv T i 16 with
    | none => exact ⟨Nat.le_refl _, hi, (fun m q => by cases q)⟩
    | some d =>
      obtain ⟨e1, e2⟩ := ksv_lt e
      obtain ⟨g1, g2, g3⟩ := ih (i + 1) (16 * v + d) (by omega)
      refine ⟨by show i ≤ (khx T n (i + 1) (16 * v + d)).2; omega, g2, fun m q => ?_⟩
      obtain ⟨g4, g5⟩ := g3 m q
      refine ⟨by show (khx T n (i + 1) (16 * v + d)).2 = _; omega, fun w hn => g5 ?_ (by omega)⟩
      have : 8 - n = 8 - (n + 1) + 1 := by omega
      rw [this, Nat.pow_succ]
      omega
theorem t_hex_loop {α : Nat → Nat} (hα : mD α) (h : zH) {T : List Nat} (n : Nat) : ∀ (k i v : Nat) (u : Value) (σ : mS), k + n = 8 → mTx T σ → σ.hr = i → i ≤ T.length → ∃ τ u', zs PG mX3_readsMarks 34 [.ref (α 0), .long (lN v), zJ, .int (nI k), u] [] (mH α σ h) = (match (khx T n i v).1 with
    | none => some (.inl (some (.int (zb false))), mH α τ h)
    | some m => zs PG mX3_readsMarks 72 [.ref (α 0), .long (lN m), zJ, .int (nI 8), u'] [] (mH α τ h)) ∧ mPe σ τ ∧ τ.hr = (khx T n i v).2 := by
  induction n with
  | zero =>
    intro k i v u σ hk hT hh hi
    have hk : k = 8 := by omega
    subst hk
    refine ⟨σ, u, ?_, mPe.rf σ, hh⟩
    unfold khx
    rw [uX3_readsMarks_at34]
    simp (disch := omega) only [uX3_readsMarks_at35, uX3_readsMarks_at37, mG, mP hα, mR hα, mW hα, mgs, zKK, zB, zBl, zBb, zlg, zA, zA3, zL3, km31, km63, klshr, kishr, k2p, kl1shl, klmask, kland1, kiand1, k_l2i, zrt_b, zrt_0, zrt_1, zdv_n, zdv_l]
  | succ n ih =>
    intro k i v u σ hk hT hh hi
    have es := t_readsSign hα σ h hT hh hi (b := 16) (by decide)
    unfold khx
    rw [uX3_readsMarks_at34]
    cases e : ksv T i 16 with
    | none =>
      rw [e] at es
      dsimp only at es
      refine ⟨σ, u, ?_, mPe.rf σ, hh⟩
      dsimp only
      simp (disch := omega) only [uX3_readsMarks_p0, uX3_readsMarks_p1, mG, mP hα, mR hα, mW hα, mgs, zKK, zB, zBl, zBb, zlg, zA, zA3, zL3, km31, km63, klshr, kishr, k2p, kl1shl, klmask, kland1, kiand1, k_l2i, zrt_b, zrt_0, zrt_1, zdv_n, zdv_l, es, zb_f]
    | some d =>
      rw [e] at es
      dsimp only at es
      obtain ⟨e1, e2⟩ := ksv_lt e
      obtain ⟨τ, u', r1, r2, r3⟩ := ih (k + 1) (i + 1) (16 * v + d) (.int (nI d)) (σ.s_hr (i + 1)) (by omega) (hT.pe (mPe_hr σ _)) (by simp only [mgs]) (by omega)
      refine ⟨τ, u', ?_, (mPe_hr σ _).trans r2, r3⟩
      dsimp only
      rw [← r1]
      have en : (nI d = (-1 : Int32)) = False := eq_false (fun q => by
        have := congrArg Int32.toInt q
        rw [nI_toInt (by omega)] at this
        have h1 : ((-1 : Int32)).toInt = -1 := by decide
        omega)
      simp (disch := omega) only [uX3_readsMarks_at35, uX3_readsMarks_at37, uX3_readsMarks_at40, uX3_readsMarks_at41, uX3_readsMarks_at43, uX3_readsMarks_at46, uX3_readsMarks_at48, uX3_readsMarks_at50, uX3_readsMarks_at51, uX3_readsMarks_at56, uX3_readsMarks_at59, uX3_readsMarks_at60, uX3_readsMarks_at61, uX3_readsMarks_at63, uX3_readsMarks_at64, uX3_readsMarks_at65, uX3_readsMarks_at66, uX3_readsMarks_at69, mG, mP hα, mR hα, mW hα, mgs, zKK, zB, zBl, zBb, zlg, zA, zA3, zL3, km31, km63, klshr, kishr, k2p, kl1shl, klmask, kland1, kiand1, k_l2i, zrt_b, zrt_0, zrt_1, zdv_n, zdv_l, es, en]
