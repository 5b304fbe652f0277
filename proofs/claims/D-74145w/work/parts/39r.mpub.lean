/-! a counter is read -/
theorem ksee_kbd (T : List Nat) (i : Nat) (h4 : ∀ x ∈ T, x < 256) {lo hi : Nat} (h1 : lo < 256) (h2 : hi < 256) (e : ¬ (i < T.length ∧ lo ≤ T.getD i 0 ∧ T.getD i 0 ≤ hi)) : kbd (ksee T i) lo hi = false := by
  unfold ksee
  by_cases e1 : i < T.length
  · have hb : T.getD i 0 < 256 := h4 _ (kget_mem e1)
    rw [if_pos e1]
    exact kbd_f (kbt_n (by omega) (by omega))
  · rw [if_neg e1, kbd_n1]
theorem ksee_p {T : List Nat} {i : Nat} (e : i < T.length) : ksee T i = nI (T.getD i 0) := by unfold ksee; rw [if_pos e]
def kctr (T : List Nat) : Option kC × Nat := if 0 < T.length ∧ 52 ≤ T.getD 0 0 ∧ T.getD 0 0 ≤ 56 then (if 1 < T.length ∧ 49 ≤ T.getD 1 0 ∧ T.getD 1 0 ≤ 57 then (if 2 < T.length ∧ 48 ≤ T.getD 2 0 ∧ T.getD 2 0 ≤ 57 then (if 48 < 10 * (T.getD 1 0 - 48) + T.getD 2 0 - 48 then (none, 2) else krt T (T.getD 0 0 - 48) (10 * (T.getD 1 0 - 48) + T.getD 2 0 - 48) 3) else krt T (T.getD 0 0 - 48) (T.getD 1 0 - 48) 2) else (none, 1)) else (none, 0)
theorem mhr2 (σ : mS) (a b : Nat) : (σ.s_hr a).s_hr b = σ.s_hr b := rfl
theorem t_readsCounter {α : Nat → Nat} (hα : mD α) (σ : mS) (h : zH) {S : kS} {T : List Nat} (hR : mRe S T σ) (hh : σ.hr = 0) : ∃ τ, zc PG mX3_readsCounter [.ref (α 0)] (mH α σ h) = some (.inl (some (.int (zb (kctr T).1.isSome))), mH α τ h) ∧ mRe S T τ ∧ τ.hr = (kctr T).2 ∧ (∀ C, (kctr T).1 = some C → mSl τ 9 C ∧ kI C) := by
  have h4 := hR.2.2.2.2
  have es := t_sees hα σ h hR.2 (by rw [hh]; exact Nat.zero_le _)
  rw [hh] at es
  unfold kctr
  by_cases e0 : 0 < T.length ∧ 52 ≤ T.getD 0 0 ∧ T.getD 0 0 ≤ 56
  · rw [if_pos e0]
    have k0 := kbd_nI e0.2.1 e0.2.2 (by omega)
    rw [ksee_p e0.1] at es
    have R1 := hR.pe (mPe_hr σ 1)
    have es1 := t_sees hα (σ.s_hr 1) h R1.2 (by simp only [mgs]; omega)
    simp only [mgs] at es1
    by_cases e1 : 1 < T.length ∧ 49 ≤ T.getD 1 0 ∧ T.getD 1 0 ≤ 57
    · rw [if_pos e1]
      have k1 := kbd_nI e1.2.1 e1.2.2 (by omega)
      rw [ksee_p e1.1] at es1
      have R2 := hR.pe (mPe_hr σ 2)
      have es2 := t_sees hα (σ.s_hr 2) h R2.2 (by simp only [mgs]; omega)
      simp only [mgs] at es2
      generalize T.getD 0 0 = c0 at e0 es k0 ⊢
      generalize T.getD 1 0 = c1 at e1 es1 k1 ⊢
      by_cases e2 : 2 < T.length ∧ 48 ≤ T.getD 2 0 ∧ T.getD 2 0 ≤ 57
      · rw [if_pos e2]
        have k2 := kbd_nI e2.2.1 e2.2.2 (by omega)
        rw [ksee_p e2.1] at es2
        generalize T.getD 2 0 = c2 at e2 es2 k2 ⊢
        by_cases e3 : 48 < 10 * (c1 - 48) + c2 - 48
        · rw [if_pos e3]
          refine ⟨_, ?_, R2, by simp only [mgs], (fun M q => by cases q)⟩
          simp (disch := omega) only [eX3_readsCounter, uX3_readsCounter_p0, uX3_readsCounter_p1, mG, mP hα, mR hα, mW hα, mgs, zKK, zB, zBl, zBb, zlg, zA, zA3, zL3, km31, km63, klshr, kishr, k2p, kl1shl, klmask, kland1, kiand1, k_l2i, zrt_b, zrt_0, zrt_1, zdv_n, zdv_l, es, t_inN, k0, hh, es1, k1, mhr2, Nat.reduceAdd, es2, k2, Option.isSome_none, zb_f]
        · rw [if_neg e3]
          obtain ⟨τ, r1, r2, r3, r4⟩ := t_rest hα h (S := S) (T := T) (p := c0 - 48) (l := 10 * (c1 - 48) + c2 - 48) (by omega) (by omega) (by omega) (by omega) (σ.s_hr 3) (i := 3) (hR.pe (mPe_hr σ 3)) (by simp only [mgs]) (by omega)
          refine ⟨τ, ?_, r2, r3, r4⟩
          rw [← r1]
          simp (disch := omega) only [eX3_readsCounter, uX3_readsCounter_at0, mG, mP hα, mR hα, mW hα, mgs, zKK, zB, zBl, zBb, zlg, zA, zA3, zL3, km31, km63, klshr, kishr, k2p, kl1shl, klmask, kland1, kiand1, k_l2i, zrt_b, zrt_0, zrt_1, zdv_n, zdv_l, es, t_inN, k0, hh, es1, k1, mhr2, Nat.reduceAdd, es2, k2, uX3_readsCounter_at1, uX3_readsCounter_at4, uX3_readsCounter_at5, uX3_readsCounter_at8, uX3_readsCounter_at11, uX3_readsCounter_at14, uX3_readsCounter_at17, uX3_readsCounter_at18, uX3_readsCounter_at19, uX3_readsCounter_at20, uX3_readsCounter_at23, uX3_readsCounter_at25, uX3_readsCounter_at26, uX3_readsCounter_at27, uX3_readsCounter_at28, uX3_readsCounter_at29, uX3_readsCounter_at32, uX3_readsCounter_at33, uX3_readsCounter_at34, uX3_readsCounter_at37, uX3_readsCounter_at38, uX3_readsCounter_at41, uX3_readsCounter_at42, uX3_readsCounter_at45, uX3_readsCounter_at48, uX3_readsCounter_at51, uX3_readsCounter_at54, uX3_readsCounter_at55, uX3_readsCounter_at56, uX3_readsCounter_at57, uX3_readsCounter_at60, uX3_readsCounter_at62, uX3_readsCounter_at63, uX3_readsCounter_at64, uX3_readsCounter_at65, uX3_readsCounter_at66, uX3_readsCounter_at69, uX3_readsCounter_at70, uX3_readsCounter_at71, uX3_readsCounter_at74, uX3_readsCounter_at75, uX3_readsCounter_at78, uX3_readsCounter_at79, uX3_readsCounter_at82, uX3_readsCounter_at85, uX3_readsCounter_at88, uX3_readsCounter_at91, uX3_readsCounter_at93, uX3_readsCounter_at94, uX3_readsCounter_at95, uX3_readsCounter_at96, uX3_readsCounter_at99, uX3_readsCounter_at100, uX3_readsCounter_at102, uX3_readsCounter_at103, uX3_readsCounter_at104, uX3_readsCounter_at105, uX3_readsCounter_at107, uX3_readsCounter_at110, uX3_readsCounter_at111, uX3_readsCounter_at112, uX3_readsCounter_at113, uX3_readsCounter_at114, uX3_readsCounter_at117, uX3_readsCounter_at118, uX3_readsCounter_at119]
      · rw [if_neg e2]
        have k2 := ksee_kbd T 2 h4 (by decide) (by decide) e2
        obtain ⟨τ, r1, r2, r3, r4⟩ := t_rest hα h (S := S) (T := T) (p := c0 - 48) (l := c1 - 48) (by omega) (by omega) (by omega) (by omega) (σ.s_hr 2) (i := 2) R2 (by simp only [mgs]) (by omega)
        refine ⟨τ, ?_, r2, r3, r4⟩
        rw [← r1]
        simp (disch := omega) only [eX3_readsCounter, uX3_readsCounter_at0, mG, mP hα, mR hα, mW hα, mgs, zKK, zB, zBl, zBb, zlg, zA, zA3, zL3, km31, km63, klshr, kishr, k2p, kl1shl, klmask, kland1, kiand1, k_l2i, zrt_b, zrt_0, zrt_1, zdv_n, zdv_l, es, t_inN, t_ini, k0, hh, es1, k1, mhr2, Nat.reduceAdd, es2, k2, uX3_readsCounter_at1, uX3_readsCounter_at4, uX3_readsCounter_at5, uX3_readsCounter_at8, uX3_readsCounter_at11, uX3_readsCounter_at14, uX3_readsCounter_at17, uX3_readsCounter_at18, uX3_readsCounter_at19, uX3_readsCounter_at20, uX3_readsCounter_at23, uX3_readsCounter_at25, uX3_readsCounter_at26, uX3_readsCounter_at27, uX3_readsCounter_at28, uX3_readsCounter_at29, uX3_readsCounter_at32, uX3_readsCounter_at33, uX3_readsCounter_at34, uX3_readsCounter_at37, uX3_readsCounter_at38, uX3_readsCounter_at41, uX3_readsCounter_at42, uX3_readsCounter_at45, uX3_readsCounter_at48, uX3_readsCounter_at51, uX3_readsCounter_at54, uX3_readsCounter_at55, uX3_readsCounter_at56, uX3_readsCounter_at57, uX3_readsCounter_at60, uX3_readsCounter_at62, uX3_readsCounter_at63, uX3_readsCounter_at64, uX3_readsCounter_at65, uX3_readsCounter_at66, uX3_readsCounter_at69, uX3_readsCounter_at70, uX3_readsCounter_at71, uX3_readsCounter_at74, uX3_readsCounter_at75, uX3_readsCounter_at78, uX3_readsCounter_at79, uX3_readsCounter_at82, uX3_readsCounter_at85, uX3_readsCounter_at88, uX3_readsCounter_at91, uX3_readsCounter_at93, uX3_readsCounter_at94, uX3_readsCounter_at95, uX3_readsCounter_at96, uX3_readsCounter_at99, uX3_readsCounter_at100, uX3_readsCounter_at102, uX3_readsCounter_at103, uX3_readsCounter_at104, uX3_readsCounter_at105, uX3_readsCounter_at107, uX3_readsCounter_at110, uX3_readsCounter_at111, uX3_readsCounter_at112, uX3_readsCounter_at113, uX3_readsCounter_at114, uX3_readsCounter_at117, uX3_readsCounter_at118, uX3_readsCounter_at119]
    · rw [if_neg e1]
      have k1 := ksee_kbd T 1 h4 (by decide) (by decide) e1
      refine ⟨_, ?_, R1, by simp only [mgs], (fun M q => by cases q)⟩
      simp (disch := omega) only [eX3_readsCounter, uX3_readsCounter_p0, uX3_readsCounter_p1, mG, mP hα, mR hα, mW hα, mgs, zKK, zB, zBl, zBb, zlg, zA, zA3, zL3, km31, km63, klshr, kishr, k2p, kl1shl, klmask, kland1, kiand1, k_l2i, zrt_b, zrt_0, zrt_1, zdv_n, zdv_l, es, t_inN, t_ini, k0, hh, es1, k1, Option.isSome_none, zb_f]
  · rw [if_neg e0]
    have k0 := ksee_kbd T 0 h4 (by decide) (by decide) e0
    refine ⟨σ, ?_, hR, hh, (fun M q => by cases q)⟩
    simp (disch := omega) only [eX3_readsCounter, uX3_readsCounter_p0, uX3_readsCounter_p1, mG, mP hα, mR hα, mW hα, mgs, zKK, zB, zBl, zBb, zlg, zA, zA3, zL3, km31, km63, klshr, kishr, k2p, kl1shl, klmask, kland1, kiand1, k_l2i, zrt_b, zrt_0, zrt_1, zdv_n, zdv_l, es, t_ini, k0, Option.isSome_none, zb_f]
def q_reads (S : kS) (c : Int32) : Int32 × kS := match kctr S.t with
  | (none, q) => ((-2000) - nI q, S.s_t [])
  | (some C, _) => if kbd c 0 5 then (nI (kguess C), (S.s_t []).s_c (kN c) C) else (-1, S.s_t [])
theorem M_reads {α : Nat → Nat} (hα : mD α) (σ : mS) (h : zH) {S : kS} (hR : mR6 S σ) (hI : kSI S) (c : Int32) : ∃ σ', zc PG mX3_reads [.ref (α 0), .int c] (mH α σ h) = some (.inl (some (.int (q_reads S c).1)), mH α σ' h) ∧ mR6 (q_reads S c).2 σ' := by
  unfold q_reads
  obtain ⟨τ1, q1, R1, T1, hr1⟩ := t_begin hα (σ.s_th 0) h (hR.th 0) hI
  obtain ⟨τ2, q2, R2, hr2, hM⟩ := t_readsCounter hα τ1 h (S := S.s_t []) (T := S.t) ⟨R1, T1⟩ hr1
  cases ek : kctr S.t with
  | mk o p =>
    rw [ek] at q2 hr2 hM
    cases o with
    | none =>
      have hr2 : τ2.hr = p := hr2
      refine ⟨τ2, ?_, R2.1⟩
      simp (disch := omega) only [eX3_reads, uX3_reads, mG, mP hα, mR hα, mW hα, mgs, zKK, zB, zBl, zBb, zlg, zA, zA3, zL3, km31, km63, klshr, kishr, k2p, kl1shl, klmask, kland1, kiand1, k_l2i, zrt_b, zrt_0, zrt_1, zdv_n, zdv_l, q1, q2, Option.isSome_none, hr2]
    | some C =>
      obtain ⟨sC, iC⟩ := hM C rfl
      rcases kbd_cases c 0 5 with e1 | ⟨c, -, hc, rfl⟩
      · simp only [e1, Bool.false_eq_true, if_false]
        refine ⟨τ2, ?_, R2.1⟩
        simp (disch := omega) only [eX3_reads, uX3_reads, mG, mP hα, mR hα, mW hα, mgs, zKK, zB, zBl, zBb, zlg, zA, zA3, zL3, km31, km63, klshr, kishr, k2p, kl1shl, klmask, kland1, kiand1, k_l2i, zrt_b, zrt_0, zrt_1, zdv_n, zdv_l, q1, q2, Option.isSome_some, t_isCounter, e1]
      · have e1 := kbd_nI (Nat.zero_le c) hc (by omega)
        simp only [e1, if_true]
        rw [kN_nI (by omega)]
        obtain ⟨σ3, r1, r2, r3⟩ := t_copiesSlot hα τ2 h (f := 9) (t := c) (by decide) (by omega) (by omega) sC
        have eg := t_guessOf hα σ3 h r2 iC (by omega)
        refine ⟨_, ?_, (R2.1.one r3 r2).fr (mFr_hw mHi σ3 (if C.d then khow C.p (kz C) else 0))⟩
        simp (disch := omega) only [eX3_reads, uX3_reads, mG, mP hα, mR hα, mW hα, mgs, zKK, zB, zBl, zBb, zlg, zA, zA3, zL3, km31, km63, klshr, kishr, k2p, kl1shl, klmask, kland1, kiand1, k_l2i, zrt_b, zrt_0, zrt_1, zdv_n, zdv_l, q1, q2, Option.isSome_some, t_isCounter, e1, r1, eg]
