/-! THE MODEL's PUBLIC METHODS: what they tell -/
theorem mRd.eqs {σ τ : mS} {c : Nat} {C : kC} (h : mRd σ c C) (e1 : τ.bi = σ.bi) (e2 : τ.ra = σ.ra) : mRd τ c C := by
  unfold mRd at h ⊢
  rw [e1, e2]
  exact h
theorem khow_le (p z : Nat) : khow p z ≤ 2 := by unfold khow; split <;> omega
theorem kz_le {C : kC} (h8 : C.p ≤ 8) : kz C ≤ 256 := by have := k2p_le h8; unfold kz; omega
theorem mSl.eq {σ : mS} {c : Nat} {C : kC} (h : mSl (σ.s_th 0) c C) : σ.bi c = C.p ∧ σ.li c = C.l ∧ σ.de c = C.d ∧ σ.mm c = C.m.length ∧ (∀ k, k < C.m.length → σ.ma (64 * c + k) = C.m.getD k 0) ∧ (∀ x, x < 256 → σ.ra (256 * c + x) = C.r x) := by
  unfold mSl at h
  simp only [mgs] at h
  exact ⟨h.1, h.2.1, h.2.2.1, h.2.2.2.1, h.2.2.2.2.1, h.2.2.2.2.2.1⟩
def q_guess (S : kS) (c : Int32) : Int32 × kS := if kbd c 0 5 then (nI (kguess (S.c (kN c))), S.s_w [lN (if (S.c (kN c)).d then khow (S.c (kN c)).p (kz (S.c (kN c))) else 0), lN (kz (S.c (kN c)))]) else (-1, S)
theorem M_guess {α : Nat → Nat} (hα : mD α) (σ : mS) (h : zH) {S : kS} (hR : mR6 S σ) (hI : kSI S) (c : Int32) : ∃ σ', zc PG mX3_guess [.ref (α 0), .int c] (mH α σ h) = some (.inl (some (.int (q_guess S c).1)), mH α σ' h) ∧ mR6 (q_guess S c).2 σ' := by
  unfold q_guess
  rcases kbd_cases c 0 5 with e1 | ⟨c, -, hc, rfl⟩
  · simp only [e1, Bool.false_eq_true, if_false]
    refine ⟨_, ?_, hR.th 0⟩
    simp (disch := omega) only [eX3_guess, uX3_guess, mG, mP hα, mR hα, mW hα, mgs, zKK, zB, zBl, zBb, zlg, zA, zA3, zL3, km31, km63, klshr, kishr, k2p, kl1shl, klmask, kland1, kiand1, k_l2i, zrt_b, zrt_0, zrt_1, zdv_n, zdv_l, t_isCounter, e1]
  · have e1 := kbd_nI (Nat.zero_le c) hc (by omega)
    simp only [e1, if_true]
    rw [kN_nI (by omega)]
    have hR0 := hR.th 0
    have sC := hR0.1 c (by omega)
    have iC := hI.1 c (by omega)
    have eg := t_guessOf hα _ h sC iC (by omega)
    have rd := sC.rd iC (by omega)
    have hz : ∀ τ : mS, τ.bi = (σ.s_th 0).bi → τ.ra = (σ.s_th 0).ra → zc PG mX3_zeros [.ref (α 0), .int (nI c)] (mH α τ h) = some (.inl (some (.int (nI (kz (S.c c))))), mH α τ h) := fun τ q1 q2 => t_zeros hα τ h (rd.eqs q1 q2)
    have b1 := khow_le (S.c c).p (kz (S.c c))
    have b2 := kz_le iC.2.1
    have b3 : (if (S.c c).d = true then khow (S.c c).p (kz (S.c c)) else 0) ≤ 2 := by split <;> omega
    refine ⟨_, ?_, (((hR0.hw (if (S.c c).d then khow (S.c c).p (kz (S.c c)) else 0)).rm0).tell (lN (if (S.c c).d then khow (S.c c).p (kz (S.c c)) else 0))).tell (lN (kz (S.c c)))⟩
    simp (disch := first | omega | simp only [mgs]) only [eX3_guess, uX3_guess, mG, mP hα, mR hα, mW hα, mgs, zKK, zB, zBl, zBb, zlg, zA, zA3, zL3, km31, km63, klshr, kishr, k2p, kl1shl, klmask, kland1, kiand1, k_l2i, zrt_b, zrt_0, zrt_1, zdv_n, zdv_l, t_isCounter, e1, eg, t_tell_s hα, hz]
def q_roughly (S : kS) (c : Int32) : Int32 × kS := if kbd c 0 5 then (nI (kdg (S.c (kN c))), S.s_w [lN (khow (S.c (kN c)).p (kz (S.c (kN c)))), lN (kz (S.c (kN c)))]) else (-1, S)
theorem M_roughly {α : Nat → Nat} (hα : mD α) (σ : mS) (h : zH) {S : kS} (hR : mR6 S σ) (hI : kSI S) (c : Int32) : ∃ σ', zc PG mX3_roughly [.ref (α 0), .int c] (mH α σ h) = some (.inl (some (.int (q_roughly S c).1)), mH α σ' h) ∧ mR6 (q_roughly S c).2 σ' := by
  unfold q_roughly
  rcases kbd_cases c 0 5 with e1 | ⟨c, -, hc, rfl⟩
  · simp only [e1, Bool.false_eq_true, if_false]
    refine ⟨_, ?_, hR.th 0⟩
    simp (disch := omega) only [eX3_roughly, uX3_roughly, mG, mP hα, mR hα, mW hα, mgs, zKK, zB, zBl, zBb, zlg, zA, zA3, zL3, km31, km63, klshr, kishr, k2p, kl1shl, klmask, kland1, kiand1, k_l2i, zrt_b, zrt_0, zrt_1, zdv_n, zdv_l, t_isCounter, e1]
  · have e1 := kbd_nI (Nat.zero_le c) hc (by omega)
    simp only [e1, if_true]
    rw [kN_nI (by omega)]
    have hR0 := hR.th 0
    have sC := hR0.1 c (by omega)
    have iC := hI.1 c (by omega)
    have rd := sC.rd iC (by omega)
    have eg := t_denseGuess hα _ h rd
    have hz : ∀ τ : mS, τ.bi = (σ.s_th 0).bi → τ.ra = (σ.s_th 0).ra → zc PG mX3_zeros [.ref (α 0), .int (nI c)] (mH α τ h) = some (.inl (some (.int (nI (kz (S.c c))))), mH α τ h) := fun τ q1 q2 => t_zeros hα τ h (rd.eqs q1 q2)
    have b1 := khow_le (S.c c).p (kz (S.c c))
    have b2 := kz_le iC.2.1
    refine ⟨_, ?_, (((hR0.hw (khow (S.c c).p (kz (S.c c)))).rm0).tell (lN (khow (S.c c).p (kz (S.c c))))).tell (lN (kz (S.c c)))⟩
    simp (disch := first | omega | simp only [mgs]) only [eX3_roughly, uX3_roughly, mG, mP hα, mR hα, mW hα, mgs, zKK, zB, zBl, zBb, zlg, zA, zA3, zL3, km31, km63, klshr, kishr, k2p, kl1shl, klmask, kland1, kiand1, k_l2i, zrt_b, zrt_0, zrt_1, zdv_n, zdv_l, t_isCounter, e1, eg, t_tell_s hα, hz]
def q_form (S : kS) (c w : Int32) : Int32 := if kbd c 0 5 then (if kbd w 0 5 then (match kN w with | 0 => nI (S.c (kN c)).p | 1 => nI (S.c (kN c)).l | 2 => zb (S.c (kN c)).d | 3 => (if (S.c (kN c)).d then -1 else nI (S.c (kN c)).m.length) | 4 => nI (kgr (S.c (kN c)).r (2 ^ (S.c (kN c)).p)) | _ => nI (kz (S.c (kN c)))) else -1) else -1
theorem zsw_out {lo : Nat} {ts : List Nat} {d : Nat} {x : Int32} (h : kbd x lo (lo + ts.length - 1) = false) (hl : 0 < ts.length) : zsw lo ts d x = d := by
  have h : ¬ ((lo : Int) ≤ x.toInt ∧ x.toInt ≤ ((lo + ts.length - 1 : Nat) : Int)) := by
    intro q
    have := kbd_t (x := x) (lo := lo) (hi := lo + ts.length - 1) q
    rw [h] at this
    cases this
  unfold zsw
  by_cases e : x.toInt < lo
  · rw [if_pos e]
  · rw [if_neg e]
    have : ∀ (l : List Nat) (n : Nat), l.length ≤ n → znth l n = none := by
      intro l
      induction l with
      | nil => intro n _; rfl
      | cons a l ih =>
        intro n hn
        cases n with
        | zero => simp at hn
        | succ n => exact ih n (by simp at hn; omega)
    rw [this ts _ (by omega)]
    rfl
theorem M_form {α : Nat → Nat} (hα : mD α) (σ : mS) (h : zH) {S : kS} (hR : mR6 S σ) (hI : kSI S) (c w : Int32) : ∃ σ', zc PG mX3_form [.ref (α 0), .int c, .int w] (mH α σ h) = some (.inl (some (.int (q_form S c w))), mH α σ' h) ∧ mR6 S σ' := by
  unfold q_form
  refine ⟨_, ?_, hR.th 0⟩
  rcases kbd_cases c 0 5 with e1 | ⟨c, -, hc, rfl⟩
  · simp only [e1, Bool.false_eq_true, if_false]
    simp (disch := omega) only [eX3_form, uX3_form, mG, mP hα, mR hα, mW hα, mgs, zKK, zB, zBl, zBb, zlg, zA, zA3, zL3, km31, km63, klshr, kishr, k2p, kl1shl, klmask, kland1, kiand1, k_l2i, zrt_b, zrt_0, zrt_1, zdv_n, zdv_l, t_isCounter, e1]
  · have e1 := kbd_nI (Nat.zero_le c) hc (by omega)
    simp only [e1, if_true]
    rw [kN_nI (by omega)]
    have hR0 := hR.th 0
    have sC := hR0.1 c (by omega)
    have iC := hI.1 c (by omega)
    have rd := sC.rd iC (by omega)
    have eg := t_greatest hα _ h rd
    have ez := t_zeros hα _ h rd
    obtain ⟨g1, g2, g3, g4, g5, g6⟩ := sC.eq
    rcases kbd_cases w 0 5 with e2 | ⟨w, -, hw, rfl⟩
    · have es := zsw_out (lo := 0) (ts := [52, 59, 66, 81, 101, 107]) (d := 113) (x := w) e2 (by decide)
      simp only [e2, Bool.false_eq_true, if_false]
      simp (disch := omega) only [eX3_form, uX3_form, mG, mP hα, mR hα, mW hα, mgs, zKK, zB, zBl, zBb, zlg, zA, zA3, zL3, km31, km63, klshr, kishr, k2p, kl1shl, klmask, kland1, kiand1, k_l2i, zrt_b, zrt_0, zrt_1, zdv_n, zdv_l, t_isCounter, e1, es]
    · have e2 := kbd_nI (Nat.zero_le w) hw (by omega)
      simp only [e2, if_true]
      rw [kN_nI (by omega)]
      have h' : w = 0 ∨ w = 1 ∨ w = 2 ∨ w = 3 ∨ w = 4 ∨ w = 5 := by omega
      rcases h' with rfl | rfl | rfl | rfl | rfl | rfl
      · simp (disch := omega) only [eX3_form, uX3_form, mG, mP hα, mR hα, mW hα, mgs, zKK, zB, zBl, zBb, zlg, zA, zA3, zL3, km31, km63, klshr, kishr, k2p, kl1shl, klmask, kland1, kiand1, k_l2i, zrt_b, zrt_0, zrt_1, zdv_n, zdv_l, t_isCounter, e1, show zsw 0 [52, 59, 66, 81, 101, 107] 113 (nI 0) = 52 by decide, g1]
      · simp (disch := omega) only [eX3_form, uX3_form, mG, mP hα, mR hα, mW hα, mgs, zKK, zB, zBl, zBb, zlg, zA, zA3, zL3, km31, km63, klshr, kishr, k2p, kl1shl, klmask, kland1, kiand1, k_l2i, zrt_b, zrt_0, zrt_1, zdv_n, zdv_l, t_isCounter, e1, show zsw 0 [52, 59, 66, 81, 101, 107] 113 (nI 1) = 59 by decide, g2]
      · cases hd : (S.c c).d with
        | true => rw [hd] at g3; simp (disch := omega) only [eX3_form, uX3_form, mG, mP hα, mR hα, mW hα, mgs, zKK, zB, zBl, zBb, zlg, zA, zA3, zL3, km31, km63, klshr, kishr, k2p, kl1shl, klmask, kland1, kiand1, k_l2i, zrt_b, zrt_0, zrt_1, zdv_n, zdv_l, t_isCounter, e1, show zsw 0 [52, 59, 66, 81, 101, 107] 113 (nI 2) = 66 by decide, g3, zb_t]
        | false => rw [hd] at g3; simp (disch := omega) only [eX3_form, uX3_form, mG, mP hα, mR hα, mW hα, mgs, zKK, zB, zBl, zBb, zlg, zA, zA3, zL3, km31, km63, klshr, kishr, k2p, kl1shl, klmask, kland1, kiand1, k_l2i, zrt_b, zrt_0, zrt_1, zdv_n, zdv_l, t_isCounter, e1, show zsw 0 [52, 59, 66, 81, 101, 107] 113 (nI 2) = 66 by decide, g3, zb_f]
      · cases hd : (S.c c).d with
        | true => rw [hd] at g3; simp (disch := omega) only [eX3_form, uX3_form, mG, mP hα, mR hα, mW hα, mgs, zKK, zB, zBl, zBb, zlg, zA, zA3, zL3, km31, km63, klshr, kishr, k2p, kl1shl, klmask, kland1, kiand1, k_l2i, zrt_b, zrt_0, zrt_1, zdv_n, zdv_l, t_isCounter, e1, show zsw 0 [52, 59, 66, 81, 101, 107] 113 (nI 3) = 81 by decide, g3, if_true]
        | false => rw [hd] at g3; simp (disch := omega) only [eX3_form, uX3_form, mG, mP hα, mR hα, mW hα, mgs, zKK, zB, zBl, zBb, zlg, zA, zA3, zL3, km31, km63, klshr, kishr, k2p, kl1shl, klmask, kland1, kiand1, k_l2i, zrt_b, zrt_0, zrt_1, zdv_n, zdv_l, t_isCounter, e1, show zsw 0 [52, 59, 66, 81, 101, 107] 113 (nI 3) = 81 by decide, g3, g4, Bool.false_eq_true, if_false]
      · simp (disch := omega) only [eX3_form, uX3_form, mG, mP hα, mR hα, mW hα, mgs, zKK, zB, zBl, zBb, zlg, zA, zA3, zL3, km31, km63, klshr, kishr, k2p, kl1shl, klmask, kland1, kiand1, k_l2i, zrt_b, zrt_0, zrt_1, zdv_n, zdv_l, t_isCounter, e1, show zsw 0 [52, 59, 66, 81, 101, 107] 113 (nI 4) = 101 by decide, eg]
      · simp (disch := omega) only [eX3_form, uX3_form, mG, mP hα, mR hα, mW hα, mgs, zKK, zB, zBl, zBb, zlg, zA, zA3, zL3, km31, km63, klshr, kishr, k2p, kl1shl, klmask, kland1, kiand1, k_l2i, zrt_b, zrt_0, zrt_1, zdv_n, zdv_l, t_isCounter, e1, show zsw 0 [52, 59, 66, 81, 101, 107] 113 (nI 5) = 107 by decide, ez]
/-- an index below n -/
def kix (x : Int32) (n : Nat) : Bool := decide (0 ≤ x.toInt ∧ x.toInt < (n : Int))
theorem kix_cases (x : Int32) {n : Nat} (hn : n < 2147483648) : kix x n = false ∨ ∃ k, k < n ∧ x = nI k ∧ kix x n = true := by
  unfold kix
  by_cases h : 0 ≤ x.toInt ∧ x.toInt < (n : Int)
  · refine Or.inr ⟨x.toInt.toNat, by omega, ?_, decide_eq_true h⟩
    apply Int32.toInt_inj.mp
    rw [nI_toInt (by omega)]
    omega
  · exact Or.inl (decide_eq_false h)
theorem kix_l {n : Nat} (hn : n < 2147483648) : (nI n - nI 1).toInt64.toInt = (n : Int) - 1 := by
  rw [Int32.toInt_toInt64]
  by_cases h : n = 0
  · subst h; decide
  · rw [pk_sub (by omega), nI_toInt (by omega)]
    omega
theorem kix_in {x : Int32} {n : Nat} (hn : n < 2147483648) : decide (¬ x.toInt64 < lN 0 ∧ ¬ (nI n - nI 1).toInt64 < x.toInt64) = kix x n := by
  have e : (¬ x.toInt64 < lN 0 ∧ ¬ (nI n - nI 1).toInt64 < x.toInt64) ↔ (0 ≤ x.toInt ∧ x.toInt < (n : Int)) := by
    rw [Int64.lt_iff_toInt_lt, Int64.lt_iff_toInt_lt, kix_l hn, Int32.toInt_toInt64, lN_toInt (by decide)]
    omega
  unfold kix
  by_cases h : 0 ≤ x.toInt ∧ x.toInt < (n : Int)
  · rw [decide_eq_true h, decide_eq_true (e.mpr h)]
  · rw [decide_eq_false h, decide_eq_false (fun q => h (e.mp q))]
theorem t_inx (x : Int32) {n : Nat} (hn : n < 2147483648) (h : zH) : zc PG mX3_in [.long x.toInt64, .long (lN 0), .long (nI n - nI 1).toInt64] h = some (.inl (some (.int (zb (kix x n)))), h) := by
  rw [t_in, kix_in hn]
def q_rank (S : kS) (c x : Int32) : Int32 := if kbd c 0 5 && kbd x 0 (2 ^ (S.c (kN c)).p - 1) then nI ((S.c (kN c)).r (kN x)) else -1
theorem M_rank {α : Nat → Nat} (hα : mD α) (σ : mS) (h : zH) {S : kS} (hR : mR6 S σ) (hI : kSI S) (c x : Int32) : ∃ σ', zc PG mX3_rank [.ref (α 0), .int c, .int x] (mH α σ h) = some (.inl (some (.int (q_rank S c x))), mH α σ' h) ∧ mR6 S σ' := by
  unfold q_rank
  refine ⟨_, ?_, hR.th 0⟩
  rcases kbd_cases c 0 5 with e1 | ⟨c, -, hc, rfl⟩
  · simp only [e1, Bool.false_and, Bool.false_eq_true, if_false]
    simp (disch := omega) only [eX3_rank, uX3_rank, mG, mP hα, mR hα, mW hα, mgs, zKK, zB, zBl, zBb, zlg, zA, zA3, zL3, km31, km63, klshr, kishr, k2p, kl1shl, klmask, kland1, kiand1, k_l2i, zrt_b, zrt_0, zrt_1, zdv_n, zdv_l, t_isCounter, e1]
  · have e1 := kbd_nI (Nat.zero_le c) hc (by omega)
    rw [kN_nI (by omega : c < 2147483648)]
    have hR0 := hR.th 0
    have sC := hR0.1 c (by omega)
    have iC := hI.1 c (by omega)
    obtain ⟨g1, g2, g3, g4, g5, g6⟩ := sC.eq
    have p8 := k2p_le iC.2.1
    have p4 := k2p_ge iC.1
    have hp := t_places hα (σ.s_th 0) h (c := c) (by omega) (by have := sC.1; have := iC.2.1; omega)
    rw [sC.1] at hp
    rcases kbd_cases x 0 (2 ^ (S.c c).p - 1) with e2 | ⟨x, -, hx, rfl⟩
    · simp only [e1, e2, Bool.and_false, Bool.false_eq_true, if_false]
      simp (disch := omega) only [eX3_rank, uX3_rank, mG, mP hα, mR hα, mW hα, mgs, zKK, zB, zBl, zBb, zlg, zA, zA3, zL3, km31, km63, klshr, kishr, k2p, kl1shl, klmask, kland1, kiand1, k_l2i, zrt_b, zrt_0, zrt_1, zdv_n, zdv_l, t_isCounter, e1, hp, t_ini, e2]
    · have e2 := kbd_nI (Nat.zero_le x) hx (by omega)
      simp only [e1, e2, Bool.and_self, if_true]
      rw [kN_nI (by omega)]
      have g7 := g6 x (by omega)
      simp (disch := omega) only [eX3_rank, uX3_rank, mG, mP hα, mR hα, mW hα, mgs, zKK, zB, zBl, zBb, zlg, zA, zA3, zL3, km31, km63, klshr, kishr, k2p, kl1shl, klmask, kland1, kiand1, k_l2i, zrt_b, zrt_0, zrt_1, zdv_n, zdv_l, t_isCounter, e1, hp, t_inN, e2, t_at, g7]
def q_marked (S : kS) (c i : Int32) : Int64 := if kbd c 0 5 then (if (S.c (kN c)).d then (if i < nI 0 then -1 else -2) else if kix i (S.c (kN c)).m.length then lN ((S.c (kN c)).m.getD (kN i) 0) else -1) else -1
theorem M_marked {α : Nat → Nat} (hα : mD α) (σ : mS) (h : zH) {S : kS} (hR : mR6 S σ) (hI : kSI S) (c i : Int32) : ∃ σ', zc PG mX3_marked [.ref (α 0), .int c, .int i] (mH α σ h) = some (.inl (some (.long (q_marked S c i))), mH α σ' h) ∧ mR6 S σ' := by
  unfold q_marked
  refine ⟨_, ?_, hR.th 0⟩
  rcases kbd_cases c 0 5 with e1 | ⟨c, -, hc, rfl⟩
  · simp only [e1, Bool.false_eq_true, if_false]
    simp (disch := omega) only [eX3_marked, uX3_marked, mG, mP hα, mR hα, mW hα, mgs, zKK, zB, zBl, zBb, zlg, zA, zA3, zL3, km31, km63, klshr, kishr, k2p, kl1shl, klmask, kland1, kiand1, k_l2i, zrt_b, zrt_0, zrt_1, zdv_n, zdv_l, t_isCounter, e1]
  · have e1 := kbd_nI (Nat.zero_le c) hc (by omega)
    simp only [e1, if_true]
    rw [kN_nI (by omega : c < 2147483648)]
    have sC := (hR.th 0).1 c (by omega)
    have iC := hI.1 c (by omega)
    obtain ⟨g1, g2, g3, g4, g5, g6⟩ := sC.eq
    have l1 := iC.2.2.2.2.2.2.2.2.2.1
    have l2 := iC.2.2.2.1
    cases hd : (S.c c).d with
    | true =>
      rw [hd] at g3
      by_cases e : i < nI 0
      · simp (disch := omega) only [eX3_marked, uX3_marked, mG, mP hα, mR hα, mW hα, mgs, zKK, zB, zBl, zBb, zlg, zA, zA3, zL3, km31, km63, klshr, kishr, k2p, kl1shl, klmask, kland1, kiand1, k_l2i, zrt_b, zrt_0, zrt_1, zdv_n, zdv_l, t_isCounter, e1, g3, e, if_true]
      · simp (disch := omega) only [eX3_marked, uX3_marked, mG, mP hα, mR hα, mW hα, mgs, zKK, zB, zBl, zBb, zlg, zA, zA3, zL3, km31, km63, klshr, kishr, k2p, kl1shl, klmask, kland1, kiand1, k_l2i, zrt_b, zrt_0, zrt_1, zdv_n, zdv_l, t_isCounter, e1, g3, e, if_true, if_false]
    | false =>
      rw [hd] at g3
      rcases kix_cases i (n := (S.c c).m.length) (by omega) with e2 | ⟨i, hi, rfl, e2⟩
      · have hin := t_inx i (n := (S.c c).m.length) (by omega) (mH α (σ.s_th 0) h)
        rw [e2] at hin ⊢
        simp only [Bool.false_eq_true, if_false]
        simp (disch := omega) only [eX3_marked, uX3_marked, mG, mP hα, mR hα, mgs, zKK, zBb, t_isCounter, e1, g3, g4, hin]
      · have hin := t_inx (nI i) (n := (S.c c).m.length) (by omega) (mH α (σ.s_th 0) h)
        rw [e2] at hin ⊢
        rw [kN_nI (by omega)]
        have g7 := g5 i hi
        simp only [Bool.false_eq_true, if_false, if_true]
        simp (disch := omega) only [eX3_marked, uX3_marked, mG, mP hα, mR hα, mgs, zKK, zBb, zA, t_isCounter, e1, g3, g4, hin, g7]
def q_may (S : kS) (c t : Int32) : Int32 := if kbd c 0 5 then zb (!kwould (S.c (kN c)) (kmk S t)) else -1
theorem M_may {α : Nat → Nat} (hα : mD α) (σ : mS) (h : zH) {S : kS} (hR : mR6 S σ) (hI : kSI S) (c t : Int32) : ∃ σ', zc PG mX3_may [.ref (α 0), .int c, .int t] (mH α σ h) = some (.inl (some (.int (q_may S c t))), mH α σ' h) ∧ mR6 S σ' := by
  unfold q_may
  refine ⟨_, ?_, hR.th 0⟩
  rcases kbd_cases c 0 5 with e1 | ⟨c, -, hc, rfl⟩
  · simp only [e1, Bool.false_eq_true, if_false]
    simp (disch := omega) only [eX3_may, uX3_may, mG, mP hα, mR hα, mW hα, mgs, zKK, zB, zBl, zBb, zlg, zA, zA3, zL3, km31, km63, klshr, kishr, k2p, kl1shl, klmask, kland1, kiand1, k_l2i, zrt_b, zrt_0, zrt_1, zdv_n, zdv_l, t_isCounter, e1]
  · have e1 := kbd_nI (Nat.zero_le c) hc (by omega)
    simp only [e1, if_true]
    rw [kN_nI (by omega)]
    have ew := t_wouldChange hα (σ.s_th 0) h (c := c) (by omega) (kmk_lt S t) ((hR.th 0).1 c (by omega)) (hI.1 c (by omega))
    have hm := mmk_S (hR.th 0) t
    cases hw : kwould (S.c c) (kmk S t) with
    | true =>
      rw [hw] at ew
      simp (disch := omega) only [eX3_may, uX3_may, mG, mP hα, mR hα, mW hα, mgs, zKK, zB, zBl, zBb, zlg, zA, zA3, zL3, km31, km63, klshr, kishr, k2p, kl1shl, klmask, kland1, kiand1, k_l2i, zrt_b, zrt_0, zrt_1, zdv_n, zdv_l, t_isCounter, e1, t_markOf hα, hm, ew, Bool.not_true, zb_f]
    | false =>
      rw [hw] at ew
      simp (disch := omega) only [eX3_may, uX3_may, mG, mP hα, mR hα, mW hα, mgs, zKK, zB, zBl, zBb, zlg, zA, zA3, zL3, km31, km63, klshr, kishr, k2p, kl1shl, klmask, kland1, kiand1, k_l2i, zrt_b, zrt_0, zrt_1, zdv_n, zdv_l, t_isCounter, e1, t_markOf hα, hm, ew, Bool.not_false, zb_t]
def q_table (p z : Int32) : Int32 := if kbd p 4 8 && kbd z 0 (2 ^ kN p) then nI (ktb (kN p) (kN z)) else -1
theorem M_table {α : Nat → Nat} (hα : mD α) (σ : mS) (h : zH) {S : kS} (hR : mR6 S σ) (p z : Int32) : ∃ σ', zc PG mX3_table [.ref (α 0), .int p, .int z] (mH α σ h) = some (.inl (some (.int (q_table p z))), mH α σ' h) ∧ mR6 S σ' := by
  unfold q_table
  refine ⟨_, ?_, hR.th 0⟩
  rcases kbd_cases p 4 8 with e1 | ⟨p, h4, h8, rfl⟩
  · simp only [e1, Bool.false_and, Bool.false_eq_true, if_false]
    simp (disch := omega) only [eX3_table, uX3_table, mG, mP hα, mR hα, mW hα, mgs, zKK, zB, zBl, zBb, zlg, zA, zA3, zL3, km31, km63, klshr, kishr, k2p, kl1shl, klmask, kland1, kiand1, k_l2i, zrt_b, zrt_0, zrt_1, zdv_n, zdv_l, t_ini, e1]
  · have e1 := kbd_nI h4 h8 (by omega)
    have p8 := k2p_le h8
    rw [kN_nI (by omega : p < 2147483648)]
    rcases kbd_cases z 0 (2 ^ p) with e2 | ⟨z, -, hz, rfl⟩
    · simp only [e1, e2, Bool.and_false, Bool.false_eq_true, if_false]
      simp (disch := omega) only [eX3_table, uX3_table, mG, mP hα, mR hα, mW hα, mgs, zKK, zB, zBl, zBb, zlg, zA, zA3, zL3, km31, km63, klshr, kishr, k2p, kl1shl, klmask, kland1, kiand1, k_l2i, zrt_b, zrt_0, zrt_1, zdv_n, zdv_l, t_ini, t_inN, e1, e2]
    · have e2 := kbd_nI (Nat.zero_le z) hz (by omega)
      simp only [e1, e2, Bool.and_self, if_true]
      rw [kN_nI (by omega)]
      simp (disch := omega) only [eX3_table, uX3_table, mG, mP hα, mR hα, mW hα, mgs, zKK, zB, zBl, zBb, zlg, zA, zA3, zL3, km31, km63, klshr, kishr, k2p, kl1shl, klmask, kland1, kiand1, k_l2i, zrt_b, zrt_0, zrt_1, zdv_n, zdv_l, t_ini, t_inN, e1, e2, t_tableOf]
def q_all (S : kS) (c : Int32) : Int64 := if kbd c 0 5 then lN (kall (S.c (kN c))) else -1
theorem M_all {α : Nat → Nat} (hα : mD α) (σ : mS) (h : zH) {S : kS} (hR : mR6 S σ) (hI : kSI S) (c : Int32) : ∃ σ', zc PG mX3_all [.ref (α 0), .int c] (mH α σ h) = some (.inl (some (.long (q_all S c))), mH α σ' h) ∧ mR6 S σ' := by
  unfold q_all
  refine ⟨_, ?_, hR.th 0⟩
  rcases kbd_cases c 0 5 with e1 | ⟨c, -, hc, rfl⟩
  · simp only [e1, Bool.false_eq_true, if_false]
    simp (disch := omega) only [eX3_all, uX3_all, mG, mP hα, mR hα, mW hα, mgs, zKK, zB, zBl, zBb, zlg, zA, zA3, zL3, km31, km63, klshr, kishr, k2p, kl1shl, klmask, kland1, kiand1, k_l2i, zrt_b, zrt_0, zrt_1, zdv_n, zdv_l, t_isCounter, e1]
  · have e1 := kbd_nI (Nat.zero_le c) hc (by omega)
    simp only [e1, if_true]
    rw [kN_nI (by omega)]
    have ea := t_allOf hα _ h (((hR.th 0).1 c (by omega)).rd (hI.1 c (by omega)) (by omega))
    simp (disch := omega) only [eX3_all, uX3_all, mG, mP hα, mR hα, mW hα, mgs, zKK, zB, zBl, zBb, zlg, zA, zA3, zL3, km31, km63, klshr, kishr, k2p, kl1shl, klmask, kland1, kiand1, k_l2i, zrt_b, zrt_0, zrt_1, zdv_n, zdv_l, t_isCounter, e1, ea]
