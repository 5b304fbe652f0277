/-! THE MODEL's PUBLIC METHODS: counters -/
theorem kbd_01 {k lo hi : Nat} (h1 : lo ≤ k) (h2 : k ≤ hi) (hk : k < 2147483648) : kbd (nI k) lo hi = true := kbd_nI h1 h2 hk
theorem t_guessX {α : Nat → Nat} (hα : mD α) (σ : mS) (h : zH) {c : Nat} {C : kC} (hC : mSl σ c C) (hI : kI C) (hc : c < 10) : ∃ x, zc PG mX3_guessOf [.ref (α 0), .int (nI c)] (mH α σ h) = some (.inl (some (.int (nI (kguess C)))), mH α (σ.s_hw x) h) := ⟨_, t_guessOf hα σ h hC hI hc⟩
def q_opens (S : kS) (c p l : Int32) : Int32 × kS := if kbd c 0 5 && kbd p 4 8 && kbd l 1 48 then (nI (2 ^ kN p), S.s_c (kN c) (kopen (kN p) (kN l))) else (-1, S)
theorem M_opens {α : Nat → Nat} (hα : mD α) (σ : mS) (h : zH) {S : kS} (hR : mR6 S σ) (c p l : Int32) : ∃ σ', zc PG mX3_opens [.ref (α 0), .int c, .int p, .int l] (mH α σ h) = some (.inl (some (.int (q_opens S c p l).1)), mH α σ' h) ∧ mR6 (q_opens S c p l).2 σ' := by
  unfold q_opens
  rcases kbd_cases c 0 5 with e1 | ⟨c, -, hc, rfl⟩
  · simp only [e1, Bool.false_and, Bool.false_eq_true, if_false]
    refine ⟨_, ?_, hR.th 0⟩
    simp (disch := omega) only [eX3_opens, uX3_opens, mG, mP hα, mR hα, mW hα, mgs, zKK, zB, zBl, zBb, zlg, zA, zA3, zL3, km31, km63, klshr, kishr, k2p, kl1shl, klmask, kland1, kiand1, k_l2i, zrt_b, zrt_0, zrt_1, zdv_n, zdv_l, t_isCounter, e1]
  · have e1 := kbd_nI (Nat.zero_le c) hc (by omega)
    rcases kbd_cases p 4 8 with e2 | ⟨p, h4, h8, rfl⟩
    · simp only [e1, e2, Bool.and_false, Bool.false_and, Bool.false_eq_true, if_false]
      refine ⟨_, ?_, hR.th 0⟩
      simp (disch := omega) only [eX3_opens, uX3_opens, mG, mP hα, mR hα, mW hα, mgs, zKK, zB, zBl, zBb, zlg, zA, zA3, zL3, km31, km63, klshr, kishr, k2p, kl1shl, klmask, kland1, kiand1, k_l2i, zrt_b, zrt_0, zrt_1, zdv_n, zdv_l, t_isCounter, t_ini, e1, e2]
    · have e2 := kbd_nI h4 h8 (by omega)
      rcases kbd_cases l 1 48 with e3 | ⟨l, h1, h48, rfl⟩
      · simp only [e1, e2, e3, Bool.and_false, Bool.false_eq_true, if_false]
        refine ⟨_, ?_, hR.th 0⟩
        simp (disch := omega) only [eX3_opens, uX3_opens, mG, mP hα, mR hα, mW hα, mgs, zKK, zB, zBl, zBb, zlg, zA, zA3, zL3, km31, km63, klshr, kishr, k2p, kl1shl, klmask, kland1, kiand1, k_l2i, zrt_b, zrt_0, zrt_1, zdv_n, zdv_l, t_isCounter, t_ini, t_inN, e1, e2, e3]
      · have e3 := kbd_nI h1 h48 (by omega)
        simp only [e1, e2, e3, Bool.and_self, if_true]
        rw [kN_nI (by omega), kN_nI (by omega), kN_nI (by omega)]
        obtain ⟨σ1, q1, q2, q3⟩ := t_opensSlot hα (σ.s_th 0) h c (by omega) p l
        have hb : σ1.bi c = p := q2.1
        have hp := t_places hα σ1 h (c := c) (by omega) (by omega)
        rw [hb] at hp
        refine ⟨σ1, ?_, (hR.th 0).one q3 q2⟩
        simp (disch := omega) only [eX3_opens, uX3_opens, mG, mP hα, mR hα, mW hα, mgs, zKK, zB, zBl, zBb, zlg, zA, zA3, zL3, km31, km63, klshr, kishr, k2p, kl1shl, klmask, kland1, kiand1, k_l2i, zrt_b, zrt_0, zrt_1, zdv_n, zdv_l, t_isCounter, t_inN, e1, e2, e3, q1, hp]
def q_adds (S : kS) (c t : Int32) : Int32 × kS := if kbd c 0 5 then (zb (kwould (S.c (kN c)) (kmk S t)), S.s_c (kN c) (kcomes (S.c (kN c)) (kmk S t))) else (-1, S)
theorem M_adds {α : Nat → Nat} (hα : mD α) (σ : mS) (h : zH) {S : kS} (hR : mR6 S σ) (hI : kSI S) (c t : Int32) : ∃ σ', zc PG mX3_adds [.ref (α 0), .int c, .int t] (mH α σ h) = some (.inl (some (.int (q_adds S c t).1)), mH α σ' h) ∧ mR6 (q_adds S c t).2 σ' := by
  unfold q_adds
  rcases kbd_cases c 0 5 with e1 | ⟨c, -, hc, rfl⟩
  · simp only [e1, Bool.false_eq_true, if_false]
    refine ⟨_, ?_, hR.th 0⟩
    simp (disch := omega) only [eX3_adds, uX3_adds, mG, mP hα, mR hα, mW hα, mgs, zKK, zB, zBl, zBb, zlg, zA, zA3, zL3, km31, km63, klshr, kishr, k2p, kl1shl, klmask, kland1, kiand1, k_l2i, zrt_b, zrt_0, zrt_1, zdv_n, zdv_l, t_isCounter, e1]
  · have e1 := kbd_nI (Nat.zero_le c) hc (by omega)
    simp only [e1, if_true]
    rw [kN_nI (by omega)]
    obtain ⟨σ1, q1, q2, q3⟩ := t_comes hα (σ.s_th 0) h (c := c) (by omega) (kmk_lt S t) ((hR.th 0).1 c (by omega)) (hI.1 c (by omega))
    have hm := mmk_S (hR.th 0) t
    refine ⟨σ1, ?_, (hR.th 0).one q3 q2⟩
    cases hw : kwould (S.c c) (kmk S t) with
    | true =>
      rw [hw] at q1
      simp (disch := omega) only [eX3_adds, uX3_adds, mG, mP hα, mR hα, mW hα, mgs, zKK, zB, zBl, zBb, zlg, zA, zA3, zL3, km31, km63, klshr, kishr, k2p, kl1shl, klmask, kland1, kiand1, k_l2i, zrt_b, zrt_0, zrt_1, zdv_n, zdv_l, t_isCounter, e1, t_markOf hα, hm, q1, zb_t]
    | false =>
      rw [hw] at q1
      simp (disch := omega) only [eX3_adds, uX3_adds, mG, mP hα, mR hα, mW hα, mgs, zKK, zB, zBl, zBb, zlg, zA, zA3, zL3, km31, km63, klshr, kishr, k2p, kl1shl, klmask, kland1, kiand1, k_l2i, zrt_b, zrt_0, zrt_1, zdv_n, zdv_l, t_isCounter, e1, t_markOf hα, hm, q1, zb_f]
def q_runs (S : kS) (c a n s : Int32) : Int32 × kS := if kbd c 0 5 && kbd n 0 1000 then (nI (krn (kms S.a S.b a s) (S.c (kN c)) (kN n)).2, S.s_c (kN c) (krn (kms S.a S.b a s) (S.c (kN c)) (kN n)).1) else (-1, S)
theorem M_runs {α : Nat → Nat} (hα : mD α) (σ : mS) (h : zH) {S : kS} (hR : mR6 S σ) (hI : kSI S) (c a n s : Int32) : ∃ σ', zc PG mX3_runs [.ref (α 0), .int c, .int a, .int n, .int s] (mH α σ h) = some (.inl (some (.int (q_runs S c a n s).1)), mH α σ' h) ∧ mR6 (q_runs S c a n s).2 σ' := by
  unfold q_runs
  rcases kbd_cases c 0 5 with e1 | ⟨c, -, hc, rfl⟩
  · simp only [e1, Bool.false_and, Bool.false_eq_true, if_false]
    refine ⟨_, ?_, hR.th 0⟩
    simp (disch := omega) only [eX3_runs, uX3_runs, mG, mP hα, mR hα, mW hα, mgs, zKK, zB, zBl, zBb, zlg, zA, zA3, zL3, km31, km63, klshr, kishr, k2p, kl1shl, klmask, kland1, kiand1, k_l2i, zrt_b, zrt_0, zrt_1, zdv_n, zdv_l, t_isCounter, e1]
  · have e1 := kbd_nI (Nat.zero_le c) hc (by omega)
    rcases kbd_cases n 0 1000 with e2 | ⟨n, -, hn, rfl⟩
    · simp only [e1, e2, Bool.and_false, Bool.false_eq_true, if_false]
      refine ⟨_, ?_, hR.th 0⟩
      simp (disch := omega) only [eX3_runs, uX3_runs, mG, mP hα, mR hα, mW hα, mgs, zKK, zB, zBl, zBb, zlg, zA, zA3, zL3, km31, km63, klshr, kishr, k2p, kl1shl, klmask, kland1, kiand1, k_l2i, zrt_b, zrt_0, zrt_1, zdv_n, zdv_l, t_isCounter, t_ini, e1, e2]
    · have e2 := kbd_nI (Nat.zero_le n) hn (by omega)
      simp only [e1, e2, Bool.and_self, if_true]
      rw [kN_nI (by omega), kN_nI (by omega)]
      obtain ⟨σ1, q1, q2, q3⟩ := t_runsInto hα (σ.s_th 0) h (c := c) (by omega) a s hn ((hR.th 0).1 c (by omega)) (hI.1 c (by omega))
      rw [(hR.th 0).2.1, (hR.th 0).2.2.1] at q1 q2
      refine ⟨σ1, ?_, (hR.th 0).one q3 q2⟩
      simp (disch := omega) only [eX3_runs, uX3_runs, mG, mP hα, mR hα, mW hα, mgs, zKK, zB, zBl, zBb, zlg, zA, zA3, zL3, km31, km63, klshr, kishr, k2p, kl1shl, klmask, kland1, kiand1, k_l2i, zrt_b, zrt_0, zrt_1, zdv_n, zdv_l, t_isCounter, t_inN, e1, e2, q1]
def q_end (S : kS) (n : Int32) : Bool × kS := if kbd n 0 S.t.length then (true, S.s_t (S.t.take (kN n))) else (false, S)
theorem M_end {α : Nat → Nat} (hα : mD α) (σ : mS) (h : zH) {S : kS} (hR : mR6 S σ) (hI : kSI S) (n : Int32) : ∃ σ', zc PG mX3_end [.ref (α 0), .int n] (mH α σ h) = some (.inl (some (.int (zb (q_end S n).1))), mH α σ' h) ∧ mR6 (q_end S n).2 σ' := by
  unfold q_end
  have hl := hI.2.1
  have hty := (hR.th 0).2.2.2.1
  simp only [mgs] at hty
  rcases kbd_cases n 0 S.t.length with e1 | ⟨n, -, hn, rfl⟩
  · simp only [e1, Bool.false_eq_true, if_false]
    refine ⟨_, ?_, hR.th 0⟩
    simp (disch := omega) only [eX3_end, uX3_end, mG, mP hα, mR hα, mW hα, mgs, zKK, zB, zBl, zBb, zlg, zA, zA3, zL3, km31, km63, klshr, kishr, k2p, kl1shl, klmask, kland1, kiand1, k_l2i, zrt_b, zrt_0, zrt_1, zdv_n, zdv_l, t_ini, hty, e1, zb_f]
  · have e1 := kbd_nI (Nat.zero_le n) hn (by omega)
    simp only [e1, if_true]
    rw [kN_nI (by omega)]
    refine ⟨(σ.s_th 0).s_ty n, ?_, ?_⟩
    · simp (disch := omega) only [eX3_end, uX3_end, mG, mP hα, mR hα, mW hα, mgs, zKK, zB, zBl, zBb, zlg, zA, zA3, zL3, km31, km63, klshr, kishr, k2p, kl1shl, klmask, kland1, kiand1, k_l2i, zrt_b, zrt_0, zrt_1, zdv_n, zdv_l, t_inN, hty, e1, zb_t]
    · obtain ⟨h1, h2, h3, h4, h5, h6, h7⟩ := hR.th 0
      unfold mR6
      simp only [mgs] at h2 h3 h4 h5 h6 h7 ⊢
      refine ⟨fun c hc => (h1 c hc).eqs (by simp only [mgs]) (by simp only [mgs]) (by simp only [mgs]) (by simp only [mgs]) (by simp only [mgs]) (by simp only [mgs]), h2, h3, ?_, fun k hk => ?_, h6, h7⟩
      · show n = (S.t.take n).length
        rw [List.length_take]
        omega
      · have hk : k < (S.t.take n).length := hk
        rw [List.length_take] at hk
        rw [h5 k (by omega)]
        show _ = (S.t.take n).getD k 0
        rw [List.getD_eq_getElem?_getD, List.getD_eq_getElem?_getD, List.getElem?_take_of_lt (by omega)]
def q_dense (S : kS) (c : Int32) : Int32 × kS := if kbd c 0 5 then (if (S.c (kN c)).d then (-2, S) else (nI (krd (S.c (kN c)).r (2 ^ (S.c (kN c)).p)), S.s_c (kN c) (kdense (S.c (kN c))))) else (-1, S)
theorem M_dense {α : Nat → Nat} (hα : mD α) (σ : mS) (h : zH) {S : kS} (hR : mR6 S σ) (hI : kSI S) (c : Int32) : ∃ σ', zc PG mX3_dense [.ref (α 0), .int c] (mH α σ h) = some (.inl (some (.int (q_dense S c).1)), mH α σ' h) ∧ mR6 (q_dense S c).2 σ' := by
  unfold q_dense
  rcases kbd_cases c 0 5 with e1 | ⟨c, -, hc, rfl⟩
  · simp only [e1, Bool.false_eq_true, if_false]
    refine ⟨_, ?_, hR.th 0⟩
    simp (disch := omega) only [eX3_dense, uX3_dense, mG, mP hα, mR hα, mW hα, mgs, zKK, zB, zBl, zBb, zlg, zA, zA3, zL3, km31, km63, klshr, kishr, k2p, kl1shl, klmask, kland1, kiand1, k_l2i, zrt_b, zrt_0, zrt_1, zdv_n, zdv_l, t_isCounter, e1]
  · have e1 := kbd_nI (Nat.zero_le c) hc (by omega)
    simp only [e1, if_true]
    rw [kN_nI (by omega)]
    have hC := (hR.th 0).1 c (by omega)
    have hd : (σ.s_th 0).de c = (S.c c).d := hC.2.2.1
    simp only [mgs] at hd
    cases e2 : (S.c c).d with
    | true =>
      rw [e2] at hd
      simp only [if_true]
      refine ⟨_, ?_, hR.th 0⟩
      simp (disch := omega) only [eX3_dense, uX3_dense, mG, mP hα, mR hα, mW hα, mgs, zKK, zB, zBl, zBb, zlg, zA, zA3, zL3, km31, km63, klshr, kishr, k2p, kl1shl, klmask, kland1, kiand1, k_l2i, zrt_b, zrt_0, zrt_1, zdv_n, zdv_l, t_isCounter, e1, hd]
    | false =>
      rw [e2] at hd
      simp only [Bool.false_eq_true, if_false]
      have s2 := mSl_dense hC
      have er := (s2.rd (kI_dense (hI.1 c (by omega))) (by omega))
      have ek := t_ranked hα _ h er.1 er.2.1 er.2.2.1 er.2.2.2.2.1 (fun x => Nat.le_trans (er.2.2.2.2.2 x) (by decide))
      simp only [mgs] at ek
      refine ⟨_, ?_, (hR.th 0).one (mFr_dense (σ.s_th 0) c) s2⟩
      simp (disch := omega) only [eX3_dense, uX3_dense, mG, mP hα, mR hα, mW hα, mgs, zKK, zB, zBl, zBb, zlg, zA, zA3, zL3, km31, km63, klshr, kishr, k2p, kl1shl, klmask, kland1, kiand1, k_l2i, zrt_b, zrt_0, zrt_1, zdv_n, zdv_l, t_isCounter, e1, hd, t_becomesDense hα, ek]
      rfl
def q_folds (S : kS) (c p : Int32) : Int32 × kS := if kbd c 0 5 && kbd p 4 (S.c (kN c)).p then (if kN p = (S.c (kN c)).p then (-2, S) else (nI (krd (kfoldC (S.c (kN c)) (kN p)).r (2 ^ kN p)), S.s_c (kN c) (kfoldC (S.c (kN c)) (kN p)))) else (-1, S)
theorem M_folds {α : Nat → Nat} (hα : mD α) (σ : mS) (h : zH) {S : kS} (hR : mR6 S σ) (hI : kSI S) (c p : Int32) : ∃ σ', zc PG mX3_folds [.ref (α 0), .int c, .int p] (mH α σ h) = some (.inl (some (.int (q_folds S c p).1)), mH α σ' h) ∧ mR6 (q_folds S c p).2 σ' := by
  unfold q_folds
  rcases kbd_cases c 0 5 with e1 | ⟨c, -, hc, rfl⟩
  · simp only [e1, Bool.false_and, Bool.false_eq_true, if_false]
    refine ⟨_, ?_, hR.th 0⟩
    simp (disch := omega) only [eX3_folds, uX3_folds, mG, mP hα, mR hα, mW hα, mgs, zKK, zB, zBl, zBb, zlg, zA, zA3, zL3, km31, km63, klshr, kishr, k2p, kl1shl, klmask, kland1, kiand1, k_l2i, zrt_b, zrt_0, zrt_1, zdv_n, zdv_l, t_isCounter, e1]
  · have e1 := kbd_nI (Nat.zero_le c) hc (by omega)
    rw [kN_nI (by omega : c < 2147483648)]
    have hC := (hR.th 0).1 c (by omega)
    have iC := hI.1 c (by omega)
    have h8 := iC.2.1
    have hb : (σ.s_th 0).bi c = (S.c c).p := hC.1
    simp only [mgs] at hb
    rcases kbd_cases p 4 (S.c c).p with e2 | ⟨p, h4, hp, rfl⟩
    · simp only [e1, e2, Bool.and_false, Bool.false_eq_true, if_false]
      refine ⟨_, ?_, hR.th 0⟩
      simp (disch := omega) only [eX3_folds, uX3_folds, mG, mP hα, mR hα, mW hα, mgs, zKK, zB, zBl, zBb, zlg, zA, zA3, zL3, km31, km63, klshr, kishr, k2p, kl1shl, klmask, kland1, kiand1, k_l2i, zrt_b, zrt_0, zrt_1, zdv_n, zdv_l, t_isCounter, t_ini, hb, e1, e2]
    · have e2 := kbd_nI h4 hp (by omega)
      simp only [e1, e2, Bool.and_self, if_true]
      rw [kN_nI (by omega)]
      by_cases e3 : p = (S.c c).p
      · rw [if_pos e3]
        refine ⟨_, ?_, hR.th 0⟩
        simp (disch := omega) only [eX3_folds, uX3_folds, mG, mP hα, mR hα, mW hα, mgs, zKK, zB, zBl, zBb, zlg, zA, zA3, zL3, km31, km63, klshr, kishr, k2p, kl1shl, klmask, kland1, kiand1, k_l2i, zrt_b, zrt_0, zrt_1, zdv_n, zdv_l, t_isCounter, t_inN, hb, e1, e2]
      · rw [if_neg e3]
        obtain ⟨σ1, q1, q2, q3⟩ := t_foldsSlot hα (σ.s_th 0) h (q := p) (by omega) hC iC.J h4 hp
        have er := q2.rd (kI_fold iC h4 hp) (by omega)
        have ek := t_ranked hα _ h er.1 er.2.1 er.2.2.1 er.2.2.2.2.1 (fun x => Nat.le_trans (er.2.2.2.2.2 x) (by decide))
        refine ⟨σ1, ?_, (hR.th 0).one q3 q2⟩
        simp (disch := omega) only [eX3_folds, uX3_folds, mG, mP hα, mR hα, mW hα, mgs, zKK, zB, zBl, zBb, zlg, zA, zA3, zL3, km31, km63, klshr, kishr, k2p, kl1shl, klmask, kland1, kiand1, k_l2i, zrt_b, zrt_0, zrt_1, zdv_n, zdv_l, t_isCounter, t_inN, hb, e1, e2, q1, ek]
        rfl
def q_copies (S : kS) (c k : Int32) : Int32 × kS := if kbd c 0 5 && kbd k 0 5 then (nI (kguess (S.c (kN c))), S.s_c (kN k) (S.c (kN c))) else (-1, S)
theorem kS.s_self (S : kS) (k : Nat) : S.s_c k (S.c k) = S := by
  unfold kS.s_c
  have : (fun j => if j = k then S.c k else S.c j) = S.c := by
    funext j
    by_cases e : j = k
    · rw [if_pos e, e]
    · rw [if_neg e]
  rw [this]
  rfl
theorem M_copies {α : Nat → Nat} (hα : mD α) (σ : mS) (h : zH) {S : kS} (hR : mR6 S σ) (hI : kSI S) (c k : Int32) : ∃ σ', zc PG mX3_copies [.ref (α 0), .int c, .int k] (mH α σ h) = some (.inl (some (.int (q_copies S c k).1)), mH α σ' h) ∧ mR6 (q_copies S c k).2 σ' := by
  unfold q_copies
  rcases kbd_cases c 0 5 with e1 | ⟨c, -, hc, rfl⟩
  · simp only [e1, Bool.false_and, Bool.false_eq_true, if_false]
    refine ⟨_, ?_, hR.th 0⟩
    simp (disch := omega) only [eX3_copies, uX3_copies, mG, mP hα, mR hα, mW hα, mgs, zKK, zB, zBl, zBb, zlg, zA, zA3, zL3, km31, km63, klshr, kishr, k2p, kl1shl, klmask, kland1, kiand1, k_l2i, zrt_b, zrt_0, zrt_1, zdv_n, zdv_l, t_isCounter, e1]
  · have e1 := kbd_nI (Nat.zero_le c) hc (by omega)
    rcases kbd_cases k 0 5 with e2 | ⟨k, -, hk, rfl⟩
    · simp only [e1, e2, Bool.and_false, Bool.false_eq_true, if_false]
      refine ⟨_, ?_, hR.th 0⟩
      simp (disch := omega) only [eX3_copies, uX3_copies, mG, mP hα, mR hα, mW hα, mgs, zKK, zB, zBl, zBb, zlg, zA, zA3, zL3, km31, km63, klshr, kishr, k2p, kl1shl, klmask, kland1, kiand1, k_l2i, zrt_b, zrt_0, zrt_1, zdv_n, zdv_l, t_isCounter, e1, e2]
    · have e2 := kbd_nI (Nat.zero_le k) hk (by omega)
      simp only [e1, e2, Bool.and_self, if_true]
      rw [kN_nI (by omega), kN_nI (by omega)]
      have hC := (hR.th 0).1 c (by omega)
      have iC := hI.1 c (by omega)
      by_cases e3 : c = k
      · subst e3
        rw [kS.s_self]
        obtain ⟨x, eg⟩ := t_guessX hα _ h hC iC (by omega)
        refine ⟨_, ?_, (hR.th 0).hw x⟩
        simp (disch := omega) only [eX3_copies, uX3_copies, mG, mP hα, mR hα, mW hα, mgs, zKK, zB, zBl, zBb, zlg, zA, zA3, zL3, km31, km63, klshr, kishr, k2p, kl1shl, klmask, kland1, kiand1, k_l2i, zrt_b, zrt_0, zrt_1, zdv_n, zdv_l, t_isCounter, e1, eg]
      · obtain ⟨σ1, q1, q2, q3⟩ := t_copiesSlot hα (σ.s_th 0) h (f := c) (t := k) (by omega) (by omega) e3 hC
        obtain ⟨x, eg⟩ := t_guessX hα σ1 h q2 iC (by omega)
        refine ⟨_, ?_, ((hR.th 0).one q3 q2).hw x⟩
        simp (disch := omega) only [eX3_copies, uX3_copies, mG, mP hα, mR hα, mW hα, mgs, zKK, zB, zBl, zBb, zlg, zA, zA3, zL3, km31, km63, klshr, kishr, k2p, kl1shl, klmask, kland1, kiand1, k_l2i, zrt_b, zrt_0, zrt_1, zdv_n, zdv_l, t_isCounter, e1, e2, q1, eg]
def q_joins (S : kS) (a b k : Int32) : Int32 × kS := if kbd a 0 5 && kbd b 0 5 && kbd k 0 5 then (nI (kguess (kjoin [S.c (kN a), S.c (kN b)])), S.s_c (kN k) (kjoin [S.c (kN a), S.c (kN b)])) else (-1, S)
theorem kI_two {A B : kC} (iA : kI A) (iB : kI B) : kI (kjoin [A, B]) := kI_join (fun C hC => by
  rcases List.mem_cons.mp hC with rfl | hC
  · exact iA
  · rw [List.mem_singleton.mp hC]; exact iB)
theorem M_joins {α : Nat → Nat} (hα : mD α) (σ : mS) (h : zH) {S : kS} (hR : mR6 S σ) (hI : kSI S) (a b k : Int32) : ∃ σ', zc PG mX3_joins [.ref (α 0), .int a, .int b, .int k] (mH α σ h) = some (.inl (some (.int (q_joins S a b k).1)), mH α σ' h) ∧ mR6 (q_joins S a b k).2 σ' := by
  unfold q_joins
  rcases kbd_cases a 0 5 with e1 | ⟨a, -, ha, rfl⟩
  · simp only [e1, Bool.false_and, Bool.false_eq_true, if_false]
    refine ⟨_, ?_, hR.th 0⟩
    simp (disch := omega) only [eX3_joins, uX3_joins, mG, mP hα, mR hα, mW hα, mgs, zKK, zB, zBl, zBb, zlg, zA, zA3, zL3, km31, km63, klshr, kishr, k2p, kl1shl, klmask, kland1, kiand1, k_l2i, zrt_b, zrt_0, zrt_1, zdv_n, zdv_l, t_isCounter, e1]
  · have e1 := kbd_nI (Nat.zero_le a) ha (by omega)
    rcases kbd_cases b 0 5 with e2 | ⟨b, -, hb, rfl⟩
    · simp only [e1, e2, Bool.and_false, Bool.false_and, Bool.false_eq_true, if_false]
      refine ⟨_, ?_, hR.th 0⟩
      simp (disch := omega) only [eX3_joins, uX3_joins, mG, mP hα, mR hα, mW hα, mgs, zKK, zB, zBl, zBb, zlg, zA, zA3, zL3, km31, km63, klshr, kishr, k2p, kl1shl, klmask, kland1, kiand1, k_l2i, zrt_b, zrt_0, zrt_1, zdv_n, zdv_l, t_isCounter, e1, e2]
    · have e2 := kbd_nI (Nat.zero_le b) hb (by omega)
      rcases kbd_cases k 0 5 with e3 | ⟨k, -, hk, rfl⟩
      · simp only [e1, e2, e3, Bool.and_false, Bool.false_eq_true, if_false]
        refine ⟨_, ?_, hR.th 0⟩
        simp (disch := omega) only [eX3_joins, uX3_joins, mG, mP hα, mR hα, mW hα, mgs, zKK, zB, zBl, zBb, zlg, zA, zA3, zL3, km31, km63, klshr, kishr, k2p, kl1shl, klmask, kland1, kiand1, k_l2i, zrt_b, zrt_0, zrt_1, zdv_n, zdv_l, t_isCounter, e1, e2, e3]
      · have e3 := kbd_nI (Nat.zero_le k) hk (by omega)
        simp only [e1, e2, e3, Bool.and_self, if_true]
        rw [kN_nI (by omega), kN_nI (by omega), kN_nI (by omega)]
        have iA := hI.1 a (by omega)
        have iB := hI.1 b (by omega)
        obtain ⟨σ1, q1, q2, q3⟩ := t_joinsTwo hα (σ.s_th 0) h (a := a) (b := b) (by omega) (by omega) ((hR.th 0).1 a (by omega)) ((hR.th 0).1 b (by omega)) iA iB
        obtain ⟨σ2, r1, r2, r3⟩ := t_copiesSlot hα σ1 h (f := 6) (t := k) (by omega) (by omega) (by omega) q2
        obtain ⟨x, eg⟩ := t_guessX hα σ2 h r2 (kI_two iA iB) (by omega)
        refine ⟨_, ?_, ((((hR.th 0).fr q3).one r3 r2).hw x)⟩
        simp (disch := omega) only [eX3_joins, uX3_joins, mG, mP hα, mR hα, mW hα, mgs, zKK, zB, zBl, zBb, zlg, zA, zA3, zL3, km31, km63, klshr, kishr, k2p, kl1shl, klmask, kland1, kiand1, k_l2i, zrt_b, zrt_0, zrt_1, zdv_n, zdv_l, t_isCounter, e1, e2, e3, q1, r1, eg]
def q_gathers (S : kS) (s k : Int32) : Int32 × kS := if kbd s 1 63 && kbd k 0 5 then (nI (kguess (kjoin (kls S.c (kN s) 6))), S.s_c (kN k) (kjoin (kls S.c (kN s) 6))) else (-1, S)
theorem M_gathers {α : Nat → Nat} (hα : mD α) (σ : mS) (h : zH) {S : kS} (hR : mR6 S σ) (hI : kSI S) (s k : Int32) : ∃ σ', zc PG mX3_gathers [.ref (α 0), .int s, .int k] (mH α σ h) = some (.inl (some (.int (q_gathers S s k).1)), mH α σ' h) ∧ mR6 (q_gathers S s k).2 σ' := by
  unfold q_gathers
  rcases kbd_cases s 1 63 with e1 | ⟨s, h1, hs, rfl⟩
  · simp only [e1, Bool.false_and, Bool.false_eq_true, if_false]
    refine ⟨_, ?_, hR.th 0⟩
    simp (disch := omega) only [eX3_gathers, uX3_gathers, mG, mP hα, mR hα, mW hα, mgs, zKK, zB, zBl, zBb, zlg, zA, zA3, zL3, km31, km63, klshr, kishr, k2p, kl1shl, klmask, kland1, kiand1, k_l2i, zrt_b, zrt_0, zrt_1, zdv_n, zdv_l, t_isSet, e1]
  · have e1 := kbd_nI h1 hs (by omega)
    rcases kbd_cases k 0 5 with e3 | ⟨k, -, hk, rfl⟩
    · simp only [e1, e3, Bool.and_false, Bool.false_eq_true, if_false]
      refine ⟨_, ?_, hR.th 0⟩
      simp (disch := omega) only [eX3_gathers, uX3_gathers, mG, mP hα, mR hα, mW hα, mgs, zKK, zB, zBl, zBb, zlg, zA, zA3, zL3, km31, km63, klshr, kishr, k2p, kl1shl, klmask, kland1, kiand1, k_l2i, zrt_b, zrt_0, zrt_1, zdv_n, zdv_l, t_isSet, t_isCounter, e1, e3]
    · have e3 := kbd_nI (Nat.zero_le k) hk (by omega)
      simp only [e1, e3, Bool.and_self, if_true]
      rw [kN_nI (by omega), kN_nI (by omega)]
      obtain ⟨σ1, q1, q2, q3⟩ := t_joinsSet hα (σ.s_th 0) h (s := s) (by omega) h1 (hR.th 0).1 hI.1
      obtain ⟨σ2, r1, r2, r3⟩ := t_copiesSlot hα σ1 h (f := 6) (t := k) (by omega) (by omega) (by omega) q2
      obtain ⟨x, eg⟩ := t_guessX hα σ2 h r2 (kI_join (kI_ls hI.1)) (by omega)
      refine ⟨_, ?_, ((((hR.th 0).fr q3).one r3 r2).hw x)⟩
      simp (disch := omega) only [eX3_gathers, uX3_gathers, mG, mP hα, mR hα, mW hα, mgs, zKK, zB, zBl, zBb, zlg, zA, zA3, zL3, km31, km63, klshr, kishr, k2p, kl1shl, klmask, kland1, kiand1, k_l2i, zrt_b, zrt_0, zrt_1, zdv_n, zdv_l, t_isSet, t_isCounter, e1, e3, q1, r1, eg]
def q_swaps (S : kS) (a b : Int32) : Int32 × kS := if kbd a 0 5 && kbd b 0 5 then (nI (kguess (S.c (kN b))), (S.s_c (kN a) (S.c (kN b))).s_c (kN b) (S.c (kN a))) else (-1, S)
theorem kS.s_same (S : kS) {k j : Nat} (C : kC) (h : j ≠ k) : (S.s_c k C).c j = S.c j := if_neg h
theorem kS.s_this (S : kS) (k : Nat) (C : kC) : (S.s_c k C).c k = C := if_pos rfl
theorem M_swaps {α : Nat → Nat} (hα : mD α) (σ : mS) (h : zH) {S : kS} (hR : mR6 S σ) (hI : kSI S) (a b : Int32) : ∃ σ', zc PG mX3_swaps [.ref (α 0), .int a, .int b] (mH α σ h) = some (.inl (some (.int (q_swaps S a b).1)), mH α σ' h) ∧ mR6 (q_swaps S a b).2 σ' := by
  unfold q_swaps
  rcases kbd_cases a 0 5 with e1 | ⟨a, -, ha, rfl⟩
  · simp only [e1, Bool.false_and, Bool.false_eq_true, if_false]
    refine ⟨_, ?_, hR.th 0⟩
    simp (disch := omega) only [eX3_swaps, uX3_swaps, mG, mP hα, mR hα, mW hα, mgs, zKK, zB, zBl, zBb, zlg, zA, zA3, zL3, km31, km63, klshr, kishr, k2p, kl1shl, klmask, kland1, kiand1, k_l2i, zrt_b, zrt_0, zrt_1, zdv_n, zdv_l, t_isCounter, e1]
  · have e1 := kbd_nI (Nat.zero_le a) ha (by omega)
    rcases kbd_cases b 0 5 with e2 | ⟨b, -, hb, rfl⟩
    · simp only [e1, e2, Bool.and_false, Bool.false_eq_true, if_false]
      refine ⟨_, ?_, hR.th 0⟩
      simp (disch := omega) only [eX3_swaps, uX3_swaps, mG, mP hα, mR hα, mW hα, mgs, zKK, zB, zBl, zBb, zlg, zA, zA3, zL3, km31, km63, klshr, kishr, k2p, kl1shl, klmask, kland1, kiand1, k_l2i, zrt_b, zrt_0, zrt_1, zdv_n, zdv_l, t_isCounter, e1, e2]
    · have e2 := kbd_nI (Nat.zero_le b) hb (by omega)
      simp only [e1, e2, Bool.and_self, if_true]
      rw [kN_nI (by omega), kN_nI (by omega)]
      have hR0 := hR.th 0
      by_cases e3 : a = b
      · subst e3
        obtain ⟨x, eg⟩ := t_guessX hα (σ.s_th 0) h (hR0.1 a (by omega)) (hI.1 a (by omega)) (by omega)
        rw [kS.s_self, kS.s_self]
        refine ⟨_, ?_, hR0.hw x⟩
        simp (disch := omega) only [eX3_swaps, uX3_swaps, mG, mP hα, mR hα, mW hα, mgs, zKK, zB, zBl, zBb, zlg, zA, zA3, zL3, km31, km63, klshr, kishr, k2p, kl1shl, klmask, kland1, kiand1, k_l2i, zrt_b, zrt_0, zrt_1, zdv_n, zdv_l, t_isCounter, e1, eg]
      · obtain ⟨σ1, q1, q2, q3⟩ := t_copiesSlot hα (σ.s_th 0) h (f := a) (t := 7) (by omega) (by omega) (by omega) (hR0.1 a (by omega))
        have R1 := hR0.fr (q3.mono (fun d q => by show 6 ≤ d; omega))
        obtain ⟨σ2, r1, r2, r3⟩ := t_copiesSlot hα σ1 h (f := b) (t := a) (by omega) (by omega) (fun q => e3 q.symm) (R1.1 b (by omega))
        have s7 := q2.keep r3 (by omega)
        have R2 := R1.one r3 r2
        obtain ⟨σ3, v1, v2, v3⟩ := t_copiesSlot hα σ2 h (f := 7) (t := b) (by omega) (by omega) (by omega) s7
        have R3 := R2.one v3 v2
        have hA := R3.1 a (by omega)
        rw [kS.s_same _ _ e3, kS.s_this] at hA
        obtain ⟨x, eg⟩ := t_guessX hα σ3 h hA (hI.1 b (by omega)) (by omega)
        refine ⟨_, ?_, R3.hw x⟩
        simp (disch := omega) only [eX3_swaps, uX3_swaps, mG, mP hα, mR hα, mW hα, mgs, zKK, zB, zBl, zBb, zlg, zA, zA3, zL3, km31, km63, klshr, kishr, k2p, kl1shl, klmask, kland1, kiand1, k_l2i, zrt_b, zrt_0, zrt_1, zdv_n, zdv_l, t_isCounter, e1, e2, q1, r1, v1, eg]
