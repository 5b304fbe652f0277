/-! THE MODEL's PUBLIC METHODS: reaches, count, rows of bits, runs, gaps -/
def krc (S : kS) (C : kC) (a s v : Int32) (n : Nat) : Bool := decide (¬ nI (kguess (krn (kms S.a S.b a s) C n).1) < v)
def q_reaches (S : kS) (c a s v : Int32) : Int32 × kS := if kbd c 0 5 && decide (¬ v < nI 0) then (match kfi (krc S (S.c (kN c)) a s v) 1001 0 with | some n => (nI n, S.s_w [lN (kguess (krn (kms S.a S.b a s) (S.c (kN c)) n).1)]) | none => (-2, S)) else (-1, S)
theorem t_reaches_loop {α : Nat → Nat} (hα : mD α) (h : zH) {S : kS} (hI : kSI S) (a1 a s v : Int32) {C : kC} (iC : kI C) (j : Nat) : ∀ (n : Nat) (σ : mS), n + j = 1001 → mR6 S σ → mSl σ 8 (krn (kms S.a S.b a s) C n).1 → ∃ σ', zs PG mX3_reaches 32 [.ref (α 0), .int a1, .int a, .int s, .int v, .int (a + nI n * s), .int (nI n)] [] (mH α σ h) = some (.inl (some (.int ((match kfi (krc S C a s v) j n with | some n => (nI n, S.s_w [lN (kguess (krn (kms S.a S.b a s) C n).1)]) | none => (-2, S)) : Int32 × kS).1)), mH α σ' h) ∧ mR6 ((match kfi (krc S C a s v) j n with | some n => (nI n, S.s_w [lN (kguess (krn (kms S.a S.b a s) C n).1)]) | none => (-2, S)) : Int32 × kS).2 σ' := by
  induction j with
  | zero =>
    intro n σ hn hR s8
    refine ⟨σ, ?_, hR⟩
    rw [uX3_reaches_at32]
    simp (disch := omega) only [uX3_reaches, mG, mP hα, mR hα, mW hα, mgs, zKK, zB, zBl, zBb, zlg, zA, zA3, zL3, km31, km63, klshr, kishr, k2p, kl1shl, klmask, kland1, kiand1, k_l2i, zrt_b, zrt_0, zrt_1, zdv_n, zdv_l, kfi]
  | succ j ih =>
    intro n σ hn hR s8
    have i8 := kI_rn (kms_lt S.a S.b a s) iC n
    have g := kguess_le i8
    obtain ⟨x, qg⟩ := t_guessX hα σ h s8 i8 (by decide)
    have R1 := hR.hw x
    have s8' : mSl (σ.s_hw x) 8 (krn (kms S.a S.b a s) C n).1 := s8.eqs (by simp only [mgs]) (by simp only [mgs]) (by simp only [mgs]) (by simp only [mgs]) (by simp only [mgs]) (by simp only [mgs])
    unfold kfi krc
    by_cases e : nI (kguess (krn (kms S.a S.b a s) C n).1) < v
    · rw [decide_eq_false (fun q => q e)]
      simp only [Bool.false_eq_true, if_false]
      have hm : mmk (σ.s_hw x) (a + nI n * s) = kms S.a S.b a s n := mmk_S R1 (a + nI n * s)
      obtain ⟨σ1, q1, q2, q3⟩ := t_comes hα (σ.s_hw x) h (c := 8) (by decide) (kms_lt S.a S.b a s n) s8' i8
      obtain ⟨σ', r1, r2⟩ := ih (n + 1) σ1 (by omega) (R1.fr (q3.mono (fun d q => by show 6 ≤ d; omega))) q2
      refine ⟨σ', ?_, r2⟩
      rw [← kstep] at r1
      unfold krc at r1
      rw [uX3_reaches_at32, ← r1]
      simp (disch := omega) only [uX3_reaches, mG, mP hα, mR hα, mW hα, mgs, zKK, zB, zBl, zBb, zlg, zA, zA3, zL3, km31, km63, klshr, kishr, k2p, kl1shl, klmask, kland1, kiand1, k_l2i, zrt_b, zrt_0, zrt_1, zdv_n, zdv_l, qg, e, t_markOf hα, hm, q1]
    · rw [decide_eq_true e]
      simp only [if_true]
      have R2 : mR6 (S.s_w []) ((σ.s_hw x).s_rm 0) := R1.rm0
      obtain ⟨x2, qg2⟩ := t_guessX hα ((σ.s_hw x).s_rm 0) h (s8'.eqs (σ' := (σ.s_hw x).s_rm 0) (by simp only [mgs]) (by simp only [mgs]) (by simp only [mgs]) (by simp only [mgs]) (by simp only [mgs]) (by simp only [mgs])) i8 (by decide)
      obtain ⟨σ3, t3, R3⟩ := t_tellX hα (((σ.s_hw x).s_rm 0).s_hw x2) h (R2.hw x2) (by simp) (lN (kguess (krn (kms S.a S.b a s) C n).1))
      refine ⟨σ3, ?_, R3⟩
      rw [uX3_reaches_at32]
      simp (disch := omega) only [uX3_reaches, mG, mP hα, mR hα, mW hα, mgs, zKK, zB, zBl, zBb, zlg, zA, zA3, zL3, km31, km63, klshr, kishr, k2p, kl1shl, klmask, kland1, kiand1, k_l2i, zrt_b, zrt_0, zrt_1, zdv_n, zdv_l, qg, e, qg2, t3]
theorem M_reaches {α : Nat → Nat} (hα : mD α) (σ : mS) (h : zH) {S : kS} (hR : mR6 S σ) (hI : kSI S) (c a s v : Int32) : ∃ σ', zc PG mX3_reaches [.ref (α 0), .int c, .int a, .int s, .int v] (mH α σ h) = some (.inl (some (.int (q_reaches S c a s v).1)), mH α σ' h) ∧ mR6 (q_reaches S c a s v).2 σ' := by
  unfold q_reaches
  rcases kbd_cases c 0 5 with e1 | ⟨c, -, hc, rfl⟩
  · simp only [e1, Bool.false_and, Bool.false_eq_true, if_false]
    refine ⟨_, ?_, hR.th 0⟩
    simp (disch := omega) only [eX3_reaches, uX3_reaches, mG, mP hα, mR hα, mW hα, mgs, zKK, zB, zBl, zBb, zlg, zA, zA3, zL3, km31, km63, klshr, kishr, k2p, kl1shl, klmask, kland1, kiand1, k_l2i, zrt_b, zrt_0, zrt_1, zdv_n, zdv_l, t_isCounter, e1]
  · have e1 := kbd_nI (Nat.zero_le c) hc (by omega)
    by_cases e3 : v < nI 0
    · rw [decide_eq_false (fun q => q e3)]
      simp only [e1, Bool.and_false, Bool.false_eq_true, if_false]
      refine ⟨_, ?_, hR.th 0⟩
      simp (disch := omega) only [eX3_reaches, uX3_reaches, mG, mP hα, mR hα, mW hα, mgs, zKK, zB, zBl, zBb, zlg, zA, zA3, zL3, km31, km63, klshr, kishr, k2p, kl1shl, klmask, kland1, kiand1, k_l2i, zrt_b, zrt_0, zrt_1, zdv_n, zdv_l, t_isCounter, e1, e3]
    · rw [decide_eq_true e3]
      simp only [e1, Bool.and_self, if_true]
      rw [kN_nI (by omega)]
      have hR0 := hR.th 0
      obtain ⟨σ1, q1, s1, f1⟩ := t_copiesSlot hα (σ.s_th 0) h (f := c) (t := 8) (by omega) (by omega) (by omega) (hR0.1 c (by omega))
      have R1 := hR0.fr (f1.mono (fun d q => by show 6 ≤ d; omega))
      obtain ⟨σ', r1, r2⟩ := t_reaches_loop hα h hI (nI c) a s v (hI.1 c (by omega)) 1001 0 σ1 (by omega) R1 s1
      rw [kstep0] at r1
      refine ⟨σ', ?_, r2⟩
      simp (disch := omega) only [eX3_reaches, uX3_reaches, mG, mP hα, mR hα, mW hα, mgs, zKK, zB, zBl, zBb, zlg, zA, zA3, zL3, km31, km63, klshr, kishr, k2p, kl1shl, klmask, kland1, kiand1, k_l2i, zrt_b, zrt_0, zrt_1, zdv_n, zdv_l, t_isCounter, e1, e3, q1, r1]
/-! counts -/
def kdb (P : Nat → Bool) : Nat → Nat
  | 0 => 0
  | c + 1 => kdb P c ||| if P c then 2 ^ c else 0
def ksm (f : Nat → Nat) : Nat → Nat
  | 0 => 0
  | c + 1 => ksm f c + f c
theorem t_denseBits_loop {α : Nat → Nat} (hα : mD α) (σ : mS) (h : zH) {S : kS} (hR : mR6 S σ) (j : Nat) : ∀ c, c + j = 6 → zs PG mX3_denseBits 4 [.ref (α 0), .int (nI (kdb (fun c => (S.c c).d) c)), .int (nI c)] [] (mH α σ h) = some (.inl (some (.int (nI (kdb (fun c => (S.c c).d) 6)))), mH α σ h) := by
  induction j with
  | zero =>
    intro c hc
    have hc : c = 6 := by omega
    subst hc
    rw [uX3_denseBits_at4]
    simp (disch := omega) only [uX3_denseBits, mG, mP hα, mR hα, mW hα, mgs, zKK, zB, zBl, zBb, zlg, zA, zA3, zL3, km31, km63, klshr, kishr, k2p, kl1shl, klmask, kland1, kiand1, k_l2i, zrt_b, zrt_0, zrt_1, zdv_n, zdv_l]
  | succ j ih =>
    intro c hc
    have hd : σ.de c = (S.c c).d := (hR.1 c (by omega)).2.2.1
    rw [uX3_denseBits_at4, ← ih (c + 1) (by omega), kdb]
    cases e : (S.c c).d with
    | true =>
      rw [e] at hd
      simp (disch := omega) only [uX3_denseBits, mG, mP hα, mR hα, mW hα, mgs, zKK, zB, zBl, zBb, zlg, zA, zA3, zL3, km31, km63, klshr, kishr, k2p, kl1shl, klmask, kland1, kiand1, k_l2i, zrt_b, zrt_0, zrt_1, zdv_n, zdv_l, hd, nx_or, if_true]
    | false =>
      rw [e] at hd
      simp (disch := omega) only [uX3_denseBits, mG, mP hα, mR hα, mW hα, mgs, zKK, zB, zBl, zBb, zlg, zA, zA3, zL3, km31, km63, klshr, kishr, k2p, kl1shl, klmask, kland1, kiand1, k_l2i, zrt_b, zrt_0, zrt_1, zdv_n, zdv_l, hd, nx_or, Bool.false_eq_true, if_false]
theorem t_rankedBits_loop {α : Nat → Nat} (hα : mD α) (σ : mS) (h : zH) {S : kS} (hR : mR6 S σ) (hI : kSI S) (j : Nat) : ∀ c, c + j = 6 → zs PG mX3_rankedBits 4 [.ref (α 0), .int (nI (kdb (fun c => decide (0 < krd (S.c c).r (2 ^ (S.c c).p))) c)), .int (nI c)] [] (mH α σ h) = some (.inl (some (.int (nI (kdb (fun c => decide (0 < krd (S.c c).r (2 ^ (S.c c).p))) 6)))), mH α σ h) := by
  induction j with
  | zero =>
    intro c hc
    have hc : c = 6 := by omega
    subst hc
    rw [uX3_rankedBits_at4]
    simp (disch := omega) only [uX3_rankedBits, mG, mP hα, mR hα, mW hα, mgs, zKK, zB, zBl, zBb, zlg, zA, zA3, zL3, km31, km63, klshr, kishr, k2p, kl1shl, klmask, kland1, kiand1, k_l2i, zrt_b, zrt_0, zrt_1, zdv_n, zdv_l]
  | succ j ih =>
    intro c hc
    have rd := (hR.1 c (by omega)).rd (hI.1 c (by omega)) (by omega)
    have ek := t_ranked hα σ h rd.1 rd.2.1 rd.2.2.1 rd.2.2.2.2.1 (fun x => Nat.le_trans (rd.2.2.2.2.2 x) (by decide))
    have hl := krd_le (S.c c).r (2 ^ (S.c c).p)
    have h2 := k2p_le rd.2.2.1
    rw [uX3_rankedBits_at4, ← ih (c + 1) (by omega), kdb]
    by_cases e : 0 < krd (S.c c).r (2 ^ (S.c c).p)
    · rw [if_pos (decide_eq_true e)]
      simp (disch := omega) only [uX3_rankedBits, mG, mP hα, mR hα, mW hα, mgs, zKK, zB, zBl, zBb, zlg, zA, zA3, zL3, km31, km63, klshr, kishr, k2p, kl1shl, klmask, kland1, kiand1, k_l2i, zrt_b, zrt_0, zrt_1, zdv_n, zdv_l, ek, nx_or]
    · rw [if_neg (by rw [decide_eq_false e]; exact Bool.false_ne_true)]
      simp (disch := omega) only [uX3_rankedBits, mG, mP hα, mR hα, mW hα, mgs, zKK, zB, zBl, zBb, zlg, zA, zA3, zL3, km31, km63, klshr, kishr, k2p, kl1shl, klmask, kland1, kiand1, k_l2i, zrt_b, zrt_0, zrt_1, zdv_n, zdv_l, ek, nx_or]
theorem t_markSum_loop {α : Nat → Nat} (hα : mD α) (σ : mS) (h : zH) {S : kS} (hR : mR6 S σ) (j : Nat) : ∀ c, c + j = 6 → zs PG mX3_markSum 4 [.ref (α 0), .int (nI (ksm (fun c => (S.c c).m.length) c)), .int (nI c)] [] (mH α σ h) = some (.inl (some (.int (nI (ksm (fun c => (S.c c).m.length) 6)))), mH α σ h) := by
  induction j with
  | zero =>
    intro c hc
    have hc : c = 6 := by omega
    subst hc
    rw [uX3_markSum_at4]
    simp (disch := omega) only [uX3_markSum, mG, mP hα, mR hα, mW hα, mgs, zKK, zB, zBl, zBb, zlg, zA, zA3, zL3, km31, km63, klshr, kishr, k2p, kl1shl, klmask, kland1, kiand1, k_l2i, zrt_b, zrt_0, zrt_1, zdv_n, zdv_l]
  | succ j ih =>
    intro c hc
    have hm : σ.mm c = (S.c c).m.length := (hR.1 c (by omega)).2.2.2.1
    rw [uX3_markSum_at4, ← ih (c + 1) (by omega), ksm]
    simp (disch := omega) only [uX3_markSum, mG, mP hα, mR hα, mW hα, mgs, zKK, zB, zBl, zBb, zlg, zA, zA3, zL3, km31, km63, klshr, kishr, k2p, kl1shl, klmask, kland1, kiand1, k_l2i, zrt_b, zrt_0, zrt_1, zdv_n, zdv_l, hm]
theorem t_placeSum_loop {α : Nat → Nat} (hα : mD α) (σ : mS) (h : zH) {S : kS} (hR : mR6 S σ) (hI : kSI S) (j : Nat) : ∀ c, c + j = 6 → zs PG mX3_placeSum 4 [.ref (α 0), .int (nI (ksm (fun c => 2 ^ (S.c c).p) c)), .int (nI c)] [] (mH α σ h) = some (.inl (some (.int (nI (ksm (fun c => 2 ^ (S.c c).p) 6)))), mH α σ h) := by
  induction j with
  | zero =>
    intro c hc
    have hc : c = 6 := by omega
    subst hc
    rw [uX3_placeSum_at4]
    simp (disch := omega) only [uX3_placeSum, mG, mP hα, mR hα, mW hα, mgs, zKK, zB, zBl, zBb, zlg, zA, zA3, zL3, km31, km63, klshr, kishr, k2p, kl1shl, klmask, kland1, kiand1, k_l2i, zrt_b, zrt_0, zrt_1, zdv_n, zdv_l]
  | succ j ih =>
    intro c hc
    have hb : σ.bi c = (S.c c).p := (hR.1 c (by omega)).1
    have hp := t_places hα σ h (c := c) (by omega) (by rw [hb]; exact (hI.1 c (by omega)).2.1)
    rw [hb] at hp
    rw [uX3_placeSum_at4, ← ih (c + 1) (by omega), ksm]
    simp (disch := omega) only [uX3_placeSum, mG, mP hα, mR hα, mW hα, mgs, zKK, zB, zBl, zBb, zlg, zA, zA3, zL3, km31, km63, klshr, kishr, k2p, kl1shl, klmask, kland1, kiand1, k_l2i, zrt_b, zrt_0, zrt_1, zdv_n, zdv_l, hp]
def q_count (S : kS) (w : Int32) : Int32 := if kbd w 0 7 then (match kN w with | 0 => S.a | 1 => S.b | 2 => nI (kdb (fun c => (S.c c).d) 6) | 3 => nI (kdb (fun c => decide (0 < krd (S.c c).r (2 ^ (S.c c).p))) 6) | 4 => nI S.w.length | 5 => nI S.t.length | 6 => nI (ksm (fun c => (S.c c).m.length) 6) | _ => nI (ksm (fun c => 2 ^ (S.c c).p) 6)) else -1
theorem M_count {α : Nat → Nat} (hα : mD α) (σ : mS) (h : zH) {S : kS} (hR : mR6 S σ) (hI : kSI S) (w : Int32) : ∃ σ', zc PG mX3_count [.ref (α 0), .int w] (mH α σ h) = some (.inl (some (.int (q_count S w))), mH α σ' h) ∧ mR6 S σ' := by
  unfold q_count
  refine ⟨_, ?_, hR.th 0⟩
  have hR0 := hR.th 0
  have g1 : σ.tm = S.a := hR.2.1
  have g2 : σ.mo = S.b := hR.2.2.1
  have g3 : σ.ty = S.t.length := hR.2.2.2.1
  have g4 : σ.rm = S.w.length := hR.2.2.2.2.2.1
  have l1 := t_denseBits_loop hα (σ.s_th 0) h hR0 6 0 rfl
  have l2 := t_rankedBits_loop hα (σ.s_th 0) h hR0 hI 6 0 rfl
  have l3 := t_markSum_loop hα (σ.s_th 0) h hR0 6 0 rfl
  have l4 := t_placeSum_loop hα (σ.s_th 0) h hR0 hI 6 0 rfl
  rw [show kdb (fun c => (S.c c).d) 0 = 0 from rfl] at l1
  rw [show kdb (fun c => decide (0 < krd (S.c c).r (2 ^ (S.c c).p))) 0 = 0 from rfl] at l2
  rw [show ksm (fun c => (S.c c).m.length) 0 = 0 from rfl] at l3
  rw [show ksm (fun c => 2 ^ (S.c c).p) 0 = 0 from rfl] at l4
  rcases kbd_cases w 0 7 with e2 | ⟨w, -, hw, rfl⟩
  · have es := zsw_out (lo := 0) (ts := [52, 57, 62, 67, 72, 77, 82, 87]) (d := 92) (x := w) e2 (by decide)
    simp only [e2, Bool.false_eq_true, if_false]
    simp (disch := omega) only [eX3_count, uX3_count, mG, mP hα, mR hα, mW hα, mgs, zKK, zB, zBl, zBb, zlg, zA, zA3, zL3, km31, km63, klshr, kishr, k2p, kl1shl, klmask, kland1, kiand1, k_l2i, zrt_b, zrt_0, zrt_1, zdv_n, zdv_l, es]
  · have e2 := kbd_nI (Nat.zero_le w) hw (by omega)
    simp only [e2, if_true]
    rw [kN_nI (by omega)]
    have h' : w = 0 ∨ w = 1 ∨ w = 2 ∨ w = 3 ∨ w = 4 ∨ w = 5 ∨ w = 6 ∨ w = 7 := by omega
    rcases h' with rfl | rfl | rfl | rfl | rfl | rfl | rfl | rfl
    · simp (disch := omega) only [eX3_count, uX3_count, mG, mP hα, mR hα, mW hα, mgs, zKK, zB, zBl, zBb, zlg, zA, zA3, zL3, km31, km63, klshr, kishr, k2p, kl1shl, klmask, kland1, kiand1, k_l2i, zrt_b, zrt_0, zrt_1, zdv_n, zdv_l, show zsw 0 [52, 57, 62, 67, 72, 77, 82, 87] 92 (nI 0) = 52 by decide, g1]
    · simp (disch := omega) only [eX3_count, uX3_count, mG, mP hα, mR hα, mW hα, mgs, zKK, zB, zBl, zBb, zlg, zA, zA3, zL3, km31, km63, klshr, kishr, k2p, kl1shl, klmask, kland1, kiand1, k_l2i, zrt_b, zrt_0, zrt_1, zdv_n, zdv_l, show zsw 0 [52, 57, 62, 67, 72, 77, 82, 87] 92 (nI 1) = 57 by decide, g2]
    · simp (disch := omega) only [eX3_count, uX3_count, mG, mP hα, mR hα, mW hα, mgs, zKK, zB, zBl, zBb, zlg, zA, zA3, zL3, km31, km63, klshr, kishr, k2p, kl1shl, klmask, kland1, kiand1, k_l2i, zrt_b, zrt_0, zrt_1, zdv_n, zdv_l, show zsw 0 [52, 57, 62, 67, 72, 77, 82, 87] 92 (nI 2) = 62 by decide, eX3_denseBits, uX3_denseBits, l1]
    · simp (disch := omega) only [eX3_count, uX3_count, mG, mP hα, mR hα, mW hα, mgs, zKK, zB, zBl, zBb, zlg, zA, zA3, zL3, km31, km63, klshr, kishr, k2p, kl1shl, klmask, kland1, kiand1, k_l2i, zrt_b, zrt_0, zrt_1, zdv_n, zdv_l, show zsw 0 [52, 57, 62, 67, 72, 77, 82, 87] 92 (nI 3) = 67 by decide, eX3_rankedBits, uX3_rankedBits, l2]
    · simp (disch := omega) only [eX3_count, uX3_count, mG, mP hα, mR hα, mW hα, mgs, zKK, zB, zBl, zBb, zlg, zA, zA3, zL3, km31, km63, klshr, kishr, k2p, kl1shl, klmask, kland1, kiand1, k_l2i, zrt_b, zrt_0, zrt_1, zdv_n, zdv_l, show zsw 0 [52, 57, 62, 67, 72, 77, 82, 87] 92 (nI 4) = 72 by decide, g4]
    · simp (disch := omega) only [eX3_count, uX3_count, mG, mP hα, mR hα, mW hα, mgs, zKK, zB, zBl, zBb, zlg, zA, zA3, zL3, km31, km63, klshr, kishr, k2p, kl1shl, klmask, kland1, kiand1, k_l2i, zrt_b, zrt_0, zrt_1, zdv_n, zdv_l, show zsw 0 [52, 57, 62, 67, 72, 77, 82, 87] 92 (nI 5) = 77 by decide, g3]
    · simp (disch := omega) only [eX3_count, uX3_count, mG, mP hα, mR hα, mW hα, mgs, zKK, zB, zBl, zBb, zlg, zA, zA3, zL3, km31, km63, klshr, kishr, k2p, kl1shl, klmask, kland1, kiand1, k_l2i, zrt_b, zrt_0, zrt_1, zdv_n, zdv_l, show zsw 0 [52, 57, 62, 67, 72, 77, 82, 87] 92 (nI 6) = 82 by decide, eX3_markSum, uX3_markSum, l3]
    · simp (disch := omega) only [eX3_count, uX3_count, mG, mP hα, mR hα, mW hα, mgs, zKK, zB, zBl, zBb, zlg, zA, zA3, zL3, km31, km63, klshr, kishr, k2p, kl1shl, klmask, kland1, kiand1, k_l2i, zrt_b, zrt_0, zrt_1, zdv_n, zdv_l, show zsw 0 [52, 57, 62, 67, 72, 77, 82, 87] 92 (nI 7) = 87 by decide, eX3_placeSum, uX3_placeSum, l4]
/-! rows of bits -/
theorem t_isRow {α : Nat → Nat} (hα : mD α) (σ : mS) (h : zH) {c : Nat} {C : kC} (hR : mRd σ c C) (j : Int32) : zc PG mX3_isRow [.ref (α 0), .int (nI c), .int j] (mH α σ h) = some (.inl (some (.int (zb (kbd j 0 ((2 ^ C.p - 1) / 12))))), mH α σ h) := by
  obtain ⟨hc, hb, h8, h4, hr, hr2⟩ := hR
  have h2 := k2p_le h8
  have h3 := k2p_ge h4
  have hp := t_places hα σ h hc (by rw [hb]; exact h8)
  rw [hb] at hp
  rcases kbd_cases j 0 ((2 ^ C.p - 1) / 12) with e | ⟨j, -, hj, rfl⟩
  · simp (disch := omega) only [eX3_isRow, uX3_isRow, mG, mP hα, mR hα, mW hα, mgs, zKK, zB, zBl, zBb, zlg, zA, zA3, zL3, km31, km63, klshr, kishr, k2p, kl1shl, klmask, kland1, kiand1, k_l2i, zrt_b, zrt_0, zrt_1, zdv_n, zdv_l, hp, t_ini]
  · simp (disch := omega) only [eX3_isRow, uX3_isRow, mG, mP hα, mR hα, mW hα, mgs, zKK, zB, zBl, zBb, zlg, zA, zA3, zL3, km31, km63, klshr, kishr, k2p, kl1shl, klmask, kland1, kiand1, k_l2i, zrt_b, zrt_0, zrt_1, zdv_n, zdv_l, hp, t_inN]
def kbs (r : Nat → Nat) (o : Nat) : Nat → Int64
  | 0 => lN 0
  | x + 1 => kbs r o x ||| lN (r (o + x) * 2 ^ (5 * x))
theorem t_bits_loop {α : Nat → Nat} (hα : mD α) (σ : mS) (h : zH) {c : Nat} {C : kC} (hR : mRd σ c C) {j : Nat} (hj : 12 * j < 2 ^ C.p) (k : Nat) : ∀ x, x + k = min 12 (2 ^ C.p - 12 * j) → zs PG mX3_bits 30 [.ref (α 0), .int (nI c), .int (nI j), .long (kbs C.r (12 * j) x), zJ, .int (nI x)] [] (mH α σ h) = some (.inl (some (.long (kbs C.r (12 * j) (min 12 (2 ^ C.p - 12 * j))))), mH α σ h) := by
  obtain ⟨hc, hb, h8, h4, hr, hr2⟩ := hR
  have h2 := k2p_le h8
  have hp := t_places hα σ h hc (by rw [hb]; exact h8)
  rw [hb] at hp
  induction k with
  | zero =>
    intro x hx
    have hx : x = min 12 (2 ^ C.p - 12 * j) := hx
    rw [uX3_bits_at30, ← hx]
    by_cases e : x < 12
    · simp (disch := omega) only [uX3_bits, mG, mP hα, mR hα, mW hα, mgs, zKK, zB, zBl, zBb, zlg, zA, zA3, zL3, km31, km63, klshr, kishr, k2p, kl1shl, klmask, kland1, kiand1, k_l2i, zrt_b, zrt_0, zrt_1, zdv_n, zdv_l, hp]
    · simp (disch := omega) only [uX3_bits, mG, mP hα, mR hα, mW hα, mgs, zKK, zB, zBl, zBb, zlg, zA, zA3, zL3, km31, km63, klshr, kishr, k2p, kl1shl, klmask, kland1, kiand1, k_l2i, zrt_b, zrt_0, zrt_1, zdv_n, zdv_l, hp]
  | succ k ih =>
    intro x hx
    have hr1 := hr (12 * j + x) (by omega)
    have hr3 := hr2 (12 * j + x)
    rw [← ih (x + 1) (by omega), uX3_bits_at30, kbs]
    simp (disch := omega) only [uX3_bits, mG, mP hα, mR hα, mW hα, mgs, zKK, zB, zBl, zBb, zlg, zA, zA3, zL3, km31, km63, klshr, kishr, k2p, kl1shl, klmask, kland1, kiand1, k_l2i, zrt_b, zrt_0, zrt_1, zdv_n, zdv_l, hp, t_at, hr1, klshl]
def q_bits (S : kS) (c j : Int32) : Int64 := if kbd c 0 5 && kbd j 0 ((2 ^ (S.c (kN c)).p - 1) / 12) then kbs (S.c (kN c)).r (12 * kN j) (min 12 (2 ^ (S.c (kN c)).p - 12 * kN j)) else -1
theorem M_bits {α : Nat → Nat} (hα : mD α) (σ : mS) (h : zH) {S : kS} (hR : mR6 S σ) (hI : kSI S) (c j : Int32) : ∃ σ', zc PG mX3_bits [.ref (α 0), .int c, .int j] (mH α σ h) = some (.inl (some (.long (q_bits S c j))), mH α σ' h) ∧ mR6 S σ' := by
  unfold q_bits
  refine ⟨_, ?_, hR.th 0⟩
  rcases kbd_cases c 0 5 with e1 | ⟨c, -, hc, rfl⟩
  · simp only [e1, Bool.false_and, Bool.false_eq_true, if_false]
    simp (disch := omega) only [eX3_bits, uX3_bits, mG, mP hα, mR hα, mW hα, mgs, zKK, zB, zBl, zBb, zlg, zA, zA3, zL3, km31, km63, klshr, kishr, k2p, kl1shl, klmask, kland1, kiand1, k_l2i, zrt_b, zrt_0, zrt_1, zdv_n, zdv_l, t_isCounter, e1]
  · have e1 := kbd_nI (Nat.zero_le c) hc (by omega)
    rw [kN_nI (by omega : c < 2147483648)]
    have iC := hI.1 c (by omega)
    have rd := ((hR.th 0).1 c (by omega)).rd iC (by omega)
    have h2 := k2p_le iC.2.1
    have h3 := k2p_ge iC.1
    have er := t_isRow hα (σ.s_th 0) h rd j
    rcases kbd_cases j 0 ((2 ^ (S.c c).p - 1) / 12) with e2 | ⟨j, -, hj, rfl⟩
    · rw [e2] at er
      simp only [e1, e2, Bool.and_false, Bool.false_eq_true, if_false]
      simp (disch := omega) only [eX3_bits, uX3_bits, mG, mP hα, mR hα, mW hα, mgs, zKK, zB, zBl, zBb, zlg, zA, zA3, zL3, km31, km63, klshr, kishr, k2p, kl1shl, klmask, kland1, kiand1, k_l2i, zrt_b, zrt_0, zrt_1, zdv_n, zdv_l, t_isCounter, e1, er]
    · have e2 := kbd_nI (Nat.zero_le j) hj (by omega)
      rw [e2] at er
      simp only [e1, e2, Bool.and_self, if_true]
      rw [kN_nI (by omega)]
      have el := t_bits_loop hα (σ.s_th 0) h rd (j := j) (by omega) (min 12 (2 ^ (S.c c).p - 12 * j)) 0 (by omega)
      rw [show kbs (S.c c).r (12 * j) 0 = lN 0 from rfl] at el
      simp (disch := omega) only [eX3_bits, uX3_bits, mG, mP hα, mR hα, mW hα, mgs, zKK, zB, zBl, zBb, zlg, zA, zA3, zL3, km31, km63, klshr, kishr, k2p, kl1shl, klmask, kland1, kiand1, k_l2i, zrt_b, zrt_0, zrt_1, zdv_n, zdv_l, t_isCounter, e1, er, el]
def kss (r : Nat → Nat) (b o : Nat) : Nat → Int64
  | 0 => lN 0
  | x + 1 => kss r b o x ||| lN (r (o + x) / 2 ^ b % 2 * 2 ^ x)
theorem t_slice_loop {α : Nat → Nat} (hα : mD α) (σ : mS) (h : zH) {c : Nat} {C : kC} (hR : mRd σ c C) {b j : Nat} (hb4 : b ≤ 4) (hj : j ≤ 3) (k : Nat) : ∀ x, x + k = min 64 (2 ^ C.p - 64 * j) → zs PG mX3_slice 44 [.ref (α 0), .int (nI c), .int (nI b), .int (nI j), .long (kss C.r b (64 * j) x), zJ, .int (nI x)] [] (mH α σ h) = some (.inl (some (.long (kss C.r b (64 * j) (min 64 (2 ^ C.p - 64 * j))))), mH α σ h) := by
  obtain ⟨hc, hb, h8, h4, hr, hr2⟩ := hR
  have h2 := k2p_le h8
  have hp := t_places hα σ h hc (by rw [hb]; exact h8)
  rw [hb] at hp
  induction k with
  | zero =>
    intro x hx
    have hx : x = min 64 (2 ^ C.p - 64 * j) := hx
    rw [uX3_slice_at44, ← hx]
    by_cases e : x < 64
    · simp (disch := omega) only [uX3_slice, mG, mP hα, mR hα, mW hα, mgs, zKK, zB, zBl, zBb, zlg, zA, zA3, zL3, km31, km63, klshr, kishr, k2p, kl1shl, klmask, kland1, kiand1, k_l2i, zrt_b, zrt_0, zrt_1, zdv_n, zdv_l, hp]
    · simp (disch := omega) only [uX3_slice, mG, mP hα, mR hα, mW hα, mgs, zKK, zB, zBl, zBb, zlg, zA, zA3, zL3, km31, km63, klshr, kishr, k2p, kl1shl, klmask, kland1, kiand1, k_l2i, zrt_b, zrt_0, zrt_1, zdv_n, zdv_l, hp]
  | succ k ih =>
    intro x hx
    have hr1 := hr (64 * j + x) (by omega)
    have hr3 := hr2 (64 * j + x)
    have hd : C.r (64 * j + x) / 2 ^ b ≤ C.r (64 * j + x) := Nat.div_le_self _ _
    rw [← ih (x + 1) (by omega), uX3_slice_at44, kss]
    simp (disch := omega) only [uX3_slice, mG, mP hα, mR hα, mW hα, mgs, zKK, zB, zBl, zBb, zlg, zA, zA3, zL3, km31, km63, klshr, kishr, k2p, kl1shl, klmask, kland1, kiand1, k_l2i, zrt_b, zrt_0, zrt_1, zdv_n, zdv_l, hp, t_at, hr1, klshl]
def q_slice (S : kS) (c b j : Int32) : Int64 := if kbd c 0 5 && kbd b 0 4 && kbd j 0 3 then kss (S.c (kN c)).r (kN b) (64 * kN j) (min 64 (2 ^ (S.c (kN c)).p - 64 * kN j)) else lN 0
theorem M_slice {α : Nat → Nat} (hα : mD α) (σ : mS) (h : zH) {S : kS} (hR : mR6 S σ) (hI : kSI S) (c b j : Int32) : ∃ σ', zc PG mX3_slice [.ref (α 0), .int c, .int b, .int j] (mH α σ h) = some (.inl (some (.long (q_slice S c b j))), mH α σ' h) ∧ mR6 S σ' := by
  unfold q_slice
  refine ⟨_, ?_, hR.th 0⟩
  rcases kbd_cases c 0 5 with e1 | ⟨c, -, hc, rfl⟩
  · simp only [e1, Bool.false_and, Bool.false_eq_true, if_false]
    simp (disch := omega) only [eX3_slice, uX3_slice, mG, mP hα, mR hα, mW hα, mgs, zKK, zB, zBl, zBb, zlg, zA, zA3, zL3, km31, km63, klshr, kishr, k2p, kl1shl, klmask, kland1, kiand1, k_l2i, zrt_b, zrt_0, zrt_1, zdv_n, zdv_l, t_isCounter, e1]
  · have e1 := kbd_nI (Nat.zero_le c) hc (by omega)
    rw [kN_nI (by omega : c < 2147483648)]
    rcases kbd_cases b 0 4 with e2 | ⟨b, -, hb, rfl⟩
    · simp only [e1, e2, Bool.and_false, Bool.false_and, Bool.false_eq_true, if_false]
      simp (disch := omega) only [eX3_slice, uX3_slice, mG, mP hα, mR hα, mW hα, mgs, zKK, zB, zBl, zBb, zlg, zA, zA3, zL3, km31, km63, klshr, kishr, k2p, kl1shl, klmask, kland1, kiand1, k_l2i, zrt_b, zrt_0, zrt_1, zdv_n, zdv_l, t_isCounter, e1, t_ini, e2]
    · have e2 := kbd_nI (Nat.zero_le b) hb (by omega)
      rcases kbd_cases j 0 3 with e3 | ⟨j, -, hj, rfl⟩
      · simp only [e1, e2, e3, Bool.and_false, Bool.false_eq_true, if_false]
        simp (disch := omega) only [eX3_slice, uX3_slice, mG, mP hα, mR hα, mW hα, mgs, zKK, zB, zBl, zBb, zlg, zA, zA3, zL3, km31, km63, klshr, kishr, k2p, kl1shl, klmask, kland1, kiand1, k_l2i, zrt_b, zrt_0, zrt_1, zdv_n, zdv_l, t_isCounter, e1, t_ini, t_inN, e2, e3]
      · have e3 := kbd_nI (Nat.zero_le j) hj (by omega)
        simp only [e1, e2, e3, Bool.and_self, if_true]
        rw [kN_nI (by omega), kN_nI (by omega)]
        have iC := hI.1 c (by omega)
        have rd := ((hR.th 0).1 c (by omega)).rd iC (by omega)
        have el := t_slice_loop hα (σ.s_th 0) h rd hb hj (min 64 (2 ^ (S.c c).p - 64 * j)) 0 (by omega)
        rw [show kss (S.c c).r b (64 * j) 0 = lN 0 from rfl] at el
        simp (disch := omega) only [eX3_slice, uX3_slice, mG, mP hα, mR hα, mW hα, mgs, zKK, zB, zBl, zBb, zlg, zA, zA3, zL3, km31, km63, klshr, kishr, k2p, kl1shl, klmask, kland1, kiand1, k_l2i, zrt_b, zrt_0, zrt_1, zdv_n, zdv_l, t_isCounter, e1, t_inN, e2, e3, el]
