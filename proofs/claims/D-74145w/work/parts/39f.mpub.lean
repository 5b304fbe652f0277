/-! THE MODEL's PUBLIC METHODS: sets -/
theorem nx_or (a b : Nat) : nI a ||| nI b = nI (a ||| b) := by
  apply Int32.toBitVec_inj.mp
  show BitVec.ofNat 32 a ||| BitVec.ofNat 32 b = BitVec.ofNat 32 (a ||| b)
  exact BitVec.ofNat_or.symm
theorem kbo_n : kbo none = (-1) := rfl
theorem kbo_s (b : Nat) : kbo (some b) = nI b := rfl
def kpc (s : Nat) : Nat := ((List.range 6).filter (fun c => s.testBit c)).length
theorem kb_all {P : Nat → Nat → Bool} (h : ((List.range 64).all fun s => (List.range 6).all fun c => P s c) = true) {s c : Nat} (hs : s < 64) (hc : c < 6) : P s c = true := List.all_eq_true.mp (List.all_eq_true.mp h s (List.mem_range.mpr hs)) c (List.mem_range.mpr hc)
theorem kb_set {s c : Nat} (hs : s < 64) (hc : c < 6) (h : s.testBit c = false) : (s ||| 2 ^ c) < 64 ∧ kpc (s ||| 2 ^ c) = kpc s + 1 := by
  have := kb_all (P := fun s c => s.testBit c || (decide ((s ||| 2 ^ c) < 64) && decide (kpc (s ||| 2 ^ c) = kpc s + 1))) (by decide +kernel) hs hc
  simpa [h] using this
theorem kb_low {s c : Nat} (hs : s < 64) (hc : c < 6) : (s.testBit c = true → (s % 2 ^ c) ||| 2 ^ c = s % 2 ^ (c + 1)) ∧ (s.testBit c = false → s % 2 ^ (c + 1) = s % 2 ^ c) ∧ (s.testBit c = true → 1 ≤ s % 2 ^ (c + 1)) := by
  have := kb_all (P := fun s c => (!s.testBit c || (decide ((s % 2 ^ c) ||| 2 ^ c = s % 2 ^ (c + 1)) && decide (1 ≤ s % 2 ^ (c + 1)))) && (s.testBit c || decide (s % 2 ^ (c + 1) = s % 2 ^ c))) (by decide +kernel) hs hc
  cases e : s.testBit c with
  | true => simp [e] at this; exact ⟨fun _ => this.1, (fun q => by cases q), fun _ => this.2⟩
  | false => simp [e] at this; exact ⟨(fun q => by cases q), fun _ => this, (fun q => by cases q)⟩
theorem kb_some {s : Nat} (hs : s < 64) (h : kpc s < 6) : ∃ c, c < 6 ∧ s.testBit c = false := by
  have := List.all_eq_true.mp (show ((List.range 64).all fun s => decide (kpc s = 6) || (List.range 6).any fun c => !s.testBit c) = true by decide +kernel) s (List.mem_range.mpr hs)
  simp only [Bool.or_eq_true, decide_eq_true_eq, List.any_eq_true, Bool.not_eq_true'] at this
  rcases this with q | ⟨c, hc, q⟩
  · omega
  · exact ⟨c, List.mem_range.mp hc, q⟩
theorem kbit0 {s c : Nat} (h : s.testBit c = false) : s / 2 ^ c % 2 = 0 := by rw [kbit, h]; rfl
theorem kbit1 {s c : Nat} (h : s.testBit c = true) : s / 2 ^ c % 2 = 1 := by rw [kbit, h]; rfl
/-- a set's guess -/
def kG (S : kS) (t : Nat) : Nat := kguess (kjoin (kls S.c t 6))
theorem kG_le {S : kS} (hI : kSI S) (t : Nat) : kG S t ≤ 2000000000 := kguess_le (kI_join (kI_ls hI.1))
theorem t_jG {α : Nat → Nat} (hα : mD α) (σ : mS) (h : zH) {S : kS} {w : List Int64} (hR : mR6 (S.s_w w) σ) (hI : kSI S) {s : Nat} (hs : s < 64) (h1 : 1 ≤ s) : ∃ σ', zc PG mX3_jointGuess [.ref (α 0), .int (nI s)] (mH α σ h) = some (.inl (some (.int (nI (kG S s)))), mH α σ' h) ∧ mR6 (S.s_w w) σ' := by
  obtain ⟨σ', q, f⟩ := t_jointGuess hα σ h hs h1 (S := S.c) hR.1 hI.1
  exact ⟨σ', q, hR.fr f⟩
theorem kS.w_self (S : kS) : S.s_w S.w = S := rfl
def kch (G : Nat → Nat) (s : Nat) : Nat → List Int64 × Nat × Nat
  | 0 => ([], 0, 0)
  | c + 1 => if s.testBit c then ((kch G s c).1 ++ [lN (G (s % 2 ^ (c + 1)))], (kch G s c).2.1 + (if (kch G s c).2.2 < G (s % 2 ^ (c + 1)) then 1 else 0), G (s % 2 ^ (c + 1))) else kch G s c
theorem kch_b {G : Nat → Nat} {b : Nat} (hG : ∀ t, G t ≤ b) (s c : Nat) : (kch G s c).1.length ≤ c ∧ (kch G s c).2.1 ≤ c ∧ (kch G s c).2.2 ≤ b := by
  induction c with
  | zero => exact ⟨Nat.le_refl _, Nat.le_refl _, Nat.zero_le _⟩
  | succ c ih =>
    unfold kch
    split
    · refine ⟨?_, ?_, hG _⟩
      · show ((kch G s c).1 ++ [lN (G (s % 2 ^ (c + 1)))]).length ≤ c + 1
        rw [List.length_append]
        simp
        omega
      · show (kch G s c).2.1 + (if (kch G s c).2.2 < G (s % 2 ^ (c + 1)) then 1 else 0) ≤ c + 1
        split <;> omega
    · exact ⟨by omega, by omega, ih.2.2⟩
theorem t_chain_loop {α : Nat → Nat} (hα : mD α) (h : zH) {S : kS} (hI : kSI S) {s : Nat} (hs : s < 64) (j : Nat) : ∀ (c : Nat) (σ : mS) (u : Value), c + j = 6 → mR6 (S.s_w (kch (kG S) s c).1) σ → ∃ σ', zs PG mX3_chain 29 [.ref (α 0), .int (nI s), .int (nI (s % 2 ^ c)), .int (nI (kch (kG S) s c).2.2), .int (nI (kch (kG S) s c).2.1), .int (nI c), u] [] (mH α σ h) = some (.inl (some (.int (nI (kch (kG S) s 6).2.1))), mH α σ' h) ∧ mR6 (S.s_w (kch (kG S) s 6).1) σ' := by
  induction j with
  | zero =>
    intro c σ u hc hR
    have hc : c = 6 := by omega
    subst hc
    refine ⟨σ, ?_, hR⟩
    rw [uX3_chain_at29]
    simp (disch := omega) only [uX3_chain, mG, mP hα, mR hα, mW hα, mgs, zKK, zB, zBl, zBb, zlg, zA, zA3, zL3, km31, km63, klshr, kishr, k2p, kl1shl, klmask, kland1, kiand1, k_l2i, zrt_b, zrt_0, zrt_1, zdv_n, zdv_l]
  | succ j ih =>
    intro c σ u hc hR
    have hd : s / 2 ^ c ≤ s := Nat.div_le_self _ _
    obtain ⟨l1, l2, l3⟩ := kb_low hs (by omega : c < 6)
    obtain ⟨b1, b2, b3⟩ := kch_b (kG_le hI) s c
    have hml : s % 2 ^ (c + 1) ≤ s := Nat.mod_le _ _
    cases e : s.testBit c with
    | true =>
      have e1 := kbit1 e
      have l1 := l1 e
      have l3 := l3 e
      obtain ⟨σ1, q1, R1⟩ := t_jG hα σ h hR hI (s := s % 2 ^ (c + 1)) (by omega) l3
      obtain ⟨σ2, q2, R2⟩ := t_tellX hα σ1 h R1 (by omega) (lN (kG S (s % 2 ^ (c + 1))))
      have hg := kG_le hI (s % 2 ^ (c + 1))
      have ek : kch (kG S) s (c + 1) = ((kch (kG S) s c).1 ++ [lN (kG S (s % 2 ^ (c + 1)))], (kch (kG S) s c).2.1 + (if (kch (kG S) s c).2.2 < kG S (s % 2 ^ (c + 1)) then 1 else 0), kG S (s % 2 ^ (c + 1))) := by
        rw [kch, e]; rfl
      obtain ⟨σ', r1, r2⟩ := ih (c + 1) σ2 (.int (nI (kG S (s % 2 ^ (c + 1))))) (by omega) (by rw [ek]; exact R2)
      refine ⟨σ', ?_, r2⟩
      rw [ek] at r1
      rw [uX3_chain_at29, ← r1]
      by_cases e2 : (kch (kG S) s c).2.2 < kG S (s % 2 ^ (c + 1))
      · simp (disch := omega) only [uX3_chain, mG, mP hα, mR hα, mW hα, mgs, zKK, zB, zBl, zBb, zlg, zA, zA3, zL3, km31, km63, klshr, kishr, k2p, kl1shl, klmask, kland1, kiand1, k_l2i, zrt_b, zrt_0, zrt_1, zdv_n, zdv_l, e1, nx_or, l1, q1, q2, if_pos e2]
      · simp (disch := omega) only [uX3_chain, mG, mP hα, mR hα, mW hα, mgs, zKK, zB, zBl, zBb, zlg, zA, zA3, zL3, km31, km63, klshr, kishr, k2p, kl1shl, klmask, kland1, kiand1, k_l2i, zrt_b, zrt_0, zrt_1, zdv_n, zdv_l, e1, nx_or, l1, q1, q2, if_neg e2]
    | false =>
      have e1 := kbit0 e
      have l2 := l2 e
      have ek : kch (kG S) s (c + 1) = kch (kG S) s c := by rw [kch, e]; rfl
      obtain ⟨σ', r1, r2⟩ := ih (c + 1) σ u (by omega) (by rw [ek]; exact hR)
      refine ⟨σ', ?_, r2⟩
      rw [ek, l2] at r1
      rw [uX3_chain_at29, ← r1]
      simp (disch := omega) only [uX3_chain, mG, mP hα, mR hα, mW hα, mgs, zKK, zB, zBl, zBb, zlg, zA, zA3, zL3, km31, km63, klshr, kishr, k2p, kl1shl, klmask, kland1, kiand1, k_l2i, zrt_b, zrt_0, zrt_1, zdv_n, zdv_l, e1]
def q_chain (S : kS) (s : Int32) : Int32 × kS := if kbd s 1 63 then (nI (kch (kG S) (kN s) 6).2.1, S.s_w (kch (kG S) (kN s) 6).1) else (-1, S)
theorem M_chain {α : Nat → Nat} (hα : mD α) (σ : mS) (h : zH) {S : kS} (hR : mR6 S σ) (hI : kSI S) (s : Int32) : ∃ σ', zc PG mX3_chain [.ref (α 0), .int s] (mH α σ h) = some (.inl (some (.int (q_chain S s).1)), mH α σ' h) ∧ mR6 (q_chain S s).2 σ' := by
  unfold q_chain
  rcases kbd_cases s 1 63 with e1 | ⟨s, h1, hs, rfl⟩
  · simp only [e1, Bool.false_eq_true, if_false]
    refine ⟨_, ?_, hR.th 0⟩
    simp (disch := omega) only [eX3_chain, uX3_chain, mG, mP hα, mR hα, mW hα, mgs, zKK, zB, zBl, zBb, zlg, zA, zA3, zL3, km31, km63, klshr, kishr, k2p, kl1shl, klmask, kland1, kiand1, k_l2i, zrt_b, zrt_0, zrt_1, zdv_n, zdv_l, t_isSet, e1]
  · have e1 := kbd_nI h1 hs (by omega)
    simp only [e1, if_true]
    rw [kN_nI (by omega)]
    obtain ⟨σ', r1, r2⟩ := t_chain_loop hα h hI (s := s) (by omega) 6 0 ((σ.s_th 0).s_rm 0) zJ rfl (hR.th 0).rm0
    refine ⟨σ', ?_, r2⟩
    rw [show s % 2 ^ 0 = 0 by omega, show (kch (kG S) s 0).2.2 = 0 from rfl, show (kch (kG S) s 0).2.1 = 0 from rfl] at r1
    simp (disch := omega) only [eX3_chain, uX3_chain, mG, mP hα, mR hα, mW hα, mgs, zKK, zB, zBl, zBb, zlg, zA, zA3, zL3, km31, km63, klshr, kishr, k2p, kl1shl, klmask, kland1, kiand1, k_l2i, zrt_b, zrt_0, zrt_1, zdv_n, zdv_l, t_isSet, e1, r1]
/-- the sum of a set's guesses -/
def kov (S : kS) (s : Nat) : Nat → Nat
  | 0 => 0
  | c + 1 => kov S s c + if s.testBit c then kguess (S.c c) else 0
theorem t_over_loop {α : Nat → Nat} (hα : mD α) (h : zH) {S : kS} (hI : kSI S) {s : Nat} (hs : s < 64) (j : Nat) : ∀ (c : Nat) (σ : mS), c + j = 6 → mR6 S σ → ∃ σ', zs PG mX3_over 21 [.ref (α 0), .int (nI s), .long (lN (kov S s c)), zJ, .int (nI c)] [] (mH α σ h) = zs PG mX3_over 58 [.ref (α 0), .int (nI s), .long (lN (kov S s 6)), zJ, .int (nI 6)] [] (mH α σ' h) ∧ mR6 S σ' := by
  induction j with
  | zero =>
    intro c σ hc hR
    have hc : c = 6 := by omega
    subst hc
    refine ⟨σ, ?_, hR⟩
    rw [uX3_over_at21]
    simp (disch := omega) only [uX3_over_at23, uX3_over_at25, zKK, zB]
  | succ j ih =>
    intro c σ hc hR
    have hd : s / 2 ^ c ≤ s := Nat.div_le_self _ _
    cases e : s.testBit c with
    | true =>
      have e1 := kbit1 e
      obtain ⟨x, q⟩ := t_guessX hα σ h (hR.1 c (by omega)) (hI.1 c (by omega)) (by omega)
      have g := kguess_le (hI.1 c (by omega))
      obtain ⟨σ', r1, r2⟩ := ih (c + 1) (σ.s_hw x) (by omega) (hR.hw x)
      refine ⟨σ', ?_, r2⟩
      rw [kov, e] at r1
      simp only [if_true] at r1
      rw [uX3_over_at21, ← r1]
      simp (disch := omega) only [uX3_over, mG, mP hα, mR hα, mW hα, mgs, zKK, zB, zBl, zBb, zlg, zA, zA3, zL3, km31, km63, klshr, kishr, k2p, kl1shl, klmask, kland1, kiand1, k_l2i, zrt_b, zrt_0, zrt_1, zdv_n, zdv_l, e1, q]
    | false =>
      have e1 := kbit0 e
      obtain ⟨σ', r1, r2⟩ := ih (c + 1) σ (by omega) hR
      refine ⟨σ', ?_, r2⟩
      rw [kov, e] at r1
      simp only [Bool.false_eq_true, if_false] at r1
      rw [uX3_over_at21, ← r1]
      simp (disch := omega) only [uX3_over, mG, mP hα, mR hα, mW hα, mgs, zKK, zB, zBl, zBb, zlg, zA, zA3, zL3, km31, km63, klshr, kishr, k2p, kl1shl, klmask, kland1, kiand1, k_l2i, zrt_b, zrt_0, zrt_1, zdv_n, zdv_l, e1]
def q_over (S : kS) (s : Int32) : Int64 × kS := if kbd s 1 63 then (lN (kov S (kN s) 6) - lN (kG S (kN s)), S.s_w [lN (kov S (kN s) 6), lN (kG S (kN s))]) else (-1, S)
theorem M_over {α : Nat → Nat} (hα : mD α) (σ : mS) (h : zH) {S : kS} (hR : mR6 S σ) (hI : kSI S) (s : Int32) : ∃ σ', zc PG mX3_over [.ref (α 0), .int s] (mH α σ h) = some (.inl (some (.long (q_over S s).1)), mH α σ' h) ∧ mR6 (q_over S s).2 σ' := by
  unfold q_over
  rcases kbd_cases s 1 63 with e1 | ⟨s, h1, hs, rfl⟩
  · simp only [e1, Bool.false_eq_true, if_false]
    refine ⟨_, ?_, hR.th 0⟩
    simp (disch := omega) only [eX3_over, uX3_over, mG, mP hα, mR hα, mW hα, mgs, zKK, zB, zBl, zBb, zlg, zA, zA3, zL3, km31, km63, klshr, kishr, k2p, kl1shl, klmask, kland1, kiand1, k_l2i, zrt_b, zrt_0, zrt_1, zdv_n, zdv_l, t_isSet, e1]
  · have e1 := kbd_nI h1 hs (by omega)
    simp only [e1, if_true]
    rw [kN_nI (by omega)]
    obtain ⟨σ1, r1, R1⟩ := t_over_loop hα h hI (s := s) (by omega) 6 0 (σ.s_th 0) rfl (hR.th 0)
    rw [show kov S s 0 = 0 from rfl] at r1
    obtain ⟨σ2, r2, R2⟩ := t_jG hα σ1 h (w := S.w) R1 hI (s := s) (by omega) h1
    have g := kG_le hI s
    have R3 := R2.rm0
    refine ⟨_, ?_, (R3.tell (lN (kov S s 6))).tell (lN (kG S s))⟩
    simp (disch := omega) only [eX3_over, uX3_over, mG, mP hα, mgs, zKK, zBb, zA3, t_isSet, e1, r1, r2, t_tell_s hα, Nat.zero_add, Nat.reduceAdd]
/-- the greatest of those that are left -/
def kob (G : Nat → Nat) (s : Nat) : Nat → Option Nat
  | 0 => none
  | c + 1 => if s.testBit c then kob G s c else match kob G s c with
    | none => some c
    | some b => if G b < G c then some c else some b
theorem kob_lt (G : Nat → Nat) (s n : Nat) : ∀ b, kob G s n = some b → b < n ∧ s.testBit b = false := by
  induction n with
  | zero => intro b q; cases q
  | succ n ih =>
    intro b q
    unfold kob at q
    cases e : s.testBit n with
    | true => rw [e] at q; have := ih b q; exact ⟨by omega, this.2⟩
    | false =>
      rw [e] at q
      simp only [Bool.false_eq_true, if_false] at q
      cases e2 : kob G s n with
      | none => rw [e2] at q; cases q; exact ⟨by omega, e⟩
      | some b' =>
        rw [e2] at q
        dsimp only at q
        split at q
        · cases q; exact ⟨by omega, e⟩
        · cases q; have := ih b e2; exact ⟨by omega, this.2⟩
theorem kob_some (G : Nat → Nat) (s n : Nat) (h : ∃ c, c < n ∧ s.testBit c = false) : ∃ b, kob G s n = some b := by
  induction n with
  | zero => obtain ⟨c, h1, -⟩ := h; omega
  | succ n ih =>
    unfold kob
    cases e : s.testBit n with
    | true =>
      simp only [if_true]
      obtain ⟨c, h1, h2⟩ := h
      exact ih ⟨c, by have : c ≠ n := fun q => by subst q; rw [e] at h2; cases h2
                      omega, h2⟩
    | false =>
      simp only [Bool.false_eq_true, if_false]
      cases e2 : kob G s n with
      | none => exact ⟨n, rfl⟩
      | some b =>
        dsimp only
        split
        · exact ⟨_, rfl⟩
        · exact ⟨_, rfl⟩
theorem t_order_inner {α : Nat → Nat} (hα : mD α) (h : zH) {S : kS} {w : List Int64} (hI : kSI S) {s : Nat} (hs : s < 64) (a2 : Int32) (j : Nat) : ∀ (c : Nat) (σ : mS), c + j = 6 → mR6 (S.s_w w) σ → ∃ σ', zs PG mX3_order 25 [.ref (α 0), .int (nI s), .int a2, .int (kbo (kob (fun c => kguess (S.c c)) s c)), .int (nI c)] [] (mH α σ h) = zs PG mX3_order 69 [.ref (α 0), .int (nI s), .int a2, .int (kbo (kob (fun c => kguess (S.c c)) s 6)), .int (nI 6)] [] (mH α σ' h) ∧ mR6 (S.s_w w) σ' := by
  induction j with
  | zero =>
    intro c σ hc hR
    have hc : c = 6 := by omega
    subst hc
    refine ⟨σ, ?_, hR⟩
    rw [uX3_order_at25]
    simp (disch := omega) only [uX3_order_at27, uX3_order_at29, zKK, zB]
  | succ j ih =>
    intro c σ hc hR
    have hd : s / 2 ^ c ≤ s := Nat.div_le_self _ _
    have hlt := kob_lt (fun c => kguess (S.c c)) s c
    cases e : s.testBit c with
    | true =>
      have e1 := kbit1 e
      obtain ⟨σ', r1, r2⟩ := ih (c + 1) σ (by omega) hR
      refine ⟨σ', ?_, r2⟩
      rw [kob, e] at r1
      simp only [if_true] at r1
      rw [uX3_order_at25, ← r1]
      simp (disch := omega) only [uX3_order, mG, mP hα, mR hα, mW hα, mgs, zKK, zB, zBl, zBb, zlg, zA, zA3, zL3, km31, km63, klshr, kishr, k2p, kl1shl, klmask, kland1, kiand1, k_l2i, zrt_b, zrt_0, zrt_1, zdv_n, zdv_l, e1]
    | false =>
      have e1 := kbit0 e
      cases e2 : kob (fun c => kguess (S.c c)) s c with
      | none =>
        obtain ⟨σ', r1, r2⟩ := ih (c + 1) σ (by omega) hR
        refine ⟨σ', ?_, r2⟩
        rw [kob, e, e2] at r1
        simp only [Bool.false_eq_true, if_false] at r1
        rw [uX3_order_at25, ← r1]
        simp (disch := omega) only [uX3_order, mG, mP hα, mR hα, mW hα, mgs, zKK, zB, zBl, zBb, zlg, zA, zA3, zL3, km31, km63, klshr, kishr, k2p, kl1shl, klmask, kland1, kiand1, k_l2i, zrt_b, zrt_0, zrt_1, zdv_n, zdv_l, e1, kbo_n, kbo_s, n1_n1]
      | some b =>
        obtain ⟨hb, -⟩ := hlt b e2
        have en := nI_n1 (k := b) (by omega)
        obtain ⟨x1, q1⟩ := t_guessX hα σ h (C := S.c c) (hR.1 c (by omega)) (hI.1 c (by omega)) (by omega)
        have R1 := hR.hw x1
        obtain ⟨x2, q2⟩ := t_guessX hα (σ.s_hw x1) h (C := S.c b) (R1.1 b (by omega)) (hI.1 b (by omega)) (by omega)
        have g1 := kguess_le (hI.1 c (by omega))
        have g2 := kguess_le (hI.1 b (by omega))
        obtain ⟨σ', r1, r2⟩ := ih (c + 1) ((σ.s_hw x1).s_hw x2) (by omega) (R1.hw x2)
        refine ⟨σ', ?_, r2⟩
        rw [kob, e, e2] at r1
        simp only [Bool.false_eq_true, if_false] at r1
        rw [uX3_order_at25, ← r1]
        by_cases e3 : kguess (S.c b) < kguess (S.c c)
        · simp (disch := omega) only [uX3_order, mG, mgs, zKK, zB, zA, km31, kishr, kiand1, e1, en, q1, q2, kbo_n, kbo_s, if_pos e3]
        · simp (disch := omega) only [uX3_order, mG, mgs, zKK, zB, zA, km31, kishr, kiand1, e1, en, q1, q2, kbo_n, kbo_s, if_neg e3]
def kor (G : Nat → Nat) : Nat → Nat × List Int64
  | 0 => (0, [])
  | k + 1 => ((kor G k).1 ||| 2 ^ ((kob G (kor G k).1 6).getD 0), (kor G k).2 ++ [lN ((kob G (kor G k).1 6).getD 0)])
theorem kor_inv (G : Nat → Nat) (k : Nat) (hk : k ≤ 6) : (kor G k).1 < 64 ∧ kpc (kor G k).1 = k ∧ (kor G k).2.length = k := by
  induction k with
  | zero => exact ⟨show 0 < 64 by decide, show kpc 0 = 0 by decide, rfl⟩
  | succ k ih =>
    obtain ⟨h1, h2, h3⟩ := ih (by omega)
    obtain ⟨b, hb⟩ := kob_some G (kor G k).1 6 (kb_some h1 (by omega))
    obtain ⟨b1, b2⟩ := kob_lt G _ 6 b hb
    obtain ⟨c1, c2⟩ := kb_set h1 b1 b2
    unfold kor
    rw [hb]
    refine ⟨c1, ?_, ?_⟩
    · show kpc ((kor G k).1 ||| 2 ^ b) = k + 1
      omega
    · show ((kor G k).2 ++ [lN b]).length = k + 1
      rw [List.length_append, h3]
      rfl
theorem t_order_loop {α : Nat → Nat} (hα : mD α) (h : zH) {S : kS} (hI : kSI S) (j : Nat) : ∀ (k : Nat) (σ : mS) (u v : Value), k + j = 6 → mR6 (S.s_w (kor (fun c => kguess (S.c c)) k).2) σ → ∃ σ' u' v', zs PG mX3_order 14 [.ref (α 0), .int (nI (kor (fun c => kguess (S.c c)) k).1), .int (nI k), u, v] [] (mH α σ h) = zs PG mX3_order 87 [.ref (α 0), .int (nI (kor (fun c => kguess (S.c c)) 6).1), .int (nI 6), u', v'] [] (mH α σ' h) ∧ mR6 (S.s_w (kor (fun c => kguess (S.c c)) 6).2) σ' := by
  induction j with
  | zero =>
    intro k σ u v hk hR
    have hk : k = 6 := by omega
    subst hk
    refine ⟨σ, u, v, ?_, hR⟩
    rw [uX3_order_at14]
    simp (disch := omega) only [uX3_order_at15, uX3_order_at17, zKK, zB]
  | succ j ih =>
    intro k σ u v hk hR
    obtain ⟨i1, i2, i3⟩ := kor_inv (fun c => kguess (S.c c)) k (by omega)
    obtain ⟨b, hb⟩ := kob_some (fun c => kguess (S.c c)) (kor (fun c => kguess (S.c c)) k).1 6 (kb_some i1 (by omega))
    obtain ⟨b1, b2⟩ := kob_lt _ _ 6 b hb
    obtain ⟨σ1, q1, R1⟩ := t_order_inner hα h hI i1 (nI k) 6 0 σ rfl hR
    rw [hb, show kbo (kob (fun c => kguess (S.c c)) (kor (fun c => kguess (S.c c)) k).1 0) = -1 from rfl, show kbo (some b) = nI b from rfl] at q1
    obtain ⟨σ2, q2, R2⟩ := t_tellX hα σ1 h R1 (by omega) (lN b)
    have ek : kor (fun c => kguess (S.c c)) (k + 1) = ((kor (fun c => kguess (S.c c)) k).1 ||| 2 ^ b, (kor (fun c => kguess (S.c c)) k).2 ++ [lN b]) := by rw [kor, hb]; rfl
    obtain ⟨σ', u', v', r1, r2⟩ := ih (k + 1) σ2 (.int (nI b)) (.int (nI 6)) (by omega) (by rw [ek]; exact R2)
    refine ⟨σ', u', v', ?_, r2⟩
    rw [ek] at r1
    rw [uX3_order_at14, ← r1]
    simp (disch := omega) only [uX3_order, mG, mP hα, mR hα, mW hα, mgs, zKK, zB, zBl, zBb, zlg, zA, zA3, zL3, km31, km63, klshr, kishr, k2p, kl1shl, klmask, kland1, kiand1, k_l2i, zrt_b, zrt_0, zrt_1, zdv_n, zdv_l, q1, nx_or, q2]
def q_order (S : kS) : Int32 × kS := (((kor (fun c => kguess (S.c c)) 6).2.getD 0 0).toInt32, S.s_w (kor (fun c => kguess (S.c c)) 6).2)
theorem M_order {α : Nat → Nat} (hα : mD α) (σ : mS) (h : zH) {S : kS} (hR : mR6 S σ) (hI : kSI S) : ∃ σ', zc PG mX3_order [.ref (α 0)] (mH α σ h) = some (.inl (some (.int (q_order S).1)), mH α σ' h) ∧ mR6 (q_order S).2 σ' := by
  obtain ⟨σ', u', v', r1, r2⟩ := t_order_loop hα h hI 6 0 ((σ.s_th 0).s_rm 0) zJ zJ rfl (hR.th 0).rm0
  obtain ⟨i1, i2, i3⟩ := kor_inv (fun c => kguess (S.c c)) 6 (by omega)
  have h0 : σ'.ro 0 = (kor (fun c => kguess (S.c c)) 6).2.getD 0 0 := r2.2.2.2.2.2.2 0 (by show 0 < (kor (fun c => kguess (S.c c)) 6).2.length; omega)
  rw [show (kor (fun c => kguess (S.c c)) 0).1 = 0 from rfl] at r1
  refine ⟨σ', ?_, r2⟩
  simp (disch := omega) only [eX3_order, uX3_order, mG, mP hα, mR hα, mW hα, mgs, zKK, zB, zBl, zBb, zlg, zA, zA3, zL3, km31, km63, klshr, kishr, k2p, kl1shl, klmask, kland1, kiand1, k_l2i, zrt_b, zrt_0, zrt_1, zdv_n, zdv_l, r1, h0]
  rfl
