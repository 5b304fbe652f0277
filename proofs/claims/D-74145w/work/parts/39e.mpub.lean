/-! THE MODEL's PUBLIC METHODS: searches, common, row, count -/
theorem nI_n1 {k : Nat} (h : k < 2147483648) : (nI k = (-1)) = False := eq_false (fun e => by
  have := congrArg Int32.toInt e
  rw [nI_toInt h] at this
  have h2 : ((-1 : Int32)).toInt = -1 := by decide
  omega)
theorem n1_n1 : ((-1 : Int32) = (-1)) = True := eq_true rfl
/-- places of a rank: how many, the first, the last -/
def kfl (r : Nat → Nat) (v : Nat) : Nat → Nat × Int32 × Int32
  | 0 => (0, -1, -1)
  | x + 1 => if r x = v then ((kfl r v x).1 + 1, if (kfl r v x).1 = 0 then nI x else (kfl r v x).2.1, nI x) else kfl r v x
theorem kfl_le (r : Nat → Nat) (v n : Nat) : (kfl r v n).1 ≤ n := by
  induction n with
  | zero => exact Nat.le_refl _
  | succ n ih =>
    unfold kfl
    split
    · show (kfl r v n).1 + 1 ≤ n + 1
      omega
    · omega
theorem t_ranks_loop {α : Nat → Nat} (hα : mD α) (σ : mS) (h : zH) {c : Nat} {C : kC} (hR : mRd σ c C) {v : Nat} (hv : v ≤ 29) (k : Nat) : ∀ x, x + k = 2 ^ C.p → zs PG mX3_ranks 37 [.ref (α 0), .int (nI c), .int (nI v), .int (nI (kfl C.r v x).1), .int (kfl C.r v x).2.1, .int (kfl C.r v x).2.2, .int (nI x)] [] (mH α σ h) = zs PG mX3_ranks 91 [.ref (α 0), .int (nI c), .int (nI v), .int (nI (kfl C.r v (2 ^ C.p)).1), .int (kfl C.r v (2 ^ C.p)).2.1, .int (kfl C.r v (2 ^ C.p)).2.2, .int (nI (2 ^ C.p))] [] (mH α σ h) := by
  obtain ⟨hc, hb, h8, h4, hr, hr2⟩ := hR
  have h2 := k2p_le h8
  have hp := t_places hα σ h hc (by rw [hb]; exact h8)
  rw [hb] at hp
  induction k with
  | zero =>
    intro x hx
    have hx : x = 2 ^ C.p := hx
    subst hx
    rw [uX3_ranks_at37]
    simp (disch := omega) only [uX3_ranks_at39, uX3_ranks_at40, uX3_ranks_at41, uX3_ranks_at44, mG, zKK, zB, hp]
  | succ k ih =>
    intro x hx
    have hr1 := hr x (by omega)
    have hr3 := hr2 x
    have hl := kfl_le C.r v x
    rw [← ih (x + 1) (by omega), uX3_ranks_at37, kfl]
    by_cases e : C.r x = v
    · by_cases e2 : (kfl C.r v x).1 = 0
      · simp (disch := omega) only [uX3_ranks, mG, mP hα, mR hα, mW hα, mgs, zKK, zB, zBl, zBb, zlg, zA, zA3, zL3, km31, km63, klshr, kishr, k2p, kl1shl, klmask, kland1, kiand1, k_l2i, zrt_b, zrt_0, zrt_1, zdv_n, zdv_l, hp, t_at, hr1, if_pos e, e, if_true, e2]
      · simp (disch := omega) only [uX3_ranks, mG, mP hα, mR hα, mW hα, mgs, zKK, zB, zBl, zBb, zlg, zA, zA3, zL3, km31, km63, klshr, kishr, k2p, kl1shl, klmask, kland1, kiand1, k_l2i, zrt_b, zrt_0, zrt_1, zdv_n, zdv_l, hp, t_at, hr1, if_pos e, e, if_true, if_neg e2]
    · simp (disch := omega) only [uX3_ranks, mG, mP hα, mR hα, mW hα, mgs, zKK, zB, zBl, zBb, zlg, zA, zA3, zL3, km31, km63, klshr, kishr, k2p, kl1shl, klmask, kland1, kiand1, k_l2i, zrt_b, zrt_0, zrt_1, zdv_n, zdv_l, hp, t_at, hr1, if_neg e]
def q_ranks (S : kS) (c v : Int32) : Int32 × kS := if kbd c 0 5 && kbd v 0 29 then (nI (kfl (S.c (kN c)).r (kN v) (2 ^ (S.c (kN c)).p)).1, S.s_w [(kfl (S.c (kN c)).r (kN v) (2 ^ (S.c (kN c)).p)).2.1.toInt64, (kfl (S.c (kN c)).r (kN v) (2 ^ (S.c (kN c)).p)).2.2.toInt64]) else (-1, S)
theorem M_ranks {α : Nat → Nat} (hα : mD α) (σ : mS) (h : zH) {S : kS} (hR : mR6 S σ) (hI : kSI S) (c v : Int32) : ∃ σ', zc PG mX3_ranks [.ref (α 0), .int c, .int v] (mH α σ h) = some (.inl (some (.int (q_ranks S c v).1)), mH α σ' h) ∧ mR6 (q_ranks S c v).2 σ' := by
  unfold q_ranks
  rcases kbd_cases c 0 5 with e1 | ⟨c, -, hc, rfl⟩
  · simp only [e1, Bool.false_and, Bool.false_eq_true, if_false]
    refine ⟨_, ?_, hR.th 0⟩
    simp (disch := omega) only [eX3_ranks, uX3_ranks, mG, mP hα, mR hα, mW hα, mgs, zKK, zB, zBl, zBb, zlg, zA, zA3, zL3, km31, km63, klshr, kishr, k2p, kl1shl, klmask, kland1, kiand1, k_l2i, zrt_b, zrt_0, zrt_1, zdv_n, zdv_l, t_isCounter, e1]
  · have e1 := kbd_nI (Nat.zero_le c) hc (by omega)
    rcases kbd_cases v 0 29 with e2 | ⟨v, -, hv, rfl⟩
    · simp only [e1, e2, Bool.and_false, Bool.false_eq_true, if_false]
      refine ⟨_, ?_, hR.th 0⟩
      simp (disch := omega) only [eX3_ranks, uX3_ranks, mG, mP hα, mR hα, mW hα, mgs, zKK, zB, zBl, zBb, zlg, zA, zA3, zL3, km31, km63, klshr, kishr, k2p, kl1shl, klmask, kland1, kiand1, k_l2i, zrt_b, zrt_0, zrt_1, zdv_n, zdv_l, t_isCounter, t_ini, e1, e2]
    · have e2 := kbd_nI (Nat.zero_le v) hv (by omega)
      simp only [e1, e2, Bool.and_self, if_true]
      rw [kN_nI (by omega), kN_nI (by omega)]
      have sC := (hR.th 0).1 c (by omega)
      have rd := sC.rd (hI.1 c (by omega)) (by omega)
      have el := t_ranks_loop hα _ h rd hv (2 ^ (S.c c).p) 0 (by omega)
      simp only [kfl] at el
      refine ⟨_, ?_, ((hR.th 0).rm0.tell (kfl (S.c c).r v (2 ^ (S.c c).p)).2.1.toInt64).tell (kfl (S.c c).r v (2 ^ (S.c c).p)).2.2.toInt64⟩
      simp (disch := omega) only [eX3_ranks, uX3_ranks, mG, mP hα, mR hα, mW hα, mgs, zKK, zB, zBl, zBb, zlg, zA, zA3, zL3, km31, km63, klshr, kishr, k2p, kl1shl, klmask, kland1, kiand1, k_l2i, zrt_b, zrt_0, zrt_1, zdv_n, zdv_l, t_isCounter, t_inN, e1, e2, el, t_tell_s hα]
/-- the first from k on, of n -/
def kfi (P : Nat → Bool) : Nat → Nat → Option Nat
  | 0, _ => none
  | n + 1, k => if P k then some k else kfi P n (k + 1)
def q_first (S : kS) (c a s n : Int32) : Int32 × kS := if kbd c 0 5 && kbd n 1 1000 then (match kfi (fun k => kwould (S.c (kN c)) (kms S.a S.b a s k)) (kN n) 0 with | some k => (nI k, S.s_w [(a + nI k * s).toInt64]) | none => (-2, S)) else (-1, S)
theorem t_first_loop {α : Nat → Nat} (hα : mD α) (σ : mS) (h : zH) {S : kS} (hR : mR6 S σ) {c : Nat} (hc : c < 6) (hI : kSI S) (a s : Int32) {n : Nat} (hn : n ≤ 1000) (j : Nat) : ∀ k, k + j = n → ∃ σ', zs PG mX3_first 33 [.ref (α 0), .int (nI c), .int a, .int s, .int (nI n), .int (a + nI k * s), .int (nI k)] [] (mH α σ h) = some (.inl (some (.int ((match kfi (fun k => kwould (S.c c) (kms S.a S.b a s k)) j k with | some k => (nI k, S.s_w [(a + nI k * s).toInt64]) | none => (-2, S)) : Int32 × kS).1)), mH α σ' h) ∧ mR6 ((match kfi (fun k => kwould (S.c c) (kms S.a S.b a s k)) j k with | some k => (nI k, S.s_w [(a + nI k * s).toInt64]) | none => (-2, S)) : Int32 × kS).2 σ' := by
  induction j with
  | zero =>
    intro k hk
    refine ⟨_, ?_, hR⟩
    rw [uX3_first_at33]
    simp (disch := omega) only [uX3_first, mG, mP hα, mR hα, mW hα, mgs, zKK, zB, zBl, zBb, zlg, zA, zA3, zL3, km31, km63, klshr, kishr, k2p, kl1shl, klmask, kland1, kiand1, k_l2i, zrt_b, zrt_0, zrt_1, zdv_n, zdv_l, kfi]
  | succ j ih =>
    intro k hk
    have ew := t_wouldChange hα σ h (c := c) (by omega) (kms_lt S.a S.b a s k) (hR.1 c hc) (hI.1 c hc)
    have hm : mmk σ (a + nI k * s) = kms S.a S.b a s k := by unfold mmk kms; rw [hR.2.1, hR.2.2.1]
    unfold kfi
    cases hw : kwould (S.c c) (kms S.a S.b a s k) with
    | true =>
      rw [hw] at ew
      simp only [if_true]
      refine ⟨_, ?_, hR.rm0.tell (a + nI k * s).toInt64⟩
      rw [uX3_first_at33]
      simp (disch := omega) only [uX3_first, mG, mP hα, mR hα, mW hα, mgs, zKK, zB, zBl, zBb, zlg, zA, zA3, zL3, km31, km63, klshr, kishr, k2p, kl1shl, klmask, kland1, kiand1, k_l2i, zrt_b, zrt_0, zrt_1, zdv_n, zdv_l, t_markOf hα, hm, ew, t_tell_s hα]
    | false =>
      rw [hw] at ew
      simp only [Bool.false_eq_true, if_false]
      obtain ⟨σ', r1, r2⟩ := ih (k + 1) (by omega)
      refine ⟨σ', ?_, r2⟩
      rw [uX3_first_at33, ← r1, ← kstep]
      simp (disch := omega) only [uX3_first, mG, mP hα, mR hα, mW hα, mgs, zKK, zB, zBl, zBb, zlg, zA, zA3, zL3, km31, km63, klshr, kishr, k2p, kl1shl, klmask, kland1, kiand1, k_l2i, zrt_b, zrt_0, zrt_1, zdv_n, zdv_l, t_markOf hα, hm, ew]
theorem M_first {α : Nat → Nat} (hα : mD α) (σ : mS) (h : zH) {S : kS} (hR : mR6 S σ) (hI : kSI S) (c a s n : Int32) : ∃ σ', zc PG mX3_first [.ref (α 0), .int c, .int a, .int s, .int n] (mH α σ h) = some (.inl (some (.int (q_first S c a s n).1)), mH α σ' h) ∧ mR6 (q_first S c a s n).2 σ' := by
  unfold q_first
  rcases kbd_cases c 0 5 with e1 | ⟨c, -, hc, rfl⟩
  · simp only [e1, Bool.false_and, Bool.false_eq_true, if_false]
    refine ⟨_, ?_, hR.th 0⟩
    simp (disch := omega) only [eX3_first, uX3_first, mG, mP hα, mR hα, mW hα, mgs, zKK, zB, zBl, zBb, zlg, zA, zA3, zL3, km31, km63, klshr, kishr, k2p, kl1shl, klmask, kland1, kiand1, k_l2i, zrt_b, zrt_0, zrt_1, zdv_n, zdv_l, t_isCounter, e1]
  · have e1 := kbd_nI (Nat.zero_le c) hc (by omega)
    rcases kbd_cases n 1 1000 with e2 | ⟨n, h1, hn, rfl⟩
    · simp only [e1, e2, Bool.and_false, Bool.false_eq_true, if_false]
      refine ⟨_, ?_, hR.th 0⟩
      simp (disch := omega) only [eX3_first, uX3_first, mG, mP hα, mR hα, mW hα, mgs, zKK, zB, zBl, zBb, zlg, zA, zA3, zL3, km31, km63, klshr, kishr, k2p, kl1shl, klmask, kland1, kiand1, k_l2i, zrt_b, zrt_0, zrt_1, zdv_n, zdv_l, t_isCounter, t_ini, e1, e2]
    · have e2 := kbd_nI h1 hn (by omega)
      simp only [e1, e2, Bool.and_self, if_true]
      rw [kN_nI (by omega), kN_nI (by omega)]
      obtain ⟨σ', r1, r2⟩ := t_first_loop hα (σ.s_th 0) h (hR.th 0) (c := c) (by omega) hI a s hn n 0 (by omega)
      refine ⟨σ', ?_, r2⟩
      rw [kstep0] at r1
      simp (disch := omega) only [eX3_first, uX3_first, mG, mP hα, mR hα, mW hα, mgs, zKK, zB, zBl, zBb, zlg, zA, zA3, zL3, km31, km63, klshr, kishr, k2p, kl1shl, klmask, kland1, kiand1, k_l2i, zrt_b, zrt_0, zrt_1, zdv_n, zdv_l, t_isCounter, t_inN, e1, e2, r1]
theorem kal_ge (r : Nat → Nat) (n : Nat) : (n - krd r n) * 2 ^ 29 ≤ kal r n := by
  induction n with
  | zero =>
    rw [Nat.zero_sub, Nat.zero_mul]
    exact Nat.zero_le _
  | succ n ih =>
    unfold krd kal
    have h1 := krd_le r n
    by_cases e : 0 < r n
    · rw [if_pos e, show n + 1 - (krd r n + 1) = n - krd r n by omega]
      exact Nat.le_trans ih (Nat.le_add_right _ _)
    · have h0 : r n = 0 := by omega
      rw [if_neg e, h0, show n + 1 - (krd r n + 0) = n - krd r n + 1 by omega, Nat.succ_mul]
      exact Nat.add_le_add ih (Nat.le_refl _)
def klk (C : kC) (v : Int32) (k : Nat) : Bool := decide (¬ nI (kgb C.p (kz C - k) (kall C - k * 268435456)) < v)
def q_lacks (S : kS) (c v : Int32) : Int32 := if kbd c 0 5 && decide (¬ v < nI 0) then ((kfi (klk (S.c (kN c)) v) (kz (S.c (kN c)) + 1) 0).elim (-2) nI) else -1
set_option maxRecDepth 20000 in
theorem t_lacks_loop {α : Nat → Nat} (hα : mD α) (h : zH) {c : Nat} {C : kC} (v : Int32) (j : Nat) : ∀ (k : Nat) (σ : mS), mRd σ c C → k + j = kz C + 1 → ∃ x, zs PG mX3_lacks 34 [.ref (α 0), .int (nI c), .int v, .int (nI (kz C)), .long (lN (kall C)), zJ, .int (nI k)] [] (mH α σ h) = some (.inl (some (.int ((kfi (klk C v) j k).elim (-2) nI))), mH α (σ.s_hw x) h) := by
  induction j with
  | zero =>
    intro k σ hR hk
    have h8 := kz_le hR.2.2.1
    refine ⟨σ.hw, ?_⟩
    rw [uX3_lacks_at34]
    simp (disch := omega) only [uX3_lacks, mG, mP hα, mR hα, mW hα, mgs, zKK, zB, zBl, zBb, zlg, zA, zA3, zL3, km31, km63, klshr, kishr, k2p, kl1shl, klmask, kland1, kiand1, k_l2i, zrt_b, zrt_0, zrt_1, zdv_n, zdv_l, kfi, Option.elim, msi]
  | succ j ih =>
    intro k σ hR hk
    have h8 := kz_le hR.2.2.1
    have hle := kall_lt hR.2.2.1
    have hge := kal_ge C.r (2 ^ C.p)
    have hpos := kal_pos C.r (n := 2 ^ C.p) (Nat.pow_pos (by decide))
    have hz : kz C = 2 ^ C.p - krd C.r (2 ^ C.p) := rfl
    have ha : kall C = kal C.r (2 ^ C.p) := rfl
    rw [← hz, ← ha] at hge
    rw [← ha] at hpos
    have hk2 : k * 268435456 < kall C := by omega
    have eg := t_guessBy hα σ h (p := C.p) (z := kz C - k) (all := kall C - k * 268435456) hR.2.2.2.1 hR.2.2.1 (by have : kz C ≤ 2 ^ C.p := Nat.sub_le _ _; omega) (by omega) (by omega)
    have hb := hR.2.1
    have hc := hR.1
    have hsub : lN (kall C) - lN k * lN 268435456 = lN (kall C - k * 268435456) := by
      have h1 : lN k * lN 268435456 = lN (k * 268435456) := lN_mul _ _
      rw [h1]
      exact lN_sub (Nat.le_of_lt hk2)
    have hkl : klk C v k = decide (¬ nI (kgb C.p (kz C - k) (kall C - k * 268435456)) < v) := rfl
    unfold kfi
    rw [hkl]
    generalize kall C - k * 268435456 = A at eg hsub
    by_cases e : nI (kgb C.p (kz C - k) A) < v
    · rw [decide_eq_false (fun q => q e)]
      simp only [Bool.false_eq_true, if_false]
      obtain ⟨x, r1⟩ := ih (k + 1) (σ.s_hw (khow C.p (kz C - k))) (mRd.eqs hR (by simp only [mgs]) (by simp only [mgs])) (by omega)
      refine ⟨x, ?_⟩
      simp only [mss] at r1
      rw [uX3_lacks_at34, ← r1]
      simp (disch := omega) only [uX3_lacks, mG, mR hα, mgs, zKK, zB, zA, zA3, hb, hsub, eg, e]
    · rw [decide_eq_true e]
      simp only [if_true]
      refine ⟨khow C.p (kz C - k), ?_⟩
      rw [uX3_lacks_at34]
      simp (disch := omega) only [uX3_lacks, mG, mR hα, mgs, zKK, zB, zA, zA3, hb, hsub, eg, e, Option.elim]
theorem M_lacks {α : Nat → Nat} (hα : mD α) (σ : mS) (h : zH) {S : kS} (hR : mR6 S σ) (hI : kSI S) (c v : Int32) : ∃ σ', zc PG mX3_lacks [.ref (α 0), .int c, .int v] (mH α σ h) = some (.inl (some (.int (q_lacks S c v))), mH α σ' h) ∧ mR6 S σ' := by
  unfold q_lacks
  rcases kbd_cases c 0 5 with e1 | ⟨c, -, hc, rfl⟩
  · simp only [e1, Bool.false_and, Bool.false_eq_true, if_false]
    refine ⟨_, ?_, hR.th 0⟩
    simp (disch := omega) only [eX3_lacks, uX3_lacks, mG, mP hα, mR hα, mW hα, mgs, zKK, zB, zBl, zBb, zlg, zA, zA3, zL3, km31, km63, klshr, kishr, k2p, kl1shl, klmask, kland1, kiand1, k_l2i, zrt_b, zrt_0, zrt_1, zdv_n, zdv_l, t_isCounter, e1]
  · have e1 := kbd_nI (Nat.zero_le c) hc (by omega)
    by_cases e2 : v < nI 0
    · simp only [e1, e2, not_true_eq_false, decide_false, Bool.and_false, Bool.false_eq_true, if_false]
      refine ⟨_, ?_, hR.th 0⟩
      simp (disch := omega) only [eX3_lacks, uX3_lacks, mG, mP hα, mR hα, mW hα, mgs, zKK, zB, zBl, zBb, zlg, zA, zA3, zL3, km31, km63, klshr, kishr, k2p, kl1shl, klmask, kland1, kiand1, k_l2i, zrt_b, zrt_0, zrt_1, zdv_n, zdv_l, t_isCounter, e1, e2]
    · simp only [e1, e2, not_false_eq_true, decide_true, Bool.and_self, if_true]
      rw [kN_nI (by omega)]
      have rd := ((hR.th 0).1 c (by omega)).rd (hI.1 c (by omega)) (by omega)
      have ez := t_zeros hα _ h rd
      have ea := t_allOf hα _ h rd
      obtain ⟨x, r1⟩ := t_lacks_loop hα h v (kz (S.c c) + 1) 0 (σ.s_th 0) rd (by omega)
      refine ⟨_, ?_, (hR.th 0).hw x⟩
      simp (disch := omega) only [eX3_lacks, uX3_lacks, mG, mP hα, mR hα, mW hα, mgs, zKK, zB, zBl, zBb, zlg, zA, zA3, zL3, km31, km63, klshr, kishr, k2p, kl1shl, klmask, kland1, kiand1, k_l2i, zrt_b, zrt_0, zrt_1, zdv_n, zdv_l, t_isCounter, e1, e2, ez, ea, r1]
/-! of several -/
def kgg (S : kS) (a b : Nat) : Nat := kguess (kjoin [S.c a, S.c b])
def kcmn (S : kS) (a b : Nat) : Nat := kguess (S.c a) + kguess (S.c b) - kgg S a b
theorem klmax_sub {x y : Nat} (hx : x < 9223372036854775808) (hy : y < 9223372036854775808) : klmax (lN 0) (lN x - lN y) = lN (x - y) := by
  unfold klmax
  by_cases e : y ≤ x
  · rw [lN_sub e]
    by_cases e2 : lN 0 < lN (x - y)
    · rw [if_pos e2]
    · rw [if_neg e2]
      have : ¬ 0 < x - y := fun q => e2 ((pk_lLT (by decide) (by omega)).mpr q)
      rw [show x - y = 0 by omega]
  · have e3 : x - y = 0 := by omega
    have e2 : ¬ lN 0 < lN x - lN y := by
      rw [Int64.lt_iff_toInt_lt, Int64.toInt_sub, pk_lT hx, pk_lT hy, pk_lT (by decide)]
      rw [Int.bmod_eq_of_le (by omega) (by omega)]
      omega
    rw [if_neg e2, e3]
theorem t_commonOf {α : Nat → Nat} (hα : mD α) (σ : mS) (h : zH) {S : kS} (hR : mR6 S σ) (hI : kSI S) {a b : Nat} (ha : a < 6) (hb : b < 6) : ∃ σ', zc PG mX3_commonOf [.ref (α 0), .int (nI a), .int (nI b)] (mH α σ h) = some (.inl (some (.long (lN (kcmn S a b)))), mH α σ' h) ∧ mR6 S σ' ∧ mFr mHi σ σ' := by
  have iA := hI.1 a ha
  have iB := hI.1 b hb
  obtain ⟨x1, q1⟩ := t_guessX hα σ h (hR.1 a ha) iA (by omega)
  have R1 := hR.hw x1
  obtain ⟨x2, q2⟩ := t_guessX hα (σ.s_hw x1) h (R1.1 b hb) iB (by omega)
  have R2 := R1.hw x2
  obtain ⟨σ3, q3, f3⟩ := t_bothGuess hα ((σ.s_hw x1).s_hw x2) h ha hb (R2.1 a ha) (R2.1 b hb) iA iB
  have g1 := kguess_le iA
  have g2 := kguess_le iB
  have g3 := kguess_le (kI_two iA iB)
  have em := klmax_sub (x := kguess (S.c a) + kguess (S.c b)) (y := kguess (kjoin [S.c a, S.c b])) (by omega) (by omega)
  have F := ((mFr_hw mHi σ x1).trans (mFr_hw mHi _ x2)).trans f3
  refine ⟨σ3, ?_, R2.fr f3, F⟩
  simp (disch := omega) only [eX3_commonOf, uX3_commonOf, mG, zKK, lN_add, nI_l, q1, q2, q3, j_maxL, em]
  rfl
theorem t_tellX {α : Nat → Nat} (hα : mD α) (σ : mS) (h : zH) {S : kS} {w : List Int64} (hR : mR6 (S.s_w w) σ) (hw : w.length < 16) (v : Int64) : ∃ σ', zc PG mX3_tell [.ref (α 0), .long v] (mH α σ h) = some (.inl none, mH α σ' h) ∧ mR6 (S.s_w (w ++ [v])) σ' := by
  have hrm : σ.rm = w.length := hR.2.2.2.2.2.1
  have e : σ.s_rm w.length = σ := by rw [← hrm]; rfl
  have q := t_tell_s hα σ h v hw
  have r := mR6.tell (S := S) (σ := σ) (n := w.length) (w := w) (by rw [e]; exact hR) v
  rw [e] at q r
  exact ⟨_, q, r⟩
def q_common (S : kS) (a b : Int32) : Int64 × kS := if kbd a 0 5 && kbd b 0 5 then (lN (kcmn S (kN a) (kN b)), S.s_w [lN (kguess (S.c (kN a))), lN (kguess (S.c (kN b))), lN (kgg S (kN a) (kN b))]) else (-1, S)
theorem M_common {α : Nat → Nat} (hα : mD α) (σ : mS) (h : zH) {S : kS} (hR : mR6 S σ) (hI : kSI S) (a b : Int32) : ∃ σ', zc PG mX3_common [.ref (α 0), .int a, .int b] (mH α σ h) = some (.inl (some (.long (q_common S a b).1)), mH α σ' h) ∧ mR6 (q_common S a b).2 σ' := by
  unfold q_common
  rcases kbd_cases a 0 5 with e1 | ⟨a, -, ha, rfl⟩
  · simp only [e1, Bool.false_and, Bool.false_eq_true, if_false]
    refine ⟨_, ?_, hR.th 0⟩
    simp (disch := omega) only [eX3_common, uX3_common, mG, mP hα, mR hα, mW hα, mgs, zKK, zB, zBl, zBb, zlg, zA, zA3, zL3, km31, km63, klshr, kishr, k2p, kl1shl, klmask, kland1, kiand1, k_l2i, zrt_b, zrt_0, zrt_1, zdv_n, zdv_l, t_isCounter, e1]
  · have e1 := kbd_nI (Nat.zero_le a) ha (by omega)
    rcases kbd_cases b 0 5 with e2 | ⟨b, -, hb, rfl⟩
    · simp only [e1, e2, Bool.and_false, Bool.false_eq_true, if_false]
      refine ⟨_, ?_, hR.th 0⟩
      simp (disch := omega) only [eX3_common, uX3_common, mG, mP hα, mR hα, mW hα, mgs, zKK, zB, zBl, zBb, zlg, zA, zA3, zL3, km31, km63, klshr, kishr, k2p, kl1shl, klmask, kland1, kiand1, k_l2i, zrt_b, zrt_0, zrt_1, zdv_n, zdv_l, t_isCounter, e1, e2]
    · have e2 := kbd_nI (Nat.zero_le b) hb (by omega)
      simp only [e1, e2, Bool.and_self, if_true]
      rw [kN_nI (by omega), kN_nI (by omega)]
      have iA := hI.1 a (by omega)
      have iB := hI.1 b (by omega)
      have g1 := kguess_le iA
      have g2 := kguess_le iB
      have g3 := kguess_le (kI_two iA iB)
      obtain ⟨σ1, q1, R1, -⟩ := t_commonOf hα (σ.s_th 0) h (hR.th 0) hI (a := a) (b := b) (by omega) (by omega)
      have R2 := R1.rm0
      obtain ⟨x1, q2⟩ := t_guessX hα (σ1.s_rm 0) h (C := S.c a) (R2.1 a (by omega)) iA (by omega)
      obtain ⟨σ2, t1, R3⟩ := t_tellX hα ((σ1.s_rm 0).s_hw x1) h (R2.hw x1) (by simp) (lN (kguess (S.c a)))
      obtain ⟨x2, q3⟩ := t_guessX hα σ2 h (C := S.c b) (R3.1 b (by omega)) iB (by omega)
      obtain ⟨σ3, t2, R4⟩ := t_tellX hα (σ2.s_hw x2) h (R3.hw x2) (by simp) (lN (kguess (S.c b)))
      obtain ⟨σ4, q4, f4⟩ := t_bothGuess hα σ3 h (A := S.c a) (B := S.c b) (by omega : a < 6) (by omega : b < 6) (R4.1 a (by omega)) (R4.1 b (by omega)) iA iB
      obtain ⟨σ5, t3, R5⟩ := t_tellX hα σ4 h (R4.fr f4) (by simp) (lN (kguess (kjoin [S.c a, S.c b])))
      refine ⟨σ5, ?_, R5⟩
      simp (disch := omega) only [eX3_common, uX3_common, mG, mP hα, mgs, zKK, zBb, nI_l, t_isCounter, e1, e2, q1, q2, t1, q3, t2, q4, t3]
def q_alone (S : kS) (a b : Int32) : Int64 := if kbd a 0 5 && kbd b 0 5 then lN (kgg S (kN a) (kN b) - kguess (S.c (kN b))) else -1
theorem M_alone {α : Nat → Nat} (hα : mD α) (σ : mS) (h : zH) {S : kS} (hR : mR6 S σ) (hI : kSI S) (a b : Int32) : ∃ σ', zc PG mX3_alone [.ref (α 0), .int a, .int b] (mH α σ h) = some (.inl (some (.long (q_alone S a b))), mH α σ' h) ∧ mR6 S σ' := by
  unfold q_alone
  rcases kbd_cases a 0 5 with e1 | ⟨a, -, ha, rfl⟩
  · simp only [e1, Bool.false_and, Bool.false_eq_true, if_false]
    refine ⟨_, ?_, hR.th 0⟩
    simp (disch := omega) only [eX3_alone, uX3_alone, mG, mP hα, mR hα, mW hα, mgs, zKK, zB, zBl, zBb, zlg, zA, zA3, zL3, km31, km63, klshr, kishr, k2p, kl1shl, klmask, kland1, kiand1, k_l2i, zrt_b, zrt_0, zrt_1, zdv_n, zdv_l, t_isCounter, e1]
  · have e1 := kbd_nI (Nat.zero_le a) ha (by omega)
    rcases kbd_cases b 0 5 with e2 | ⟨b, -, hb, rfl⟩
    · simp only [e1, e2, Bool.and_false, Bool.false_eq_true, if_false]
      refine ⟨_, ?_, hR.th 0⟩
      simp (disch := omega) only [eX3_alone, uX3_alone, mG, mP hα, mR hα, mW hα, mgs, zKK, zB, zBl, zBb, zlg, zA, zA3, zL3, km31, km63, klshr, kishr, k2p, kl1shl, klmask, kland1, kiand1, k_l2i, zrt_b, zrt_0, zrt_1, zdv_n, zdv_l, t_isCounter, e1, e2]
    · have e2 := kbd_nI (Nat.zero_le b) hb (by omega)
      simp only [e1, e2, Bool.and_self, if_true]
      rw [kN_nI (by omega), kN_nI (by omega)]
      have iA := hI.1 a (by omega)
      have iB := hI.1 b (by omega)
      have g2 := kguess_le iB
      have g3 := kguess_le (kI_two iA iB)
      have hR0 := hR.th 0
      obtain ⟨σ1, q1, f1⟩ := t_bothGuess hα (σ.s_th 0) h (by omega : a < 6) (by omega : b < 6) (hR0.1 a (by omega)) (hR0.1 b (by omega)) iA iB
      have R1 := hR0.fr f1
      obtain ⟨x, q2⟩ := t_guessX hα σ1 h (R1.1 b (by omega)) iB (by omega)
      have em := klmax_sub (x := kguess (kjoin [S.c a, S.c b])) (y := kguess (S.c b)) (by omega) (by omega)
      refine ⟨_, ?_, R1.hw x⟩
      simp (disch := omega) only [eX3_alone, uX3_alone, mG, mP hα, mgs, zKK, zBb, nI_l, t_isCounter, e1, e2, q1, q2, j_maxL, em]
      rfl
/-- how alike two are -/
def kak (S : kS) (a b : Nat) : Nat := if kgg S a b = 0 then 1000 else min 1000 (1000 * kcmn S a b / kgg S a b)
theorem kak_le (S : kS) (a b : Nat) : kak S a b ≤ 1000 := by unfold kak; split <;> omega
theorem t_alikeOf {α : Nat → Nat} (hα : mD α) (σ : mS) (h : zH) {S : kS} (hR : mR6 S σ) (hI : kSI S) {a b : Nat} (ha : a < 6) (hb : b < 6) : ∃ σ', zc PG mX3_alikeOf [.ref (α 0), .int (nI a), .int (nI b)] (mH α σ h) = some (.inl (some (.int (nI (kak S a b)))), mH α σ' h) ∧ mR6 S σ' := by
  have iA := hI.1 a ha
  have iB := hI.1 b hb
  obtain ⟨σ1, q1, f1⟩ := t_bothGuess hα σ h ha hb (hR.1 a ha) (hR.1 b hb) iA iB
  have R1 := hR.fr f1
  obtain ⟨σ2, q2, R2, -⟩ := t_commonOf hα σ1 h R1 hI ha hb
  have g1 := kguess_le iA
  have g2 := kguess_le iB
  have g3 : kgg S a b ≤ 2000000000 := kguess_le (kI_two iA iB)
  have g4 : kcmn S a b ≤ 4000000000 := by unfold kcmn; omega
  have q1' : zc PG mX3_bothGuess [.ref (α 0), .int (nI a), .int (nI b)] (mH α σ h) = some (.inl (some (.int (nI (kgg S a b)))), mH α σ1 h) := q1
  unfold kak
  by_cases e : kgg S a b = 0
  · rw [if_pos e]
    refine ⟨σ1, ?_, R1⟩
    simp (disch := omega) only [eX3_alikeOf, uX3_alikeOf, mG, mP hα, mR hα, mW hα, mgs, zKK, zB, zBl, zBb, zlg, zA, zA3, zL3, km31, km63, klshr, kishr, k2p, kl1shl, klmask, kland1, kiand1, k_l2i, zrt_b, zrt_0, zrt_1, zdv_n, zdv_l, q1', e]
  · rw [if_neg e]
    have hdv : lN (1000 * kcmn S a b) / lN (kgg S a b) = lN (1000 * kcmn S a b / kgg S a b) := pk_lDiv (by omega) (by omega) (by omega)
    have hle : 1000 * kcmn S a b / kgg S a b ≤ 1000 * kcmn S a b := Nat.div_le_self _ _
    refine ⟨σ2, ?_, R2⟩
    simp (disch := omega) only [eX3_alikeOf, uX3_alikeOf, mG, mgs, zKK, zB, nI_l, lN_mul, q1', q2, zdv_l, hdv, j_minL, k_l2i]
def q_alike (S : kS) (a b : Int32) : Int32 := if kbd a 0 5 && kbd b 0 5 then nI (kak S (kN a) (kN b)) else -1
theorem M_alike {α : Nat → Nat} (hα : mD α) (σ : mS) (h : zH) {S : kS} (hR : mR6 S σ) (hI : kSI S) (a b : Int32) : ∃ σ', zc PG mX3_alike [.ref (α 0), .int a, .int b] (mH α σ h) = some (.inl (some (.int (q_alike S a b))), mH α σ' h) ∧ mR6 S σ' := by
  unfold q_alike
  rcases kbd_cases a 0 5 with e1 | ⟨a, -, ha, rfl⟩
  · simp only [e1, Bool.false_and, Bool.false_eq_true, if_false]
    refine ⟨_, ?_, hR.th 0⟩
    simp (disch := omega) only [eX3_alike, uX3_alike, mG, mP hα, mR hα, mW hα, mgs, zKK, zB, zBl, zBb, zlg, zA, zA3, zL3, km31, km63, klshr, kishr, k2p, kl1shl, klmask, kland1, kiand1, k_l2i, zrt_b, zrt_0, zrt_1, zdv_n, zdv_l, t_isCounter, e1]
  · have e1 := kbd_nI (Nat.zero_le a) ha (by omega)
    rcases kbd_cases b 0 5 with e2 | ⟨b, -, hb, rfl⟩
    · simp only [e1, e2, Bool.and_false, Bool.false_eq_true, if_false]
      refine ⟨_, ?_, hR.th 0⟩
      simp (disch := omega) only [eX3_alike, uX3_alike, mG, mP hα, mR hα, mW hα, mgs, zKK, zB, zBl, zBb, zlg, zA, zA3, zL3, km31, km63, klshr, kishr, k2p, kl1shl, klmask, kland1, kiand1, k_l2i, zrt_b, zrt_0, zrt_1, zdv_n, zdv_l, t_isCounter, e1, e2]
    · have e2 := kbd_nI (Nat.zero_le b) hb (by omega)
      simp only [e1, e2, Bool.and_self, if_true]
      rw [kN_nI (by omega), kN_nI (by omega)]
      obtain ⟨σ1, q1, R1⟩ := t_alikeOf hα (σ.s_th 0) h (hR.th 0) hI (a := a) (b := b) (by omega) (by omega)
      refine ⟨σ1, ?_, R1⟩
      simp (disch := omega) only [eX3_alike, uX3_alike, mG, mP hα, mR hα, mW hα, mgs, zKK, zB, zBl, zBb, zlg, zA, zA3, zL3, km31, km63, klshr, kishr, k2p, kl1shl, klmask, kland1, kiand1, k_l2i, zrt_b, zrt_0, zrt_1, zdv_n, zdv_l, t_isCounter, e1, e2, q1]
/-- a counter's number or none -/
def kbo (o : Option Nat) : Int32 := o.elim (-1) nI
def knr (g : Nat → Nat) (c : Nat) : Nat → Option Nat × Nat
  | 0 => (none, 0)
  | k + 1 => if k = c then knr g c k else if (knr g c k).1 ≠ none ∧ g k ≤ (knr g c k).2 then knr g c k else (some k, g k)
theorem knr_le {g : Nat → Nat} {b : Nat} (hg : ∀ k, g k ≤ b) (c n : Nat) : (knr g c n).2 ≤ b ∧ ∀ k, (knr g c n).1 = some k → k < n := by
  induction n with
  | zero => exact ⟨Nat.zero_le _, (fun k q => by cases q)⟩
  | succ n ih =>
    unfold knr
    split
    · exact ⟨ih.1, fun k q => by have := ih.2 k q; omega⟩
    · split
      · exact ⟨ih.1, fun k q => by have := ih.2 k q; omega⟩
      · exact ⟨hg n, fun k q => by cases q; omega⟩
theorem t_nearest_loop {α : Nat → Nat} (hα : mD α) (h : zH) {S : kS} (hI : kSI S) {c : Nat} (hc : c < 6) (j : Nat) : ∀ (k : Nat) (σ : mS) (u : Value), mR6 S σ → k + j = 6 → ∃ (σ' : mS) (u' : Value), zs PG mX3_nearest 21 [.ref (α 0), .int (nI c), .int (kbo (knr (kak S c) c k).1), .int (nI (knr (kak S c) c k).2), .int (nI k), u] [] (mH α σ h) = zs PG mX3_nearest 72 [.ref (α 0), .int (nI c), .int (kbo (knr (kak S c) c 6).1), .int (nI (knr (kak S c) c 6).2), .int (nI 6), u'] [] (mH α σ' h) ∧ mR6 S σ' := by
  induction j with
  | zero =>
    intro k σ u hR hk
    have hk : k = 6 := by omega
    subst hk
    refine ⟨σ, u, ?_, hR⟩
    rw [uX3_nearest_at21]
    simp (disch := omega) only [uX3_nearest_at23, uX3_nearest_at25, zKK, zB]
  | succ j ih =>
    intro k σ u hR hk
    have hb := knr_le (kak_le S c) c k
    have hk1 := kak_le S c k
    by_cases e : k = c
    · obtain ⟨σ', u', r1, r2⟩ := ih (k + 1) σ u hR (by omega)
      refine ⟨σ', u', ?_, r2⟩
      rw [knr, if_pos e] at r1
      rw [uX3_nearest_at21, ← r1]
      simp (disch := omega) only [uX3_nearest, mG, mP hα, mR hα, mW hα, mgs, zKK, zB, zBl, zBb, zlg, zA, zA3, zL3, km31, km63, klshr, kishr, k2p, kl1shl, klmask, kland1, kiand1, k_l2i, zrt_b, zrt_0, zrt_1, zdv_n, zdv_l]
    · obtain ⟨σ1, q1, R1⟩ := t_alikeOf hα σ h hR hI hc (by omega : k < 6)
      obtain ⟨σ', u', r1, r2⟩ := ih (k + 1) σ1 (.int (nI (kak S c k))) R1 (by omega)
      refine ⟨σ', u', ?_, r2⟩
      rw [knr, if_neg e] at r1
      rw [uX3_nearest_at21, ← r1]
      cases hn : (knr (kak S c) c k).1 with
      | none =>
        rw [if_neg (fun q => q.1 rfl)]
        simp (disch := omega) only [uX3_nearest, mG, mP hα, mR hα, mW hα, mgs, zKK, zB, zBl, zBb, zlg, zA, zA3, zL3, km31, km63, klshr, kishr, k2p, kl1shl, klmask, kland1, kiand1, k_l2i, zrt_b, zrt_0, zrt_1, zdv_n, zdv_l, q1, kbo, Option.elim, n1_n1]
      | some b =>
        have hb2 := hb.2 b hn
        have en := nI_n1 (k := b) (by omega)
        by_cases e2 : kak S c k ≤ (knr (kak S c) c k).2
        · rw [if_pos ⟨(fun q => by cases q), e2⟩, hn]
          simp (disch := omega) only [uX3_nearest, mG, mP hα, mR hα, mW hα, mgs, zKK, zB, zBl, zBb, zlg, zA, zA3, zL3, km31, km63, klshr, kishr, k2p, kl1shl, klmask, kland1, kiand1, k_l2i, zrt_b, zrt_0, zrt_1, zdv_n, zdv_l, q1, kbo, Option.elim, en]
        · rw [if_neg (fun q => e2 q.2)]
          simp (disch := omega) only [uX3_nearest, mG, mP hα, mR hα, mW hα, mgs, zKK, zB, zBl, zBb, zlg, zA, zA3, zL3, km31, km63, klshr, kishr, k2p, kl1shl, klmask, kland1, kiand1, k_l2i, zrt_b, zrt_0, zrt_1, zdv_n, zdv_l, q1, kbo, Option.elim, en]
def q_nearest (S : kS) (c : Int32) : Int32 × kS := if kbd c 0 5 then (kbo (knr (kak S (kN c)) (kN c) 6).1, S.s_w [lN (knr (kak S (kN c)) (kN c) 6).2]) else (-1, S)
theorem M_nearest {α : Nat → Nat} (hα : mD α) (σ : mS) (h : zH) {S : kS} (hR : mR6 S σ) (hI : kSI S) (c : Int32) : ∃ σ', zc PG mX3_nearest [.ref (α 0), .int c] (mH α σ h) = some (.inl (some (.int (q_nearest S c).1)), mH α σ' h) ∧ mR6 (q_nearest S c).2 σ' := by
  unfold q_nearest
  rcases kbd_cases c 0 5 with e1 | ⟨c, -, hc, rfl⟩
  · simp only [e1, Bool.false_eq_true, if_false]
    refine ⟨_, ?_, hR.th 0⟩
    simp (disch := omega) only [eX3_nearest, uX3_nearest, mG, mP hα, mR hα, mW hα, mgs, zKK, zB, zBl, zBb, zlg, zA, zA3, zL3, km31, km63, klshr, kishr, k2p, kl1shl, klmask, kland1, kiand1, k_l2i, zrt_b, zrt_0, zrt_1, zdv_n, zdv_l, t_isCounter, e1]
  · have e1 := kbd_nI (Nat.zero_le c) hc (by omega)
    simp only [e1, if_true]
    rw [kN_nI (by omega)]
    obtain ⟨σ1, u1, r1, R1⟩ := t_nearest_loop hα h hI (c := c) (by omega) 6 0 (σ.s_th 0) zJ (hR.th 0) rfl
    have hb := knr_le (kak_le S c) c 6
    refine ⟨_, ?_, R1.rm0.tell (lN (knr (kak S c) c 6).2)⟩
    rw [show (knr (kak S c) c 0).2 = 0 from rfl, show kbo (knr (kak S c) c 0).1 = -1 from rfl] at r1
    simp (disch := omega) only [eX3_nearest, uX3_nearest, mG, mP hα, mR hα, mW hα, mgs, zKK, zB, zBl, zBb, zlg, zA, zA3, zL3, km31, km63, klshr, kishr, k2p, kl1shl, klmask, kland1, kiand1, k_l2i, zrt_b, zrt_0, zrt_1, zdv_n, zdv_l, t_isCounter, e1, r1, t_tell_s hα]
/-! row and count -/
theorem M_row {α : Nat → Nat} (hα : mD α) (σ : mS) (h : zH) {S : kS} (hR : mR6 S σ) (hI : kSI S) (i : Int32) : (kix i S.w.length = false → ∃ σ' v, zc PG mX3_row [.ref (α 0), .int i] (mH α σ h) = some (.inl (some (.long v)), mH α σ' h) ∧ mR6 S σ' ∧ σ'.th = 1) ∧ (kix i S.w.length = true → ∃ σ', zc PG mX3_row [.ref (α 0), .int i] (mH α σ h) = some (.inl (some (.long (S.w.getD (kN i) 0))), mH α σ' h) ∧ mR6 S σ' ∧ σ'.th = 0) := by
  have hw := hI.2.2.2
  have hrm : σ.rm = S.w.length := hR.2.2.2.2.2.1
  constructor
  · intro e
    have hin := t_inx i (n := S.w.length) (by omega) (mH α (σ.s_th 0) h)
    rw [e] at hin
    refine ⟨_, lN 0, ?_, (hR.th 0).th 1, by simp only [mgs]⟩
    simp (disch := omega) only [eX3_row, uX3_row, mG, mP hα, mR hα, mgs, zKK, zBb, hrm, hin, t_lost hα, nI_l]
  · intro e
    rcases kix_cases i (n := S.w.length) (by omega) with e' | ⟨i, hi, rfl, -⟩
    · rw [e] at e'; cases e'
    · have hin := t_inx (nI i) (n := S.w.length) (by omega) (mH α (σ.s_th 0) h)
      rw [e] at hin
      rw [kN_nI (by omega)]
      have hro : σ.ro i = S.w.getD i 0 := hR.2.2.2.2.2.2 i hi
      refine ⟨_, ?_, hR.th 0, by simp only [mgs]⟩
      simp (disch := omega) only [eX3_row, uX3_row, mG, mP hα, mR hα, mgs, zKK, zBb, hrm, hin, hro]
