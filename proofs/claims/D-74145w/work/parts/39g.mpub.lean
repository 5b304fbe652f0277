/-! THE MODEL's PUBLIC METHODS: greedy, meet, cover, count -/
def kgi (G : Nat → Nat) (set so : Nat) : Nat → Option Nat × Nat
  | 0 => (none, 0)
  | c + 1 => if set.testBit c && !so.testBit c then (if (kgi G set so c).1 ≠ none ∧ G (so ||| 2 ^ c) ≤ (kgi G set so c).2 then kgi G set so c else (some c, G (so ||| 2 ^ c))) else kgi G set so c
theorem kgi_b {G : Nat → Nat} {b : Nat} (hG : ∀ t, G t ≤ b) (set so n : Nat) : (kgi G set so n).2 ≤ b ∧ ∀ c, (kgi G set so n).1 = some c → c < n ∧ set.testBit c = true ∧ so.testBit c = false := by
  induction n with
  | zero => exact ⟨Nat.zero_le _, (fun _ q => by cases q)⟩
  | succ n ih =>
    unfold kgi
    split
    · rename_i hb
      simp only [Bool.and_eq_true, Bool.not_eq_true'] at hb
      split
      · exact ⟨ih.1, fun c q => by have := ih.2 c q; exact ⟨by omega, this.2⟩⟩
      · exact ⟨hG _, fun c q => by cases q; exact ⟨by omega, hb.1, hb.2⟩⟩
    · exact ⟨ih.1, fun c q => by have := ih.2 c q; exact ⟨by omega, this.2⟩⟩
theorem kgi_some (G : Nat → Nat) (set so n : Nat) (h : ∃ c, c < n ∧ set.testBit c = true ∧ so.testBit c = false) : ∃ b, (kgi G set so n).1 = some b := by
  induction n with
  | zero => obtain ⟨c, h1, -⟩ := h; omega
  | succ n ih =>
    unfold kgi
    by_cases e : (set.testBit n && !so.testBit n) = true
    · rw [if_pos e]
      split
      · rename_i q
        cases e2 : (kgi G set so n).1 with
        | none => exact absurd e2 q.1
        | some b => exact ⟨b, rfl⟩
      · exact ⟨n, rfl⟩
    · rw [if_neg e]
      obtain ⟨c, h1, h2, h3⟩ := h
      exact ih ⟨c, by
        have : c ≠ n := fun q => by subst q; exact e (by simp [h2, h3])
        omega, h2, h3⟩
/-- so is a part of set -/
def ksub (so set : Nat) : Prop := ∀ c, c < 6 → so.testBit c = true → set.testBit c = true
theorem kb_ext {a b : Nat} (ha : a < 64) (hb : b < 64) (h : ∀ c, c < 6 → a.testBit c = b.testBit c) : a = b := by
  apply Nat.eq_of_testBit_eq
  intro i
  by_cases hi : i < 6
  · exact h i hi
  · have h64 : 64 ≤ 2 ^ i := Nat.pow_le_pow_right (n := 2) (by decide) (by omega : 6 ≤ i)
    rw [Nat.testBit_lt_two_pow (by omega), Nat.testBit_lt_two_pow (by omega)]
theorem t_greedy_inner {α : Nat → Nat} (hα : mD α) (h : zH) {S : kS} {w : List Int64} (hI : kSI S) {s so : Nat} (hs : s < 64) (hso : so < 64) (j : Nat) : ∀ (c : Nat) (σ : mS) (u : Value), c + j = 6 → mR6 (S.s_w w) σ → ∃ σ' u', zs PG mX3_greedy 34 [.ref (α 0), .int (nI s), .int (nI so), .int (kbo (kgi (kG S) s so c).1), .int (nI (kgi (kG S) s so c).2), .int (nI c), u] [] (mH α σ h) = zs PG mX3_greedy 103 [.ref (α 0), .int (nI s), .int (nI so), .int (kbo (kgi (kG S) s so 6).1), .int (nI (kgi (kG S) s so 6).2), .int (nI 6), u'] [] (mH α σ' h) ∧ mR6 (S.s_w w) σ' := by
  induction j with
  | zero =>
    intro c σ u hc hR
    have hc : c = 6 := by omega
    subst hc
    refine ⟨σ, u, ?_, hR⟩
    rw [uX3_greedy_at34]
    simp (disch := omega) only [uX3_greedy_at36, uX3_greedy_at38, zKK, zB]
  | succ j ih =>
    intro c σ u hc hR
    have hd : s / 2 ^ c ≤ s := Nat.div_le_self _ _
    have hd2 : so / 2 ^ c ≤ so := Nat.div_le_self _ _
    obtain ⟨kb1, kb2⟩ := kgi_b (kG_le hI) s so c
    cases e : s.testBit c with
    | false =>
      have e1 := kbit0 e
      obtain ⟨σ', u', r1, r2⟩ := ih (c + 1) σ u (by omega) hR
      refine ⟨σ', u', ?_, r2⟩
      rw [kgi, e] at r1
      simp only [Bool.false_and, Bool.false_eq_true, if_false] at r1
      rw [uX3_greedy_at34, ← r1]
      simp (disch := omega) only [uX3_greedy_p0, uX3_greedy_p1, mG, mP hα, mR hα, mW hα, mgs, zKK, zB, zBl, zBb, zlg, zA, zA3, zL3, km31, km63, klshr, kishr, k2p, kl1shl, klmask, kland1, kiand1, k_l2i, zrt_b, zrt_0, zrt_1, zdv_n, zdv_l, e1]
    | true =>
      have e1 := kbit1 e
      cases f : so.testBit c with
      | true =>
        have f1 := kbit1 f
        obtain ⟨σ', u', r1, r2⟩ := ih (c + 1) σ u (by omega) hR
        refine ⟨σ', u', ?_, r2⟩
        rw [kgi, e, f] at r1
        simp only [Bool.not_true, Bool.and_false, Bool.false_eq_true, if_false] at r1
        rw [uX3_greedy_at34, ← r1]
        simp (disch := omega) only [uX3_greedy_p0, uX3_greedy_p1, mG, mP hα, mR hα, mW hα, mgs, zKK, zB, zBl, zBb, zlg, zA, zA3, zL3, km31, km63, klshr, kishr, k2p, kl1shl, klmask, kland1, kiand1, k_l2i, zrt_b, zrt_0, zrt_1, zdv_n, zdv_l, e1, f1]
      | false =>
        have f1 := kbit0 f
        obtain ⟨o1, o2⟩ := kb_set hso (by omega : c < 6) f
        have o3 : 1 ≤ so ||| 2 ^ c := by
          have h1 : 2 ^ c ≤ so ||| 2 ^ c := Nat.right_le_or
          have h2 : 0 < 2 ^ c := Nat.pow_pos (by decide)
          omega
        obtain ⟨σ1, q1, R1⟩ := t_jG hα σ h hR hI o1 o3
        have hg := kG_le hI (so ||| 2 ^ c)
        obtain ⟨σ', u', r1, r2⟩ := ih (c + 1) σ1 (.int (nI (kG S (so ||| 2 ^ c)))) (by omega) R1
        refine ⟨σ', u', ?_, r2⟩
        rw [kgi, e, f] at r1
        simp only [Bool.not_false, Bool.and_self, if_true] at r1
        rw [uX3_greedy_at34, ← r1]
        cases hn : (kgi (kG S) s so c).1 with
        | none =>
          rw [if_neg (fun q => q.1 rfl)]
          simp (disch := omega) only [uX3_greedy_p0, uX3_greedy_p1, mG, mP hα, mR hα, mW hα, mgs, zKK, zB, zBl, zBb, zlg, zA, zA3, zL3, km31, km63, klshr, kishr, k2p, kl1shl, klmask, kland1, kiand1, k_l2i, zrt_b, zrt_0, zrt_1, zdv_n, zdv_l, e1, f1, nx_or, q1, kbo_n, kbo_s, n1_n1]
        | some b =>
          have hb2 := (kb2 b hn).1
          have en := nI_n1 (k := b) (by omega)
          by_cases e2 : kG S (so ||| 2 ^ c) ≤ (kgi (kG S) s so c).2
          · rw [if_pos ⟨(fun q => by cases q), e2⟩, hn]
            simp (disch := omega) only [uX3_greedy_p0, uX3_greedy_p1, mG, mP hα, mR hα, mW hα, mgs, zKK, zB, zBl, zBb, zlg, zA, zA3, zL3, km31, km63, klshr, kishr, k2p, kl1shl, klmask, kland1, kiand1, k_l2i, zrt_b, zrt_0, zrt_1, zdv_n, zdv_l, e1, f1, nx_or, q1, kbo_s, en]
          · rw [if_neg (fun q => e2 q.2)]
            simp (disch := omega) only [uX3_greedy_p0, uX3_greedy_p1, mG, mP hα, mR hα, mW hα, mgs, zKK, zB, zBl, zBb, zlg, zA, zA3, zL3, km31, km63, klshr, kishr, k2p, kl1shl, klmask, kland1, kiand1, k_l2i, zrt_b, zrt_0, zrt_1, zdv_n, zdv_l, e1, f1, nx_or, q1, kbo_s, en]
def kgo (G : Nat → Nat) (set : Nat) : Nat → Nat → List Int64 → List Int64
  | 0, _, w => w
  | n + 1, so, w => if so = set then w else kgo G set n (so ||| 2 ^ ((kgi G set so 6).1.getD 0)) (w ++ [lN ((kgi G set so 6).1.getD 0)])
theorem t_greedy_loop {α : Nat → Nat} (hα : mD α) (h : zH) {S : kS} (hI : kSI S) {s : Nat} (hs : s < 64) (n : Nat) : ∀ (so : Nat) (w : List Int64) (σ : mS) (u1 u2 u3 u4 : Value), so < 64 → ksub so s → kpc so + n = 7 → w.length + n = 7 → mR6 (S.s_w w) σ → ∃ σ' so' v1 v2 v3 v4, zs PG mX3_greedy 21 [.ref (α 0), .int (nI s), .int (nI so), u1, u2, u3, u4] [] (mH α σ h) = zs PG mX3_greedy 118 [.ref (α 0), .int (nI s), .int so', v1, v2, v3, v4] [] (mH α σ' h) ∧ mR6 (S.s_w (kgo (kG S) s n so w)) σ' := by
  induction n with
  | zero =>
    intro so w σ u1 u2 u3 u4 hso hsub hk hw hR
    exfalso
    have := List.length_filter_le (fun c => so.testBit c) (List.range 6)
    have h6 : kpc so ≤ 6 := by unfold kpc; simpa using this
    omega
  | succ n ih =>
    intro so w σ u1 u2 u3 u4 hso hsub hk hw hR
    rw [uX3_greedy_at21]
    by_cases e : so = s
    · subst e
      refine ⟨σ, nI so, u1, u2, u3, u4, ?_, ?_⟩
      · simp (disch := omega) only [uX3_greedy_at22, uX3_greedy_at23, zKK, zB]
      · rw [kgo, if_pos rfl]; exact hR
    · have hex : ∃ c, c < 6 ∧ s.testBit c = true ∧ so.testBit c = false := by
        refine Classical.byContradiction fun hn => e (kb_ext hso hs fun c hc => ?_)
        cases h1 : so.testBit c with
        | true => exact (hsub c hc h1).symm
        | false =>
          cases h2 : s.testBit c with
          | false => rfl
          | true => exact absurd ⟨c, hc, h2, h1⟩ hn
      obtain ⟨b, hb⟩ := kgi_some (kG S) s so 6 hex
      obtain ⟨b1, b2, b3⟩ := (kgi_b (kG_le hI) s so 6).2 b hb
      obtain ⟨o1, o2⟩ := kb_set hso b1 b3
      obtain ⟨σ1, u', q1, R1⟩ := t_greedy_inner hα h hI hs hso 6 0 σ u4 rfl hR
      rw [hb, show kbo (kgi (kG S) s so 0).1 = -1 from rfl, show (kgi (kG S) s so 0).2 = 0 from rfl, kbo_s] at q1
      obtain ⟨σ2, q2, R2⟩ := t_tellX hα σ1 h R1 (by omega) (lN b)
      have hsub2 : ksub (so ||| 2 ^ b) s := by
        intro c hc hq
        rw [Nat.testBit_or, Nat.testBit_two_pow] at hq
        by_cases e3 : b = c
        · rw [← e3]; exact b2
        · simp [e3] at hq
          exact hsub c hc hq
      obtain ⟨σ', so', v1, v2, v3, v4, r1, r2⟩ := ih (so ||| 2 ^ b) (w ++ [lN b]) σ2 (.int (nI b)) (.int (nI (kgi (kG S) s so 6).2)) (.int (nI 6)) u' o1 hsub2 (by omega) (by rw [List.length_append]; simp; omega) R2
      refine ⟨σ', so', v1, v2, v3, v4, ?_, ?_⟩
      · rw [← r1]
        simp (disch := omega) only [uX3_greedy_p0, uX3_greedy_p1, mG, mP hα, mR hα, mW hα, mgs, zKK, zB, zBl, zBb, zlg, zA, zA3, zL3, km31, km63, klshr, kishr, k2p, kl1shl, klmask, kland1, kiand1, k_l2i, zrt_b, zrt_0, zrt_1, zdv_n, zdv_l, q1, nx_or, q2]
      · rw [kgo, if_neg e, hb]; exact r2
def q_greedy (S : kS) (s : Int32) : Int32 × kS := if kbd s 1 63 then (((kgo (kG S) (kN s) 7 0 []).getD 0 0).toInt32, S.s_w (kgo (kG S) (kN s) 7 0 [])) else (-1, S)
theorem kgo_len (G : Nat → Nat) (set n : Nat) : ∀ so w, w.length ≤ (kgo G set n so w).length := by
  induction n with
  | zero => intro so w; exact Nat.le_refl _
  | succ n ih =>
    intro so w
    unfold kgo
    split
    · exact Nat.le_refl _
    · have := ih (so ||| 2 ^ ((kgi G set so 6).1.getD 0)) (w ++ [lN ((kgi G set so 6).1.getD 0)])
      rw [List.length_append] at this
      omega
theorem M_greedy {α : Nat → Nat} (hα : mD α) (σ : mS) (h : zH) {S : kS} (hR : mR6 S σ) (hI : kSI S) (s : Int32) : ∃ σ', zc PG mX3_greedy [.ref (α 0), .int s] (mH α σ h) = some (.inl (some (.int (q_greedy S s).1)), mH α σ' h) ∧ mR6 (q_greedy S s).2 σ' := by
  unfold q_greedy
  rcases kbd_cases s 1 63 with e1 | ⟨s, h1, hs, rfl⟩
  · simp only [e1, Bool.false_eq_true, if_false]
    refine ⟨_, ?_, hR.th 0⟩
    simp (disch := omega) only [eX3_greedy, uX3_greedy_p0, uX3_greedy_p1, mG, mP hα, mR hα, mW hα, mgs, zKK, zB, zBl, zBb, zlg, zA, zA3, zL3, km31, km63, klshr, kishr, k2p, kl1shl, klmask, kland1, kiand1, k_l2i, zrt_b, zrt_0, zrt_1, zdv_n, zdv_l, t_isSet, e1]
  · have e1 := kbd_nI h1 hs (by omega)
    simp only [e1, if_true]
    rw [kN_nI (by omega)]
    obtain ⟨σ', so', v1, v2, v3, v4, r1, r2⟩ := t_greedy_loop hα h hI (s := s) (by omega) 7 0 [] ((σ.s_th 0).s_rm 0) zJ zJ zJ zJ (by decide) (fun c _ q => by rw [Nat.zero_testBit] at q; cases q) (by decide) rfl (hR.th 0).rm0
    have hlen : 0 < (kgo (kG S) s 7 0 []).length := by
      unfold kgo
      rw [if_neg (by omega)]
      have := kgo_len (kG S) s 6 (0 ||| 2 ^ ((kgi (kG S) s 0 6).1.getD 0)) ([] ++ [lN ((kgi (kG S) s 0 6).1.getD 0)])
      rw [List.length_append] at this
      simp at this ⊢
      omega
    have h0 : σ'.ro 0 = (kgo (kG S) s 7 0 []).getD 0 0 := r2.2.2.2.2.2.2 0 hlen
    refine ⟨σ', ?_, r2⟩
    simp (disch := omega) only [eX3_greedy, uX3_greedy_p0, uX3_greedy_p1, mG, mP hα, mR hα, mW hα, mgs, zKK, zB, zBl, zBb, zlg, zA, zA3, zL3, km31, km63, klshr, kishr, k2p, kl1shl, klmask, kland1, kiand1, k_l2i, zrt_b, zrt_0, zrt_1, zdv_n, zdv_l, t_isSet, e1, r1, h0]
theorem kpc_and {s : Nat} (hs : s < 64) (h0 : s ≠ 0) : kpc s = kpc (s &&& (s - 1)) + 1 ∧ (s &&& (s - 1)) < s := by
  have := List.all_eq_true.mp (show ((List.range 64).all fun s => decide (s = 0) || (decide (kpc s = kpc (s &&& (s - 1)) + 1) && decide ((s &&& (s - 1)) < s))) = true by decide +kernel) s (List.mem_range.mpr hs)
  simpa [h0] using this
theorem t_ones_loop (H : zH) (a0 : Int32) (k : Nat) : ∀ (s n : Nat), s ≤ k → s < 64 → zs PG mX3_ones 4 [.int a0, .int (nI n), .int (nI s)] [] H = some (.inl (some (.int (nI (n + kpc s)))), H) := by
  induction k with
  | zero =>
    intro s n hs h64
    have hs : s = 0 := by omega
    subst hs
    rw [uX3_ones_at4]
    simp (disch := omega) only [uX3_ones, zKK, zB, zBl, zBb, zlg, zA, zA3, zL3, km31, km63, klshr, kishr, k2p, kl1shl, klmask, kland1, kiand1, k_l2i, zrt_b, zrt_0, zrt_1, zdv_n, zdv_l, show kpc 0 = 0 by decide, Nat.add_zero]
  | succ k ih =>
    intro s n hs h64
    rw [uX3_ones_at4]
    by_cases e : s = 0
    · subst e
      simp (disch := omega) only [uX3_ones, zKK, zB, zBl, zBb, zlg, zA, zA3, zL3, km31, km63, klshr, kishr, k2p, kl1shl, klmask, kland1, kiand1, k_l2i, zrt_b, zrt_0, zrt_1, zdv_n, zdv_l, show kpc 0 = 0 by decide, Nat.add_zero]
    · obtain ⟨h1, h2⟩ := kpc_and h64 e
      have r := ih (s &&& (s - 1)) (n + 1) (by omega) (by omega)
      rw [show n + kpc s = n + 1 + kpc (s &&& (s - 1)) by omega, ← r]
      simp (disch := omega) only [uX3_ones, zKK, zB, zBl, zBb, zlg, zA, zA3, zL3, km31, km63, klshr, kishr, k2p, kl1shl, klmask, kland1, kiand1, k_l2i, zrt_b, zrt_0, zrt_1, zdv_n, zdv_l, nx_and]
theorem t_ones (H : zH) {s : Nat} (hs : s < 64) : zc PG mX3_ones [.int (nI s)] H = some (.inl (some (.int (nI (kpc s)))), H) := by
  have r := t_ones_loop H (nI s) s s 0 (Nat.le_refl _) hs
  rw [Nat.zero_add] at r
  simp only [eX3_ones, uX3_ones]
  exact r
theorem knot {p s : Nat} (hp : p < 64) (hs : s < 64) : (nI p &&& (nI s ^^^ (-1)) = nI 0) = (p &&& s = p) := by
  have key : ((List.range 64).all fun p => (List.range 64).all fun s => decide (nI p &&& (nI s ^^^ (-1)) = nI 0) == decide (p &&& s = p)) = true := by decide +kernel
  have := List.all_eq_true.mp (List.all_eq_true.mp key p (List.mem_range.mpr hp)) s (List.mem_range.mpr hs)
  simp only [beq_iff_eq, decide_eq_decide] at this
  exact propext this
theorem kpc_le (s : Nat) : kpc s ≤ 6 := by
  have := List.length_filter_le (fun c => s.testBit c) (List.range 6)
  unfold kpc
  simpa using this
def kme (G : Nat → Nat) (s : Nat) : Nat → Int64 × Nat
  | 0 => (lN 0, 0)
  | n + 1 => if (n + 1) &&& s = n + 1 then ((kme G s n).1 + (if kpc (n + 1) % 2 = 1 then lN (G (n + 1)) else (-(nI (G (n + 1)))).toInt64), (kme G s n).2 + 1) else kme G s n
theorem kme_le (G : Nat → Nat) (s n : Nat) : (kme G s n).2 ≤ n := by
  induction n with
  | zero => exact Nat.le_refl _
  | succ n ih =>
    unfold kme
    split
    · show (kme G s n).2 + 1 ≤ n + 1
      omega
    · omega
theorem t_meet_loop {α : Nat → Nat} (hα : mD α) (h : zH) {S : kS} {w : List Int64} (hI : kSI S) {s : Nat} (hs : s < 64) (j : Nat) : ∀ (n : Nat) (σ : mS), n + j = s → mR6 (S.s_w w) σ → ∃ σ', zs PG mX3_meet 24 [.ref (α 0), .int (nI s), .long (kme (kG S) s n).1, zJ, .int (nI (kme (kG S) s n).2), .int (nI (n + 1))] [] (mH α σ h) = zs PG mX3_meet 83 [.ref (α 0), .int (nI s), .long (kme (kG S) s s).1, zJ, .int (nI (kme (kG S) s s).2), .int (nI (s + 1))] [] (mH α σ' h) ∧ mR6 (S.s_w w) σ' := by
  induction j with
  | zero =>
    intro n σ hn hR
    have hn : n = s := by omega
    subst hn
    refine ⟨σ, ?_, hR⟩
    rw [uX3_meet_at24]
    simp (disch := omega) only [uX3_meet_at26, uX3_meet_at27, zKK, zB]
  | succ j ih =>
    intro n σ hn hR
    have hl := kme_le (kG S) s n
    have hkn := knot (p := n + 1) (s := s) (by omega) hs
    have hpc := kpc_le (n + 1)
    by_cases e : (n + 1) &&& s = n + 1
    · rw [eq_true e] at hkn
      obtain ⟨σ1, q1, R1⟩ := t_jG hα σ h hR hI (s := n + 1) (by omega) (by omega)
      have hg := kG_le hI (n + 1)
      obtain ⟨σ', r1, r2⟩ := ih (n + 1) σ1 (by omega) R1
      refine ⟨σ', ?_, r2⟩
      rw [kme, if_pos e] at r1
      dsimp only at r1
      rw [uX3_meet_at24, ← r1]
      by_cases e2 : kpc (n + 1) % 2 = 1
      · simp (disch := omega) only [uX3_meet, mG, mP hα, mR hα, mW hα, mgs, zKK, zB, zBl, zBb, zlg, zA, zA3, zL3, km31, km63, klshr, kishr, k2p, kl1shl, klmask, kland1, kiand1, k_l2i, zrt_b, zrt_0, zrt_1, zdv_n, zdv_l, hkn, t_ones, e2, q1, if_true]
      · have e3 : kpc (n + 1) % 2 = 0 := by omega
        simp (disch := omega) only [uX3_meet, mG, mP hα, mR hα, mW hα, mgs, zKK, zB, zBl, zBb, zlg, zA, zA3, zL3, km31, km63, klshr, kishr, k2p, kl1shl, klmask, kland1, kiand1, k_l2i, zrt_b, zrt_0, zrt_1, zdv_n, zdv_l, hkn, t_ones, e3, q1, if_neg e2]
        rw [if_neg (by decide)]
    · rw [eq_false e] at hkn
      obtain ⟨σ', r1, r2⟩ := ih (n + 1) σ (by omega) hR
      refine ⟨σ', ?_, r2⟩
      rw [kme, if_neg e] at r1
      rw [uX3_meet_at24, ← r1]
      simp (disch := omega) only [uX3_meet, mG, mP hα, mR hα, mW hα, mgs, zKK, zB, zBl, zBb, zlg, zA, zA3, zL3, km31, km63, klshr, kishr, k2p, kl1shl, klmask, kland1, kiand1, k_l2i, zrt_b, zrt_0, zrt_1, zdv_n, zdv_l, hkn]
def q_meet (S : kS) (s : Int32) : Int64 × kS := if kbd s 1 63 then (klmax (lN 0) (kme (kG S) (kN s) (kN s)).1, S.s_w [(kme (kG S) (kN s) (kN s)).1, lN (kme (kG S) (kN s) (kN s)).2]) else (-1, S)
theorem M_meet {α : Nat → Nat} (hα : mD α) (σ : mS) (h : zH) {S : kS} (hR : mR6 S σ) (hI : kSI S) (s : Int32) : ∃ σ', zc PG mX3_meet [.ref (α 0), .int s] (mH α σ h) = some (.inl (some (.long (q_meet S s).1)), mH α σ' h) ∧ mR6 (q_meet S s).2 σ' := by
  unfold q_meet
  rcases kbd_cases s 1 63 with e1 | ⟨s, h1, hs, rfl⟩
  · simp only [e1, Bool.false_eq_true, if_false]
    refine ⟨_, ?_, hR.th 0⟩
    simp (disch := omega) only [eX3_meet, uX3_meet, mG, mP hα, mR hα, mW hα, mgs, zKK, zB, zBl, zBb, zlg, zA, zA3, zL3, km31, km63, klshr, kishr, k2p, kl1shl, klmask, kland1, kiand1, k_l2i, zrt_b, zrt_0, zrt_1, zdv_n, zdv_l, t_isSet, e1]
  · have e1 := kbd_nI h1 hs (by omega)
    simp only [e1, if_true]
    rw [kN_nI (by omega)]
    obtain ⟨σ1, r1, R1⟩ := t_meet_loop hα h (S := S) (w := S.w) hI (s := s) (by omega) s 0 (σ.s_th 0) (by omega) (hR.th 0)
    rw [show (kme (kG S) s 0).1 = lN 0 from rfl, show (kme (kG S) s 0).2 = 0 from rfl, Nat.zero_add] at r1
    have hl := kme_le (kG S) s s
    have R2 : mR6 (S.s_w []) (σ1.s_rm 0) := R1.rm0
    refine ⟨_, ?_, (R2.tell (kme (kG S) s s).1).tell (lN (kme (kG S) s s).2)⟩
    simp (disch := omega) only [eX3_meet, uX3_meet, mG, mP hα, mR hα, mW hα, mgs, zKK, zB, zBl, zBb, zlg, zA, zA3, zL3, km31, km63, klshr, kishr, k2p, kl1shl, klmask, kland1, kiand1, k_l2i, zrt_b, zrt_0, zrt_1, zdv_n, zdv_l, t_isSet, e1, r1, t_tell_s hα, j_maxL]
def kcv (G : Nat → Nat) (s due : Nat) : Nat → Nat
  | 0 => 0
  | n + 1 => if (n + 1) &&& s = n + 1 ∧ (kcv G s due n = 0 ∨ kpc (n + 1) < kpc (kcv G s due n)) ∧ G (n + 1) = due then n + 1 else kcv G s due n
theorem kcv_le (G : Nat → Nat) (s due n : Nat) : kcv G s due n ≤ n := by
  induction n with
  | zero => exact Nat.le_refl _
  | succ n ih =>
    unfold kcv
    split <;> omega
theorem t_cover_loop {α : Nat → Nat} (hα : mD α) (h : zH) {S : kS} {w : List Int64} (hI : kSI S) {s : Nat} (hs : s < 64) {due : Nat} (hdue : due ≤ 2000000000) (j : Nat) : ∀ (n : Nat) (σ : mS), n + j = s → mR6 (S.s_w w) σ → ∃ σ', zs PG mX3_cover 25 [.ref (α 0), .int (nI s), .int (nI due), .int (nI (kcv (kG S) s due n)), .int (nI (n + 1))] [] (mH α σ h) = zs PG mX3_cover 78 [.ref (α 0), .int (nI s), .int (nI due), .int (nI (kcv (kG S) s due s)), .int (nI (s + 1))] [] (mH α σ' h) ∧ mR6 (S.s_w w) σ' := by
  induction j with
  | zero =>
    intro n σ hn hR
    have hn : n = s := by omega
    subst hn
    refine ⟨σ, ?_, hR⟩
    rw [uX3_cover_at25]
    simp (disch := omega) only [uX3_cover_at27, uX3_cover_at28, zKK, zB]
  | succ j ih =>
    intro n σ hn hR
    have hl := kcv_le (kG S) s due n
    have hkn := knot (p := n + 1) (s := s) (by omega) hs
    have p1 := kpc_le (n + 1)
    have p2 := kpc_le (kcv (kG S) s due n)
    by_cases e : (n + 1) &&& s = n + 1
    · rw [eq_true e] at hkn
      by_cases e2 : kcv (kG S) s due n = 0 ∨ kpc (n + 1) < kpc (kcv (kG S) s due n)
      · obtain ⟨σ1, q1, R1⟩ := t_jG hα σ h hR hI (s := n + 1) (by omega) (by omega)
        have hg := kG_le hI (n + 1)
        obtain ⟨σ', r1, r2⟩ := ih (n + 1) σ1 (by omega) R1
        refine ⟨σ', ?_, r2⟩
        rw [uX3_cover_at25, ← r1]
        by_cases e3 : kG S (n + 1) = due
        · rw [kcv, if_pos ⟨e, e2, e3⟩]
          by_cases e4 : kcv (kG S) s due n = 0
          · simp (disch := omega) only [uX3_cover, mG, mP hα, mR hα, mW hα, mgs, zKK, zB, zBl, zBb, zlg, zA, zA3, zL3, km31, km63, klshr, kishr, k2p, kl1shl, klmask, kland1, kiand1, k_l2i, zrt_b, zrt_0, zrt_1, zdv_n, zdv_l, hkn, e4, q1, e3]
          · have e5 := e2.resolve_left e4
            simp (disch := omega) only [uX3_cover, mG, mP hα, mR hα, mW hα, mgs, zKK, zB, zBl, zBb, zlg, zA, zA3, zL3, km31, km63, klshr, kishr, k2p, kl1shl, klmask, kland1, kiand1, k_l2i, zrt_b, zrt_0, zrt_1, zdv_n, zdv_l, hkn, t_ones, q1, e3]
        · rw [kcv, if_neg (fun q => e3 q.2.2)]
          by_cases e4 : kcv (kG S) s due n = 0
          · simp (disch := omega) only [uX3_cover, mG, mP hα, mR hα, mW hα, mgs, zKK, zB, zBl, zBb, zlg, zA, zA3, zL3, km31, km63, klshr, kishr, k2p, kl1shl, klmask, kland1, kiand1, k_l2i, zrt_b, zrt_0, zrt_1, zdv_n, zdv_l, hkn, e4, q1]
          · have e5 := e2.resolve_left e4
            simp (disch := omega) only [uX3_cover, mG, mP hα, mR hα, mW hα, mgs, zKK, zB, zBl, zBb, zlg, zA, zA3, zL3, km31, km63, klshr, kishr, k2p, kl1shl, klmask, kland1, kiand1, k_l2i, zrt_b, zrt_0, zrt_1, zdv_n, zdv_l, hkn, t_ones, q1]
      · obtain ⟨σ', r1, r2⟩ := ih (n + 1) σ (by omega) hR
        refine ⟨σ', ?_, r2⟩
        rw [kcv, if_neg (fun q => e2 q.2.1)] at r1
        rw [uX3_cover_at25, ← r1]
        have e4 : ¬ kcv (kG S) s due n = 0 := fun q => e2 (Or.inl q)
        have e5 : ¬ kpc (n + 1) < kpc (kcv (kG S) s due n) := fun q => e2 (Or.inr q)
        simp (disch := omega) only [uX3_cover, mG, mP hα, mR hα, mW hα, mgs, zKK, zB, zBl, zBb, zlg, zA, zA3, zL3, km31, km63, klshr, kishr, k2p, kl1shl, klmask, kland1, kiand1, k_l2i, zrt_b, zrt_0, zrt_1, zdv_n, zdv_l, hkn, t_ones]
    · rw [eq_false e] at hkn
      obtain ⟨σ', r1, r2⟩ := ih (n + 1) σ (by omega) hR
      refine ⟨σ', ?_, r2⟩
      rw [kcv, if_neg (fun q => e q.1)] at r1
      rw [uX3_cover_at25, ← r1]
      simp (disch := omega) only [uX3_cover, mG, mP hα, mR hα, mW hα, mgs, zKK, zB, zBl, zBb, zlg, zA, zA3, zL3, km31, km63, klshr, kishr, k2p, kl1shl, klmask, kland1, kiand1, k_l2i, zrt_b, zrt_0, zrt_1, zdv_n, zdv_l, hkn]
def q_cover (S : kS) (s : Int32) : Int32 × kS := if kbd s 1 63 then (nI (kpc (kcv (kG S) (kN s) (kG S (kN s)) (kN s))), S.s_w [lN (kcv (kG S) (kN s) (kG S (kN s)) (kN s))]) else (-1, S)
theorem M_cover {α : Nat → Nat} (hα : mD α) (σ : mS) (h : zH) {S : kS} (hR : mR6 S σ) (hI : kSI S) (s : Int32) : ∃ σ', zc PG mX3_cover [.ref (α 0), .int s] (mH α σ h) = some (.inl (some (.int (q_cover S s).1)), mH α σ' h) ∧ mR6 (q_cover S s).2 σ' := by
  unfold q_cover
  rcases kbd_cases s 1 63 with e1 | ⟨s, h1, hs, rfl⟩
  · simp only [e1, Bool.false_eq_true, if_false]
    refine ⟨_, ?_, hR.th 0⟩
    simp (disch := omega) only [eX3_cover, uX3_cover, mG, mP hα, mR hα, mW hα, mgs, zKK, zB, zBl, zBb, zlg, zA, zA3, zL3, km31, km63, klshr, kishr, k2p, kl1shl, klmask, kland1, kiand1, k_l2i, zrt_b, zrt_0, zrt_1, zdv_n, zdv_l, t_isSet, e1]
  · have e1 := kbd_nI h1 hs (by omega)
    simp only [e1, if_true]
    rw [kN_nI (by omega)]
    obtain ⟨σ1, q1, R1⟩ := t_jG hα (σ.s_th 0) h (w := S.w) (hR.th 0) hI (s := s) (by omega) h1
    obtain ⟨σ2, r1, R2⟩ := t_cover_loop hα h (S := S) (w := S.w) hI (s := s) (by omega) (kG_le hI s) s 0 σ1 (by omega) R1
    rw [show kcv (kG S) s (kG S s) 0 = 0 from rfl, Nat.zero_add] at r1
    have hl := kcv_le (kG S) s (kG S s) s
    have R3 : mR6 (S.s_w []) (σ2.s_rm 0) := R2.rm0
    refine ⟨_, ?_, R3.tell (lN (kcv (kG S) s (kG S s) s))⟩
    simp (disch := omega) only [eX3_cover, uX3_cover, mG, mP hα, mR hα, mW hα, mgs, zKK, zB, zBl, zBb, zlg, zA, zA3, zL3, km31, km63, klshr, kishr, k2p, kl1shl, klmask, kland1, kiand1, k_l2i, zrt_b, zrt_0, zrt_1, zdv_n, zdv_l, t_isSet, e1, q1, r1, t_tell_s hα, t_ones]
