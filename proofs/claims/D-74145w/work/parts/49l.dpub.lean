/-! THE COMPONENT's PUBLIC METHODS: order, greedy, meet, cover -/
/-- what is left of all six -/
theorem kleft {s c : Nat} (hs : s < 64) (hc : c < 6) : 63 ^^^ s < 64 ∧ ((63 ^^^ s) / 2 ^ c % 2 = if s.testBit c then 0 else 1) ∧ (s.testBit c = false → (63 ^^^ s) ^^^ 2 ^ c = 63 ^^^ (s ||| 2 ^ c)) := by
  have := kb_all (P := fun s c => decide (63 ^^^ s < 64) && decide ((63 ^^^ s) / 2 ^ c % 2 = if s.testBit c then 0 else 1) && (s.testBit c || decide ((63 ^^^ s) ^^^ 2 ^ c = 63 ^^^ (s ||| 2 ^ c)))) (by decide +kernel) hs hc
  simp only [Bool.and_eq_true, Bool.or_eq_true, decide_eq_true_eq] at this
  exact ⟨this.1.1, this.1.2, fun q => this.2.resolve_left (by rw [q]; exact Bool.false_ne_true)⟩
theorem kleft0 : ∀ s, s < 64 → (63 ^^^ s = 0 ↔ kpc s = 6) := by decide +kernel
theorem kdiff : ∀ s, s < 64 → ∀ t, t < 64 → nI s &&& (nI t ^^^ (-1)) = nI (s &&& (63 ^^^ t)) ∧ s &&& (63 ^^^ t) < 64 := by
  have key : ((List.range 64).all fun s => (List.range 64).all fun t => decide (nI s &&& (nI t ^^^ (-1)) = nI (s &&& (63 ^^^ t))) && decide (s &&& (63 ^^^ t) < 64)) = true := by decide +kernel
  intro s hs t ht
  have := List.all_eq_true.mp (List.all_eq_true.mp key s (List.mem_range.mpr hs)) t (List.mem_range.mpr ht)
  simpa using this
theorem kdiff_b {s t c : Nat} (hc : c < 6) : (s &&& (63 ^^^ t)) / 2 ^ c % 2 = if s.testBit c && !t.testBit c then 1 else 0 := by
  have h63 : (63 : Nat).testBit c = true := by
    have : ∀ c, c < 6 → (63 : Nat).testBit c = true := by decide
    exact this c hc
  rw [kbit, Nat.testBit_and, Nat.testBit_xor, h63]
  cases s.testBit c <;> cases t.testBit c <;> rfl
section DR
variable {h h1 : zH} {D B : Nat} {al : Nat → Nat} {S : kS} {X : dX}
theorem d_order_inner {W : List Int64} (R : dR h D B al (S.s_w W) X) {s : Nat} (hs : s < 64) (j : Nat) : ∀ (c : Nat), c + j = 6 → zs PG mX1_order 16 [.ref D, .int (nI (63 ^^^ s)), .int (kbo (kob (fun c => kguess (S.c c)) s c)), .int (nI c)] [] h = zs PG mX1_order 65 [.ref D, .int (nI (63 ^^^ s)), .int (kbo (kob (fun c => kguess (S.c c)) s 6)), .int (nI 6)] [] h := by
  induction j with
  | zero =>
    intro c hc
    have hc : c = 6 := by omega
    subst hc
    rw [uX1_order_at16]
    simp (disch := omega) only [uX1_order_at17, uX1_order_at19, zKK, zB]
  | succ j ih =>
    intro c hc
    obtain ⟨l1, l2, -⟩ := kleft hs (show c < 6 by omega)
    have hd : (63 ^^^ s) / 2 ^ c ≤ 63 ^^^ s := Nat.div_le_self _ _
    have hlt := kob_lt (fun c => kguess (S.c c)) s c
    have r1 := ih (c + 1) (by omega)
    cases e : s.testBit c with
    | true =>
      rw [e] at l2
      simp only [if_true] at l2
      rw [kob, e] at r1
      simp only [if_true] at r1
      rw [uX1_order_at16, ← r1]
      simp (disch := omega) only [uX1_order, zKK, zB, zBl, zBb, zlg, zA, zA3, zL3, km31, km63, klshr, kishr, k2p, kl1shl, klmask, kland1, kiand1, k_l2i, zrt_b, zrt_0, zrt_1, zdv_n, zdv_l, l2]
    | false =>
      rw [e] at l2
      simp only [Bool.false_eq_true, if_false] at l2
      cases e2 : kob (fun c => kguess (S.c c)) s c with
      | none =>
        rw [kob, e, e2] at r1
        simp only [Bool.false_eq_true, if_false] at r1
        rw [uX1_order_at16, ← r1]
        simp (disch := omega) only [uX1_order, zKK, zB, zBl, zBb, zlg, zA, zA3, zL3, km31, km63, klshr, kishr, k2p, kl1shl, klmask, kland1, kiand1, k_l2i, zrt_b, zrt_0, zrt_1, zdv_n, zdv_l, l2, kbo_n, kbo_s, n1_n1]
      | some b =>
        obtain ⟨hb, -⟩ := hlt b e2
        have en := nI_n1 (k := b) (by omega)
        have cc : cN h D (al c) (S.c c) := R.c (by omega)
        have cb : cN h D (al b) (S.c b) := R.c (by omega)
        have q1 := n_guess cc R.t
        have q2 := n_guess cb R.t
        have g1 := kguess_le cc.I
        have g2 := kguess_le cb.I
        rw [kob, e, e2] at r1
        simp only [Bool.false_eq_true, if_false] at r1
        rw [uX1_order_at16, ← r1]
        by_cases e3 : kguess (S.c b) < kguess (S.c c)
        · simp (disch := omega) only [uX1_order, zKK, zB, zA, km31, kishr, kiand1, l2, en, dG R, nG cc, nG cb, q1, q2, kbo_n, kbo_s, if_pos e3]
        · simp (disch := omega) only [uX1_order, zKK, zB, zA, km31, kishr, kiand1, l2, en, dG R, nG cc, nG cb, q1, q2, kbo_n, kbo_s, if_neg e3]
theorem d_order_loop (j : Nat) : ∀ (k : Nat) (h : zH) (X : dX) (u v : Value), k + j = 6 → dR h D B al (S.s_w (kor (fun c => kguess (S.c c)) k).2) X → ∃ h' X' u' v', zs PG mX1_order 8 [.ref D, .int (nI (63 ^^^ (kor (fun c => kguess (S.c c)) k).1)), u, v] [] h = zs PG mX1_order 80 [.ref D, .int (nI 0), u', v'] [] h' ∧ dR h' D B al (S.s_w (kor (fun c => kguess (S.c c)) 6).2) X' ∧ hF (dE D) 0 0 h h' := by
  induction j with
  | zero =>
    intro k h X u v hk R
    have hk : k = 6 := by omega
    subst hk
    obtain ⟨i1, i2, i3⟩ := kor_inv (fun c => kguess (S.c c)) 6 (by omega)
    have e0 := (kleft0 _ i1).mpr i2
    refine ⟨h, X, u, v, ?_, R, hF.rf R.w _⟩
    rw [e0, uX1_order_at8]
    simp (disch := omega) only [uX1_order_at9, zKK, zB]
  | succ j ih =>
    intro k h X u v hk R
    obtain ⟨i1, i2, i3⟩ := kor_inv (fun c => kguess (S.c c)) k (by omega)
    obtain ⟨b, hb⟩ := kob_some (fun c => kguess (S.c c)) (kor (fun c => kguess (S.c c)) k).1 6 (kb_some i1 (by omega))
    obtain ⟨b1, b2⟩ := kob_lt _ _ 6 b hb
    obtain ⟨l1, -, l3⟩ := kleft i1 b1
    have l3 := l3 b2
    have e0 : ¬ 63 ^^^ (kor (fun c => kguess (S.c c)) k).1 = 0 := fun q => by have := (kleft0 _ i1).mp q; omega
    have q1 := d_order_inner R i1 6 0 rfl
    rw [hb, show kbo (kob (fun c => kguess (S.c c)) (kor (fun c => kguess (S.c c)) k).1 0) = -1 from rfl, show kbo (some b) = nI b from rfl] at q1
    obtain ⟨h2, X2, q2, R2, F2⟩ := d_notes R (by omega) (lN b)
    have ek : kor (fun c => kguess (S.c c)) (k + 1) = ((kor (fun c => kguess (S.c c)) k).1 ||| 2 ^ b, (kor (fun c => kguess (S.c c)) k).2 ++ [lN b]) := by rw [kor, hb]; rfl
    have hk2 : 2 ^ b ≤ 32 := Nat.pow_le_pow_right (n := 2) (by decide) (by omega : b ≤ 5)
    obtain ⟨h', X', u', v', r1, r2, r3⟩ := ih (k + 1) h2 X2 (.int (nI b)) (.int (nI 6)) (by omega) (by rw [ek]; exact R2)
    refine ⟨h', X', u', v', ?_, r2, F2.tr1 r3⟩
    rw [ek] at r1
    dsimp only at r1
    rw [← l3] at r1
    rw [uX1_order_at8, ← r1]
    simp (disch := omega) only [uX1_order, zKK, zB, zBl, zBb, zlg, zA, zA3, zL3, km31, km63, klshr, kishr, k2p, kl1shl, klmask, kland1, kiand1, k_l2i, zrt_b, zrt_0, zrt_1, zdv_n, zdv_l, q1, nx_xor, dG R, q2]
theorem D_order (H : dW D B S h) : ∃ h', zc PG mX1_order [.ref D] h = some (.inl (some (.int (q_order S).1)), h') ∧ dQ D B (q_order S).2 h h' := by
  obtain ⟨al, X, R⟩ := H
  have p1 := dP_w R [] (n := 0) rfl
  have R1 := R.fld (S' := S.s_w []) (X' := X) rfl rfl rfl rfl (fun k => R.xt) (fun k hk => absurd hk (Nat.not_lt_zero _))
  have F1 := (hD_F R (S.s_w []) X).up (B := dE D) (fun q _ z => show dE D q by unfold dE; omega) (Nat.le_refl _) (Nat.le_refl _)
  obtain ⟨h', X', u', v', r1, r2, r3⟩ := d_order_loop (S := S) 6 0 _ X zJ zJ rfl R1
  obtain ⟨i1, i2, i3⟩ := kor_inv (fun c => kguess (S.c c)) 6 (by omega)
  have h0 : X'.r 0 = (kor (fun c => kguess (S.c c)) 6).2.getD 0 0 := r2.wr (by show 0 < (kor (fun c => kguess (S.c c)) 6).2.length; omega)
  rw [show 63 ^^^ (kor (fun c => kguess (S.c c)) 0).1 = 63 by show 63 ^^^ 0 = 63; decide] at r1
  refine ⟨h', ?_, r2.q (F1.tr1 r3).E⟩
  simp (disch := omega) only [eX1_order, uX1_order, zKK, zB, zBl, zBb, zlg, zA, zA3, zL3, km31, km63, klshr, kishr, k2p, kl1shl, klmask, kland1, kiand1, k_l2i, zrt_b, zrt_0, zrt_1, zdv_n, zdv_l, p1, r1, dG r2, h0]
  rfl
/-! greedy -/
theorem d_greedy_inner (hI : kSI S) {s so : Nat} (hs : s < 64) (hso : so < 64) (j : Nat) : ∀ (c : Nat) (h : zH) (u v : Value), c + j = 6 → ∀ W, dR h D B al (S.s_w W) X → ∃ h' u' v', zs PG mX1_greedy 29 [.ref D, .int (nI s), .int (nI so), .int (kbo (kgi (kG S) s so c).1), .int (kmo (kgi (kG S) s so c)), .int (nI c), u, v] [] h = zs PG mX1_greedy 96 [.ref D, .int (nI s), .int (nI so), .int (kbo (kgi (kG S) s so 6).1), .int (kmo (kgi (kG S) s so 6)), .int (nI 6), u', v'] [] h' ∧ hF hN (10 * j) (336 * j) h h' := by
  induction j with
  | zero =>
    intro c h u v hc W R
    have hc : c = 6 := by omega
    subst hc
    refine ⟨h, u, v, ?_, hF.rf R.w _⟩
    rw [uX1_greedy_at29]
    simp (disch := omega) only [uX1_greedy_at31, uX1_greedy_at33, zKK, zB]
  | succ j ih =>
    intro c h u v hc W R
    obtain ⟨d1, d2⟩ := kdiff s hs so hso
    have d3 := kdiff_b (s := s) (t := so) (show c < 6 by omega)
    have hd : (s &&& (63 ^^^ so)) / 2 ^ c ≤ s &&& (63 ^^^ so) := Nat.div_le_self _ _
    obtain ⟨kb1, kb2⟩ := kgi_b (kG_le hI) s so c
    cases e : (s.testBit c && !so.testBit c) with
    | false =>
      rw [e] at d3
      simp only [Bool.false_eq_true, if_false] at d3
      obtain ⟨h', u', v', r1, r2⟩ := ih (c + 1) h (.int (nI 0)) (.int (-1)) (by omega) W R
      refine ⟨h', u', v', ?_, r2.up (fun _ _ z => z) (by omega) (by omega)⟩
      rw [kgi, e] at r1
      simp only [Bool.false_eq_true, if_false] at r1
      rw [uX1_greedy_at29, ← r1]
      cases hn : (kgi (kG S) s so c).1 with
      | none =>
        have em : kmo (kgi (kG S) s so c) = -1 := by unfold kmo; rw [hn]; rfl
        rw [em]
        simp (disch := omega) only [uX1_greedy_p0, uX1_greedy_p1, zKK, zB, zBl, zBb, zlg, zA, zA3, zL3, km31, km63, klshr, kishr, k2p, kl1shl, klmask, kland1, kiand1, k_l2i, zrt_b, zrt_0, zrt_1, zdv_n, zdv_l, d1, d3, kn1_1]
      | some b =>
        have em : kmo (kgi (kG S) s so c) = nI (kgi (kG S) s so c).2 := by unfold kmo; rw [hn]; rfl
        rw [em]
        simp (disch := omega) only [uX1_greedy_p0, uX1_greedy_p1, zKK, zB, zBl, zBb, zlg, zA, zA3, zL3, km31, km63, klshr, kishr, k2p, kl1shl, klmask, kland1, kiand1, k_l2i, zrt_b, zrt_0, zrt_1, zdv_n, zdv_l, d1, d3, kn1_nlt]
    | true =>
      rw [e] at d3
      simp only [if_true] at d3
      obtain ⟨-, f⟩ := Bool.and_eq_true_iff.mp e
      have f : so.testBit c = false := by simpa using f
      obtain ⟨o1, o2⟩ := kb_set hso (show c < 6 by omega) f
      have o3 : 1 ≤ so ||| 2 ^ c := by
        have h1 : 2 ^ c ≤ so ||| 2 ^ c := Nat.right_le_or
        have h2 : 0 < 2 ^ c := Nat.pow_pos (by decide)
        omega
      obtain ⟨g1, g2, q1, q2, q3, F1⟩ := d_GS R o1 o3
      have q3 : zc PG mX1_guessOf [.ref D, .ref h.2.1] g1 = some (.inl (some (.int (nI (kG S (so ||| 2 ^ c))))), g2) := q3
      have hg := kG_le hI (so ||| 2 ^ c)
      obtain ⟨h', u', v', r1, r2⟩ := ih (c + 1) g2 (.int (nI 1)) (.int (nI (kG S (so ||| 2 ^ c)))) (by omega) W (R.nw F1)
      refine ⟨h', u', v', ?_, (F1.tr1 r2).up (fun _ _ z => z) (by omega) (by omega)⟩
      rw [kgi, e] at r1
      simp only [if_true] at r1
      rw [uX1_greedy_at29, ← r1]
      cases hn : (kgi (kG S) s so c).1 with
      | none =>
        have em : kmo (kgi (kG S) s so c) = -1 := by unfold kmo; rw [hn]; rfl
        have e2 : kmo (some c, kG S (so ||| 2 ^ c)) = nI (kG S (so ||| 2 ^ c)) := rfl
        rw [if_neg (fun q => q.1 rfl), em, e2]
        simp (disch := omega) only [uX1_greedy_p0, uX1_greedy_p1, zKK, zB, zBl, zBb, zlg, zA, zA3, zL3, km31, km63, klshr, kishr, k2p, kl1shl, klmask, kland1, kiand1, k_l2i, zrt_b, zrt_0, zrt_1, zdv_n, zdv_l, d1, d3, nx_or, dG R, q1, q2, q3, kbo_n, kbo_s, kn1_lt]
      | some b =>
        have em : kmo (kgi (kG S) s so c) = nI (kgi (kG S) s so c).2 := by unfold kmo; rw [hn]; rfl
        have e3 : kmo (some c, kG S (so ||| 2 ^ c)) = nI (kG S (so ||| 2 ^ c)) := rfl
        by_cases e2 : kG S (so ||| 2 ^ c) ≤ (kgi (kG S) s so c).2
        · rw [if_pos ⟨(fun q => by cases q), e2⟩, hn, em]
          simp (disch := omega) only [uX1_greedy_p0, uX1_greedy_p1, zKK, zB, zBl, zBb, zlg, zA, zA3, zL3, km31, km63, klshr, kishr, k2p, kl1shl, klmask, kland1, kiand1, k_l2i, zrt_b, zrt_0, zrt_1, zdv_n, zdv_l, d1, d3, nx_or, dG R, q1, q2, q3, kbo_s]
        · rw [if_neg (fun q => e2 q.2), em, e3]
          simp (disch := omega) only [uX1_greedy_p0, uX1_greedy_p1, zKK, zB, zBl, zBb, zlg, zA, zA3, zL3, km31, km63, klshr, kishr, k2p, kl1shl, klmask, kland1, kiand1, k_l2i, zrt_b, zrt_0, zrt_1, zdv_n, zdv_l, d1, d3, nx_or, dG R, q1, q2, q3, kbo_s]
theorem d_greedy_loop (hI : kSI S) {s : Nat} (hs : s < 64) (n : Nat) : ∀ (so : Nat) (W : List Int64) (h : zH) (X : dX) (u1 u2 u3 u4 u5 : Value), so < 64 → ksub so s → kpc so + n = 7 → W.length + n = 7 → dR h D B al (S.s_w W) X → ∃ h' X' so' v1 v2 v3 v4 v5, zs PG mX1_greedy 16 [.ref D, .int (nI s), .int (nI so), u1, u2, u3, u4, u5] [] h = zs PG mX1_greedy 111 [.ref D, .int (nI s), .int so', v1, v2, v3, v4, v5] [] h' ∧ dR h' D B al (S.s_w (kgo (kG S) s n so W)) X' ∧ hF (dE D) (60 * n) (2016 * n) h h' := by
  induction n with
  | zero =>
    intro so W h X u1 u2 u3 u4 u5 hso hsub hk hw R
    exfalso
    have := kpc_le so
    omega
  | succ n ih =>
    intro so W h X u1 u2 u3 u4 u5 hso hsub hk hw R
    rw [uX1_greedy_at16]
    by_cases e : so = s
    · subst e
      refine ⟨h, X, nI so, u1, u2, u3, u4, u5, ?_, ?_, (hF.rf R.w _).up (fun _ _ z => z) (by omega) (by omega)⟩
      · simp (disch := omega) only [uX1_greedy_at17, uX1_greedy_at18, zKK, zB]
      · rw [kgo, if_pos rfl]; exact R
    · have hex : ∃ c, c < 6 ∧ s.testBit c = true ∧ so.testBit c = false := by
        refine Classical.byContradiction fun hn => e (kb_ext hso hs fun c hc => ?_)
        cases h1 : so.testBit c with
        | true => exact (hsub c hc h1).symm
        | false =>
          cases h2 : s.testBit c with
          | false => rfl
          | true => exact absurd ⟨c, hc, h2, h1⟩ hn
      obtain ⟨b, hb⟩ := kgi_some (kG S) s so 6 hex
      obtain ⟨b1, b2, b3⟩ := (kgi_b (kG_le hI) s so 6).2 b hb
      obtain ⟨o1, o2⟩ := kb_set hso b1 b3
      obtain ⟨g1, u', v', q1, F1⟩ := d_greedy_inner hI hs hso 6 0 h u4 u5 rfl W R
      rw [hb, show kbo (kgi (kG S) s so 0).1 = -1 from rfl, show kmo (kgi (kG S) s so 0) = -1 from rfl, kbo_s] at q1
      have R1 := R.nw F1
      have hp6 := kpc_le (so ||| 2 ^ b)
      obtain ⟨g2, X2, q2, R2, F2⟩ := d_notes R1 (by omega) (lN b)
      have hsub2 : ksub (so ||| 2 ^ b) s := by
        intro c hc hq
        rw [Nat.testBit_or, Nat.testBit_two_pow] at hq
        by_cases e3 : b = c
        · rw [← e3]; exact b2
        · simp [e3] at hq
          exact hsub c hc hq
      obtain ⟨h', X', so', v1, v2, v3, v4, v5, r1, r2, r3⟩ := ih (so ||| 2 ^ b) (W ++ [lN b]) g2 X2 (.int (nI b)) (.int (kmo (kgi (kG S) s so 6))) (.int (nI 6)) u' v' o1 hsub2 (by omega) (by rw [List.length_append]; simp; omega) R2
      refine ⟨h', X', so', v1, v2, v3, v4, v5, ?_, ?_, ((F1.new.tr1 F2).tr1 r3).up (fun _ _ z => z) (by omega) (by omega)⟩
      · rw [← r1]
        simp (disch := omega) only [uX1_greedy_p0, uX1_greedy_p1, zKK, zB, zBl, zBb, zlg, zA, zA3, zL3, km31, km63, klshr, kishr, k2p, kl1shl, klmask, kland1, kiand1, k_l2i, zrt_b, zrt_0, zrt_1, zdv_n, zdv_l, q1, nx_or, dG R1, q2]
      · rw [kgo, if_neg e, hb]; exact r2
theorem D_greedy (H : dW D B S h) (hI : kSI S) (s : Int32) : ∃ h', zc PG mX1_greedy [.ref D, .int s] h = some (.inl (some (.int (q_greedy S s).1)), h') ∧ dQ D B (q_greedy S s).2 h h' := by
  obtain ⟨al, X, R⟩ := H
  unfold q_greedy
  rcases kbd_cases s 1 63 with e | ⟨s, h1, hs, rfl⟩
  · simp only [e, Bool.false_eq_true, if_false]
    refine ⟨h, ?_, R.q (hF.rf R.w _)⟩
    simp (disch := omega) only [eX1_greedy, uX1_greedy_p0, uX1_greedy_p1, zKK, zB, zBl, zBb, zlg, zA, zA3, zL3, km31, km63, klshr, kishr, k2p, kl1shl, klmask, kland1, kiand1, k_l2i, zrt_b, zrt_0, zrt_1, zdv_n, zdv_l, znew_k, zast_p0, zast_p2, d_are1, d_are2, d_are3, d_isSet, e]
  · have e := kbd_nI h1 hs (by omega)
    simp only [e, if_true]
    rw [kN_nI (by omega)]
    have p1 := dP_w R [] (n := 0) rfl
    have R1 := R.fld (S' := S.s_w []) (X' := X) rfl rfl rfl rfl (fun k => R.xt) (fun k hk => absurd hk (Nat.not_lt_zero _))
    have F1 := (hD_F R (S.s_w []) X).up (B := dE D) (fun q _ z => show dE D q by unfold dE; omega) (Nat.le_refl _) (Nat.le_refl _)
    obtain ⟨h', X', so', v1, v2, v3, v4, v5, r1, r2, r3⟩ := d_greedy_loop hI (s := s) (by omega) 7 0 [] _ X zJ zJ zJ zJ zJ (by decide) (fun c _ q => by rw [Nat.zero_testBit] at q; cases q) (by decide) rfl R1
    have hlen : 0 < (kgo (kG S) s 7 0 []).length := by
      unfold kgo
      rw [if_neg (by omega)]
      exact Nat.lt_of_lt_of_le (show 0 < ([] ++ [lN ((kgi (kG S) s 0 6).1.getD 0)]).length by simp) (kgo_len (kG S) s 6 _ _)
    have h0 : X'.r 0 = (kgo (kG S) s 7 0 []).getD 0 0 := r2.wr hlen
    refine ⟨h', ?_, r2.q (F1.tr1 r3).E⟩
    simp (disch := omega) only [eX1_greedy, uX1_greedy_p0, uX1_greedy_p1, zKK, zB, zBl, zBb, zlg, zA, zA3, zL3, km31, km63, klshr, kishr, k2p, kl1shl, klmask, kland1, kiand1, k_l2i, zrt_b, zrt_0, zrt_1, zdv_n, zdv_l, znew_k, zast_p0, zast_p2, d_are1, d_are2, d_are3, d_isSet, e, p1, r1, dG r2, h0]
/-! parts of a set -/
theorem d_eachPart {lam k s : Nat} {fs : List Value} {P : Nat → zH → Prop} (hs : s < 64) (hl : ∀ n g, P n g → zlam g [(105, mX1_lambda_meet_5), (106, mX1_lambda_cover_6)] lam = some (k, fs)) (h0 : ∀ n g, n + 1 ≤ s → ¬ (n + 1) &&& s = n + 1 → P n g → P (n + 1) g) (h1 : ∀ n g, n + 1 ≤ s → (n + 1) &&& s = n + 1 → P n g → ∃ g', zc PG k (fs ++ [.int (nI (n + 1))]) g = some (.inl none, g') ∧ P (n + 1) g') {h : zH} (hP : P 0 h) : ∃ h', zc PG mX1_eachPart [.int (nI s), .ref lam] h = some (.inl none, h') ∧ P s h' := by
  have loop : ∀ (j n : Nat) (h : zH), n + j = s → P n h → ∃ h', zs PG mX1_eachPart 2 [.int (nI s), .ref lam, .int (nI (n + 1))] [] h = some (.inl none, h') ∧ P s h' := by
    intro j
    induction j with
    | zero =>
      intro n h hn hP
      have hn : n = s := hn
      subst hn
      refine ⟨h, ?_, hP⟩
      rw [uX1_eachPart_at2]
      simp (disch := omega) only [uX1_eachPart, zKK, zB, zBl, zBb, zlg, zA, zA3, zL3, km31, km63, klshr, kishr, k2p, kl1shl, klmask, kland1, kiand1, k_l2i, zrt_b, zrt_0, zrt_1, zdv_n, zdv_l]
    | succ j ih =>
      intro n h hn hP
      have hkn := knot (p := n + 1) (s := s) (by omega) hs
      have l1 := hl n h hP
      by_cases e : (n + 1) &&& s = n + 1
      · rw [eq_true e] at hkn
        obtain ⟨g, q1, q2⟩ := h1 n h (by omega) e hP
        obtain ⟨h', r1, r2⟩ := ih (n + 1) g (by omega) q2
        refine ⟨h', ?_, r2⟩
        rw [uX1_eachPart_at2, ← r1]
        simp (disch := omega) only [uX1_eachPart, zKK, zB, zBl, zBb, zlg, zA, zA3, zL3, km31, km63, klshr, kishr, k2p, kl1shl, klmask, kland1, kiand1, k_l2i, zrt_b, zrt_0, zrt_1, zdv_n, zdv_l, hkn, l1, q1]
      · rw [eq_false e] at hkn
        obtain ⟨h', r1, r2⟩ := ih (n + 1) h (by omega) (h0 n h (by omega) e hP)
        refine ⟨h', ?_, r2⟩
        rw [uX1_eachPart_at2, ← r1]
        simp (disch := omega) only [uX1_eachPart, zKK, zB, zBl, zBb, zlg, zA, zA3, zL3, km31, km63, klshr, kishr, k2p, kl1shl, klmask, kland1, kiand1, k_l2i, zrt_b, zrt_0, zrt_1, zdv_n, zdv_l, hkn]
  obtain ⟨h', r1, r2⟩ := loop s 0 h (Nat.zero_add _) hP
  refine ⟨h', ?_, r2⟩
  rw [← r1]
  simp (disch := omega) only [eX1_eachPart, uX1_eachPart]
theorem kneg_mul {g : Nat} (hg : g ≤ 2000000000) : (-1 : Int32).toInt64 * lN g = (-(nI g)).toInt64 := by
  apply Int64.toInt_inj.mp
  rw [Int64.toInt_mul, Int32.toInt_toInt64, Int32.toInt_toInt64, show (-1 : Int32).toInt = -1 by decide, Int32.toInt_neg, nI_toInt (by omega), pk_lT (by omega)]
  rw [Int.bmod_eq_of_le (by omega) (by omega), Int.bmod_eq_of_le (by omega) (by omega)]
  omega
theorem d_lam_meet {g : zH} (R : dR g D B al S X) (hI : kSI S) {a n : Nat} {v : Int64} {m : Nat} {f : Nat → Value} (ea : g.1 a = some (true, .inl (2, 2, f))) (e0 : f 0 = .long v) (e1 : f 1 = .long (lN m)) (h1 : 1 ≤ n) (h64 : n < 64) : ∃ g' f', zc PG mX1_lambda_meet_5 [.ref D, .ref a, .int (nI n)] g = some (.inl none, g') ∧ g'.1 a = some (true, .inl (2, 2, f')) ∧ f' 0 = .long (v + (if kpc n % 2 = 1 then lN (kG S n) else (-(nI (kG S n))).toInt64)) ∧ f' 1 = .long (lN (m + 1)) ∧ hF (fun q => q = a) 10 336 g g' := by
  obtain ⟨g1, g2, q1, q2, q3, F1⟩ := d_GS R h64 h1
  have hp := kpc_le n
  have kg := kG_le hI n
  have ld := zald_k ea (i := 0) (by omega) (by omega)
  rw [e0] at ld
  have c2 := F1.at R.w ea (fun z => z)
  have s1 := fun u => zast_u c2 (i := 0) (v := .long u) (by omega) (by omega) rfl rfl
  have lt2 := F1.1.lt c2
  have f2 := fun u => hF_up F1.1 lt2 (.inl (2, 2, zfu f 0 (.long u)))
  have ld2 : ∀ u, zald (zup g2 a (.inl (2, 2, zfu f 0 (.long u)))) a 2 (nI 1) = some (.long (lN m)) := fun u => by rw [zald_k (zup_s _ _ _) (by omega) (by omega), zfu_o _ _ (by decide), e1]
  have s2 := fun u => zast_u (g := zup g2 a (.inl (2, 2, zfu f 0 (.long u)))) (zup_s _ _ _) (i := 1) (v := .long (lN (m + 1))) (by omega) (by omega) rfl rfl
  have f3 := fun u => hF_up (f2 u).1 (a := a) (by show a < g2.2.1; exact lt2) (.inl (2, 2, zfu (zfu f 0 (.long u)) 1 (.long (lN (m + 1)))))
  by_cases e : kpc n % 2 = 1
  · rw [if_pos e]
    refine ⟨_, _, ?_, zup_s _ _ _, rfl, rfl, ((F1.new.tr1 (f2 (v + lN (kG S n)))).tr1 (f3 (v + lN (kG S n))))⟩
    simp (disch := omega) only [eX1_lambda_meet_5, uX1_lambda_meet_5, zKK, j_bitC, zdv_n, zA, zA3, zB, ld, dG R, q1, q2, q3, lN_mul, Nat.one_mul, s1, ld2, lN_add, s2]
  · rw [if_neg e]
    have e2 : kpc n % 2 = 0 := by omega
    refine ⟨_, _, ?_, zup_s _ _ _, rfl, rfl, ((F1.new.tr1 (f2 (v + (-(nI (kG S n))).toInt64))).tr1 (f3 (v + (-(nI (kG S n))).toInt64)))⟩
    simp (disch := omega) only [eX1_lambda_meet_5, uX1_lambda_meet_5, zKK, j_bitC, zdv_n, zA, zA3, zB, ld, dG R, q1, q2, q3, kneg_mul, s1, ld2, lN_add, s2]
theorem D_meet (H : dW D B S h) (hI : kSI S) (s : Int32) : ∃ h', zc PG mX1_meet [.ref D, .int s] h = some (.inl (some (.long (q_meet S s).1)), h') ∧ dQ D B (q_meet S s).2 h h' := by
  obtain ⟨al, X, R⟩ := H
  unfold q_meet
  rcases kbd_cases s 1 63 with e | ⟨s, h1, hs, rfl⟩
  · simp only [e, Bool.false_eq_true, if_false]
    refine ⟨h, ?_, R.q (hF.rf R.w _)⟩
    simp (disch := omega) only [eX1_meet, uX1_meet, zKK, zB, zBl, zBb, zlg, zA, zA3, zL3, km31, km63, klshr, kishr, k2p, kl1shl, klmask, kland1, kiand1, k_l2i, zrt_b, zrt_0, zrt_1, zdv_n, zdv_l, znew_k, zast_p0, zast_p2, d_are1, d_are2, d_are3, d_isSet, e]
  · have e := kbd_nI h1 hs (by omega)
    simp only [e, if_true]
    rw [kN_nI (by omega)]
    have f1 := hF_push R.w (.inl (2, 2, fun _ => zdef 2)) 2
    have f2 := hF_push f1.1 (.inr (105, [.ref D, .ref h.2.1])) 2
    have F := f1.tr1 f2
    obtain ⟨h', r1, p1, ⟨f, p2, p3, p4⟩, p5⟩ := d_eachPart (lam := h.2.1 + 1) (k := mX1_lambda_meet_5) (fs := [.ref D, .ref h.2.1]) (s := s) (P := fun n g => g.1 (h.2.1 + 1) = some (true, .inr (105, [.ref D, .ref h.2.1])) ∧ (∃ f, g.1 h.2.1 = some (true, .inl (2, 2, f)) ∧ f 0 = .long (kme (kG S) s n).1 ∧ f 1 = .long (lN (kme (kG S) s n).2)) ∧ hF hN (2 + 10 * n) (4 + 336 * n) h g) (by omega)
      (fun n g hP => zlam_s hP.1 rfl)
      (fun n g hn he hP => by
        obtain ⟨p1, p2, p5⟩ := hP
        rw [kme, if_neg he]
        exact ⟨p1, p2, p5.up (fun _ _ z => z) (by omega) (by omega)⟩)
      (fun n g hn he hP => by
        obtain ⟨p1, ⟨f, p2, p3, p4⟩, p5⟩ := hP
        obtain ⟨g', f', t1, t2, t3, t4, t5⟩ := d_lam_meet (R.nw p5) hI p2 p3 p4 (n := n + 1) (by omega) (by omega)
        rw [kme, if_pos he]
        exact ⟨g', t1, t5.at p5.1 p1 (by omega), ⟨f', t2, t3, t4⟩, (p5.tr t5 (fun q hq z => by omega)).up (fun _ _ z => z) (by omega) (by omega)⟩)
      (h := zpush (zpush h (.inl (2, 2, fun _ => zdef 2)) 2) (.inr (105, [.ref D, .ref h.2.1])) 2) ⟨zpush_s _ _ _, ⟨fun _ => zdef 2, by rw [zpush_o _ _ _ (by show h.2.1 ≠ h.2.1 + 1; omega)]; exact zpush_s _ _ _, rfl, rfl⟩, F⟩
    have R1 := R.nw p5
    have hlt := R.lt
    have hl := kme_le (kG S) s s
    obtain ⟨h5, X5, n5, R5, F5⟩ := d_notesAt R1 (b := h.2.1) hlt p2 [(kme (kG S) s s).1, lN (kme (kG S) s s).2] rfl (by decide) (fun i hi => by
      match i, hi with
      | 0, _ => exact p3
      | 1, _ => exact p4)
    have ld := zald_k (F5.at R1.w p2 (fun z => by unfold dE at z; omega)) (i := 0) (by omega) (by omega)
    rw [p3] at ld
    have z1 : ∀ (g : zH) e n, (zpush g e n).2.1 = g.2.1 + 1 := fun _ _ _ => rfl
    refine ⟨h5, ?_, R5.q (p5.A.tr1 F5.E)⟩
    simp (disch := omega) only [eX1_meet, uX1_meet, zKK, zB, zBl, zBb, zlg, zA, zA3, zL3, km31, km63, klshr, kishr, k2p, kl1shl, klmask, kland1, kiand1, k_l2i, zrt_b, zrt_0, zrt_1, zdv_n, zdv_l, znew_k, zast_p0, zast_p2, d_are1, d_are2, d_are3, d_isSet, e, z1, r1, dG R1, n5, ld, j_maxL]
/-! cover -/
theorem kpc_part : ∀ s, s < 64 → ∀ p, p < 64 → p &&& s = p → p ≠ s → kpc p < kpc s := by
  have key : ((List.range 64).all fun s => (List.range 64).all fun p => !decide (p &&& s = p) || decide (p = s) || decide (kpc p < kpc s)) = true := by decide +kernel
  intro s hs p hp h1 h2
  have := List.all_eq_true.mp (List.all_eq_true.mp key s (List.mem_range.mpr hs)) p (List.mem_range.mpr hp)
  simpa [h1, h2] using this
/-- the best so far, as the component keeps it -/
def kcb (G : Nat → Nat) (s due n : Nat) : Nat := if kcv G s due n = 0 then s else kcv G s due n
theorem kcb_step {G : Nat → Nat} {s due n : Nat} (hs : s < 64) (hn : n + 1 ≤ s) (e : (n + 1) &&& s = n + 1) : kcb G s due (n + 1) = if kpc (n + 1) < kpc (kcb G s due n) ∧ G (n + 1) = due then n + 1 else kcb G s due n := by
  unfold kcb
  by_cases e1 : kcv G s due n = 0
  · rw [if_pos e1]
    by_cases e2 : G (n + 1) = due
    · have e3 : kcv G s due (n + 1) = n + 1 := by rw [kcv, if_pos ⟨e, Or.inl e1, e2⟩]
      rw [e3, if_neg (by omega)]
      by_cases e4 : n + 1 = s
      · rw [if_neg (fun q => by have := q.1; rw [e4] at this; omega)]; exact e4
      · rw [if_pos ⟨kpc_part s hs (n + 1) (by omega) e e4, e2⟩]
    · have e3 : kcv G s due (n + 1) = kcv G s due n := by rw [kcv, if_neg (fun q => e2 q.2.2)]
      rw [e3, if_pos e1, if_neg (fun q => e2 q.2)]
  · rw [if_neg e1]
    by_cases e2 : kpc (n + 1) < kpc (kcv G s due n) ∧ G (n + 1) = due
    · have e3 : kcv G s due (n + 1) = n + 1 := by rw [kcv, if_pos ⟨e, Or.inr e2.1, e2.2⟩]
      rw [e3, if_neg (by omega), if_pos e2]
    · have e3 : kcv G s due (n + 1) = kcv G s due n := by rw [kcv, if_neg (fun q => e2 ⟨q.2.1.resolve_left e1, q.2.2⟩)]
      rw [e3, if_neg e1, if_neg e2]
theorem kcb_skip {G : Nat → Nat} {s due n : Nat} (e : ¬ (n + 1) &&& s = n + 1) : kcb G s due (n + 1) = kcb G s due n := by
  have e3 : kcv G s due (n + 1) = kcv G s due n := by rw [kcv, if_neg (fun q => e q.1)]
  unfold kcb
  rw [e3]
theorem kcb_end {G : Nat → Nat} {s due : Nat} (hs : 1 ≤ s) (hd : G s = due) : kcb G s due s = kcv G s due s := by
  unfold kcb
  rw [if_neg]
  intro q
  obtain ⟨n, rfl⟩ : ∃ n, s = n + 1 := ⟨s - 1, by omega⟩
  rw [kcv] at q
  by_cases e : kcv G (n + 1) due n = 0
  · rw [if_pos ⟨Nat.and_self _, Or.inl e, hd⟩] at q
    omega
  · by_cases e2 : (n + 1) &&& (n + 1) = n + 1 ∧ (kcv G (n + 1) due n = 0 ∨ kpc (n + 1) < kpc (kcv G (n + 1) due n)) ∧ G (n + 1) = due
    · rw [if_pos e2] at q; omega
    · rw [if_neg e2] at q; exact e q
theorem kcb_lt {G : Nat → Nat} {s due n : Nat} (hn : n ≤ s) : kcb G s due n ≤ s := by
  unfold kcb
  have := kcv_le G s due n
  split <;> omega
theorem d_lam_cover {g : zH} (R : dR g D B al S X) (hI : kSI S) {a n b all : Nat} {f : Nat → Value} (ea : g.1 a = some (true, .inl (0, 1, f))) (e0 : f 0 = .int (nI b)) (h1 : 1 ≤ n) (h64 : n < 64) (hb : b < 64) (hall : all ≤ 2000000000) : ∃ g' f', zc PG mX1_lambda_cover_6 [.ref D, .ref a, .int (nI all), .int (nI n)] g = some (.inl none, g') ∧ g'.1 a = some (true, .inl (0, 1, f')) ∧ f' 0 = .int (nI (if kpc n < kpc b ∧ kG S n = all then n else b)) ∧ hF (fun q => q = a) 10 336 g g' := by
  have ld := zald_k ea (i := 0) (by omega) (by omega)
  rw [e0] at ld
  have p1 := kpc_le n
  have p2 := kpc_le b
  by_cases e : kpc n < kpc b
  · obtain ⟨g1, g2, q1, q2, q3, F1⟩ := d_GS R h64 h1
    have kg := kG_le hI n
    have c2 := F1.at R.w ea (fun z => z)
    by_cases e2 : kG S n = all
    · have s1 := zast_u c2 (i := 0) (v := .int (nI n)) (by omega) (by omega) rfl rfl
      have f2 := hF_up F1.1 (F1.1.lt c2) (.inl (0, 1, zfu f 0 (.int (nI n))))
      rw [if_pos ⟨e, e2⟩]
      refine ⟨_, _, ?_, zup_s _ _ _, rfl, F1.new.tr1 f2⟩
      simp (disch := omega) only [eX1_lambda_cover_6, uX1_lambda_cover_6, zKK, zB, zBl, zBb, zlg, zA, zA3, zL3, km31, km63, klshr, kishr, k2p, kl1shl, klmask, kland1, kiand1, k_l2i, zrt_b, zrt_0, zrt_1, zdv_n, zdv_l, j_bitC, ld, dG R, q1, q2, q3, s1]
    · rw [if_neg (fun q => e2 q.2)]
      refine ⟨g2, f, ?_, c2, e0, F1.new⟩
      simp (disch := omega) only [eX1_lambda_cover_6, uX1_lambda_cover_6, zKK, zB, zBl, zBb, zlg, zA, zA3, zL3, km31, km63, klshr, kishr, k2p, kl1shl, klmask, kland1, kiand1, k_l2i, zrt_b, zrt_0, zrt_1, zdv_n, zdv_l, j_bitC, ld, dG R, q1, q2, q3]
  · rw [if_neg (fun q => e q.1)]
    refine ⟨g, f, ?_, ea, e0, (hF.rf R.w _).up (fun _ _ z => z) (by omega) (by omega)⟩
    simp (disch := omega) only [eX1_lambda_cover_6, uX1_lambda_cover_6, zKK, zB, zBl, zBb, zlg, zA, zA3, zL3, km31, km63, klshr, kishr, k2p, kl1shl, klmask, kland1, kiand1, k_l2i, zrt_b, zrt_0, zrt_1, zdv_n, zdv_l, j_bitC, ld]
theorem D_cover (H : dW D B S h) (hI : kSI S) (s : Int32) : ∃ h', zc PG mX1_cover [.ref D, .int s] h = some (.inl (some (.int (q_cover S s).1)), h') ∧ dQ D B (q_cover S s).2 h h' := by
  obtain ⟨al, X, R⟩ := H
  unfold q_cover
  rcases kbd_cases s 1 63 with e | ⟨s, h1, hs, rfl⟩
  · simp only [e, Bool.false_eq_true, if_false]
    refine ⟨h, ?_, R.q (hF.rf R.w _)⟩
    simp (disch := omega) only [eX1_cover, uX1_cover, zKK, zB, zBl, zBb, zlg, zA, zA3, zL3, km31, km63, klshr, kishr, k2p, kl1shl, klmask, kland1, kiand1, k_l2i, zrt_b, zrt_0, zrt_1, zdv_n, zdv_l, znew_k, zast_p0, zast_p2, d_are1, d_are2, d_are3, d_isSet, e]
  · have e := kbd_nI h1 hs (by omega)
    simp only [e, if_true]
    rw [kN_nI (by omega)]
    have kg := kG_le hI s
    obtain ⟨g1, g2, q1, q2, q3, F0⟩ := d_GS R (s := s) (by omega) h1
    have R0 := R.nw F0
    have f1 := hF_push R0.w (.inl (0, 1, zfu (fun _ => zdef 0) 0 (.int (nI s)))) 1
    have f2 := hF_push f1.1 (.inr (106, [.ref D, .ref g2.2.1, .int (nI (kG S s))])) 3
    have F := f1.tr1 f2
    obtain ⟨h', r1, p1, ⟨f, p2, p3⟩, p5⟩ := d_eachPart (lam := g2.2.1 + 1) (k := mX1_lambda_cover_6) (fs := [.ref D, .ref g2.2.1, .int (nI (kG S s))]) (s := s) (P := fun n g => g.1 (g2.2.1 + 1) = some (true, .inr (106, [.ref D, .ref g2.2.1, .int (nI (kG S s))])) ∧ (∃ f, g.1 g2.2.1 = some (true, .inl (0, 1, f)) ∧ f 0 = .int (nI (kcb (kG S) s (kG S s) n))) ∧ hF hN (2 + 10 * n) (4 + 336 * n) g2 g) (by omega)
      (fun n g hP => zlam_s hP.1 rfl)
      (fun n g hn he hP => by
        obtain ⟨p1, p2, p5⟩ := hP
        rw [kcb_skip he]
        exact ⟨p1, p2, p5.up (fun _ _ z => z) (by omega) (by omega)⟩)
      (fun n g hn he hP => by
        obtain ⟨p1, ⟨f, p2, p3⟩, p5⟩ := hP
        have hb := kcb_lt (G := kG S) (s := s) (due := kG S s) (n := n) (by omega)
        obtain ⟨g', f', t1, t2, t3, t5⟩ := d_lam_cover (R0.nw p5) hI p2 p3 (n := n + 1) (by omega) (by omega) (by omega) kg
        rw [kcb_step (by omega) hn he]
        exact ⟨g', t1, t5.at p5.1 p1 (by omega), ⟨f', t2, t3⟩, (p5.tr t5 (fun q hq z => by omega)).up (fun _ _ z => z) (by omega) (by omega)⟩)
      (h := zpush (zpush g2 (.inl (0, 1, zfu (fun _ => zdef 0) 0 (.int (nI s)))) 1) (.inr (106, [.ref D, .ref g2.2.1, .int (nI (kG S s))])) 3) ⟨zpush_s _ _ _, ⟨_, by rw [zpush_o _ _ _ (by show g2.2.1 ≠ g2.2.1 + 1; omega)]; exact zpush_s _ _ _, rfl⟩, F⟩
    rw [kcb_end h1 rfl] at p3
    have R1 := R0.nw p5
    have hlt := R0.lt
    have hcv := kcv_le (kG S) s (kG S s) s
    have ldp : ∀ c n, zald (zpush h' c n) g2.2.1 0 (nI 0) = some (.int (nI (kcv (kG S) s (kG S s) s))) := fun c n => by rw [zald_k (zpush_f R1.w c n p2) (by omega) (by omega), p3]
    obtain ⟨h5, X5, n5, R5, F5⟩ := d_row1 R1 (lN (kcv (kG S) s (kG S s) s))
    have ld := zald_k (F5.at R1.w p2 (fun z => by unfold dE at z; omega)) (i := 0) (by omega) (by omega)
    rw [p3] at ld
    have z1 : ∀ (g : zH) e n, (zpush g e n).2.1 = g.2.1 + 1 := fun _ _ _ => rfl
    refine ⟨h5, ?_, R5.q ((F0.A.tr1 p5.A).tr1 F5.E)⟩
    simp (disch := omega) only [eX1_cover, uX1_cover, zKK, zB, zBl, zBb, zlg, zA, zA3, zL3, km31, km63, klshr, kishr, k2p, kl1shl, klmask, kland1, kiand1, k_l2i, zrt_b, zrt_0, zrt_1, zdv_n, zdv_l, znew_k, zast_p0, zast_p2, d_are1, d_are2, d_are3, d_isSet, e, dG R, q1, q2, q3, z1, r1, ldp, dGp R1, n5, ld, j_bitC]
end DR
