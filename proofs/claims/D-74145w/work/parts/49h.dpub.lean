/-! THE COMPONENT's PUBLIC METHODS: of two, swaps, ranks put -/
section DR
variable {h h1 : zH} {D B : Nat} {al : Nat → Nat} {S : kS} {X : dX}
theorem d_notesAt (R : dR h D B al S X) {b n : Nat} {g : Nat → Value} (hb : D + 34 ≤ b) (hc : h.1 b = some (true, .inl (2, n, g))) (W : List Int64) (hWn : W.length = n) (h6 : n ≤ 6) (hg : ∀ i, i < n → g i = .long (W.getD i 0)) : ∃ h' X', zc PG mX1_notesRow [.ref D, .ref b] h = some (.inl none, h') ∧ dR h' D B al (S.s_w W) X' ∧ hF (dE D) 0 0 h h' := by
  have p1 := dP_w R [] (n := 0) rfl
  have R1 := R.fld (S' := S.s_w []) (X' := X) rfl rfl rfl rfl (fun k => R.xt) (fun k hk => absurd hk (Nat.not_lt_zero _))
  have F1 := hD_F R (S.s_w []) X
  obtain ⟨h', X', r1, R2, F2⟩ := d_notes_loop hWn h6 hg n 0 _ X zJ (Nat.zero_add _) hb (F1.at R.w hc (by omega)) R1
  refine ⟨h', X', ?_, R2, ?_⟩
  · have el : zlen (hD h D (S.s_w []) X) b = some (.int (nI n)) := by
      unfold zlen
      rw [F1.at R.w hc (by omega)]
    rw [← r1]
    simp (disch := omega) only [eX1_notesRow, uX1_notesRow, zKK, zB, zBl, zBb, zlg, zA, zA3, zL3, km31, km63, klshr, kishr, k2p, kl1shl, klmask, kland1, kiand1, k_l2i, zrt_b, zrt_0, zrt_1, zdv_n, zdv_l, p1, el]
  · exact (F1.up (fun q _ z => show dE D q by unfold dE; omega) (Nat.le_refl _) (Nat.le_refl _)).tr1 F2
/-- writes of counters into an array made last -/
theorem st3 (R : dR h D B al S X) {a : Nat} (ha : a < 6) {n i : Nat} (hi : i < n) (hn : n < 2147483648) (g : Nat → Value) : zast (zpush h (.inl (3, n, g)) n) h.2.1 3 (nI i) (.ref (al a)) = some (zpush h (.inl (3, n, zfu g i (.ref (al a)))) n) := zast_p3 R.w (R.c ha) hi hn
theorem kI_two' (R : dR h D B al S X) {a b : Nat} (ha : a < 6) (hb : b < 6) : kgg S a b ≤ 2000000000 := kguess_le (kI_two (R.c ha).I (R.c hb).I)
theorem d_commonOf (R : dR h D B al S X) {a b : Nat} (ha : a < 6) (hb : b < 6) : ∃ h', zc PG mX1_commonOf [.ref D, .int (nI a), .int (nI b)] h = some (.inl (some (.long (lN (kcmn S a b)))), h') ∧ hF hN 10 332 h h' := by
  obtain ⟨h', r1, r2⟩ := d_guess2 R ha hb
  have g1 := kguess_le (R.c ha).I
  have g2 := kguess_le (R.c hb).I
  have g3 := kI_two' R ha hb
  have em := klmax_sub (x := kguess (S.c a) + kguess (S.c b)) (y := kgg S a b) (by omega) (by omega)
  have n1 := n_guess (R.c ha) R.t
  have n2 := n_guess (R.c hb) R.t
  refine ⟨h', ?_, r2⟩
  simp (disch := omega) only [eX1_commonOf, uX1_commonOf, zKK, znew_k, dG R, dGp R, nG (R.c ha), nG (R.c hb), n1, n2, lN_add, nI_l, st3 R ha, st3 R hb, r1, j_maxL, em]
  rfl
theorem D_common (H : dW D B S h) (a b : Int32) : ∃ h', zc PG mX1_common [.ref D, .int a, .int b] h = some (.inl (some (.long (q_common S a b).1)), h') ∧ dQ D B (q_common S a b).2 h h' := by
  obtain ⟨al, X, R⟩ := H
  have f1 := hv2_F R.w a b
  have R1 := R.nw f1
  unfold q_common
  cases e : (kbd a 0 5 && kbd b 0 5) with
  | false =>
    refine ⟨hv2 h a b, ?_, R1.q f1.A⟩
    simp (disch := omega) only [eX1_common, uX1_common_p0, uX1_common_p1, zKK, zB, zBl, zBb, zlg, zA, zA3, zL3, km31, km63, klshr, kishr, k2p, kl1shl, klmask, kland1, kiand1, k_l2i, zrt_b, zrt_0, zrt_1, zdv_n, zdv_l, znew_k, zast_p0, zast_p2, d_are1, d_are2, d_are3, e, Bool.false_eq_true, if_false]
  | true =>
    obtain ⟨e1, e2⟩ := Bool.and_eq_true_iff.mp e
    rcases kbd_cases a 0 5 with z | ⟨a, -, ha, rfl⟩
    · rw [z] at e1; cases e1
    rcases kbd_cases b 0 5 with z | ⟨b, -, hb, rfl⟩
    · rw [z] at e2; cases e2
    have ha : a < 6 := by omega
    have hb : b < 6 := by omega
    rw [kN_nI (by omega), kN_nI (by omega)]
    generalize hg : hv2 h (nI a) (nI b) = g at f1 R1
    have k1 := kguess_le (R.c ha).I
    have k2 := kguess_le (R.c hb).I
    have k3 := kI_two' R ha hb
    have f2 := hF_push R1.w (.inl (2, 3, zfu (zfu (fun _ => zdef 2) 0 (.long (lN (kguess (S.c a))))) 1 (.long (lN (kguess (S.c b)))))) 3
    have R2 := R1.nw f2
    obtain ⟨h3, r3, f3⟩ := d_guess2 R2 ha hb
    have c3 := f3.at R2.w (zpush_s g (.inl (2, 3, zfu (zfu (fun _ => zdef 2) 0 (.long (lN (kguess (S.c a))))) 1 (.long (lN (kguess (S.c b)))))) 3) (fun z => z)
    have s3 := zast_u c3 (i := 2) (v := .long (lN (kgg S a b))) (by omega) (by omega) rfl rfl
    have f4 := hF_up f3.1 (f3.1.lt c3) (.inl (2, 3, zfu (zfu (zfu (fun _ => zdef 2) 0 (.long (lN (kguess (S.c a))))) 1 (.long (lN (kguess (S.c b))))) 2 (.long (lN (kgg S a b)))))
    have F4 := (f2.tr1 f3).tr f4 (fun q hq z => by omega)
    have R4 := R1.nw F4
    have hlt := R1.lt
    obtain ⟨h5, X5, n5, R5, F5⟩ := d_notesAt R4 (b := g.2.1) hlt (zup_s _ _ _) [lN (kguess (S.c a)), lN (kguess (S.c b)), lN (kgg S a b)] rfl (by omega) (zg3 _ _ _)
    obtain ⟨h6, r6, f6⟩ := d_commonOf R5 ha hb
    have r6 : zc PG mX1_commonOf [.ref D, .int (nI a), .int (nI b)] h5 = some (.inl (some (.long (lN (kcmn S a b)))), h6) := r6
    have n1 := fun e n => nTp (D := D) R1.w (R1.c ha) R1.t e n
    have n2 := fun e n => nTp (D := D) R1.w (R1.c hb) R1.t e n
    have R6 := R5.nw f6
    refine ⟨h6, ?_, R6.q (((f1.A.tr1 F4.A).tr1 F5.E).tr1 f6.A)⟩
    simp (disch := omega) only [eX1_common, uX1_common_p0, uX1_common_p1, zKK, zB, zBl, zBb, zlg, zA, zA3, zL3, km31, km63, klshr, kishr, k2p, kl1shl, klmask, kland1, kiand1, k_l2i, zrt_b, zrt_0, zrt_1, zdv_n, zdv_l, znew_k, zast_p0, zast_p2, d_are1, d_are2, d_are3, e, hg, dG R1, dGp R1, nGp R1.w (R1.c ha), nGp R1.w (R1.c hb), n1, n2, dGp R2, st3 R2 ha, st3 R2 hb, r3, s3, dG R4, n5, dG R5, r6, if_true]
theorem D_alone (H : dW D B S h) (a b : Int32) : ∃ h', zc PG mX1_alone [.ref D, .int a, .int b] h = some (.inl (some (.long (q_alone S a b))), h') ∧ dQ D B S h h' := by
  obtain ⟨al, X, R⟩ := H
  have f1 := hv2_F R.w a b
  have R1 := R.nw f1
  unfold q_alone
  cases e : (kbd a 0 5 && kbd b 0 5) with
  | false =>
    refine ⟨hv2 h a b, ?_, R1.q f1.A⟩
    simp (disch := omega) only [eX1_alone, uX1_alone, zKK, zB, zBl, zBb, zlg, zA, zA3, zL3, km31, km63, klshr, kishr, k2p, kl1shl, klmask, kland1, kiand1, k_l2i, zrt_b, zrt_0, zrt_1, zdv_n, zdv_l, znew_k, zast_p0, zast_p2, d_are1, d_are2, d_are3, e, Bool.false_eq_true, if_false]
  | true =>
    obtain ⟨e1, e2⟩ := Bool.and_eq_true_iff.mp e
    rcases kbd_cases a 0 5 with z | ⟨a, -, ha, rfl⟩
    · rw [z] at e1; cases e1
    rcases kbd_cases b 0 5 with z | ⟨b, -, hb, rfl⟩
    · rw [z] at e2; cases e2
    have ha : a < 6 := by omega
    have hb : b < 6 := by omega
    rw [kN_nI (by omega), kN_nI (by omega)]
    have k2 := kguess_le (R.c hb).I
    have k3 := kI_two' R ha hb
    obtain ⟨h3, r3, f3⟩ := d_guess2 R1 ha hb
    have R3 := R1.nw f3
    have n2 := n_guess (R3.c hb) R3.t
    have em := klmax_sub (x := kgg S a b) (y := kguess (S.c b)) (by omega) (by omega)
    refine ⟨h3, ?_, R3.q (f1.A.tr1 f3.A)⟩
    simp (disch := omega) only [eX1_alone, uX1_alone, zKK, zBb, znew_k, zast_p0, d_are2, e, dG R1, dGp R1, st3 R1 ha, st3 R1 hb, r3, dG R3, nG (R3.c hb), n2, nI_l, j_maxL, em, if_true]
theorem d_alikeOf (R : dR h D B al S X) {a b : Nat} (ha : a < 6) (hb : b < 6) : ∃ h', zc PG mX1_alikeOf [.ref D, .int (nI a), .int (nI b)] h = some (.inl (some (.int (nI (kak S a b)))), h') ∧ hF hN 20 664 h h' := by
  obtain ⟨h3, r3, f3⟩ := d_guess2 R ha hb
  have R3 := R.nw f3
  obtain ⟨h6, r6, f6⟩ := d_commonOf R3 ha hb
  have g1 := kguess_le (R.c ha).I
  have g2 := kguess_le (R.c hb).I
  have g3 := kI_two' R ha hb
  have g4 : kcmn S a b ≤ 4000000000 := by unfold kcmn; omega
  unfold kak
  by_cases e : kgg S a b = 0
  · rw [if_pos e]
    rw [e] at r3
    refine ⟨h3, ?_, f3.up (fun _ _ z => z) (by omega) (by omega)⟩
    simp (disch := omega) only [eX1_alikeOf, uX1_alikeOf, zKK, zB, zBl, zBb, zlg, zA, zA3, zL3, km31, km63, klshr, kishr, k2p, kl1shl, klmask, kland1, kiand1, k_l2i, zrt_b, zrt_0, zrt_1, zdv_n, zdv_l, znew_k, dG R, dGp R, st3 R ha, st3 R hb, r3]
  · rw [if_neg e]
    have hdv : lN (1000 * kcmn S a b) / lN (kgg S a b) = lN (1000 * kcmn S a b / kgg S a b) := pk_lDiv (by omega) (by omega) (by omega)
    have hle : 1000 * kcmn S a b / kgg S a b ≤ 1000 * kcmn S a b := Nat.div_le_self _ _
    refine ⟨h6, ?_, f3.tr1 f6⟩
    simp (disch := omega) only [eX1_alikeOf, uX1_alikeOf, zKK, zB, znew_k, dG R, dGp R, st3 R ha, st3 R hb, r3, dG R3, r6, nI_l, lN_mul, zdv_l, hdv, j_minL, k_l2i]
theorem D_alike (H : dW D B S h) (a b : Int32) : ∃ h', zc PG mX1_alike [.ref D, .int a, .int b] h = some (.inl (some (.int (q_alike S a b))), h') ∧ dQ D B S h h' := by
  obtain ⟨al, X, R⟩ := H
  have f1 := hv2_F R.w a b
  have R1 := R.nw f1
  unfold q_alike
  cases e : (kbd a 0 5 && kbd b 0 5) with
  | false =>
    refine ⟨hv2 h a b, ?_, R1.q f1.A⟩
    simp (disch := omega) only [eX1_alike, uX1_alike, zKK, zB, zBl, zBb, zlg, zA, zA3, zL3, km31, km63, klshr, kishr, k2p, kl1shl, klmask, kland1, kiand1, k_l2i, zrt_b, zrt_0, zrt_1, zdv_n, zdv_l, znew_k, zast_p0, zast_p2, d_are1, d_are2, d_are3, e, Bool.false_eq_true, if_false]
  | true =>
    obtain ⟨e1, e2⟩ := Bool.and_eq_true_iff.mp e
    rcases kbd_cases a 0 5 with z | ⟨a, -, ha, rfl⟩
    · rw [z] at e1; cases e1
    rcases kbd_cases b 0 5 with z | ⟨b, -, hb, rfl⟩
    · rw [z] at e2; cases e2
    rw [kN_nI (by omega), kN_nI (by omega)]
    obtain ⟨h3, r3, f3⟩ := d_alikeOf R1 (a := a) (b := b) (by omega) (by omega)
    refine ⟨h3, ?_, (R1.nw f3).q (f1.A.tr1 f3.A)⟩
    simp (disch := omega) only [eX1_alike, uX1_alike, zKK, zB, zBl, zBb, zlg, zA, zA3, zL3, km31, km63, klshr, kishr, k2p, kl1shl, klmask, kland1, kiand1, k_l2i, zrt_b, zrt_0, zrt_1, zdv_n, zdv_l, znew_k, zast_p0, zast_p2, d_are1, d_are2, d_are3, e, dG R1, r3, if_true]
/-- the most so far, as the component keeps it -/
def kmo (o : Option Nat × Nat) : Int32 := if o.1 = none then -1 else nI o.2
theorem kn1_lt {v : Nat} (h : v < 2147483648) : ((-1 : Int32) < nI v) = True := eq_true (by
  rw [Int32.lt_iff_toInt_lt, nI_toInt h]
  have h2 : ((-1 : Int32)).toInt = -1 := by decide
  omega)
theorem kn1_nlt {v : Nat} (h : v < 2147483648) : (nI v < (-1 : Int32)) = False := eq_false (fun q => by
  rw [Int32.lt_iff_toInt_lt, nI_toInt h] at q
  have h2 : ((-1 : Int32)).toInt = -1 := by decide
  omega)
theorem kn1_1 : ((-1 : Int32) < (-1)) = False := eq_false (by decide)
theorem d_nearest_loop {c : Nat} (hc : c < 6) (j : Nat) : ∀ (k : Nat) (h : zH) (u : Value), dR h D B al S X → k + j = 6 → ∃ (h' : zH) (u' : Value), zs PG mX1_nearest 22 [.ref D, .int (nI c), .int (kbo (knr (kak S c) c k).1), .int (kmo (knr (kak S c) c k)), .int (nI k), u] [] h = zs PG mX1_nearest 69 [.ref D, .int (nI c), .int (kbo (knr (kak S c) c 6).1), .int (kmo (knr (kak S c) c 6)), .int (nI 6), u'] [] h' ∧ hF hN (20 * j) (664 * j) h h' := by
  induction j with
  | zero =>
    intro k h u R hk
    have hk : k = 6 := by omega
    subst hk
    refine ⟨h, u, ?_, hF.rf R.w _⟩
    rw [uX1_nearest_at22]
    simp (disch := omega) only [uX1_nearest_at24, uX1_nearest_at26, zKK, zB]
  | succ j ih =>
    intro k h u R hk
    have hb := knr_le (kak_le S c) c k
    have hk1 := kak_le S c k
    by_cases e : k = c
    · obtain ⟨h', u', r1, r2⟩ := ih (k + 1) h (.int (-1)) R (by omega)
      refine ⟨h', u', ?_, r2.up (fun _ _ z => z) (by omega) (by omega)⟩
      rw [knr, if_pos e] at r1
      rw [uX1_nearest_at22, ← r1]
      cases hn : (knr (kak S c) c k).1 with
      | none =>
        have em : kmo (knr (kak S c) c k) = -1 := by unfold kmo; rw [hn]; rfl
        rw [em]
        simp (disch := omega) only [uX1_nearest, zKK, zB, zBl, zBb, zlg, zA, zA3, zL3, km31, km63, klshr, kishr, k2p, kl1shl, klmask, kland1, kiand1, k_l2i, zrt_b, zrt_0, zrt_1, zdv_n, zdv_l, kn1_1]
      | some b =>
        have em : kmo (knr (kak S c) c k) = nI (knr (kak S c) c k).2 := by unfold kmo; rw [hn]; rfl
        rw [em]
        simp (disch := omega) only [uX1_nearest, zKK, zB, zBl, zBb, zlg, zA, zA3, zL3, km31, km63, klshr, kishr, k2p, kl1shl, klmask, kland1, kiand1, k_l2i, zrt_b, zrt_0, zrt_1, zdv_n, zdv_l, kn1_nlt]
    · obtain ⟨h1, q1, F1⟩ := d_alikeOf R hc (show k < 6 by omega)
      obtain ⟨h', u', r1, r2⟩ := ih (k + 1) h1 (.int (nI (kak S c k))) (R.nw F1) (by omega)
      refine ⟨h', u', ?_, (F1.tr1 r2).up (fun _ _ z => z) (by omega) (by omega)⟩
      rw [knr, if_neg e] at r1
      rw [uX1_nearest_at22, ← r1]
      cases hn : (knr (kak S c) c k).1 with
      | none =>
        have em : kmo (knr (kak S c) c k) = -1 := by unfold kmo; rw [hn]; rfl
        have e2 : kmo (some k, kak S c k) = nI (kak S c k) := rfl
        rw [if_neg (fun q => q.1 rfl), em, e2]
        simp (disch := omega) only [uX1_nearest, zKK, zB, zBl, zBb, zlg, zA, zA3, zL3, km31, km63, klshr, kishr, k2p, kl1shl, klmask, kland1, kiand1, k_l2i, zrt_b, zrt_0, zrt_1, zdv_n, zdv_l, dG R, q1, kn1_lt, kbo, Option.elim]
      | some b =>
        have em : kmo (knr (kak S c) c k) = nI (knr (kak S c) c k).2 := by unfold kmo; rw [hn]; rfl
        have e3 : kmo (some k, kak S c k) = nI (kak S c k) := rfl
        by_cases e2 : kak S c k ≤ (knr (kak S c) c k).2
        · rw [if_pos ⟨(fun q => by cases q), e2⟩, hn, em]
          simp (disch := omega) only [uX1_nearest, zKK, zB, zBl, zBb, zlg, zA, zA3, zL3, km31, km63, klshr, kishr, k2p, kl1shl, klmask, kland1, kiand1, k_l2i, zrt_b, zrt_0, zrt_1, zdv_n, zdv_l, dG R, q1]
        · rw [if_neg (fun q => e2 q.2), em, e3]
          simp (disch := omega) only [uX1_nearest, zKK, zB, zBl, zBb, zlg, zA, zA3, zL3, km31, km63, klshr, kishr, k2p, kl1shl, klmask, kland1, kiand1, k_l2i, zrt_b, zrt_0, zrt_1, zdv_n, zdv_l, dG R, q1, kbo, Option.elim]
theorem knr_some (g : Nat → Nat) {c k : Nat} (h : k ≠ c) : (knr g c (k + 1)).1 ≠ none := by
  unfold knr
  rw [if_neg h]
  split
  · rename_i q; exact q.1
  · intro z; cases z
theorem knr_6 (g : Nat → Nat) {c : Nat} (hc : c < 6) : (knr g c 6).1 ≠ none := by
  by_cases e : c = 5
  · have : knr g c 6 = knr g c 5 := by rw [show (6 : Nat) = 5 + 1 from rfl, knr, if_pos e.symm]
    rw [this]
    exact knr_some g (k := 4) (by omega)
  · exact knr_some g (k := 5) (by omega)
theorem D_nearest (H : dW D B S h) (c : Int32) : ∃ h', zc PG mX1_nearest [.ref D, .int c] h = some (.inl (some (.int (q_nearest S c).1)), h') ∧ dQ D B (q_nearest S c).2 h h' := by
  obtain ⟨al, X, R⟩ := H
  have f1 := hv1_F R.w c
  have R1 := R.nw f1
  unfold q_nearest
  rcases kbd_cases c 0 5 with e | ⟨c, -, hc, rfl⟩
  · simp only [e, Bool.false_eq_true, if_false]
    refine ⟨hv1 h c, ?_, R1.q f1.A⟩
    simp (disch := omega) only [eX1_nearest, uX1_nearest, zKK, zB, zBl, zBb, zlg, zA, zA3, zL3, km31, km63, klshr, kishr, k2p, kl1shl, klmask, kland1, kiand1, k_l2i, zrt_b, zrt_0, zrt_1, zdv_n, zdv_l, znew_k, zast_p0, zast_p2, d_are1, d_are2, d_are3, e]
  · have e := kbd_nI (Nat.zero_le c) hc (by omega)
    simp only [e, if_true]
    rw [kN_nI (by omega)]
    obtain ⟨h2, u, r1, F2⟩ := d_nearest_loop (c := c) (by omega) 6 0 _ zJ R1 (by omega)
    have e0 : kmo (knr (kak S c) c 0) = -1 := rfl
    have e1 : kbo (knr (kak S c) c 0).1 = -1 := rfl
    have e6 : kmo (knr (kak S c) c 6) = nI (knr (kak S c) c 6).2 := if_neg (knr_6 _ (by omega))
    rw [e0, e1, e6] at r1
    have hb := (knr_le (kak_le S c) c 6).1
    have R2 := R1.nw F2
    obtain ⟨h3, X3, n3, R3, F3⟩ := d_row1 R2 (lN (knr (kak S c) c 6).2)
    refine ⟨h3, ?_, R3.q ((f1.A.tr1 F2.A).tr1 F3.E)⟩
    simp (disch := omega) only [eX1_nearest, uX1_nearest, zKK, zB, zBl, zBb, zlg, zA, zA3, zL3, km31, km63, klshr, kishr, k2p, kl1shl, klmask, kland1, kiand1, k_l2i, zrt_b, zrt_0, zrt_1, zdv_n, zdv_l, znew_k, zast_p0, zast_p2, d_are1, d_are2, d_are3, e, r1, dGp R2, n3]
end DR
