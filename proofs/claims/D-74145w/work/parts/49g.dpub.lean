/-! THE COMPONENT's PUBLIC METHODS: what lacks, bits, slices, runs, gaps -/
section DR
variable {h h1 : zH} {D B : Nat} {al : Nat → Nat} {S : kS} {X : dX}
theorem d_lacks_loop {a : Nat} {C : kC} (e : cN h D a C) (t : dT h D) (c v : Int32) (j : Nat) : ∀ k, k + j = kz C + 1 → zs PG mX1_lacks 41 [.ref D, .int c, .int v, .ref a, .int (nI (kz C)), .long (lN (kall C)), zJ, .int (nI k)] [] h = some (.inl (some (.int ((kfi (klk C v) j k).elim (-2) nI))), h) := by
  have iC := e.I
  have h8 := kz_le iC.2.1
  induction j with
  | zero =>
    intro k hk
    rw [uX1_lacks_at41]
    simp (disch := omega) only [uX1_lacks, zKK, zB, zBl, zBb, zlg, zA, zA3, zL3, km31, km63, klshr, kishr, k2p, kl1shl, klmask, kland1, kiand1, k_l2i, zrt_b, zrt_0, zrt_1, zdv_n, zdv_l, kfi, Option.elim]
  | succ j ih =>
    intro k hk
    have hle := kall_lt iC.2.1
    have hge := kal_ge C.r (2 ^ C.p)
    have hpos := kal_pos C.r (n := 2 ^ C.p) (Nat.pow_pos (by decide))
    have hz : kz C = 2 ^ C.p - krd C.r (2 ^ C.p) := rfl
    have ha : kall C = kal C.r (2 ^ C.p) := rfl
    rw [← hz, ← ha] at hge
    rw [← ha] at hpos
    have hk2 : k * 268435456 < kall C := by omega
    have eg := n_guessBy e t (z := kz C - k) (all := kall C - k * 268435456) (by have : kz C ≤ 2 ^ C.p := Nat.sub_le _ _; omega) (by omega) (by omega)
    have hsub : lN (kall C) - lN (k * 268435456) = lN (kall C - k * 268435456) := lN_sub (Nat.le_of_lt hk2)
    have hkl : klk C v k = decide (¬ nI (kgb C.p (kz C - k) (kall C - k * 268435456)) < v) := rfl
    unfold kfi
    rw [hkl]
    generalize kall C - k * 268435456 = A at eg hsub
    by_cases e2 : nI (kgb C.p (kz C - k) A) < v
    · rw [decide_eq_false (fun q => q e2)]
      simp only [Bool.false_eq_true, if_false]
      rw [← ih (k + 1) (by omega), uX1_lacks_at41]
      simp (disch := omega) only [uX1_lacks, zKK, zB, zBl, zBb, zlg, zA, zA3, zL3, km31, km63, klshr, kishr, k2p, kl1shl, klmask, kland1, kiand1, k_l2i, zrt_b, zrt_0, zrt_1, zdv_n, zdv_l, klshl, hsub, nG e, eg, e2]
    · rw [decide_eq_true e2]
      simp only [if_true]
      rw [uX1_lacks_at41]
      simp (disch := omega) only [uX1_lacks, zKK, zB, zBl, zBb, zlg, zA, zA3, zL3, km31, km63, klshr, kishr, k2p, kl1shl, klmask, kland1, kiand1, k_l2i, zrt_b, zrt_0, zrt_1, zdv_n, zdv_l, klshl, hsub, nG e, eg, e2, Option.elim]
theorem D_lacks (H : dW D B S h) (c v : Int32) : ∃ h', zc PG mX1_lacks [.ref D, .int c, .int v] h = some (.inl (some (.int (q_lacks S c v))), h') ∧ dQ D B S h h' := by
  obtain ⟨al, X, R⟩ := H
  have f1 := hv1_F R.w c
  have R1 := R.nw f1
  refine ⟨hv1 h c, ?_, R1.q f1.A⟩
  unfold q_lacks
  rcases kbd_cases c 0 5 with e | ⟨c, -, hc, rfl⟩
  · simp only [e, Bool.false_and, Bool.false_eq_true, if_false]
    simp (disch := omega) only [eX1_lacks, uX1_lacks, zKK, zB, zBl, zBb, zlg, zA, zA3, zL3, km31, km63, klshr, kishr, k2p, kl1shl, klmask, kland1, kiand1, k_l2i, zrt_b, zrt_0, zrt_1, zdv_n, zdv_l, znew_k, zast_p0, zast_p2, d_are1, d_are2, d_are3, e]
  · have e := kbd_nI (Nat.zero_le c) hc (by omega)
    rw [kN_nI (by omega)]
    have c1 : cN (hv1 h (nI c)) D (al c) (S.c c) := R1.c (by omega)
    by_cases e2 : v < nI 0
    · rw [decide_eq_false (fun q => q e2)]
      simp only [Bool.and_false, Bool.false_eq_true, if_false]
      simp (disch := omega) only [eX1_lacks, uX1_lacks, zKK, zB, zBl, zBb, zlg, zA, zA3, zL3, km31, km63, klshr, kishr, k2p, kl1shl, klmask, kland1, kiand1, k_l2i, zrt_b, zrt_0, zrt_1, zdv_n, zdv_l, znew_k, zast_p0, zast_p2, d_are1, d_are2, d_are3, e, e2]
    · rw [decide_eq_true e2, e]
      simp only [Bool.and_self, if_true]
      have el := d_lacks_loop c1 R1.t (nI c) v (kz (S.c c) + 1) 0 (Nat.zero_add _)
      simp (disch := omega) only [eX1_lacks, uX1_lacks, zKK, zB, zBl, zBb, zlg, zA, zA3, zL3, km31, km63, klshr, kishr, k2p, kl1shl, klmask, kland1, kiand1, k_l2i, zrt_b, zrt_0, zrt_1, zdv_n, zdv_l, znew_k, zast_p0, zast_p2, d_are1, d_are2, d_are3, e, e2, dG R1, nG c1, n_empty c1, n_all c1, el]
theorem kbd_out {x : Int32} {n : Nat} (h : kbd x 0 n = false) (hn : n < 2147483648) : x < nI 0 ∨ (¬ x < nI 0 ∧ nI n < x) := by
  have h2 : ¬ kbt x 0 n := fun q => by have := kbd_t q; rw [h] at this; cases this
  unfold kbt at h2
  by_cases e : x < nI 0
  · exact Or.inl e
  · refine Or.inr ⟨e, ?_⟩
    rw [Int32.lt_iff_toInt_lt, nI_toInt (by omega)] at e
    rw [Int32.lt_iff_toInt_lt, nI_toInt hn]
    omega
theorem d_bits_loop (R : dR h D B al S X) {c : Nat} (hc : c < 6) {j : Nat} (hj : 12 * j < 2 ^ (S.c c).p) (k : Nat) : ∀ x, x + k = min 12 (2 ^ (S.c c).p - 12 * j) → zs PG mX1_bits 44 [.ref D, .int (nI c), .int (nI j), .long (kbs (S.c c).r (12 * j) x), zJ, .int (nI x)] [] h = some (.inl (some (.long (kbs (S.c c).r (12 * j) (min 12 (2 ^ (S.c c).p - 12 * j))))), h) := by
  have c1 := R.c hc
  have h2 := k2p_le c1.I.2.1
  have hp := n_m c1
  induction k with
  | zero =>
    intro x hx
    have hx : x = min 12 (2 ^ (S.c c).p - 12 * j) := hx
    rw [uX1_bits_at44, ← hx]
    by_cases e : x < 12
    · simp (disch := omega) only [uX1_bits_p0, uX1_bits_p1, zKK, zB, zBl, zBb, zlg, zA, zA3, zL3, km31, km63, klshr, kishr, k2p, kl1shl, klmask, kland1, kiand1, k_l2i, zrt_b, zrt_0, zrt_1, zdv_n, zdv_l, dG R, nG c1, hp]
    · simp (disch := omega) only [uX1_bits_p0, uX1_bits_p1, zKK, zB, zBl, zBb, zlg, zA, zA3, zL3, km31, km63, klshr, kishr, k2p, kl1shl, klmask, kland1, kiand1, k_l2i, zrt_b, zrt_0, zrt_1, zdv_n, zdv_l]
  | succ k ih =>
    intro x hx
    have hr1 := (nG c1).2.2.2.2.2.2.2 (12 * j + x) (by omega)
    have hr3 := c1.I.2.2.2.2.1 (12 * j + x)
    rw [← ih (x + 1) (by omega), uX1_bits_at44, kbs]
    simp (disch := omega) only [uX1_bits_p0, uX1_bits_p1, zKK, zB, zBl, zBb, zlg, zA, zA3, zL3, km31, km63, klshr, kishr, k2p, kl1shl, klmask, kland1, kiand1, k_l2i, zrt_b, zrt_0, zrt_1, zdv_n, zdv_l, dG R, nG c1, hp, hr1, klshl]
theorem D_bits (H : dW D B S h) (c j : Int32) : ∃ h', zc PG mX1_bits [.ref D, .int c, .int j] h = some (.inl (some (.long (q_bits S c j))), h') ∧ dQ D B S h h' := by
  obtain ⟨al, X, R⟩ := H
  have f1 := hv1_F R.w c
  have R1 := R.nw f1
  refine ⟨hv1 h c, ?_, R1.q f1.A⟩
  unfold q_bits
  rcases kbd_cases c 0 5 with e | ⟨c, -, hc, rfl⟩
  · simp only [e, Bool.false_and, Bool.false_eq_true, if_false]
    simp (disch := omega) only [eX1_bits, uX1_bits_p0, uX1_bits_p1, zKK, zB, zBl, zBb, zlg, zA, zA3, zL3, km31, km63, klshr, kishr, k2p, kl1shl, klmask, kland1, kiand1, k_l2i, zrt_b, zrt_0, zrt_1, zdv_n, zdv_l, znew_k, zast_p0, zast_p2, d_are1, d_are2, d_are3, e]
  · have e := kbd_nI (Nat.zero_le c) hc (by omega)
    rw [kN_nI (by omega : c < 2147483648)]
    have c1 : cN (hv1 h (nI c)) D (al c) (S.c c) := R1.c (by omega)
    have h2 := k2p_le c1.I.2.1
    have h3 := k2p_ge c1.I.1
    rcases kbd_cases j 0 ((2 ^ (S.c c).p - 1) / 12) with e2 | ⟨j, -, hj, rfl⟩
    · simp only [e, e2, Bool.and_false, Bool.false_eq_true, if_false]
      rcases kbd_out e2 (by omega) with e3 | ⟨e3, e4⟩
      · simp (disch := omega) only [eX1_bits, uX1_bits_p0, uX1_bits_p1, zKK, zB, zBl, zBb, zlg, zA, zA3, zL3, km31, km63, klshr, kishr, k2p, kl1shl, klmask, kland1, kiand1, k_l2i, zrt_b, zrt_0, zrt_1, zdv_n, zdv_l, znew_k, zast_p0, zast_p2, d_are1, d_are2, d_are3, e, e3]
      · simp (disch := omega) only [eX1_bits, uX1_bits_p0, uX1_bits_p1, zKK, zB, zBl, zBb, zlg, zA, zA3, zL3, km31, km63, klshr, kishr, k2p, kl1shl, klmask, kland1, kiand1, k_l2i, zrt_b, zrt_0, zrt_1, zdv_n, zdv_l, znew_k, zast_p0, zast_p2, d_are1, d_are2, d_are3, e, e3, dG R1, nG c1, n_m c1, e4]
    · have e2 := kbd_nI (Nat.zero_le j) hj (by omega)
      simp only [e, e2, Bool.and_self, if_true]
      rw [kN_nI (by omega)]
      have el := d_bits_loop R1 (c := c) (by omega) (j := j) (by omega) (min 12 (2 ^ (S.c c).p - 12 * j)) 0 (by omega)
      rw [show kbs (S.c c).r (12 * j) 0 = lN 0 from rfl] at el
      simp (disch := omega) only [eX1_bits, uX1_bits_p0, uX1_bits_p1, zKK, zB, zBl, zBb, zlg, zA, zA3, zL3, km31, km63, klshr, kishr, k2p, kl1shl, klmask, kland1, kiand1, k_l2i, zrt_b, zrt_0, zrt_1, zdv_n, zdv_l, znew_k, zast_p0, zast_p2, d_are1, d_are2, d_are3, e, dG R1, nG c1, n_m c1, el]
/-! slices -/
/-- bit b of the ranks of the places 64 j .. of the first x places -/
def ksl (r : Nat → Nat) (b j : Nat) : Nat → Int64
  | 0 => lN 0
  | x + 1 => ksl r b j x ||| (if x / 64 = j ∧ r x / 2 ^ b % 2 = 1 then lN (2 ^ (x % 64)) else lN 0)
theorem lor0 (x : Int64) : x ||| lN 0 = x := by
  apply Int64.toBitVec_inj.mp
  show x.toBitVec ||| 0#64 = x.toBitVec
  simp
theorem ksl_low (r : Nat → Nat) (b j : Nat) (x : Nat) (hx : x ≤ 64 * j) : ksl r b j x = lN 0 := by
  induction x with
  | zero => rfl
  | succ x ih =>
    unfold ksl
    rw [ih (by omega), if_neg (fun q => by have := q.1; omega), lor0]
theorem ksl_mid (r : Nat → Nat) (b j : Nat) (x : Nat) (hx : x ≤ 64) : ksl r b j (64 * j + x) = kss r b (64 * j) x := by
  induction x with
  | zero => exact ksl_low r b j _ (Nat.le_refl _)
  | succ x ih =>
    rw [show 64 * j + (x + 1) = (64 * j + x) + 1 by omega, ksl, ih (by omega), kss, show (64 * j + x) / 64 = j by omega, show (64 * j + x) % 64 = x by omega]
    congr 1
    by_cases e : r (64 * j + x) / 2 ^ b % 2 = 1
    · rw [if_pos ⟨rfl, e⟩, e, Nat.one_mul]
    · rw [if_neg (fun q => e q.2), show r (64 * j + x) / 2 ^ b % 2 = 0 by omega, Nat.zero_mul]
theorem ksl_high (r : Nat → Nat) (b j : Nat) (k : Nat) : ksl r b j (64 * j + 64 + k) = kss r b (64 * j) 64 := by
  induction k with
  | zero => exact ksl_mid r b j 64 (Nat.le_refl _)
  | succ k ih => rw [show 64 * j + 64 + (k + 1) = (64 * j + 64 + k) + 1 by omega, ksl, ih, if_neg (fun q => by have := q.1; omega), lor0]
theorem ksl_all (r : Nat → Nat) (b j n : Nat) : ksl r b j n = kss r b (64 * j) (min 64 (n - 64 * j)) := by
  by_cases h1 : n ≤ 64 * j
  · rw [ksl_low r b j n h1, show min 64 (n - 64 * j) = 0 by omega]; rfl
  · by_cases h2 : n ≤ 64 * j + 64
    · rw [show min 64 (n - 64 * j) = n - 64 * j by omega, ← ksl_mid r b j (n - 64 * j) (by omega), show 64 * j + (n - 64 * j) = n by omega]
    · rw [show min 64 (n - 64 * j) = 64 by omega, ← ksl_high r b j (n - (64 * j + 64)), show 64 * j + 64 + (n - (64 * j + 64)) = n by omega]
theorem zast_u {g : zH} {a t n i : Nat} {f : Nat → Value} {v u : Value} (e : g.1 a = some (true, .inl (t, n, f))) (hi : i < n) (hn : n < 2147483648) (hv : zasg g t v = true) (hu : znar t v = some u) : zast g a t (nI i) v = some (zup g a (.inl (t, n, zfu f i u))) := by
  unfold zast
  rw [e]
  dsimp only
  rw [if_pos ⟨rfl, kNb hi hn, hv⟩, nI_clamp (by omega), hu]
  rfl
theorem d_lam_slice {g : zH} {a : Nat} {v : Int64} {f : Nat → Value} (e : g.1 a = some (true, .inl (2, 1, f))) (ef : f 0 = .long v) {j b x r : Nat} (hj : j ≤ 3) (hb : b ≤ 4) (hx : x < 256) (hr : r < 64) : zc PG mX1_lambda_slice_4 [.ref a, .int (nI j), .int (nI b), .int (nI x), .int (nI r)] g = some (.inl none, zup g a (.inl (2, 1, zfu f 0 (.long (v ||| if x / 64 = j ∧ r / 2 ^ b % 2 = 1 then lN (2 ^ (x % 64)) else lN 0))))) := by
  have ld : zald g a 2 (nI 0) = some (.long v) := by rw [zald_k e (by omega) (by omega), ef]
  have st : ∀ u : Int64, zast g a 2 (nI 0) (.long u) = some (zup g a (.inl (2, 1, zfu f 0 (.long u)))) := fun u => zast_u e (by omega) (by omega) rfl rfl
  have hd : r / 2 ^ b ≤ r := Nat.div_le_self _ _
  by_cases e1 : x / 64 = j
  · subst e1
    by_cases e2 : r / 2 ^ b % 2 = 1
    · rw [if_pos ⟨rfl, e2⟩, show x % 64 = x - x / 64 * 64 by omega]
      simp (disch := omega) only [eX1_lambda_slice_4, uX1_lambda_slice_4, zKK, zB, zBl, zBb, zlg, zA, zA3, zL3, km31, km63, klshr, kishr, k2p, kl1shl, klmask, kland1, kiand1, k_l2i, zrt_b, zrt_0, zrt_1, zdv_n, zdv_l, ld, st, e2]
    · rw [if_neg (fun q => e2 q.2)]
      simp (disch := omega) only [eX1_lambda_slice_4, uX1_lambda_slice_4, zKK, zB, zBl, zBb, zlg, zA, zA3, zL3, km31, km63, klshr, kishr, k2p, kl1shl, klmask, kland1, kiand1, k_l2i, zrt_b, zrt_0, zrt_1, zdv_n, zdv_l, ld, st]
  · rw [if_neg (fun q => e1 q.1)]
    simp (disch := omega) only [eX1_lambda_slice_4, uX1_lambda_slice_4, zKK, zB, zBl, zBb, zlg, zA, zA3, zL3, km31, km63, klshr, kishr, k2p, kl1shl, klmask, kland1, kiand1, k_l2i, zrt_b, zrt_0, zrt_1, zdv_n, zdv_l, ld, st]
theorem d_slice (R : dR h D B al S X) {c b j : Nat} (hc : c < 6) (hb : b ≤ 4) (hj : j ≤ 3) : ∃ h', zc PG mX2_each [.ref (al c), .ref (h.2.1 + 1)] (zpush (zpush h (.inl (2, 1, fun _ => zdef 2)) 1) (.inr (104, [.ref h.2.1, .int (nI j), .int (nI b)])) 3) = some (.inl none, h') ∧ zald h' h.2.1 2 (nI 0) = some (.long (kss (S.c c).r b (64 * j) (min 64 (2 ^ (S.c c).p - 64 * j)))) ∧ hF hN 2 4 h h' := by
  have f1 := hF_push R.w (.inl (2, 1, fun _ => zdef 2)) 1
  have f2 := hF_push f1.1 (.inr (104, [.ref h.2.1, .int (nI j), .int (nI b)])) 3
  have F := f1.tr1 f2
  have c1 := (R.c hc).nw R.w F
  have c0 := (R.c hc).lt R.w
  have i8 := (R.c hc).I.2.1
  have h2 := k2p_le i8
  have hr := (R.c hc).I.2.2.2.2.1
  obtain ⟨h', r1, r2⟩ := n_each (D := D) (b := al c) (lam := h.2.1 + 1) (C := S.c c) (k := mX1_lambda_slice_4) (fs := [.ref h.2.1, .int (nI j), .int (nI b)]) (P := fun x g => cN g D (al c) (S.c c) ∧ g.1 (h.2.1 + 1) = some (true, .inr (104, [.ref h.2.1, .int (nI j), .int (nI b)])) ∧ (∃ f, g.1 h.2.1 = some (true, .inl (2, 1, f)) ∧ f 0 = .long (ksl (S.c c).r b j x)) ∧ hF hN 2 4 h g)
    (fun x g hP => ⟨hP.1, zlam_s hP.2.1 rfl⟩)
    (fun x g hx hz hP => by
      obtain ⟨p1, p2, ⟨f, p3, p4⟩, p5⟩ := hP
      refine ⟨p1, p2, ⟨f, p3, ?_⟩, p5⟩
      rw [p4, ksl, if_neg (fun q => by have := q.2; rw [hz, Nat.zero_div] at this; omega), lor0])
    (fun x g hx hz hP => by
      obtain ⟨p1, p2, ⟨f, p3, p4⟩, p5⟩ := hP
      have hrx := hr x
      have e1 := d_lam_slice p3 p4 hj hb (x := x) (r := (S.c c).r x) (by omega) (by omega)
      have lt1 := p5.1.lt p3
      have G := hF_up p5.1 lt1 (.inl (2, 1, zfu f 0 (.long (ksl (S.c c).r b j x ||| if x / 64 = j ∧ (S.c c).r x / 2 ^ b % 2 = 1 then lN (2 ^ (x % 64)) else lN 0))))
      refine ⟨_, e1, p1.fr p5.1 G (fun q hq => by rcases hq with rfl | rfl | rfl <;> omega), G.at p5.1 p2 (by omega), ⟨_, zup_s _ _ _, rfl⟩, p5.tr G (fun q hq z => by omega)⟩)
    (h := zpush (zpush h (.inl (2, 1, fun _ => zdef 2)) 1) (.inr (104, [.ref h.2.1, .int (nI j), .int (nI b)])) 3) ⟨c1, zpush_s _ _ _, ⟨fun _ => zdef 2, by rw [zpush_o _ _ _ (by show h.2.1 ≠ h.2.1 + 1; omega)]; exact zpush_s _ _ _, rfl⟩, F⟩
  obtain ⟨p1, p2, ⟨f, p3, p4⟩, p5⟩ := r2
  refine ⟨h', r1, ?_, p5⟩
  rw [zald_k p3 (by omega) (by omega), p4, ksl_all]
theorem kss_0 (r : Nat → Nat) (b o : Nat) : kss r b o 0 = lN 0 := rfl
theorem D_slice (H : dW D B S h) (c b j : Int32) : ∃ h', zc PG mX1_slice [.ref D, .int c, .int b, .int j] h = some (.inl (some (.long (q_slice S c b j))), h') ∧ dQ D B S h h' := by
  obtain ⟨al, X, R⟩ := H
  have f1 := hv1_F R.w c
  have R1 := R.nw f1
  unfold q_slice
  rcases kbd_cases c 0 5 with e | ⟨c, -, hc, rfl⟩
  · simp only [e, Bool.false_and, Bool.false_eq_true, if_false]
    refine ⟨hv1 h c, ?_, R1.q f1.A⟩
    simp (disch := omega) only [eX1_slice, uX1_slice, zKK, zB, zBl, zBb, zlg, zA, zA3, zL3, km31, km63, klshr, kishr, k2p, kl1shl, klmask, kland1, kiand1, k_l2i, zrt_b, zrt_0, zrt_1, zdv_n, zdv_l, znew_k, zast_p0, zast_p2, d_are1, d_are2, d_are3, e]
  · have e := kbd_nI (Nat.zero_le c) hc (by omega)
    rw [kN_nI (by omega : c < 2147483648)]
    have c1 : cN (hv1 h (nI c)) D (al c) (S.c c) := R1.c (by omega)
    have h2 := k2p_le c1.I.2.1
    have h3 := k2p_ge c1.I.1
    rcases kbd_cases b 0 4 with e2 | ⟨b, -, hb, rfl⟩
    · simp only [e2, Bool.and_false, Bool.false_and, Bool.false_eq_true, if_false]
      refine ⟨_, ?_, R1.q f1.A⟩
      simp (disch := omega) only [eX1_slice, uX1_slice, zKK, zB, zBl, zBb, zlg, zA, zA3, zL3, km31, km63, klshr, kishr, k2p, kl1shl, klmask, kland1, kiand1, k_l2i, zrt_b, zrt_0, zrt_1, zdv_n, zdv_l, znew_k, zast_p0, zast_p2, d_are1, d_are2, d_are3, e, d_ini, e2]
    · have e2 := kbd_nI (Nat.zero_le b) hb (by omega)
      rcases kbd_cases j 0 ((2 ^ (S.c c).p - 1) / 64) with e3 | ⟨j, -, hj, rfl⟩
      · have hq : (if kbd (nI c) 0 5 && kbd (nI b) 0 4 && kbd j 0 3 then kss (S.c c).r (kN (nI b)) (64 * kN j) (min 64 (2 ^ (S.c c).p - 64 * kN j)) else lN 0) = lN 0 := by
          rcases kbd_cases j 0 3 with z | ⟨j, -, z, rfl⟩
          · simp only [z, Bool.and_false, Bool.false_eq_true, if_false]
          · have : ¬ j ≤ (2 ^ (S.c c).p - 1) / 64 := fun q => by
              have := kbd_nI (Nat.zero_le j) q (by omega)
              rw [e3] at this
              cases this
            rw [kN_nI (k := j) (by omega), show min 64 (2 ^ (S.c c).p - 64 * j) = 0 by omega, kss_0]
            split <;> rfl
        rw [hq]
        refine ⟨_, ?_, R1.q f1.A⟩
        rcases kbd_out e3 (by omega) with e4 | ⟨e4, e5⟩
        · simp (disch := omega) only [eX1_slice, uX1_slice, zKK, zB, zBl, zBb, zlg, zA, zA3, zL3, km31, km63, klshr, kishr, k2p, kl1shl, klmask, kland1, kiand1, k_l2i, zrt_b, zrt_0, zrt_1, zdv_n, zdv_l, znew_k, zast_p0, zast_p2, d_are1, d_are2, d_are3, e, d_inN, e2, e4]
        · simp (disch := omega) only [eX1_slice, uX1_slice, zKK, zB, zBl, zBb, zlg, zA, zA3, zL3, km31, km63, klshr, kishr, k2p, kl1shl, klmask, kland1, kiand1, k_l2i, zrt_b, zrt_0, zrt_1, zdv_n, zdv_l, znew_k, zast_p0, zast_p2, d_are1, d_are2, d_are3, e, d_inN, e2, e4, dG R1, nG c1, n_m c1, e5]
      · have e3 := kbd_nI (k := j) (lo := 0) (hi := 3) (Nat.zero_le j) (by omega) (by omega)
        simp only [e, e2, e3, Bool.and_self, if_true]
        rw [kN_nI (by omega), kN_nI (by omega)]
        obtain ⟨h2', s1, s2, s3⟩ := d_slice R1 (c := c) (b := b) (j := j) (by omega) hb (by omega)
        have z1 : ∀ (g : zH) e n, (zpush g e n).2.1 = g.2.1 + 1 := fun _ _ _ => rfl
        have R3 := R1.nw s3
        have f2 := hF_push R1.w (.inl (2, 1, fun _ => zdef 2)) 1
        have c3 := (c1.nw R1.w f2).nw f2.1 (hF_push f2.1 (.inr (104, [.ref (hv1 h (nI c)).2.1, .int (nI j), .int (nI b)])) 3)
        refine ⟨h2', ?_, R3.q (f1.A.tr1 s3.A)⟩
        simp (disch := omega) only [eX1_slice, uX1_slice, zKK, zB, zBl, zBb, zlg, zA, zA3, zL3, km31, km63, klshr, kishr, k2p, kl1shl, klmask, kland1, kiand1, k_l2i, zrt_b, zrt_0, zrt_1, zdv_n, zdv_l, znew_k, zast_p0, zast_p2, d_are1, d_are2, d_are3, e, d_inN, e2, dG R1, nG c1, n_m c1, dGp R1, z1, nG c3, s1, s2]
/-! runs of ranks -/
theorem d_runsOf_loop {a : Nat} {C : kC} (e : cN h D a C) (c : Int32) (k : Nat) : ∀ (x n L F o : Nat), x + k = 2 ^ C.p → 1 ≤ x → n + 1 = (krf C.r x).1 → o = (krf C.r x).2.2.2 → o < x → C.r (x - 1) = C.r o → L ≤ x → F ≤ x → (krf C.r x).2.1 = (if L < x - o then x - o else L) → (krf C.r x).2.2.1 = (if L < x - o then o else F) → zs PG mX1_runsOf 36 [.ref D, .int c, .ref a, .int (nI n), .int (nI L), .int (nI F), .int (nI o), .int (nI x)] [] h = zs PG mX1_runsOf 108 [.ref D, .int c, .ref a, .int (nI (krf C.r (2 ^ C.p)).1), .int (nI (krf C.r (2 ^ C.p)).2.1), .int (nI (krf C.r (2 ^ C.p)).2.2.1), .int (nI (2 ^ C.p)), .int (nI (2 ^ C.p + 1))] [] h := by
  have h2 := k2p_le e.I.2.1
  have hp := n_m e
  have g := nG e
  induction k with
  | zero =>
    intro x n L F o hx h1 i1 i2 i3 i4 l1 l2 i5 i6
    have hx : x = 2 ^ C.p := hx
    rw [← hx] at hp h2
    rw [← hx, ← i1, i5, i6]
    have hn := (krf_le C.r x).1
    by_cases e1 : L < x - o
    · rw [if_pos e1, if_pos e1]
      simp (disch := omega) only [uX1_runsOf_at36, uX1_runsOf_p0, uX1_runsOf_p1, zKK, zB, zBl, zBb, zlg, zA, zA3, zL3, km31, km63, klshr, kishr, k2p, kl1shl, klmask, kland1, kiand1, k_l2i, zrt_b, zrt_0, zrt_1, zdv_n, zdv_l, g, hp]
    · rw [if_neg e1, if_neg e1]
      simp (disch := omega) only [uX1_runsOf_at36, uX1_runsOf_p0, uX1_runsOf_p1, zKK, zB, zBl, zBb, zlg, zA, zA3, zL3, km31, km63, klshr, kishr, k2p, kl1shl, klmask, kland1, kiand1, k_l2i, zrt_b, zrt_0, zrt_1, zdv_n, zdv_l, g, hp]
  | succ k ih =>
    intro x n L F o hx h1 i1 i2 i3 i4 l1 l2 i5 i6
    have hn := (krf_le C.r x).1
    have r1 := g.2.2.2.2.2.2.2 x (by omega)
    have r2 := g.2.2.2.2.2.2.2 o (by omega)
    have b1 := e.I.2.2.2.2.1 x
    have b2 := e.I.2.2.2.2.1 o
    by_cases e1 : C.r x = C.r o
    · have ek : ¬ (x = 0 ∨ C.r x ≠ C.r (x - 1)) := fun q => q.elim (by omega) (fun q => q (by rw [e1, i4]))
      have k1 : (krf C.r (x + 1)).1 = (krf C.r x).1 := by rw [krf]; simp only [if_neg ek]
      have k2 : (krf C.r (x + 1)).2.2.2 = (krf C.r x).2.2.2 := by rw [krf]; simp only [if_neg ek]
      have k3 : (krf C.r (x + 1)).2.1 = if (krf C.r x).2.1 < x + 1 - o then x + 1 - o else (krf C.r x).2.1 := by rw [krf]; simp only [if_neg ek, ← i2]
      have k4 : (krf C.r (x + 1)).2.2.1 = if (krf C.r x).2.1 < x + 1 - o then o else (krf C.r x).2.2.1 := by rw [krf]; simp only [if_neg ek, ← i2]
      rw [← ih (x + 1) n L F o (by omega) (by omega) (by rw [k1]; exact i1) (by rw [k2]; exact i2) (by omega) (by rw [Nat.add_sub_cancel]; exact e1) (by omega) (by omega) (by
        rw [k3, i5]
        by_cases q : L < x - o
        · rw [if_pos q, if_pos (by omega), if_pos (by omega)]
        · rw [if_neg q]) (by
        rw [k4, i5, i6]
        by_cases q : L < x - o
        · rw [if_pos q, if_pos q, if_pos (by omega), if_pos (by omega)]
        · rw [if_neg q, if_neg q]), uX1_runsOf_at36]
      simp (disch := omega) only [uX1_runsOf_p0, uX1_runsOf_p1, zKK, zB, zBl, zBb, zlg, zA, zA3, zL3, km31, km63, klshr, kishr, k2p, kl1shl, klmask, kland1, kiand1, k_l2i, zrt_b, zrt_0, zrt_1, zdv_n, zdv_l, g, hp, r1, r2, e1]
    · have ek : x = 0 ∨ C.r x ≠ C.r (x - 1) := Or.inr (by rw [i4]; exact e1)
      have k1 : (krf C.r (x + 1)).1 = (krf C.r x).1 + 1 := by rw [krf]; simp only [if_pos ek]
      have k2 : (krf C.r (x + 1)).2.2.2 = x := by rw [krf]; simp only [if_pos ek]
      have k3 : (krf C.r (x + 1)).2.1 = if (krf C.r x).2.1 < x + 1 - x then x + 1 - x else (krf C.r x).2.1 := by rw [krf]; simp only [if_pos ek]
      have k4 : (krf C.r (x + 1)).2.2.1 = if (krf C.r x).2.1 < x + 1 - x then x else (krf C.r x).2.2.1 := by rw [krf]; simp only [if_pos ek]
      rw [← ih (x + 1) (n + 1) (krf C.r x).2.1 (krf C.r x).2.2.1 x (by omega) (by omega) (by rw [k1, i1]) k2.symm (by omega) (by rw [Nat.add_sub_cancel]) (by have := (krf_le C.r x).2.1; omega) (by have := (krf_le C.r x).2.2.1; omega) k3 k4, uX1_runsOf_at36, i5, i6]
      by_cases e2 : L < x - o
      · rw [if_pos e2, if_pos e2]
        simp (disch := omega) only [uX1_runsOf_p0, uX1_runsOf_p1, zKK, zB, zBl, zBb, zlg, zA, zA3, zL3, km31, km63, klshr, kishr, k2p, kl1shl, klmask, kland1, kiand1, k_l2i, zrt_b, zrt_0, zrt_1, zdv_n, zdv_l, g, hp, r1, r2]
      · rw [if_neg e2, if_neg e2]
        simp (disch := omega) only [uX1_runsOf_p0, uX1_runsOf_p1, zKK, zB, zBl, zBb, zlg, zA, zA3, zL3, km31, km63, klshr, kishr, k2p, kl1shl, klmask, kland1, kiand1, k_l2i, zrt_b, zrt_0, zrt_1, zdv_n, zdv_l, g, hp, r1, r2]
theorem D_runsOf (H : dW D B S h) (c : Int32) : ∃ h', zc PG mX1_runsOf [.ref D, .int c] h = some (.inl (some (.int (q_runsOf S c).1)), h') ∧ dQ D B (q_runsOf S c).2 h h' := by
  obtain ⟨al, X, R⟩ := H
  have f1 := hv1_F R.w c
  have R1 := R.nw f1
  unfold q_runsOf
  rcases kbd_cases c 0 5 with e | ⟨c, -, hc, rfl⟩
  · simp only [e, Bool.false_eq_true, if_false]
    refine ⟨hv1 h c, ?_, R1.q f1.A⟩
    simp (disch := omega) only [eX1_runsOf, uX1_runsOf_p0, uX1_runsOf_p1, zKK, zB, zBl, zBb, zlg, zA, zA3, zL3, km31, km63, klshr, kishr, k2p, kl1shl, klmask, kland1, kiand1, k_l2i, zrt_b, zrt_0, zrt_1, zdv_n, zdv_l, znew_k, zast_p0, zast_p2, d_are1, d_are2, d_are3, e]
  · have e := kbd_nI (Nat.zero_le c) hc (by omega)
    simp only [e, if_true]
    rw [kN_nI (by omega)]
    have c1 : cN (hv1 h (nI c)) D (al c) (S.c c) := R1.c (by omega)
    have h2 := k2p_le c1.I.2.1
    have h3 := k2p_ge c1.I.1
    have el := d_runsOf_loop c1 (nI c) (2 ^ (S.c c).p - 1) 1 0 0 0 0 (by omega) (by omega) rfl rfl (by omega) rfl (by omega) (by omega) rfl rfl
    obtain ⟨b1, b2, b3, b4, b5⟩ := krf_le (S.c c).r (2 ^ (S.c c).p)
    have b6 := b5 (by omega)
    have b7 := c1.I.2.2.2.2.1 (krf (S.c c).r (2 ^ (S.c c).p)).2.2.1
    obtain ⟨h2', X2, n1, R2, F2⟩ := d_row3 R1 (lN (krf (S.c c).r (2 ^ (S.c c).p)).2.1) (lN (krf (S.c c).r (2 ^ (S.c c).p)).2.2.1) (lN ((S.c c).r (krf (S.c c).r (2 ^ (S.c c).p)).2.2.1))
    refine ⟨h2', ?_, R2.q (f1.A.tr1 F2.E)⟩
    simp (disch := omega) only [eX1_runsOf, uX1_runsOf_p0, uX1_runsOf_p1, zKK, zB, zBl, zBb, zlg, zA, zA3, zL3, km31, km63, klshr, kishr, k2p, kl1shl, klmask, kland1, kiand1, k_l2i, zrt_b, zrt_0, zrt_1, zdv_n, zdv_l, znew_k, zast_p0, zast_p2, d_are1, d_are2, d_are3, e, dG R1, el, nGp R1.w c1, dGp R1, n1]
/-! gaps -/
theorem d_gap_inner {a : Nat} {C : kC} (e : cN h D a C) (c a3 a4 : Int32) {x : Nat} (hx : x < 2 ^ C.p) (f : Nat) : ∀ n, n + f = 2 ^ C.p → zs PG mX1_gap 42 [.ref D, .int c, .ref a, .int a3, .int a4, .int (nI x), .int (nI n)] [] h = zs PG mX1_gap 77 [.ref D, .int c, .ref a, .int a3, .int a4, .int (nI x), .int (nI (kgn C.r (2 ^ C.p) x f n))] [] h := by
  have h2 := k2p_le e.I.2.1
  have hp := n_m e
  have g := nG e
  induction f with
  | zero =>
    intro n hn
    rw [uX1_gap_at42]
    simp (disch := omega) only [uX1_gap_at44, uX1_gap_at45, uX1_gap_at48, g, hp, zKK, zB, kgn]
  | succ f ih =>
    intro n hn
    have hlt : (x + n) % 2 ^ C.p < 2 ^ C.p := Nat.mod_lt _ (by omega)
    have r1 := g.2.2.2.2.2.2.2 ((x + n) % 2 ^ C.p) (by omega)
    have b1 := e.I.2.2.2.2.1 ((x + n) % 2 ^ C.p)
    have em : nI (x + n) &&& nI (2 ^ C.p - 1) = nI ((x + n) % 2 ^ C.p) := pk_andN (by omega) C.p (kun_of (by omega))
    rw [uX1_gap_at42]
    unfold kgn
    by_cases e1 : C.r ((x + n) % 2 ^ C.p) = 0
    · rw [if_pos e1, ← ih (n + 1) (by omega)]
      simp (disch := omega) only [uX1_gap_p0, uX1_gap_p1, g, hp, zKK, zB, zA, zA3, em, r1]
    · rw [if_neg e1]
      simp (disch := omega) only [uX1_gap_p0, uX1_gap_p1, g, hp, zKK, zB, zA, zA3, em, r1]
theorem d_gap_loop {a : Nat} {C : kC} (e : cN h D a C) (c : Int32) (k : Nat) : ∀ (x : Nat) (u : Value), x + k = 2 ^ C.p → ∃ u', zs PG mX1_gap 30 [.ref D, .int c, .ref a, .int (nI (kgp C.r (2 ^ C.p) x).1), .int (kgp C.r (2 ^ C.p) x).2, .int (nI x), u] [] h = zs PG mX1_gap 99 [.ref D, .int c, .ref a, .int (nI (kgp C.r (2 ^ C.p) (2 ^ C.p)).1), .int (kgp C.r (2 ^ C.p) (2 ^ C.p)).2, .int (nI (2 ^ C.p)), u'] [] h := by
  have h2 := k2p_le e.I.2.1
  have hp := n_m e
  have g := nG e
  induction k with
  | zero =>
    intro x u hx
    have hx : x = 2 ^ C.p := hx
    subst hx
    refine ⟨u, ?_⟩
    rw [uX1_gap_at30]
    simp (disch := omega) only [uX1_gap_at32, uX1_gap_at33, uX1_gap_at36, g, hp, zKK, zB]
  | succ k ih =>
    intro x u hx
    have l1 := kgp_le C.r (2 ^ C.p) x
    have l2 := kgn_le C.r (2 ^ C.p) x (2 ^ C.p) 0
    have ei := d_gap_inner e c (nI (kgp C.r (2 ^ C.p) x).1) (kgp C.r (2 ^ C.p) x).2 (x := x) (by omega) (2 ^ C.p) 0 (by omega)
    obtain ⟨u', r⟩ := ih (x + 1) (.int (nI (kgn C.r (2 ^ C.p) x (2 ^ C.p) 0))) (by omega)
    refine ⟨u', ?_⟩
    rw [← r, uX1_gap_at30, kgp]
    by_cases e1 : (kgp C.r (2 ^ C.p) x).1 < kgn C.r (2 ^ C.p) x (2 ^ C.p) 0
    · rw [if_pos e1]
      simp (disch := omega) only [uX1_gap_p0, uX1_gap_p1, g, hp, zKK, zB, zA, ei]
    · rw [if_neg e1]
      simp (disch := omega) only [uX1_gap_p0, uX1_gap_p1, g, hp, zKK, zB, zA, ei]
theorem D_gap (H : dW D B S h) (c : Int32) : ∃ h', zc PG mX1_gap [.ref D, .int c] h = some (.inl (some (.int (q_gap S c).1)), h') ∧ dQ D B (q_gap S c).2 h h' := by
  obtain ⟨al, X, R⟩ := H
  have f1 := hv1_F R.w c
  have R1 := R.nw f1
  unfold q_gap
  rcases kbd_cases c 0 5 with e | ⟨c, -, hc, rfl⟩
  · simp only [e, Bool.false_eq_true, if_false]
    refine ⟨hv1 h c, ?_, R1.q f1.A⟩
    simp (disch := omega) only [eX1_gap, uX1_gap_p0, uX1_gap_p1, zKK, zB, zBl, zBb, zlg, zA, zA3, zL3, km31, km63, klshr, kishr, k2p, kl1shl, klmask, kland1, kiand1, k_l2i, zrt_b, zrt_0, zrt_1, zdv_n, zdv_l, znew_k, zast_p0, zast_p2, d_are1, d_are2, d_are3, e]
  · have e := kbd_nI (Nat.zero_le c) hc (by omega)
    simp only [e, if_true]
    rw [kN_nI (by omega)]
    have c1 : cN (hv1 h (nI c)) D (al c) (S.c c) := R1.c (by omega)
    obtain ⟨u, el⟩ := d_gap_loop c1 (nI c) (2 ^ (S.c c).p) 0 zJ (by omega)
    simp only [kgp] at el
    obtain ⟨h2', X2, n1, R2, F2⟩ := d_row1 R1 (kgp (S.c c).r (2 ^ (S.c c).p) (2 ^ (S.c c).p)).2.toInt64
    refine ⟨h2', ?_, R2.q (f1.A.tr1 F2.E)⟩
    simp (disch := omega) only [eX1_gap, uX1_gap_p0, uX1_gap_p1, zKK, zB, zBl, zBb, zlg, zA, zA3, zL3, km31, km63, klshr, kishr, k2p, kl1shl, klmask, kland1, kiand1, k_l2i, zrt_b, zrt_0, zrt_1, zdv_n, zdv_l, znew_k, zast_p0, zast_p2, d_are1, d_are2, d_are3, e, dG R1, el, dGp R1, n1]
end DR
