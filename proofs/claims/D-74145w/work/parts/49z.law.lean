/-! THE LAW: the switch and the loop -/
def wT : List Nat := [292, 329, 354, 391, 440, 477, 538, 563, 588, 613, 650, 675, 712, 749, 798, 835, 916, 953, 1002, 1051, 1100, 1125, 1150, 1187, 1224, 1261, 1299, 1336, 1397, 1435, 1485, 1510, 1535, 1560, 1597, 1623, 1660, 1698, 1736, 1773, 1798, 1824, 1861, 1898, 1911, 1948, 1973, 2034, 2095, 2132, 2169, 2230, 2291, 2317, 2342, 2391, 2416, 2453, 2478, 2503]
theorem kiand63 {n : Nat} (hn : n < 2 ^ 32) : nI n &&& nI 63 = nI (n % 64) := by
  apply Int32.toBitVec_inj.mp
  apply BitVec.eq_of_toNat_eq
  show (BitVec.ofNat 32 n &&& BitVec.ofNat 32 63).toNat = (BitVec.ofNat 32 (n % 64)).toNat
  rw [BitVec.toNat_and, BitVec.toNat_ofNat, BitVec.toNat_ofNat, BitVec.toNat_ofNat, Nat.mod_eq_of_lt hn, show 63 % 2 ^ 32 = 2 ^ 6 - 1 from rfl, Nat.and_two_pow_sub_one_eq_mod]
  omega
theorem zsw_k (ts : List Nat) (d : Nat) {t : Nat} (ht : t < 2147483648) : zsw 0 ts d (nI t) = (znth ts t).getD d := by
  unfold zsw
  rw [nI_toInt (by omega), if_neg (by omega)]
  congr 2
section LP
variable {D B s o n N M k i : Nat} {α : Nat → Nat} {f : Nat → Int32} {S : kS} {h : zH} {x5 x6 : Value}
theorem w_idle (W : wW D B s o n α f N M k S h) : wG D B s o n α f N M k i 2558 h x5 x6 := ⟨S, h, x5, x6, rfl, W.1, W.2.1, W.2.2.1, W.2.2.2.1, w_ar (Nat.le_add_right _ _) W.2.2.2.2.1, w_ar (Nat.le_add_right _ _) W.2.2.2.2.2⟩
theorem w_case (Z : wZ D B s o α) (W : wW D B s o n α f N M k S h) (hi : i + 5 ≤ n) (hn : n < 2147483648) (t : Nat) (ht : t < 64) : wG D B s o n α f N M k i ((znth wT t).getD 2558) h x5 x6 := by
  match t, ht with
  | 0, _ => exact L_mixes Z W hi hn
  | 1, _ => exact L_mark Z W hi hn
  | 2, _ => exact L_place Z W hi hn
  | 3, _ => exact L_opens Z W hi hn
  | 4, _ => exact L_adds Z W hi hn
  | 5, _ => exact L_runs Z W hi hn
  | 6, _ => exact L_sign Z W hi hn
  | 7, _ => exact L_end Z W hi hn
  | 8, _ => exact L_tells Z W hi hn
  | 9, _ => exact L_takes Z W hi hn
  | 10, _ => exact L_dense Z W hi hn
  | 11, _ => exact L_folds Z W hi hn
  | 12, _ => exact L_copies Z W hi hn
  | 13, _ => exact L_joins Z W hi hn
  | 14, _ => exact L_gathers Z W hi hn
  | 15, _ => exact L_puts Z W hi hn
  | 16, _ => exact L_swaps Z W hi hn
  | 17, _ => exact L_keeps Z W hi hn
  | 18, _ => exact L_less Z W hi hn
  | 19, _ => exact L_splits Z W hi hn
  | 20, _ => exact L_guess Z W hi hn
  | 21, _ => exact L_roughly Z W hi hn
  | 22, _ => exact L_form Z W hi hn
  | 23, _ => exact L_rank Z W hi hn
  | 24, _ => exact L_ranks Z W hi hn
  | 25, _ => exact L_marked Z W hi hn
  | 26, _ => exact L_may Z W hi hn
  | 27, _ => exact L_first Z W hi hn
  | 28, _ => exact L_bits Z W hi hn
  | 29, _ => exact L_slice Z W hi hn
  | 30, _ => exact L_runsOf Z W hi hn
  | 31, _ => exact L_replays Z W hi hn
  | 32, _ => exact L_gap Z W hi hn
  | 33, _ => exact L_table Z W hi hn
  | 34, _ => exact L_all Z W hi hn
  | 35, _ => exact L_lacks Z W hi hn
  | 36, _ => exact L_common Z W hi hn
  | 37, _ => exact L_alone Z W hi hn
  | 38, _ => exact L_alike Z W hi hn
  | 39, _ => exact L_nearest Z W hi hn
  | 40, _ => exact L_meet Z W hi hn
  | 41, _ => exact L_unlike Z W hi hn
  | 42, _ => exact L_apart Z W hi hn
  | 43, _ => exact L_order Z W hi hn
  | 44, _ => exact L_within Z W hi hn
  | 45, _ => exact L_cover Z W hi hn
  | 46, _ => exact L_errs Z W hi hn
  | 47, _ => exact L_least Z W hi hn
  | 48, _ => exact L_expects Z W hi hn
  | 49, _ => exact L_things Z W hi hn
  | 50, _ => exact L_would Z W hi hn
  | 51, _ => exact L_reaches Z W hi hn
  | 52, _ => exact L_over Z W hi hn
  | 53, _ => exact L_chain Z W hi hn
  | 54, _ => exact L_lessers Z W hi hn
  | 55, _ => exact L_greedy Z W hi hn
  | 56, _ => exact L_written Z W hi hn
  | 57, _ => exact L_reads Z W hi hn
  | 58, _ => exact L_count Z W hi hn
  | 59, _ => exact L_row Z W hi hn
  | 60, _ => exact w_idle W
  | 61, _ => exact w_idle W
  | 62, _ => exact w_idle W
  | 63, _ => exact w_idle W
  | t + 64, ht => exact absurd ht (by omega)
theorem w_call (Z : wZ D B s o α) (W : wW D B s o n α f N M k S h) (hi : i + 5 ≤ n) (hn : n < 2147483648) : ∃ S' h' y5 y6, zs PG mL_law 32 [.ref s, .ref D, .ref (α 0), .ref o, .int (nI i), x5, x6, zJ] [] h = zs PG mL_law 23 [.ref s, .ref D, .ref (α 0), .ref o, .int (nI (i + 5)), y5, y6, zJ] [] h' ∧ wW D B s o n α f N M (k + 1) S' h' := by
  have z0 := W.2.2.2.1.a hn
  obtain ⟨S', h', y5, y6, c, W'⟩ := w_case (x5 := x5) (x6 := x6) Z W hi hn (kun (f i) % 64) (by omega)
  refine ⟨S', h', y5, y6, ?_, W'⟩
  have e : f i &&& nI 63 = nI (kun (f i) % 64) := by rw [← kiand63 (kun_lt _), kun_nI]
  have e2 := zsw_k wT 2558 (t := kun (f i) % 64) (by omega)
  unfold wT at e2 c
  rw [← e2] at c
  simp (disch := omega) only [uL_law_at32, uL_law_at33, uL_law_at35, uL_law_at36, uL_law_at38, uL_law_at39, zKK, z0, e]
  rw [c]
  simp only [uL_law_at2558, uL_law_at2561, zA]
theorem kn5 : ∀ n, n < 5 → nI n - nI 5 < nI 0 := by decide
theorem w_loop (Z : wZ D B s o α) (hn : n < 2147483648) (j : Nat) : ∀ k S h x5 x6, n ≤ 5 * k + j → 5 * k ≤ n → wW D B s o n α f N M k S h → ∃ h' k', zs PG mL_law 23 [.ref s, .ref D, .ref (α 0), .ref o, .int (nI (5 * k)), x5, x6, zJ] [] h = some (.inl (some (.int (nI 1))), h') ∧ 5 * k' ≤ n ∧ h'.2.1 ≤ N + 9000 * k' ∧ h'.2.2.1 ≤ M + 100000 * k' := by
  induction j with
  | zero =>
    intro k S h x5 x6 hj hk W
    have ln : zlen h s = some (.int (nI n)) := by
      obtain ⟨⟨b, g, e, -⟩, -⟩ := W.2.2.2.1
      exact zlen_k e
    refine ⟨h, k, ?_, hk, W.2.2.2.2⟩
    by_cases z : n < 5
    · have hk0 : k = 0 := by omega
      subst hk0
      have q := eq_true (kn5 n z)
      simp only [uL_law_at23, uL_law_at25, uL_law_at26, uL_law_at27, uL_law_at28, uL_law_at29, uL_law_at2564, uL_law_at2565, zKK, ln, Nat.mul_zero, q, zrt_1]
    · have q := eq_true (nI_lt (a := n - 5) (b := 5 * k) (by omega) (by omega))
      have e5 : nI n - nI 5 = nI (n - 5) := zA3.1 n 5 (by omega)
      simp only [uL_law_at23, uL_law_at25, uL_law_at26, uL_law_at27, uL_law_at28, uL_law_at29, uL_law_at2564, uL_law_at2565, zKK, ln, e5, q, zrt_1]
  | succ j ih =>
    intro k S h x5 x6 hj hk W
    have ln : zlen h s = some (.int (nI n)) := by
      obtain ⟨⟨b, g, e, -⟩, -⟩ := W.2.2.2.1
      exact zlen_k e
    by_cases z : n < 5
    · refine ⟨h, k, ?_, hk, W.2.2.2.2⟩
      have hk0 : k = 0 := by omega
      subst hk0
      have q := eq_true (kn5 n z)
      simp only [uL_law_at23, uL_law_at25, uL_law_at26, uL_law_at27, uL_law_at28, uL_law_at29, uL_law_at2564, uL_law_at2565, zKK, ln, Nat.mul_zero, q, zrt_1]
    · have e5 : nI n - nI 5 = nI (n - 5) := zA3.1 n 5 (by omega)
      by_cases z2 : n < 5 * k + 5
      · refine ⟨h, k, ?_, hk, W.2.2.2.2⟩
        have q := eq_true (nI_lt (a := n - 5) (b := 5 * k) (by omega) (by omega))
        simp only [uL_law_at23, uL_law_at25, uL_law_at26, uL_law_at27, uL_law_at28, uL_law_at29, uL_law_at2564, uL_law_at2565, zKK, ln, e5, q, zrt_1]
      · obtain ⟨S', h', y5, y6, c, W'⟩ := w_call (x5 := x5) (x6 := x6) (i := 5 * k) Z W (by omega) hn
        obtain ⟨h2, k2, c2, b2⟩ := ih (k + 1) S' h' y5 y6 (by omega) (by omega) W'
        refine ⟨h2, k2, ?_, b2⟩
        have q := eq_false (nI_nlt (a := n - 5) (b := 5 * k) (by omega) (by omega))
        rw [← c2, show 5 * (k + 1) = 5 * k + 5 by omega, ← c]
        simp only [uL_law_at23, uL_law_at25, uL_law_at26, uL_law_at27, uL_law_at28, uL_law_at29, zKK, ln, e5, q]
end LP
/-- the law answers 1 -/
theorem P_law {h0 : zH} (w0 : hW h0) (K : dC h0 h0.2.1) {s n : Nat} {f : Nat → Int32} {b : Bool} {g : Nat → Value} (es : h0.1 s = some (b, .inl (0, n, g))) (eg : ∀ k, k < n → g k = .int (f k)) (hn : n ≤ 320) : ∃ h', zc PG mL_law [.ref s] h0 = some (.inl (some (.int (nI 1))), h') ∧ h'.2.1 ≤ h0.2.1 + 576046 ∧ h'.2.2.1 ≤ h0.2.2.1 + 6410156 := by
  obtain ⟨h1, d1, R1, l1, F1⟩ := D_init w0 K
  have f2 := hF_push F1.1 (.inr (3, mF)) 19
  have s2 := zpush_s h1 (.inr (3, mF)) 19
  have hh2 : (zpush h1 (.inr (3, mF)) 19).2.1 = h1.2.1 + 1 := rfl
  have w2 := f2.1
  have r1 : zc PG mL_law [.ref s] h0 = zbk PG (zc PG mX3_init [.ref h1.2.1] (zpush h1 (.inr (3, mF)) 19)) none mL_law 15 [.ref s, .ref h0.2.1, zJ, zJ, zJ, zJ, zJ, zJ] [.ref h1.2.1] := by
    unfold dO0 at d1
    unfold mF
    simp only [eL_law, uL_law_at0, uL_law_at3, uL_law_at4, uL_law_at7, uL_law_at8, uL_law_at11, uL_law_at12, zKK, d1]
  generalize hg2 : zpush h1 (.inr (3, mF)) 19 = h2 at *
  obtain ⟨σ, m1, R6⟩ := M_init (h := h2) (a := h1.2.1) (by omega) s2
  have hα := mal_D (a := h1.2.1) (N := h2.2.1) (by omega)
  have ha : ∀ j, j ≤ 10 → h0.2.1 + 34 ≤ mal h1.2.1 h2.2.1 j ∧ mal h1.2.1 h2.2.1 j < h0.2.1 + 45 := fun j hj => by
    unfold mal
    split <;> omega
  have e0 : mal h1.2.1 h2.2.1 0 = h1.2.1 := if_pos rfl
  generalize mal h1.2.1 h2.2.1 = α at *
  have c3 : ∀ q, (∀ j, j ≤ 10 → q ≠ α j) → (mH α σ (h2.1, h2.2.1 + 10, h2.2.2.1 + 4712, h2.2.2.2)).1 q = h2.1 q := fun q hq => mH_o σ _ hq
  have c4 : ∀ j, j ≤ 10 → (mH α σ (h2.1, h2.2.1 + 10, h2.2.2.1 + 4712, h2.2.2.2)).1 (α j) = (mH α σ h0).1 (α j) := fun j hj => by
    by_cases z : 1 ≤ j
    · rw [mH_j hα _ _ j z hj, mH_j hα _ _ j z hj]
    · have : j = 0 := by omega
      subst this
      rw [mH_0, mH_0]
  have n3 : (mH α σ (h2.1, h2.2.1 + 10, h2.2.2.1 + 4712, h2.2.2.2)).2.1 = h2.2.1 + 10 := rfl
  have t3 : (mH α σ (h2.1, h2.2.1 + 10, h2.2.2.1 + 4712, h2.2.2.2)).2.2.1 = h2.2.2.1 + 4712 := rfl
  have v3 : (mH α σ (h2.1, h2.2.1 + 10, h2.2.2.1 + 4712, h2.2.2.2)).2.2.2 = h2.2.2.2 := rfl
  generalize mH α σ (h2.1, h2.2.1 + 10, h2.2.2.1 + 4712, h2.2.2.2) = h3 at *
  have f3 : hF hN 11 4731 h1 h3 := by
    refine ⟨fun q hq => ?_, fun q hq _ => ?_, by omega, by omega, ?_, ?_⟩
    · rw [c3 q (fun j hj z => by have := ha j hj; omega)]
      exact w2 q (by omega)
    · rw [c3 q (fun j hj z => by have := ha j hj; omega)]
      exact f2.2.1 q hq (fun z => z)
    · have := f2.2.2.2.2.1
      omega
    · rw [v3]; exact f2.2.2.2.2.2
  have f4 := hF_push f3.1 (.inl (2, 1, fun _ => zdef 2)) 1
  have s4 := zpush_s h3 (.inl (2, 1, fun _ => zdef 2)) 1
  have hh4 : (zpush h3 (.inl (2, 1, fun _ => zdef 2)) 1).2.1 = h3.2.1 + 1 := rfl
  have hh4' : (zpush h3 (.inl (2, 1, fun _ => zdef 2)) 1).2.2.1 = h3.2.2.1 + 1 := rfl
  have r2 : zs PG mL_law 15 [.ref s, .ref h0.2.1, zJ, zJ, zJ, zJ, zJ, zJ] [.ref h1.2.1] h3 = zs PG mL_law 23 [.ref s, .ref h0.2.1, .ref h1.2.1, .ref h3.2.1, .int (nI 0), zJ, zJ, zJ] [] (zpush h3 (.inl (2, 1, fun _ => zdef 2)) 1) := by
    simp (disch := omega) only [uL_law_at15, uL_law_at16, uL_law_at17, uL_law_at19, uL_law_at20, uL_law_at21, zKK, znew_k]
  generalize zpush h3 (.inl (2, 1, fun _ => zdef 2)) 1 = h4 at *
  have R4 := ((R1.nw f3).nw f4).up (B := h0.2.1 + 46) (by omega) (by omega)
  have ls := w0.lt es
  have F4 := (F1.tr1 f3).tr1 f4
  have es4 : h4.1 s = _ := (F4.2.1 s ls (fun z => z)).trans es
  have Z : wZ h0.2.1 (h0.2.1 + 46) s h3.2.1 α := ⟨hα, fun j hj => by have := ha j hj; omega, ls, by omega, by omega, fun j hj z => by have := ha j hj; omega⟩
  have c5 : ∀ j, j ≤ 10 → h4.1 (α j) = (mH α σ h0).1 (α j) := fun j hj => by
    have := ha j hj
    rw [f4.2.1 (α j) (by omega) (fun z => z)]
    exact c4 j hj
  have W : wW h0.2.1 (h0.2.1 + 46) s h3.2.1 n α f h4.2.1 h4.2.2.1 0 kS0 h4 := ⟨⟨_, _, R4⟩, kSI0, ⟨σ, mH_ext hα rfl ((c5 0 (by omega)).trans (mH_0 _ _ _)) (fun j h1 h2 => (c5 j h2).trans (mH_j hα _ _ j h1 h2)) (fun q _ => rfl), R6⟩, ⟨⟨b, g, es4, eg⟩, _, s4⟩, Nat.le_refl _, Nat.le_refl _⟩
  obtain ⟨h5, k5, c6, k6, b1, b2⟩ := w_loop Z (by omega) n 0 kS0 h4 zJ zJ (by omega) (by omega) W
  refine ⟨h5, ?_, ?_, ?_⟩
  · rw [r1, m1]
    simp only [zKK]
    rw [e0] at c6
    rw [r2]
    exact c6
  · have k64 : k5 ≤ 64 := by omega
    have : 9000 * k5 ≤ 9000 * 64 := Nat.mul_le_mul_left _ k64
    omega
  · have k64 : k5 ≤ 64 := by omega
    have : 100000 * k5 ≤ 100000 * 64 := Nat.mul_le_mul_left _ k64
    have := F1.2.2.2.2.1
    have := f3.2.2.2.2.1
    omega
