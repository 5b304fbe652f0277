/-! THE COMPONENT IS MADE: its counters and arrays -/
/-- c counters are there -/
def cU (h0 h : zH) (c : Nat) : Prop := hF hN (13 + 3 * c) (2346 + 312 * c) h0 h ∧ h.2.1 = h0.2.1 + 13 + 3 * c ∧ h.1 h0.2.1 = some (true, .inr (1, [.ref (h0.2.1 + 1), .ref (h0.2.1 + 2), .int (nI 1), .int 0, .ref (h0.2.1 + 12), .null, .int 0, .int 0, .int 0, .null, .int 0, .null, .int 0])) ∧ dT h h0.2.1 ∧ h.1 (h0.2.1 + 12) = some (true, .inl (3, 6, fun d => if d < c then .ref (h0.2.1 + 13 + 3 * d) else .null)) ∧ ∀ d, d < c → cN h h0.2.1 (h0.2.1 + 13 + 3 * d) (kopen 4 12)
theorem dT.at {h h' : zH} {D : Nat} (e : dT h D) {fs : List Value} (e1 : h'.1 D = some (true, .inr (1, .ref (D + 1) :: .ref (D + 2) :: fs))) (k : ∀ q, D < q → q < D + 12 → h'.1 q = h.1 q) : dT h' D := by
  obtain ⟨-, ⟨g, e2, e3⟩, e4, e5⟩ := e
  refine ⟨⟨fs, e1⟩, ⟨g, (k _ (by omega) (by omega)).trans e2, e3⟩, (k _ (by omega) (by omega)).trans e4, fun p h4 h8 => ?_⟩
  obtain ⟨g, e6, e7⟩ := e5 p h4 h8
  exact ⟨g, (k _ (by omega) (by omega)).trans e6, e7⟩
theorem cU_first {h0 h : zH} (a b : Int32) (e : tU h0 h 9) : ∃ h', zs PG mX1_init_2 73 [.ref h0.2.1, .int a, .int b, .int (nI 9)] [] h = zs PG mX1_init_2 89 [.ref h0.2.1, .int a, .int b, .int (nI 0)] [] h' ∧ cU h0 h' 0 := by
  have t := e.t
  obtain ⟨F, e1, e2, -, -, -⟩ := e
  obtain ⟨h1, p1, s1, o1, hh1, F1, -⟩ := tU_put F e2 (k := 2) (ty := 0) (v := .int (nI 1)) (Nat.le_of_ble_eq_true rfl) rfl
  have f2 := hF_push F1.1 (.inl (3, 6, fun _ => zdef 3)) 6
  have s2 := zpush_f F1.1 (.inl (3, 6, fun _ => zdef 3)) 6 s1
  have a2 := zpush_s h1 (.inl (3, 6, fun _ => zdef 3)) 6
  have o2 : ∀ q, q < h1.2.1 → (zpush h1 (.inl (3, 6, fun _ => zdef 3)) 6).1 q = h1.1 q := fun q hq => f2.2.1 q hq (fun z => z)
  have hh2 : (zpush h1 (.inl (3, 6, fun _ => zdef 3)) 6).2.1 = h1.2.1 + 1 := rfl
  have r1 : zs PG mX1_init_2 73 [.ref h0.2.1, .int a, .int b, .int (nI 9)] [] h = zwr PG (zput (zpush h1 (.inl (3, 6, fun _ => zdef 3)) 6) h0.2.1 1 4 3 (.ref h1.2.1)) mX1_init_2 87 [.ref h0.2.1, .int a, .int b, .int (nI 9)] [] := by
    simp (disch := omega) only [uX1_init_2_p0, uX1_init_2_p1, zKK, zB, zBl, zBb, zlg, zA, zA3, zL3, km31, km63, klshr, kishr, k2p, kl1shl, klmask, kland1, kiand1, k_l2i, zrt_b, zrt_0, zrt_1, zdv_n, zdv_l, p1, znew_k]
  generalize zpush h1 (.inl (3, 6, fun _ => zdef 3)) 6 = h2 at *
  have hh1' : h1.2.1 = h0.2.1 + 12 := by omega
  rw [hh1'] at a2 hh2 r1 o2
  obtain ⟨h3, p3, s3, o3, hh3, F3, -⟩ := tU_put (F1.tr1 f2) s2 (k := 4) (ty := 3) (v := .ref (h0.2.1 + 12)) (Nat.le_of_ble_eq_true rfl) rfl
  refine ⟨h3, ?_, F3.up (fun _ _ z => z) (by omega) (by omega), by omega, s3, t.at s3 (fun q h1 h2 => ?_), ?_, fun d hd => absurd hd (Nat.not_lt_zero _)⟩
  · rw [r1, p3]
    simp (disch := omega) only [uX1_init_2_p0, uX1_init_2_p1, zKK, zB, zBl, zBb, zlg, zA, zA3, zL3, km31, km63, klshr, kishr, k2p, kl1shl, klmask, kland1, kiand1, k_l2i, zrt_b, zrt_0, zrt_1, zdv_n, zdv_l]
  · rw [o3 q (by omega), o2 q (by omega), o1 q (by omega)]
  · rw [o3 _ (by omega), a2]
    rfl
theorem cU_loop {h0 : zH} (a b : Int32) (j : Nat) : ∀ c h, c + j = 6 → cU h0 h c → ∃ h', zs PG mX1_init_2 89 [.ref h0.2.1, .int a, .int b, .int (nI c)] [] h = zs PG mX1_init_2 118 [.ref h0.2.1, .int a, .int b, .int (nI 6)] [] h' ∧ cU h0 h' 6 := by
  induction j with
  | zero =>
    intro c h hc e
    have hc : c = 6 := by omega
    subst hc
    refine ⟨h, ?_, e⟩
    rw [uX1_init_2_at89]
    simp (disch := omega) only [uX1_init_2_p0, uX1_init_2_p1, zKK, zB, zBl, zBb, zlg, zA, zA3, zL3, km31, km63, klshr, kishr, k2p, kl1shl, klmask, kland1, kiand1, k_l2i, zrt_b, zrt_0, zrt_1, zdv_n, zdv_l]
  | succ j ih =>
    intro c h hc e
    obtain ⟨F, e1, e2, t, e3, e4⟩ := e
    have w := F.1
    have g0 : zget h h0.2.1 1 4 = some (.ref (h0.2.1 + 12)) := by unfold zget; rw [e2]; rfl
    have fN := hNew_F w h0.2.1 4 12
    have nN := hNew_N (h := h) h0.2.1 (p := 4) (l := 12) (by decide) (by decide) (by decide) (by decide)
    have nn := n_new h h0.2.1 4 12
    have hhN : (hNew h h0.2.1 4 12).2.1 = h.2.1 + 3 := rfl
    generalize hNew h h0.2.1 4 12 = h1 at *
    have c1 := fN.at w e3 (fun z => z)
    have d1 := fN.at w e2 (fun z => z)
    have z1 : zasg h1 3 (.ref h.2.1) = true := by
      obtain ⟨n, f, q, -, -⟩ := nN
      exact zasg3 q.1
    have p1 := zast_u (v := .ref h.2.1) c1 (i := c) (by omega) (by omega) z1 rfl
    have f2 := hF_up fN.1 (a := h0.2.1 + 12) (by omega) (.inl (3, 6, zfu (fun d => if d < c then .ref (h0.2.1 + 13 + 3 * d) else .null) c (.ref h.2.1)))
    have F2 := F.tr1 fN
    obtain ⟨h', r1, r2⟩ := ih (c + 1) (zup h1 (h0.2.1 + 12) (.inl (3, 6, zfu (fun d => if d < c then .ref (h0.2.1 + 13 + 3 * d) else .null) c (.ref h.2.1)))) (by omega) ⟨(F2.tr f2 (fun q hq z => by omega)).up (fun _ _ z => z) (by omega) (by omega), by show h1.2.1 = _; omega, (zup_o _ _ (by omega)).trans d1, (t.nw w fN).fr fN.1 f2 (fun q _ _ => by omega), by
        rw [zup_s]
        congr 5
        funext d
        unfold zfu
        by_cases z : d = c
        · rw [if_pos z, if_pos (by omega), e1, z]
        · rw [if_neg z]
          dsimp only
          by_cases z2 : d < c
          · rw [if_pos z2, if_pos (by omega)]
          · rw [if_neg z2, if_neg (by omega)], fun d hd => by
        by_cases z : d = c
        · rw [z, ← e1]
          exact nN.fr fN.1 f2 (fun q hq z => by have := cA_ge hq; omega)
        · exact ((e4 d (by omega)).nw w fN).fr fN.1 f2 (fun q hq z => by have := cA_ge hq; omega)⟩
    refine ⟨h', ?_, r2⟩
    rw [← r1, uX1_init_2_at89]
    simp (disch := omega) only [uX1_init_2_p0, uX1_init_2_p1, zKK, zB, zBl, zBb, zlg, zA, zA3, zL3, km31, km63, klshr, kishr, k2p, kl1shl, klmask, kland1, kiand1, k_l2i, zrt_b, zrt_0, zrt_1, zdv_n, zdv_l, g0, nn, p1]
def dX0 : dX := (0, 0, 0, fun _ => 0, fun _ => 0, fun _ => 0)
def dal (D : Nat) : Nat → Nat := fun c => D + 13 + 3 * c
theorem cU_last {h0 h : zH} (w0 : hW h0) (K : dC h0 h0.2.1) (e : cU h0 h 6) : ∃ h', zs PG mX1_init_2 118 [.ref h0.2.1, .int (nI 1), .int (nI 0), .int (nI 6)] [] h = some (.inl none, h') ∧ dR h' h0.2.1 (h0.2.1 + 34) (dal h0.2.1) kS0 dX0 ∧ h'.2.1 = h0.2.1 + 34 ∧ hF hN 34 5424 h0 h' := by
  obtain ⟨F, e1, e2, t, e3, e4⟩ := e
  have f1 := hF_push F.1 (.inl (0, 600, fun _ => zdef 0)) 600
  have s1 := zpush_f F.1 (.inl (0, 600, fun _ => zdef 0)) 600 e2
  have a1 := zpush_s h (.inl (0, 600, fun _ => zdef 0)) 600
  have hh1 : (zpush h (.inl (0, 600, fun _ => zdef 0)) 600).2.1 = h.2.1 + 1 := rfl
  have r1 : zs PG mX1_init_2 118 [.ref h0.2.1, .int (nI 1), .int (nI 0), .int (nI 6)] [] h = zwr PG (zput (zpush h (.inl (0, 600, fun _ => zdef 0)) 600) h0.2.1 1 5 3 (.ref h.2.1)) mX1_init_2 127 [.ref h0.2.1, .int (nI 1), .int (nI 0), .int (nI 6)] [] := by
    simp (disch := omega) only [uX1_init_2_p0, uX1_init_2_p1, zKK, zB, zBl, zBb, zlg, zA, zA3, zL3, km31, km63, klshr, kishr, k2p, kl1shl, klmask, kland1, kiand1, k_l2i, zrt_b, zrt_0, zrt_1, zdv_n, zdv_l, znew_k]
  generalize zpush h (.inl (0, 600, fun _ => zdef 0)) 600 = h1 at *
  rw [e1] at a1 hh1 r1
  obtain ⟨h2, p2, s2, o2, hh2, F2, f2⟩ := tU_put (F.tr1 f1) s1 (k := 5) (ty := 3) (v := .ref (h0.2.1 + 13 + 3 * 6)) (Nat.le_of_ble_eq_true rfl) rfl
  have f3 := hF_push F2.1 (.inl (0, 600, fun _ => zdef 0)) 600
  have s3 := zpush_f F2.1 (.inl (0, 600, fun _ => zdef 0)) 600 s2
  have a3 := zpush_s h2 (.inl (0, 600, fun _ => zdef 0)) 600
  have hh3 : (zpush h2 (.inl (0, 600, fun _ => zdef 0)) 600).2.1 = h2.2.1 + 1 := rfl
  have r2 : zs PG mX1_init_2 127 [.ref h0.2.1, .int (nI 1), .int (nI 0), .int (nI 6)] [] h2 = zwr PG (zput (zpush h2 (.inl (0, 600, fun _ => zdef 0)) 600) h0.2.1 1 9 3 (.ref h2.2.1)) mX1_init_2 136 [.ref h0.2.1, .int (nI 1), .int (nI 0), .int (nI 6)] [] := by
    simp (disch := omega) only [uX1_init_2_p0, uX1_init_2_p1, zKK, zB, zBl, zBb, zlg, zA, zA3, zL3, km31, km63, klshr, kishr, k2p, kl1shl, klmask, kland1, kiand1, k_l2i, zrt_b, zrt_0, zrt_1, zdv_n, zdv_l, znew_k]
  generalize zpush h2 (.inl (0, 600, fun _ => zdef 0)) 600 = h3 at *
  have hh2' : h2.2.1 = h0.2.1 + 32 := by omega
  rw [hh2'] at a3 hh3 r2
  obtain ⟨h4, p4, s4, o4, hh4, F4, f4⟩ := tU_put (F2.tr1 f3) s3 (k := 9) (ty := 3) (v := .ref (h0.2.1 + 32)) (Nat.le_of_ble_eq_true rfl) rfl
  have f5 := hF_push F4.1 (.inl (2, 6, fun _ => zdef 2)) 6
  have s5 := zpush_f F4.1 (.inl (2, 6, fun _ => zdef 2)) 6 s4
  have a5 := zpush_s h4 (.inl (2, 6, fun _ => zdef 2)) 6
  have hh5 : (zpush h4 (.inl (2, 6, fun _ => zdef 2)) 6).2.1 = h4.2.1 + 1 := rfl
  have r3 : zs PG mX1_init_2 136 [.ref h0.2.1, .int (nI 1), .int (nI 0), .int (nI 6)] [] h4 = zwr PG (zput (zpush h4 (.inl (2, 6, fun _ => zdef 2)) 6) h0.2.1 1 11 3 (.ref h4.2.1)) mX1_init_2 144 [.ref h0.2.1, .int (nI 1), .int (nI 0), .int (nI 6)] [] := by
    simp (disch := omega) only [uX1_init_2_p0, uX1_init_2_p1, zKK, zB, zBl, zBb, zlg, zA, zA3, zL3, km31, km63, klshr, kishr, k2p, kl1shl, klmask, kland1, kiand1, k_l2i, zrt_b, zrt_0, zrt_1, zdv_n, zdv_l, znew_k]
  generalize zpush h4 (.inl (2, 6, fun _ => zdef 2)) 6 = h5 at *
  have hh4' : h4.2.1 = h0.2.1 + 33 := by omega
  rw [hh4'] at a5 hh5 r3
  obtain ⟨h6, p6, s6, o6, hh6, F6, f6⟩ := tU_put (F4.tr1 f5) s5 (k := 11) (ty := 3) (v := .ref (h0.2.1 + 33)) (Nat.le_of_ble_eq_true rfl) rfl
  obtain ⟨h7, p7, s7, o7, hh7, F7, f7⟩ := tU_put F6 s6 (k := 2) (ty := 0) (v := .int (nI 1)) (Nat.le_of_ble_eq_true rfl) rfl
  obtain ⟨h8, p8, s8, o8, hh8, F8, f8⟩ := tU_put F7 s7 (k := 3) (ty := 0) (v := .int (nI 0)) (Nat.le_of_ble_eq_true rfl) rfl
  have G : hF (fun q => q = h0.2.1) (0 + 3) (0 + 1206) h h8 := ((((((f1.new (A := fun q => q = h0.2.1)).tr1 f2).tr1 f3.new).tr1 f4).tr1 f5.new).tr1 f6 |>.tr1 f7 |>.tr1 f8).up (fun _ _ z => z) (by omega) (by omega)
  have w := F.1
  have G' : ∀ q, q < h.2.1 → q ≠ h0.2.1 → h8.1 q = h.1 q := G.2.1
  have FF : hF hN 34 5424 h0 h8 := F8.up (fun _ _ z => z) (by omega) (by omega)
  refine ⟨h8, ?_, ⟨FF.1, s8, t.at s8 (fun q h1 h2 => G' q (by omega) (by omega)), ?_, ?_, ?_, ?_, fun c hc => ?_, fun c d hc hd z => ?_, fun c hc => Or.inl ?_, ⟨Nat.le_refl _, by omega⟩, fun k hk => absurd hk (Nat.not_lt_zero _), fun k hk => absurd hk (Nat.not_lt_zero _), K.fr w0 FF (fun _ _ z => z)⟩, by omega, FF⟩
  · rw [r1, p2]
    simp only [zKK]
    rw [r2, p4]
    simp only [zKK]
    rw [r3, p6]
    simp (disch := omega) only [uX1_init_2_p0, uX1_init_2_p1, zKK, zB, zBl, zBb, zlg, zA, zA3, zL3, km31, km63, klshr, kishr, k2p, kl1shl, klmask, kland1, kiand1, k_l2i, zrt_b, zrt_0, zrt_1, zdv_n, zdv_l, p7, p8]
  · exact (G' _ (by omega) (by omega)).trans e3
  · rw [o8 _ (by omega), o7 _ (by omega), o6 _ (by omega), f5.2.1 _ (by omega) (fun z => z), o4 _ (by omega), f3.2.1 _ (by omega) (fun z => z), o2 _ (by omega)]
    exact a1
  · rw [o8 _ (by omega), o7 _ (by omega), o6 _ (by omega), f5.2.1 _ (by omega) (fun z => z), o4 _ (by omega)]
    exact a3
  · rw [o8 _ (by omega), o7 _ (by omega), o6 _ (by omega)]
    exact a5
  · exact (e4 c hc).fr w G (fun q hq z => by have := cA_ge hq; omega)
  · unfold dal at z; omega
  · unfold dal; omega
theorem D_init {h0 : zH} (w0 : hW h0) (K : dC h0 h0.2.1) : ∃ h', zc PG mX1_init [.ref h0.2.1] (zpush h0 (.inr (1, dO0)) 13) = some (.inl none, h') ∧ dR h' h0.2.1 (h0.2.1 + 34) (dal h0.2.1) kS0 dX0 ∧ h'.2.1 = h0.2.1 + 34 ∧ hF hN 34 5424 h0 h' := by
  obtain ⟨h1, k1, e1⟩ := tU_first w0 (nI 1) (nI 0)
  obtain ⟨h2, k2, e2⟩ := tU_lays (nI 1) (nI 0) 5 4 h1 rfl (by decide) e1
  obtain ⟨h3, k3, e3⟩ := cU_first (nI 1) (nI 0) e2
  obtain ⟨h4, k4, e4⟩ := cU_loop (nI 1) (nI 0) 6 0 h3 rfl e3
  obtain ⟨h5, k5, R, l, F⟩ := cU_last w0 K e4
  refine ⟨h5, ?_, R, l, F⟩
  have k : zc PG mX1_init_2 [.ref h0.2.1, .int (nI 1), .int (nI 0)] (zpush h0 (.inr (1, dO0)) 13) = some (.inl none, h5) := by
    rw [eX1_init_2, k1, k2, k3, k4, k5]
  simp (disch := omega) only [eX1_init, uX1_init, zKK, zB, zBl, zBb, zlg, zA, zA3, zL3, km31, km63, klshr, kishr, k2p, kl1shl, klmask, kland1, kiand1, k_l2i, zrt_b, zrt_0, zrt_1, zdv_n, zdv_l, k]
/-- the line behind which new counters lie may be drawn later -/
theorem dR.up {h : zH} {D B : Nat} {S : kS} {X : dX} (R : dR h D (D + 34) (dal D) S X) (hB : D + 34 ≤ B) (hB2 : B ≤ h.2.1) : dR h D B (dal D) S X :=
  ⟨R.w, R.o, R.t, R.cs, R.tx, R.th, R.rw, fun c => R.c, fun c d => R.inj, fun c hc => Or.inl (by unfold dal; omega), ⟨hB, hB2⟩, fun k => R.xt, fun k => R.wr, R.k⟩
