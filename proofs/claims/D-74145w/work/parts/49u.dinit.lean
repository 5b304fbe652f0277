/-! THE COMPONENT IS MADE -/
theorem kdn1 : nI 0 + (-1) < nI 0 := by decide
section LY
variable {h : zH} {D p : Nat} {a0 : Value} {fs : List Value}
theorem lay_loop (eo : h.1 D = some (true, .inr (1, a0 :: .ref (D + 2) :: fs))) (eg : h.1 (D + 2) = some (true, .inl (5, 9, fun i => .ref (D + 3 + i)))) (h8 : p ≤ 8) : ∀ i (g : Nat → Value), i < 2 ^ p → (∀ z, i < z → z ≤ 2 ^ p → g z = .int (nI (ktb p z))) → ∃ g', zs PG mX1_lays 8 [.ref D, .int (nI p), .int (nI (2 ^ p)), .int (nI i)] [] (zup h (D + 3 + p) (.inl (0, 257, g))) = some (.inl none, zup h (D + 3 + p) (.inl (0, 257, g'))) ∧ ∀ z, z ≤ 2 ^ p → g' z = .int (nI (ktb p z)) := by
  have h2 := k2p_le h8
  intro i
  induction i with
  | zero =>
    intro g hi hg
    have o := (zup_o h (a := D + 3 + p) (q := D) (.inl (0, 257, g)) (by omega)).trans eo
    have g2 := (zup_o h (a := D + 3 + p) (q := D + 2) (.inl (0, 257, g)) (by omega)).trans eg
    have g0 : zget (zup h (D + 3 + p) (.inl (0, 257, g))) D 1 1 = some (.ref (D + 2)) := by unfold zget; rw [o]; rfl
    have l1 := zald_k g2 (i := p) (by omega) (by omega)
    have l2 := zald_k (zup_s h (D + 3 + p) (.inl (0, 257, g))) (i := 1) (by omega) (by omega)
    rw [hg 1 (by omega) (by omega)] at l2
    have st : ktb p 0 = ktb p 1 + 1000 * 2 ^ p / 1 := ktb_step hi
    have p1 : zast (zup h (D + 3 + p) (.inl (0, 257, g))) (D + 3 + p) 0 (nI 0) (.int (nI (ktb p 0))) = some (zup h (D + 3 + p) (.inl (0, 257, zfu g 0 (.int (nI (ktb p 0)))))) := by
      rw [zast_u (zup_s _ _ _) (by omega) (by omega) rfl rfl, zup_up]
    have v := ktb_le h8 1
    have q := eq_true kdn1
    refine ⟨zfu g 0 (.int (nI (ktb p 0))), ?_, fun z hz => ?_⟩
    · rw [st] at p1 ⊢
      rw [uX1_lays_at8]
      simp (disch := omega) only [uX1_lays, zKK, zB, zBl, zBb, zlg, zA, zA3, zL3, km31, km63, klshr, kishr, k2p, kl1shl, klmask, kland1, kiand1, k_l2i, zrt_b, zrt_0, zrt_1, zdv_n, zdv_l, g0, l1, l2, p1, uX1_lays_at8, q]
    · unfold zfu
      by_cases z0 : z = 0
      · rw [if_pos z0, z0]
      · rw [if_neg z0]
        exact hg z (by omega) hz
  | succ i ih =>
    intro g hi hg
    have o := (zup_o h (a := D + 3 + p) (q := D) (.inl (0, 257, g)) (by omega)).trans eo
    have g2 := (zup_o h (a := D + 3 + p) (q := D + 2) (.inl (0, 257, g)) (by omega)).trans eg
    have g0 : zget (zup h (D + 3 + p) (.inl (0, 257, g))) D 1 1 = some (.ref (D + 2)) := by unfold zget; rw [o]; rfl
    have l1 := zald_k g2 (i := p) (by omega) (by omega)
    have l2 := zald_k (zup_s h (D + 3 + p) (.inl (0, 257, g))) (i := i + 1 + 1) (by omega) (by omega)
    rw [hg (i + 1 + 1) (by omega) (by omega)] at l2
    have st := ktb_step hi
    have p1 : zast (zup h (D + 3 + p) (.inl (0, 257, g))) (D + 3 + p) 0 (nI (i + 1)) (.int (nI (ktb p (i + 1)))) = some (zup h (D + 3 + p) (.inl (0, 257, zfu g (i + 1) (.int (nI (ktb p (i + 1))))))) := by
      rw [zast_u (zup_s _ _ _) (by omega) (by omega) rfl rfl, zup_up]
    have v := ktb_le h8 (i + 1 + 1)
    obtain ⟨g', k1, k2⟩ := ih (zfu g (i + 1) (.int (nI (ktb p (i + 1))))) (by omega) (fun z hz1 hz2 => by
      unfold zfu
      by_cases z0 : z = i + 1
      · rw [if_pos z0, z0]
      · rw [if_neg z0]
        exact hg z (by omega) hz2)
    refine ⟨g', ?_, k2⟩
    rw [st] at p1 k1
    rw [← k1, uX1_lays_at8]
    simp (disch := omega) only [uX1_lays, zKK, zB, zBl, zBb, zlg, zA, zA3, zL3, km31, km63, klshr, kishr, k2p, kl1shl, klmask, kland1, kiand1, k_l2i, zrt_b, zrt_0, zrt_1, zdv_n, zdv_l, g0, l1, l2, p1, Nat.add_sub_cancel]
theorem d_lays (eo : h.1 D = some (true, .inr (1, a0 :: .ref (D + 2) :: fs))) (eg : h.1 (D + 2) = some (true, .inl (5, 9, fun i => .ref (D + 3 + i)))) (h8 : p ≤ 8) {g : Nat → Value} (et : h.1 (D + 3 + p) = some (true, .inl (0, 257, g))) (g0 : g (2 ^ p) = .int (nI 0)) : ∃ g', zc PG mX1_lays [.ref D, .int (nI p)] h = some (.inl none, zup h (D + 3 + p) (.inl (0, 257, g'))) ∧ ∀ z, z ≤ 2 ^ p → g' z = .int (nI (ktb p z)) := by
  have h2 := k2p_le h8
  have h1 : 0 < 2 ^ p := Nat.pow_pos (by decide)
  have es : zup h (D + 3 + p) (.inl (0, 257, g)) = h := by
    refine Prod.ext (funext fun q => ?_) rfl
    show (if q = D + 3 + p then some (true, .inl (0, 257, g)) else h.1 q) = h.1 q
    by_cases z : q = D + 3 + p
    · rw [if_pos z, z, et]
    · rw [if_neg z]
  obtain ⟨g', k1, k2⟩ := lay_loop eo eg h8 (2 ^ p - 1) g (by omega) (fun z hz1 hz2 => by
    have : z = 2 ^ p := by omega
    rw [this, g0, ktb_end])
  rw [es] at k1
  refine ⟨g', ?_, k2⟩
  simp (disch := omega) only [eX1_lays, uX1_lays, zKK, zB, zBl, zBb, zlg, zA, zA3, zL3, km31, km63, klshr, kishr, k2p, kl1shl, klmask, kland1, kiand1, k_l2i, zrt_b, zrt_0, zrt_1, zdv_n, zdv_l, kishl', Nat.one_mul, k1]
end LY
theorem zrows_k {h : zH} (w : hW h) (k n : Nat) : (zrows h k n).2.1 = h.2.1 + n ∧ hF hN n (n * k) h (zrows h k n) ∧ ∀ i, i < n → (zrows h k n).1 (h.2.1 + i) = some (true, .inl (0, k, fun _ => .int 0)) := by
  induction n with
  | zero => exact ⟨rfl, by rw [Nat.zero_mul]; exact hF.rf w _, fun i hi => absurd hi (Nat.not_lt_zero _)⟩
  | succ n ih =>
    obtain ⟨e1, F, e2⟩ := ih
    have f1 := hF_push F.1 (.inl (0, k, fun _ => .int 0)) k
    refine ⟨?_, ?_, fun i hi => ?_⟩
    · show (zrows h k n).2.1 + 1 = _
      omega
    · have := F.tr1 f1
      rw [Nat.succ_mul]
      exact this
    · by_cases z : i = n
      · rw [z, ← e1]
        exact zpush_s _ _ _
      · exact zpush_f F.1 _ _ (e2 i (by omega))
theorem zgrid_k {h : zH} (w : hW h) : (zgrid h 9 257).2.1 = h.2.1 + 10 ∧ hF hN 10 2322 h (zgrid h 9 257) ∧ (zgrid h 9 257).1 h.2.1 = some (true, .inl (5, 9, fun i => .ref (h.2.1 + 1 + i))) ∧ ∀ i, i < 9 → (zgrid h 9 257).1 (h.2.1 + 1 + i) = some (true, .inl (0, 257, fun _ => .int 0)) := by
  have f1 := hF_push w (.inl (5, 9, fun i => .ref (h.2.1 + 1 + i))) 9
  have s1 := zpush_s h (.inl (5, 9, fun i => .ref (h.2.1 + 1 + i))) 9
  obtain ⟨e1, F, e2⟩ := zrows_k f1.1 257 9
  refine ⟨e1, (f1.tr1 F).up (fun _ _ z => z) (by omega) (by omega), F.at f1.1 s1 (fun z => z), fun i hi => e2 i hi⟩
/-- a field of what is being made is put -/
theorem tU_put {h0 h : zH} {n s : Nat} (F : hF hN n s h0 h) {fs : List Value} (e : h.1 h0.2.1 = some (true, .inr (1, fs))) {k ty : Nat} {v : Value} (hk : k < fs.length) (hv : zkind ty v = true) : ∃ h', zput h h0.2.1 1 k ty v = some h' ∧ h'.1 h0.2.1 = some (true, .inr (1, fs.set k v)) ∧ (∀ q, q ≠ h0.2.1 → h'.1 q = h.1 q) ∧ h'.2.1 = h.2.1 ∧ hF hN n s h0 h' ∧ hF (fun q => q = h0.2.1) 0 0 h h' := by
  have f := hF_up F.1 (F.1.lt e) (.inr (1, fs.set k v))
  exact ⟨_, zput_u e hk hv, zup_s _ _ _, fun q hq => zup_o _ _ hq, rfl, F.tr f (fun q hq z => by omega), f⟩
def dO0 : List Value := [.null, .null, .int 0, .int 0, .null, .null, .int 0, .int 0, .int 0, .null, .int 0, .null, .int 0]
/-- the tables below k are laid -/
def tU (h0 h : zH) (k : Nat) : Prop := hF hN 12 2340 h0 h ∧ h.2.1 = h0.2.1 + 12 ∧ h.1 h0.2.1 = some (true, .inr (1, [.ref (h0.2.1 + 1), .ref (h0.2.1 + 2), .int 0, .int 0, .null, .null, .int 0, .int 0, .int 0, .null, .int 0, .null, .int 0])) ∧ (∃ g, h.1 (h0.2.1 + 1) = some (true, .inl (0, 5, g)) ∧ ∀ p, 4 ≤ p → p ≤ 8 → g (p - 4) = .int (nI (kalpha p))) ∧ h.1 (h0.2.1 + 2) = some (true, .inl (5, 9, fun i => .ref (h0.2.1 + 3 + i))) ∧ ∀ p, p ≤ 8 → ∃ g, h.1 (h0.2.1 + 3 + p) = some (true, .inl (0, 257, g)) ∧ (4 ≤ p → p < k → ∀ z, z ≤ 2 ^ p → g z = .int (nI (ktb p z))) ∧ (k ≤ p → ∀ z, g z = .int (nI 0))
theorem tU_first {h0 : zH} (w0 : hW h0) (a b : Int32) : ∃ h, zs PG mX1_init_2 0 [.ref h0.2.1, .int a, .int b, zJ] [] (zpush h0 (.inr (1, dO0)) 13) = zs PG mX1_init_2 56 [.ref h0.2.1, .int a, .int b, .int (nI 4)] [] h ∧ tU h0 h 4 := by
  have f1 := hF_push w0 (.inr (1, dO0)) 13
  have s1 := zpush_s h0 (.inr (1, dO0)) 13
  have hh1 : (zpush h0 (.inr (1, dO0)) 13).2.1 = h0.2.1 + 1 := rfl
  generalize zpush h0 (.inr (1, dO0)) 13 = h1 at *
  have f2 := hF_push f1.1 (.inl (0, 5, zfu (zfu (zfu (zfu (zfu (fun _ => zdef 0) 0 (.int (nI 673))) 1 (.int (nI 697))) 2 (.int (nI 709))) 3 (.int (nI 715))) 4 (.int (nI 718)))) 5
  have s2 := zpush_f f1.1 (.inl (0, 5, zfu (zfu (zfu (zfu (zfu (fun _ => zdef 0) 0 (.int (nI 673))) 1 (.int (nI 697))) 2 (.int (nI 709))) 3 (.int (nI 715))) 4 (.int (nI 718)))) 5 s1
  have a2 := zpush_s h1 (.inl (0, 5, zfu (zfu (zfu (zfu (zfu (fun _ => zdef 0) 0 (.int (nI 673))) 1 (.int (nI 697))) 2 (.int (nI 709))) 3 (.int (nI 715))) 4 (.int (nI 718)))) 5
  have hh2 : (zpush h1 (.inl (0, 5, zfu (zfu (zfu (zfu (zfu (fun _ => zdef 0) 0 (.int (nI 673))) 1 (.int (nI 697))) 2 (.int (nI 709))) 3 (.int (nI 715))) 4 (.int (nI 718)))) 5).2.1 = h1.2.1 + 1 := rfl
  have r1 : zs PG mX1_init_2 0 [.ref h0.2.1, .int a, .int b, zJ] [] h1 = zwr PG (zput (zpush h1 (.inl (0, 5, zfu (zfu (zfu (zfu (zfu (fun _ => zdef 0) 0 (.int (nI 673))) 1 (.int (nI 697))) 2 (.int (nI 709))) 3 (.int (nI 715))) 4 (.int (nI 718)))) 5) h0.2.1 1 0 3 (.ref h1.2.1)) mX1_init_2 41 [.ref h0.2.1, .int a, .int b, zJ] [] := by
    simp (disch := omega) only [uX1_init_2_p0, uX1_init_2_p1, zKK, zB, zBl, zBb, zlg, zA, zA3, zL3, km31, km63, klshr, kishr, k2p, kl1shl, klmask, kland1, kiand1, k_l2i, zrt_b, zrt_0, zrt_1, zdv_n, zdv_l, znew_k, zast_p0]
  generalize zpush h1 (.inl (0, 5, zfu (zfu (zfu (zfu (zfu (fun _ => zdef 0) 0 (.int (nI 673))) 1 (.int (nI 697))) 2 (.int (nI 709))) 3 (.int (nI 715))) 4 (.int (nI 718)))) 5 = h2 at *
  rw [hh1] at a2 hh2 r1
  obtain ⟨h3, p3, s3, o3, hh3, F3, -⟩ := tU_put (f1.tr1 f2) s2 (k := 0) (ty := 3) (v := .ref (h0.2.1 + 1)) (Nat.le_of_ble_eq_true rfl) rfl
  obtain ⟨g1, g2, g3, g4⟩ := zgrid_k F3.1
  have s4 := g2.at F3.1 s3 (fun z => z)
  have a3 := (o3 (h0.2.1 + 1) (by omega)).trans a2
  have a4 := g2.at F3.1 a3 (fun z => z)
  have r2 : zs PG mX1_init_2 41 [.ref h0.2.1, .int a, .int b, zJ] [] h3 = zwr PG (zput (zgrid h3 9 257) h0.2.1 1 1 3 (.ref h3.2.1)) mX1_init_2 54 [.ref h0.2.1, .int a, .int b, zJ] [] := by
    simp (disch := omega) only [uX1_init_2_p0, uX1_init_2_p1, zKK, zB, zBl, zBb, zlg, zA, zA3, zL3, km31, km63, klshr, kishr, k2p, kl1shl, klmask, kland1, kiand1, k_l2i, zrt_b, zrt_0, zrt_1, zdv_n, zdv_l]
  have hh3' : h3.2.1 = h0.2.1 + 2 := by omega
  generalize zgrid h3 9 257 = h4 at *
  rw [hh3'] at g1 g3 g4 r2
  obtain ⟨h5, p5, s5, o5, hh5, F5, -⟩ := tU_put (F3.tr1 g2) s4 (k := 1) (ty := 3) (v := .ref (h0.2.1 + 2)) (Nat.le_of_ble_eq_true rfl) rfl
  refine ⟨h5, ?_, F5.up (fun _ _ z => z) (by omega) (by omega), by omega, s5, ⟨_, (o5 _ (by omega)).trans a4, fun p h4 h8 => ?_⟩, (o5 _ (by omega)).trans g3, fun p h8 => ⟨_, (o5 _ (by omega)).trans (g4 p (by omega)), fun q1 q2 => absurd q1 (by omega), fun _ _ => rfl⟩⟩
  · rw [r1, p3]
    simp only [zKK]
    rw [r2, p5]
    simp (disch := omega) only [uX1_init_2_p0, uX1_init_2_p1, zKK, zB, zBl, zBb, zlg, zA, zA3, zL3, km31, km63, klshr, kishr, k2p, kl1shl, klmask, kland1, kiand1, k_l2i, zrt_b, zrt_0, zrt_1, zdv_n, zdv_l]
  · have : p = 4 ∨ p = 5 ∨ p = 6 ∨ p = 7 ∨ p = 8 := by omega
    rcases this with rfl | rfl | rfl | rfl | rfl <;> rfl
theorem tU_lays {h0 : zH} (a b : Int32) (j : Nat) : ∀ k h, k + j = 9 → 4 ≤ k → tU h0 h k → ∃ h', zs PG mX1_init_2 56 [.ref h0.2.1, .int a, .int b, .int (nI k)] [] h = zs PG mX1_init_2 73 [.ref h0.2.1, .int a, .int b, .int (nI 9)] [] h' ∧ tU h0 h' 9 := by
  induction j with
  | zero =>
    intro k h hk h4 e
    have hk : k = 9 := by omega
    subst hk
    refine ⟨h, ?_, e⟩
    rw [uX1_init_2_at56]
    simp (disch := omega) only [uX1_init_2_p0, uX1_init_2_p1, zKK, zB, zBl, zBb, zlg, zA, zA3, zL3, km31, km63, klshr, kishr, k2p, kl1shl, klmask, kland1, kiand1, k_l2i, zrt_b, zrt_0, zrt_1, zdv_n, zdv_l]
  | succ j ih =>
    intro k h hk h4 e
    obtain ⟨F, e1, e2, ⟨g, e3, e4⟩, e5, e6⟩ := e
    obtain ⟨g0, t1, t2, t3⟩ := e6 k (by omega)
    obtain ⟨g', k1, k2⟩ := d_lays e2 e5 (p := k) (by omega) t1 (t3 (Nat.le_refl _) _)
    have gi : zis h h0.2.1 1 = true := by unfold zis; rw [e2]; rfl
    have f := hF_up F.1 (a := h0.2.1 + 3 + k) (by omega) (.inl (0, 257, g'))
    obtain ⟨h', r1, r2⟩ := ih (k + 1) (zup h (h0.2.1 + 3 + k) (.inl (0, 257, g'))) (by omega) (by omega) ⟨(F.tr f (fun q hq z => by omega)).up (fun _ _ z => z) (by omega) (by omega), e1, (zup_o _ _ (by omega)).trans e2, ⟨g, (zup_o _ _ (by omega)).trans e3, e4⟩, (zup_o _ _ (by omega)).trans e5, fun p hp => by
      by_cases z : p = k
      · subst z
        exact ⟨g', zup_s _ _ _, fun _ _ => k2, fun q => absurd q (by omega)⟩
      · obtain ⟨g2, u1, u2, u3⟩ := e6 p hp
        exact ⟨g2, (zup_o _ _ (by omega)).trans u1, fun q1 q2 => u2 q1 (by omega), fun q => u3 (by omega)⟩⟩
    refine ⟨h', ?_, r2⟩
    rw [← r1, uX1_init_2_at56]
    simp (disch := omega) only [uX1_init_2_p0, uX1_init_2_p1, zKK, zB, zBl, zBb, zlg, zA, zA3, zL3, km31, km63, klshr, kishr, k2p, kl1shl, klmask, kland1, kiand1, k_l2i, zrt_b, zrt_0, zrt_1, zdv_n, zdv_l, gi, k1]
theorem tU.t {h0 h : zH} (e : tU h0 h 9) : dT h h0.2.1 := by
  obtain ⟨F, e1, e2, e3, e5, e6⟩ := e
  exact ⟨⟨_, e2⟩, e3, e5, fun p h4 h8 => by
    obtain ⟨g, u1, u2, -⟩ := e6 p h8
    exact ⟨g, u1, u2 h4 (by omega)⟩⟩
