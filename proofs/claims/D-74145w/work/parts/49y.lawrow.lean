/-! THE LAW: rows, the switch, the loop -/
section LR
variable {D B s o n N M k i : Nat} {α : Nat → Nat} {f : Nat → Int32} {S : kS} {h h1 : zH} {x5 x6 : Value}
theorem w_row (Z : wZ D B s o α) (H1 : dW D B S h1) (hI : kSI S) (m1 : wM α S h1) (v1 : wV s o n f h1) (i : Int32) : (kix i S.w.length = false → ∃ h2 v, zc PG mX3_row [.ref (α 0), .int i] h1 = some (.inl (some (.long v)), h2) ∧ zc PG mX3_thrown [.ref (α 0)] h2 = some (.inl (some (.int (nI 1))), h2) ∧ dW D B S h2 ∧ wM α S h2 ∧ wV s o n f h2 ∧ h2.1 o = h1.1 o ∧ h2.2 = h1.2) ∧ (kix i S.w.length = true → ∃ h2, zc PG mX3_row [.ref (α 0), .int i] h1 = some (.inl (some (.long (S.w.getD (kN i) 0))), h2) ∧ zc PG mX3_thrown [.ref (α 0)] h2 = some (.inl (some (.int (nI 0))), h2) ∧ dW D B S h2 ∧ wM α S h2 ∧ wV s o n f h2 ∧ h2.1 o = h1.1 o ∧ h2.2 = h1.2) := by
  obtain ⟨σ, e, R⟩ := m1
  obtain ⟨r0, r1⟩ := M_row Z.1 σ h1 R hI i
  rw [← e] at r0 r1
  constructor
  · intro q
    obtain ⟨σ', v, c1, R', t⟩ := r0 q
    obtain ⟨a1, a2, a3⟩ := w_m Z H1 v1 σ' R'
    have th := t_thrown Z.1 σ' h1
    rw [t] at th
    exact ⟨_, v, c1, th, a1, a2, a3, mH_o σ' h1 (fun j hj => Z.2.2.2.2.2 j hj), rfl⟩
  · intro q
    obtain ⟨σ', c1, R', t⟩ := r1 q
    obtain ⟨a1, a2, a3⟩ := w_m Z H1 v1 σ' R'
    have th := t_thrown Z.1 σ' h1
    rw [t] at th
    exact ⟨_, c1, th, a1, a2, a3, mH_o σ' h1 (fun j hj => Z.2.2.2.2.2 j hj), rfl⟩
/-- the out array is written -/
theorem w_out (Z : wZ D B s o α) (H : dW D B S h) (m : wM α S h) (v : wV s o n f h) (w : Int64) : ∃ h1, zast h o 2 (nI 0) (.long w) = some h1 ∧ dW D B S h1 ∧ wM α S h1 ∧ wV s o n f h1 ∧ zald h1 o 2 (nI 0) = some (.long w) ∧ h1.2 = h.2 := by
  obtain ⟨hα, z1, z2, z3, z4, z5⟩ := Z
  obtain ⟨al, X, r⟩ := H
  obtain ⟨⟨b', g, e1, e2⟩, g', e3⟩ := v
  obtain ⟨σ, e, R⟩ := m
  have b := r.b
  have F := hF_up r.w (r.w.lt e3) (.inl (2, 1, zfu g' 0 (.long w)))
  have c : ∀ j, j ≤ 10 → (zup h o (.inl (2, 1, zfu g' 0 (.long w)))).1 (α j) = (mH α σ h).1 (α j) := fun j hj => by
    rw [zup_o _ _ (fun z => z5 j hj z.symm)]
    exact mH_self e _
  refine ⟨_, zast_u e3 (by omega) (by omega) rfl rfl, ⟨al, X, r.fr F (fun q hq z => by omega) (fun q h1 h2 z => by omega) (fun c hc q hq z => ?_)⟩, ⟨σ, mH_ext hα rfl ((c 0 (by omega)).trans (mH_0 _ _ _)) (fun j h1 h2 => (c j h2).trans (mH_j hα _ _ j h1 h2)) (fun q _ => rfl), R⟩, ⟨⟨b', g, (zup_o _ _ (by omega)).trans e1, e2⟩, _, zup_s _ _ _⟩, ?_, rfl⟩
  · have := r.pl hc
    rcases hq with rfl | rfl | rfl <;> omega
  · exact zald_k (zup_s _ _ _) (by omega) (by omega)
theorem L_row (Z : wZ D B s o α) (W : wW D B s o n α f N M k S h) (hi : i + 5 ≤ n) (hn : n < 2147483648) : wG D B s o n α f N M k i 2503 h x5 x6 := by
  obtain ⟨H, hI, m, v, l1, l2⟩ := W
  have z0 := v.a hn
  have i0 := H.is
  obtain ⟨r0, r1⟩ := D_row H hI (f (i + 1))
  cases q : kix (f (i + 1)) S.w.length with
  | false =>
    obtain ⟨h1, d1, H1, F⟩ := r0 q
    have hB : D + 34 ≤ B ∧ B ≤ h.2.1 := by obtain ⟨al, X, r⟩ := H; exact r.b
    have m1 := m.c Z hB.2 F
    have v1 := v.c Z (by omega) hB.2 F
    obtain ⟨h2, w, c1, c2, H2, m2, v2, -, e2⟩ := (w_row Z H1 hI m1 v1 (f (i + 1))).1 q
    have i1 := m1.is
    have i2 := m2.is
    have z1 := v1.a hn
    have hb := zbk_h (pg := PG) (j := 12) (k := 3) (M := mX0_row) (n := 7) (q := 5) (ls := [.ref D, .int (f (i + 1)), .ref o, zJ]) (st := [.int (nI 0), .ref o]) (l := [.ref D, .int (f (i + 1)), .ref o, zJ]) (h := h1) rfl
    have x : zc PG mX0_row [.ref D, .int (f (i + 1)), .ref o] h = some (.inl (some (.int (nI 1))), h1) := by
      simp (disch := omega) only [eX0_row, uX0_row, zKK, i0, d1, hb]
    refine ⟨S, h2, .int (nI 1), .long w, ?_, H2, hI, m2, v2, ?_, ?_⟩
    · simp (disch := omega) only [uL_law_p0, uL_law_p1, uL_law_p2, uL_law_p3, uL_law_p4, uL_law_p5, uL_law_p6, uL_law_p7, uL_law_p8, uL_law_p9, uL_law_p10, uL_law_p11, uL_law_p12, uL_law_p13, uL_law_p14, uL_law_p15, uL_law_p16, uL_law_p17, uL_law_p18, uL_law_p19, uL_law_p20, uL_law_p21, uL_law_p22, uL_law_p23, uL_law_p24, uL_law_p25, uL_law_p26, uL_law_p27, zKK, zA, zlg, z0, x, z1, i1, c1, i2, c2, eq_self, zB]
    · rw [e2]; exact w_ar F.2.2.2.1 l1
    · rw [e2]; exact w_ar F.2.2.2.2.1 l2
  | true =>
    have d1 := r1 q
    obtain ⟨h1, p1, H1, m1, v1, ld, e1⟩ := w_out Z H m v (S.w.getD (kN (f (i + 1))) 0)
    obtain ⟨h2, c1, c2, H2, m2, v2, o2, e2⟩ := (w_row Z H1 hI m1 v1 (f (i + 1))).2 q
    have i1 := m1.is
    have i2 := m2.is
    have z1 := v1.a hn
    have ld2 : zald h2 o 2 (nI 0) = some (.long (S.w.getD (kN (f (i + 1))) 0)) := by
      rw [← ld]
      unfold zald
      rw [o2]
    have x : zc PG mX0_row [.ref D, .int (f (i + 1)), .ref o] h = some (.inl (some (.int (nI 0))), h1) := by
      simp (disch := omega) only [eX0_row, uX0_row, zKK, i0, d1, p1]
    refine ⟨S, h2, .int (nI 0), .long (S.w.getD (kN (f (i + 1))) 0), ?_, H2, hI, m2, v2, ?_, ?_⟩
    · simp (disch := omega) only [uL_law_p0, uL_law_p1, uL_law_p2, uL_law_p3, uL_law_p4, uL_law_p5, uL_law_p6, uL_law_p7, uL_law_p8, uL_law_p9, uL_law_p10, uL_law_p11, uL_law_p12, uL_law_p13, uL_law_p14, uL_law_p15, uL_law_p16, uL_law_p17, uL_law_p18, uL_law_p19, uL_law_p20, uL_law_p21, uL_law_p22, uL_law_p23, uL_law_p24, uL_law_p25, uL_law_p26, uL_law_p27, zKK, zA, zlg, z0, x, z1, i1, c1, i2, c2, eq_self, ld2, zB]
    · rw [e2, e1]; exact w_ar (Nat.le_add_right _ _) l1
    · rw [e2, e1]; exact w_ar (Nat.le_add_right _ _) l2
end LR
