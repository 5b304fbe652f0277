/-! THE COMPONENT: a mark goes -/
theorem kwo_self {m : Nat} {L : List Nat} (h : m ∉ L) : kwo m L = L := List.filter_eq_self.mpr (fun x hx => by simp; exact fun q => h (q ▸ hx))
theorem kwo_cons (m a : Nat) (L : List Nat) : kwo m (a :: L) = if a = m then kwo m L else a :: kwo m L := by
  unfold kwo
  rw [List.filter_cons]
  by_cases e : a = m
  · simp [e]
  · simp [e]
theorem kwo_get {m : Nat} {L : List Nat} (hs : ksrt L) (hm : m ∈ L) : (kwo m L).length + 1 = L.length ∧ ∀ k, (kwo m L).getD k 0 = if k < kpos m L then L.getD k 0 else L.getD (k + 1) 0 := by
  induction L with
  | nil => cases hm
  | cons a l ih =>
    have h1 := List.pairwise_cons.mp hs
    rw [kwo_cons]
    by_cases e : a = m
    · rw [if_pos e]
      have hn : m ∉ l := fun q => by have := h1.1 m q; omega
      rw [kwo_self hn]
      refine ⟨rfl, fun k => ?_⟩
      unfold kpos
      rw [if_neg (show ¬ a < m by omega), if_neg (Nat.not_lt_zero k), kget_s]
    · rw [if_neg e]
      have hm' : m ∈ l := by
        rcases List.mem_cons.mp hm with q | q
        · exact absurd q.symm e
        · exact q
      have hlt := h1.1 m hm'
      obtain ⟨i1, i2⟩ := ih h1.2 hm'
      refine ⟨by rw [List.length_cons, List.length_cons]; omega, fun k => ?_⟩
      unfold kpos
      rw [if_pos hlt]
      cases k with
      | zero => rw [if_pos (by omega)]; rfl
      | succ k =>
        rw [kget_s, i2 k, kget_s, kget_s]
        by_cases h2 : k < kpos m l
        · rw [if_pos h2, if_pos (by omega)]
        · rw [if_neg h2, if_neg (by omega)]
theorem c_drops_zero {D a n : Nat} {f : Nat → Int32} {C : kC} (a1 a2 : Int32) (k : Nat) : ∀ (x : Nat) (h : zH), x + k = 256 → cO h D a (a + 1) (a + 2) n f (C.p, C.l, C.d, C.m, kpf (fun _ => 0) C.r x) → ∃ h', zs PG mX2_drops 47 [.ref a, .int a1, .int a2, .int (nI x)] [] h = zs PG mX2_drops 69 [.ref a, .int a1, .int a2, .int (nI 0)] [] h' ∧ cO h' D a (a + 1) (a + 2) n f (C.p, C.l, C.d, C.m, kpf (fun _ => 0) C.r 256) ∧ cK (cA a) h h' := by
  induction k with
  | zero =>
    intro x h hx e
    have hx : x = 256 := hx
    subst hx
    refine ⟨h, ?_, e, cK.rf _ _⟩
    rw [uX2_drops_at47]
    simp (disch := omega) only [uX2_drops, zKK, zB, zBl, zBb, zlg, zA, zA3, zL3, km31, km63, klshr, kishr, k2p, kl1shl, klmask, kland1, kiand1, k_l2i, zrt_b, zrt_0, zrt_1, zdv_n, zdv_l]
  | succ k ih =>
    intro x h hx e
    obtain ⟨h1, p1, q1, k1⟩ := cw_r e (x := x) (r := 0) (by omega) (by omega)
    have q2 : cO h1 D a (a + 1) (a + 2) n f (C.p, C.l, C.d, C.m, kpf (fun _ => 0) C.r (x + 1)) := by rw [← kpf_up]; exact q1
    obtain ⟨h', r1, r2, r3⟩ := ih (x + 1) h1 (by omega) q2
    refine ⟨h', ?_, r2, (k1.mono (fun q z => Or.inr (Or.inr z))).trans r3⟩
    rw [← r1, uX2_drops_at47]
    simp (disch := omega) only [uX2_drops, zKK, zB, zBl, zBb, zlg, zA, zA3, zL3, km31, km63, klshr, kishr, k2p, kl1shl, klmask, kland1, kiand1, k_l2i, zrt_b, zrt_0, zrt_1, zdv_n, zdv_l, cg_r e, p1]
theorem c_drops_lay {D a n : Nat} {f : Nat → Int32} {P l : Nat} {d : Bool} {M L : List Nat} (h4 : 4 ≤ P) (h8 : P ≤ 8) (hn : n = L.length) (hn49 : n ≤ 49) (hf : ∀ k, k < n → f k = nI (L.getD k 0)) (hL : ∀ m ∈ L, m < 2 ^ 32) (a1 a2 : Int32) (k : Nat) : ∀ (i : Nat) (h : zH), i + k = n → cO h D a (a + 1) (a + 2) n f (P, l, d, M, klay P (fun _ => 0) (L.take i)) → ∃ h', zs PG mX2_drops 69 [.ref a, .int a1, .int a2, .int (nI i)] [] h = some (.inl (some (.int (nI 1))), h') ∧ cO h' D a (a + 1) (a + 2) n f (P, l, d, M, klay P (fun _ => 0) L) ∧ cK (cA a) h h' := by
  induction k with
  | zero =>
    intro i h hi e
    have hi : i = n := hi
    subst hi
    rw [hn, List.take_length] at e
    refine ⟨h, ?_, by rw [hn]; exact e, cK.rf _ _⟩
    have gn := cg_n e
    rw [hn, uX2_drops_at69]
    simp (disch := omega) only [uX2_drops, zKK, zB, zBl, zBb, zlg, zA, zA3, zL3, km31, km63, klshr, kishr, k2p, kl1shl, klmask, kland1, kiand1, k_l2i, zrt_b, zrt_0, zrt_1, zdv_n, zdv_l, gn]
  | succ k ih =>
    intro i h hi e
    have hi2 : i < L.length := by omega
    have hm : L.getD i 0 < 2 ^ 32 := hL _ (kget_mem hi2)
    obtain ⟨h1, p1, q1, k1⟩ := c_raises e (m := L.getD i 0) h4 h8 (fun y => klay_bound (show P ≤ 32 by omega) _ y) hm
    have hr1 := cr_m e (i := i) (by omega)
    rw [hf i (by omega)] at hr1
    have et : L.take (i + 1) = L.take i ++ [L.getD i 0] := by
      rw [List.take_succ, List.getD_eq_getElem?_getD, List.getElem?_eq_getElem hi2]
      rfl
    have q2 : cO h1 D a (a + 1) (a + 2) n f (P, l, d, M, klay P (fun _ => 0) (L.take (i + 1))) := by rw [et, klay_app]; exact q1
    obtain ⟨h', r1, r2, r3⟩ := ih (i + 1) h1 (by omega) q2
    refine ⟨h', ?_, r2, (k1.mono (fun q z => Or.inr (Or.inr z))).trans r3⟩
    rw [← r1, uX2_drops_at69]
    simp (disch := omega) only [uX2_drops, zKK, zB, zBl, zBb, zlg, zA, zA3, zL3, km31, km63, klshr, kishr, k2p, kl1shl, klmask, kland1, kiand1, k_l2i, zrt_b, zrt_0, zrt_1, zdv_n, zdv_l, cg_n e, cg_m e, hr1, cg_is e, p1]
theorem n_drops {h : zH} {D a : Nat} {C : kC} (w : hW h) (e : cN h D a C) (hd : C.d = false) {m : Nat} (hm : m < 4294967296) : ∃ h', zc PG mX2_drops [.ref a, .int (nI m)] h = some (.inl (some (.int (zb (decide (m ∈ C.m))))), h') ∧ cN h' D a (kdrop C m) ∧ hF (cA a) 0 0 h h' := by
  have e0 := e
  obtain ⟨n, f, e1, e2, iC⟩ := e
  obtain ⟨i4, i8, i1, i48, hr, hz, -, hL, hs, hl2, hlay⟩ := iC
  obtain ⟨hn49, hM⟩ := e2
  obtain ⟨hn, hf⟩ := hM hd
  have hl := kpos_le m C.m
  have hfd := c_find e1 ⟨hn49, hM⟩ e0.I hd hm
  by_cases hin : m ∈ C.m
  · rw [kfd_in hin] at hfd
    rw [decide_eq_true hin, zb_t]
    obtain ⟨g1, g2⟩ := kwo_get hs hin
    have hkp := ((kpos_mem hs).mp hin).1
    obtain ⟨h1, p1, q1, k1⟩ := cw_cp e1 (i := kpos m C.m + 1) (j := kpos m C.m) (k := n - kpos m C.m - 1) (by omega) (by omega)
    obtain ⟨h2, p2, q2, k2⟩ := cw_n q1 (n - 1)
    have q2' : cO h2 D a (a + 1) (a + 2) (n - 1) (va_cpy f f (kpos m C.m + 1) (kpos m C.m) (n - kpos m C.m - 1)) (C.p, C.l, C.d, C.m, kpf (fun _ => 0) C.r 0) := by rw [kpf_0]; exact q2
    obtain ⟨h3, p3, q3, k3⟩ := c_drops_zero (C := C) (nI m) (nI (kpos m C.m)) 256 0 h2 (Nat.zero_add _) q2'
    have ez : kpf (fun _ => 0) C.r 256 = fun _ => 0 := by
      funext y
      unfold kpf
      have := k2p_le i8
      by_cases z : y < 256
      · rw [if_pos z]
      · rw [if_neg z]; exact hz y (by omega)
    rw [ez] at q3
    have hf' : ∀ k, k < n - 1 → va_cpy f f (kpos m C.m + 1) (kpos m C.m) (n - kpos m C.m - 1) k = nI ((kwo m C.m).getD k 0) := by
      intro k hk
      rw [g2 k]
      unfold va_cpy
      by_cases z : k < kpos m C.m
      · rw [if_neg (by omega), if_pos z]; exact hf k (by omega)
      · rw [if_pos ⟨by omega, by omega⟩, if_neg z, show kpos m C.m + 1 + (k - kpos m C.m) = k + 1 by omega]; exact hf _ (by omega)
    obtain ⟨h4, p4, q4, k4⟩ := c_drops_lay (L := kwo m C.m) i4 i8 (show n - 1 = (kwo m C.m).length by omega) (by omega) hf' (fun x hx => hL x (List.mem_filter.mp hx).1) (nI m) (nI (kpos m C.m)) (n - 1) 0 h3 (Nat.zero_add _) q3
    rw [hd] at q4
    refine ⟨h4, ?_, ⟨n - 1, _, q4, ⟨by omega, fun _ => ⟨by show n - 1 = (kwo m C.m).length; omega, hf'⟩⟩, kI_drop m e0.I⟩, ?_⟩
    · rw [← p4, ← p3]
      simp (disch := omega) only [eX2_drops, uX2_drops, zKK, zB, zBl, zBb, zlg, zA, zA3, zL3, km31, km63, klshr, kishr, k2p, kl1shl, klmask, kland1, kiand1, k_l2i, zrt_b, zrt_0, zrt_1, zdv_n, zdv_l, cg_is e1, hfd, cg_m e1, cg_n e1, p1, cg_n q1, p2]
    · exact (((k1.mono (fun q z => Or.inr (Or.inl z))).trans (k2.mono (fun q z => Or.inl z))).trans k3).trans k4 |>.f w (e0.ltA w)
  · rw [kfd_out hin] at hfd
    rw [decide_eq_false hin, zb_f, kdrop_not e0.I hd hin]
    refine ⟨h, ?_, e0, hF.rf w _⟩
    simp (disch := omega) only [eX2_drops, uX2_drops, zKK, zB, zBl, zBb, zlg, zA, zA3, zL3, km31, km63, klshr, kishr, k2p, kl1shl, klmask, kland1, kiand1, k_l2i, zrt_b, zrt_0, zrt_1, zdv_n, zdv_l, cg_is e1, hfd, zBn]
