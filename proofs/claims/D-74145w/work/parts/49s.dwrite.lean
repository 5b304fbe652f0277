/-! THE COMPONENT: a text that grows (StringBuilder) -/
theorem k8b : ∀ c, c < 128 → (nI c).toInt8.toInt32 = nI c := by decide +kernel
theorem k8a : ∀ c, c < 128 → nI c &&& nI 255 = nI c := by decide +kernel
theorem k8c : ∀ c, c < 128 → ((nI c).toUInt32 % 65536).toInt32 = nI c := by decide +kernel
theorem kn10 : ∀ x, x < 100 → ((-10 < -(nI x)) ↔ x < 10) := by decide +kernel
theorem kn100 : ∀ x, x < 100 → ((nI 10 * (-10) < -(nI x)) ∧ (-100 < -(nI x))) := by decide +kernel
theorem kn9 : ∀ x, x < 100 → ((-(nI x) < -9) ↔ 10 ≤ x) := by decide +kernel
theorem knn (x : Int32) : - -x = x := Int32.neg_neg
theorem kNneg {n c : Nat} (h : n ≤ c) (hc : c < 1000) : ¬ nI 0 < nI n - nI c := by
  intro q
  have q := Int32.lt_iff_toInt_lt.mp q
  rw [Int32.toInt_sub, nI_toInt (by omega), nI_toInt (by omega), nI_toInt (by omega)] at q
  unfold Int.bmod at q
  dsimp only at q
  split at q <;> omega
theorem kgA (L : List Nat) (c k : Nat) (hk : k < L.length) : (L ++ [c]).getD k 0 = L.getD k 0 := by
  simp [List.getD, List.getElem?_append_left hk]
theorem kgS (L : List Nat) (c : Nat) : (L ++ [c]).getD L.length 0 = c := by
  simp [List.getD]
/-- the signs of a text that is built from h0 on -/
def sB (h0 h : zH) (b n : Nat) (L : List Nat) : Prop := ∃ (v cap : Nat) (g : Nat → Value), h.1 b = some (true, .inr (6, [.ref v, .int (nI 0), .int (nI 0), .int (nI L.length)])) ∧ h.1 v = some (true, .inl (4, cap, g)) ∧ (∀ k, k < L.length → g k = .int (nI (L.getD k 0))) ∧ v ≠ b ∧ h0.2.1 ≤ b ∧ h0.2.1 ≤ v ∧ hF hN cap (4 + 2 * cap) h0 h ∧ L.length ≤ cap ∧ n ≤ cap ∧ cap ≤ 800 ∧ 16 ≤ cap ∧ (cap % 8 = 0 ∨ cap % 8 = 2 ∨ cap % 8 = 6)
theorem sB.is {h0 h : zH} {b n : Nat} {L : List Nat} (e : sB h0 h b n L) : zis h b 6 = true := by
  obtain ⟨v, cap, g, e1, -⟩ := e
  unfold zis; rw [e1]; rfl
theorem sB.fr {h0 h : zH} {b n : Nat} {L : List Nat} (e : sB h0 h b n L) : hF hN 800 1604 h0 h := by
  obtain ⟨v, cap, g, e1, e2, e3, e4, e5, e6, F, e7, e8, e9, -⟩ := e
  exact F.up (fun _ _ z => z) (by omega) (by omega)
theorem zg6 {h : zH} {b : Nat} {t : Bool} {x0 x1 x2 x3 : Value} (e : h.1 b = some (t, .inr (6, [x0, x1, x2, x3]))) : zget h b 6 0 = some x0 ∧ zget h b 6 1 = some x1 ∧ zget h b 6 2 = some x2 ∧ zget h b 6 3 = some x3 ∧ zis h b 6 = true := by
  refine ⟨?_, ?_, ?_, ?_, ?_⟩
  · unfold zget; rw [e]; rfl
  · unfold zget; rw [e]; rfl
  · unfold zget; rw [e]; rfl
  · unfold zget; rw [e]; rfl
  · unfold zis; rw [e]; rfl
theorem zlen_k {h : zH} {a t n : Nat} {b : Bool} {g : Nat → Value} (e : h.1 a = some (b, .inl (t, n, g))) : zlen h a = some (.int (nI n)) := by unfold zlen; rw [e]
theorem s_init {h0 : zH} (w : hW h0) : ∃ h', zc PG mJ5_init [.ref h0.2.1] (zpush h0 (.inr (6, [.null, .int 0, .int 0, .int 0])) 4) = some (.inl none, h') ∧ sB h0 h' h0.2.1 0 [] := by
  have f1 := hF_push w (.inr (6, [.null, .int 0, .int 0, .int 0])) 4
  have hh : (zpush h0 (.inr (6, [.null, .int 0, .int 0, .int 0])) 4).2.1 = h0.2.1 + 1 := rfl
  have s1 := zpush_s h0 (.inr (6, [.null, .int 0, .int 0, .int 0])) 4
  generalize zpush h0 (.inr (6, [.null, .int 0, .int 0, .int 0])) 4 = h1 at *
  have f2 := hF_push f1.1 (.inl (4, 16, fun _ => zdef 4)) 16
  have s2 := zpush_f f1.1 (.inl (4, 16, fun _ => zdef 4)) 16 s1
  have s3 := zpush_s h1 (.inl (4, 16, fun _ => zdef 4)) 16
  have hk : znew h1 4 (nI 16) = some (zpush h1 (.inl (4, 16, fun _ => zdef 4)) 16) := znew_k h1 4 (by omega)
  have hh2 : (zpush h1 (.inl (4, 16, fun _ => zdef 4)) 16).2.1 = h1.2.1 + 1 := rfl
  generalize zpush h1 (.inl (4, 16, fun _ => zdef 4)) 16 = h2 at *
  have p1 : zput h2 h0.2.1 6 0 3 (.ref h1.2.1) = some (zup h2 h0.2.1 (.inr (6, [.ref h1.2.1, .int 0, .int 0, .int 0]))) := zput_u s2 (Nat.le_of_ble_eq_true rfl) rfl
  have f3 := hF_up f2.1 (a := h0.2.1) (by omega) (.inr (6, [.ref h1.2.1, .int 0, .int 0, .int 0]))
  have s4 := zup_s h2 h0.2.1 (.inr (6, [.ref h1.2.1, .int 0, .int 0, .int 0]))
  have s5 := zup_o h2 (a := h0.2.1) (q := h1.2.1) (.inr (6, [.ref h1.2.1, .int 0, .int 0, .int 0])) (by omega)
  have hh3 : (zup h2 h0.2.1 (.inr (6, [.ref h1.2.1, .int 0, .int 0, .int 0]))).2.1 = h2.2.1 := rfl
  generalize zup h2 h0.2.1 (.inr (6, [.ref h1.2.1, .int 0, .int 0, .int 0])) = h3 at *
  have p2 : zput h3 h0.2.1 6 1 4 (.int (nI 0)) = some (zup h3 h0.2.1 (.inr (6, [.ref h1.2.1, .int (nI 0), .int 0, .int 0]))) := zput_u s4 (Nat.le_of_ble_eq_true rfl) (by decide)
  have f4 := hF_up f3.1 (a := h0.2.1) (by omega) (.inr (6, [.ref h1.2.1, .int (nI 0), .int 0, .int 0]))
  refine ⟨zup h3 h0.2.1 (.inr (6, [.ref h1.2.1, .int (nI 0), .int 0, .int 0])), ?_, ⟨h1.2.1, 16, fun _ => zdef 4, zup_s _ _ _, ?_, fun k hk => absurd hk (Nat.not_lt_zero _), by omega, Nat.le_refl _, by omega, ?_, by decide, by omega, by omega, by omega, by omega⟩⟩
  · have e4 : zc PG mJ4_init [.ref h0.2.1, .int (nI 16)] h1 = some (.inl none, zup h3 h0.2.1 (.inr (6, [.ref h1.2.1, .int (nI 0), .int 0, .int 0]))) := by
      simp (disch := omega) only [eJ4_init, uJ4_init, zKK, zB, zBl, zBb, zlg, zA, zA3, zL3, km31, km63, klshr, kishr, k2p, kl1shl, klmask, kland1, kiand1, k_l2i, zrt_b, zrt_0, zrt_1, zdv_n, zdv_l, hk, p1, p2]
    simp (disch := omega) only [eJ5_init, uJ5_init, zKK, zB, zBl, zBb, zlg, zA, zA3, zL3, km31, km63, klshr, kishr, k2p, kl1shl, klmask, kland1, kiand1, k_l2i, zrt_b, zrt_0, zrt_1, zdv_n, zdv_l, e4]
  · rw [zup_o _ _ (by omega), s5]
    exact s3
  · exact (((f1.tr1 f2).tr f3 (fun q hq z => by omega)).tr f4 (fun q hq z => by omega)).up (fun _ _ z => z) (by omega) (by omega)
theorem j_newLength {a b c : Nat} (hc : 0 < c) (ha : a < 10000) (hb : b < 10000) (hcc : c < 10000) (h : zH) : zc PG mJ8_newLength [.int (nI a), .int (nI b), .int (nI c)] h = some (.inl (some (.int (nI (a + max b c)))), h) := by
  have hm : max b c < 10000 := by omega
  have hm1 : 0 < max b c := by omega
  simp (disch := omega) only [eJ8_newLength, uJ8_newLength, zKK, zB, zBl, zBb, zlg, zA, zA3, zL3, km31, km63, klshr, kishr, k2p, kl1shl, klmask, kland1, kiand1, k_l2i, zrt_b, zrt_0, zrt_1, zdv_n, zdv_l, j_maxI]
theorem zcp_k {h : zH} {a b na nb k : Nat} {f g : Nat → Value} {t : Bool} (ea : h.1 a = some (t, .inl (4, na, f))) (eb : h.1 b = some (true, .inl (4, nb, g))) (hk : k < 2147483648) (h1 : k ≤ na) (h2 : k ≤ nb) : zcp h a (nI 0) b (nI 0) (nI k) = some (zup h b (.inl (4, nb, va_cpy f g 0 0 k))) := by
  have hck : (nI k).toNatClampNeg = k := nI_clamp (by omega)
  have hc0 : (nI 0).toNatClampNeg = 0 := nI_clamp (by omega)
  unfold zcp
  rw [ea, eb]
  dsimp only
  rw [hck, hc0, if_pos ⟨rfl, Or.inr rfl, kN0 (by omega), kN0 (by omega), kN0 (by omega), by omega, by omega⟩]
theorem va_cpy0 (f g : Nat → Value) {k y : Nat} (hy : y < k) : va_cpy f g 0 0 k y = f y := by
  unfold va_cpy
  rw [if_pos (by omega)]
  show f (0 + (y - 0)) = f y
  congr 1
  omega
/-- an array of bytes, copied -/
theorem j_copy {h : zH} (w : hW h) {v cap n m : Nat} {g : Nat → Value} {t : Bool} (e : h.1 v = some (t, .inl (4, cap, g))) (hm : m < 60000000) (h1 : n ≤ cap) (h2 : n ≤ m) : ∃ h', znew h 4 (nI m) = some (zpush h (.inl (4, m, fun _ => zdef 4)) m) ∧ zlen (zpush h (.inl (4, m, fun _ => zdef 4)) m) v = some (.int (nI cap)) ∧ zcp (zpush h (.inl (4, m, fun _ => zdef 4)) m) v (nI 0) h.2.1 (nI 0) (nI n) = some h' ∧ h'.1 h.2.1 = some (true, .inl (4, m, va_cpy g (fun _ => zdef 4) 0 0 n)) ∧ hF hN 1 m h h' := by
  have f1 := hF_push w (.inl (4, m, fun _ => zdef 4)) m
  have s1 := zpush_f w (.inl (4, m, fun _ => zdef 4)) m e
  have s2 := zpush_s h (.inl (4, m, fun _ => zdef 4)) m
  refine ⟨_, znew_k h 4 hm, zlen_k s1, zcp_k s1 s2 (by omega) h1 h2, zup_s _ _ _, ?_⟩
  exact f1.tr (hF_up f1.1 (a := h.2.1) (Nat.lt_succ_self _) _) (fun q hq z => by omega)
theorem j_copyOf {h : zH} (w : hW h) {v cap n : Nat} {g : Nat → Value} {t : Bool} (e : h.1 v = some (t, .inl (4, cap, g))) (hn : n < 10000) (hc : cap < n) : ∃ h', zc PG mJ9_copyOf [.ref v, .int (nI n)] h = some (.inl (some (.ref h.2.1)), h') ∧ h'.1 h.2.1 = some (true, .inl (4, n, va_cpy g (fun _ => zdef 4) 0 0 cap)) ∧ hF hN 1 n h h' := by
  obtain ⟨h', c1, c2, c3, c4, c5⟩ := j_copy w (n := cap) e (show n < 60000000 by omega) (Nat.le_refl _) (by omega)
  refine ⟨h', ?_, c4, c5⟩
  have l := zlen_k e
  simp (disch := omega) only [eJ9_copyOf, uJ9_copyOf, zKK, zB, zBl, zBb, zlg, zA, zA3, zL3, km31, km63, klshr, kishr, k2p, kl1shl, klmask, kland1, kiand1, k_l2i, zrt_b, zrt_0, zrt_1, zdv_n, zdv_l, l, c1, c2, j_minI, Nat.min_eq_left (show cap ≤ n by omega), c3]
theorem j_copyOfRange {h : zH} (w : hW h) {v cap n : Nat} {g : Nat → Value} {t : Bool} (e : h.1 v = some (t, .inl (4, cap, g))) (hn : cap < 10000) (hc : n < cap) : ∃ h', zc PG mJ9_copyOfRange [.ref v, .int (nI 0), .int (nI n)] h = some (.inl (some (.ref h.2.1)), h') ∧ h'.1 h.2.1 = some (true, .inl (4, n, va_cpy g (fun _ => zdef 4) 0 0 n)) ∧ hF hN 1 n h h' := by
  obtain ⟨h', c1, c2, c3, c4, c5⟩ := j_copy w (n := n) (m := n) e (by omega) (by omega) (Nat.le_refl _)
  refine ⟨h', ?_, c4, c5⟩
  have l := zlen_k e
  have k1 : zc PG mJ9_checkLength [.int (nI 0), .int (nI n)] h = some (.inl none, h) := by
    simp (disch := omega) only [eJ9_checkLength, uJ9_checkLength, zKK, zB, zBl, zBb, zlg, zA, zA3, zL3, km31, km63, klshr, kishr, k2p, kl1shl, klmask, kland1, kiand1, k_l2i, zrt_b, zrt_0, zrt_1, zdv_n, zdv_l]
  have k2 : zc PG mJ9_copyOfRangeByte [.ref v, .int (nI 0), .int (nI n)] h = some (.inl (some (.ref h.2.1)), h') := by
    simp (disch := omega) only [eJ9_copyOfRangeByte, uJ9_copyOfRangeByte, zKK, zB, zBl, zBb, zlg, zA, zA3, zL3, km31, km63, klshr, kishr, k2p, kl1shl, klmask, kland1, kiand1, k_l2i, zrt_b, zrt_0, zrt_1, zdv_n, zdv_l, k1, Nat.sub_zero, c1, c2, j_minI, Nat.min_eq_right (show n ≤ cap by omega), c3]
  simp (disch := omega) only [eJ9_copyOfRange, uJ9_copyOfRange, zKK, zB, zBl, zBb, zlg, zA, zA3, zL3, km31, km63, klshr, kishr, k2p, kl1shl, klmask, kland1, kiand1, k_l2i, zrt_b, zrt_0, zrt_1, zdv_n, zdv_l, l, k2]
theorem s_ensure {h0 h : zH} {b m : Nat} {L : List Nat} (e : sB h0 h b m L) {n : Nat} (hn : n ≤ L.length + 2) (hL : L.length ≤ 390) : ∃ h', zc PG mJ4_ensureCapacityInternal [.ref b, .int (nI n)] h = some (.inl none, h') ∧ sB h0 h' b n L := by
  obtain ⟨v, cap, g, e1, e2, e3, e4, e5, e6, F, e7, e8, e9, e10, e11⟩ := e
  obtain ⟨g0, g1, g2, g3, gi⟩ := zg6 e1
  have l := zlen_k e2
  by_cases hc : n ≤ cap
  · refine ⟨h, ?_, ⟨v, cap, g, e1, e2, e3, e4, e5, e6, F, e7, hc, e9, e10, e11⟩⟩
    by_cases q : n = cap
    · subst q
      simp (disch := omega) only [eJ4_ensureCapacityInternal, uJ4_ensureCapacityInternal, zKK, zB, zBl, zBb, zlg, zA, zA3, zL3, km31, km63, klshr, kishr, k2p, kl1shl, klmask, kland1, kiand1, k_l2i, zrt_b, zrt_0, zrt_1, zdv_n, zdv_l, g0, g1, l]
    · have q2 := eq_false (kNneg hc (show cap < 1000 by omega))
      simp (disch := omega) only [eJ4_ensureCapacityInternal, uJ4_ensureCapacityInternal, zKK, km31, kishr, g0, g1, l, Nat.pow_zero, Nat.div_one, q2]
  · have w := F.1
    obtain ⟨h1, c1, c2, c3⟩ := j_copyOf w (n := 2 * cap + 2) e2 (by omega) (by omega)
    have lb := w.lt e1
    have lv := w.lt e2
    have b1 : h1.1 b = _ := (c3.2.1 b lb (fun z => z)).trans e1
    have p1 : zput h1 b 6 0 3 (.ref h.2.1) = some (zup h1 b (.inr (6, [.ref h.2.1, .int (nI 0), .int (nI 0), .int (nI L.length)]))) := zput_u b1 (Nat.le_of_ble_eq_true rfl) rfl
    refine ⟨zup h1 b (.inr (6, [.ref h.2.1, .int (nI 0), .int (nI 0), .int (nI L.length)])), ?_, ⟨h.2.1, 2 * cap + 2, va_cpy g (fun _ => zdef 4) 0 0 cap, zup_s _ _ _, (zup_o (q := h.2.1) _ _ (by omega)).trans c2, fun k hk => ?_, by omega, e5, by have := F.2.2.1; omega, ?_, by omega, by omega, by omega, by omega, by omega⟩⟩
    · have k1 : zc PG mJ4_newCapacity [.ref b, .int (nI n)] h = some (.inl (some (.int (nI (2 * cap + 2)))), h) := by
        have em : cap + max (n - cap) (cap + 2) = 2 * cap + 2 := by omega
        have lp := j_newLength (a := cap) (b := n - cap) (c := cap + 2) (by omega) (by omega) (by omega) (by omega) h
        rw [em] at lp
        simp (disch := omega) only [eJ4_newCapacity, uJ4_newCapacity, zKK, zB, zBl, zBb, zlg, zA, zA3, zL3, km31, km63, klshr, kishr, k2p, kl1shl, klmask, kland1, kiand1, k_l2i, zrt_b, zrt_0, zrt_1, zdv_n, zdv_l, g0, g1, l, kishl', Nat.pow_zero, Nat.mul_one, Nat.div_one, lp]
      simp (disch := omega) only [eJ4_ensureCapacityInternal, uJ4_ensureCapacityInternal, zKK, zB, zBl, zBb, zlg, zA, zA3, zL3, km31, km63, klshr, kishr, k2p, kl1shl, klmask, kland1, kiand1, k_l2i, zrt_b, zrt_0, zrt_1, zdv_n, zdv_l, g0, g1, l, gi, k1, kishl', Nat.pow_zero, Nat.mul_one, c1, p1]
    · rw [va_cpy0 _ _ (by omega)]
      exact e3 k hk
    · have f1 := F.tr1 c3
      exact (f1.tr (hF_up f1.1 (a := b) (by have := c3.2.2.1; omega) _) (fun q hq z => by omega)).up (fun _ _ z => z) (by omega) (by omega)
/-- a sign is put behind -/
theorem s_app {h0 h : zH} {b : Nat} {L : List Nat} (e : sB h0 h b 0 L) {c : Nat} (hc : c < 128) (hL : L.length ≤ 390) : ∃ h', zc PG mJ5_append_2 [.ref b, .int (nI c)] h = some (.inl (some (.ref b)), h') ∧ sB h0 h' b 0 (L ++ [c]) := by
  obtain ⟨h1, k1, E1⟩ := s_ensure e (n := L.length + 1) (by omega) hL
  have gi := e.is
  obtain ⟨v0, cap0, g0', z1, -⟩ := e
  have z3 := (zg6 z1).2.2.2.1
  obtain ⟨v, cap, g, e1, e2, e3, e4, e5, e6, F, e7, e8, e9, e10, e11⟩ := E1
  obtain ⟨g0, g1, g2, g3, gi1⟩ := zg6 e1
  have p1 : zput h1 b 6 3 0 (.int (nI (L.length + 1))) = some (zup h1 b (.inr (6, [.ref v, .int (nI 0), .int (nI 0), .int (nI (L.length + 1))]))) := zput_u e1 (Nat.le_of_ble_eq_true rfl) rfl
  have lb := F.1.lt e1
  have lv := F.1.lt e2
  have f1 := hF_up F.1 lb (.inr (6, [.ref v, .int (nI 0), .int (nI 0), .int (nI (L.length + 1))]))
  have s1 := zup_s h1 b (.inr (6, [.ref v, .int (nI 0), .int (nI 0), .int (nI (L.length + 1))]))
  have s2 := (zup_o h1 (.inr (6, [.ref v, .int (nI 0), .int (nI 0), .int (nI (L.length + 1))])) e4).trans e2
  have hh : (zup h1 b (.inr (6, [.ref v, .int (nI 0), .int (nI 0), .int (nI (L.length + 1))]))).2.1 = h1.2.1 := rfl
  generalize zup h1 b (.inr (6, [.ref v, .int (nI 0), .int (nI 0), .int (nI (L.length + 1))])) = h2 at *
  have p2 : zast h2 v 4 (nI L.length) (.int (nI c)) = some (zup h2 v (.inl (4, cap, zfu g L.length (.int (nI c))))) := zast_u s2 (by omega) (by omega) rfl (by show some (Value.int _) = _; rw [k8b c hc])
  have f2 := hF_up f1.1 (a := v) (by omega) (.inl (4, cap, zfu g L.length (.int (nI c))))
  have ll : (L ++ [c]).length = L.length + 1 := by simp
  refine ⟨zup h2 v (.inl (4, cap, zfu g L.length (.int (nI c)))), ?_, ⟨v, cap, zfu g L.length (.int (nI c)), ?_, zup_s _ _ _, fun k hk => ?_, e4, e5, e6, ?_, by omega, by omega, e9, e10, e11⟩⟩
  · have k2 : zc PG mJ4_isLatin1 [.ref b] h1 = some (.inl (some (.int (nI 1))), h1) := by
      simp (disch := omega) only [eJ4_isLatin1, uJ4_isLatin1, zKK, zB, zBl, zBb, zlg, zA, zA3, zL3, km31, km63, klshr, kishr, k2p, kl1shl, klmask, kland1, kiand1, k_l2i, zrt_b, zrt_0, zrt_1, zdv_n, zdv_l, g1]
    have k3 : zc PG mJ11_canEncode [.int (nI c)] h1 = some (.inl (some (.int (nI 1))), h1) := by
      have hz : c / 2 ^ 8 = 0 := by omega
      simp (disch := omega) only [eJ11_canEncode, uJ11_canEncode, zKK, zB, zBl, zBb, zlg, zA, zA3, zL3, km31, km63, klshr, kishr, k2p, kl1shl, klmask, kland1, kiand1, k_l2i, zrt_b, zrt_0, zrt_1, zdv_n, zdv_l, kiushr, hz]
    have k4 : zc PG mJ4_append_2 [.ref b, .int (nI c)] h = some (.inl (some (.ref b)), zup h2 v (.inl (4, cap, zfu g L.length (.int (nI c))))) := by
      simp (disch := omega) only [eJ4_append_2, uJ4_append_2, zKK, zB, zBl, zBb, zlg, zA, zA3, zL3, km31, km63, klshr, kishr, k2p, kl1shl, klmask, kland1, kiand1, k_l2i, zrt_b, zrt_0, zrt_1, zdv_n, zdv_l, z3, gi, k1, gi1, k2, k3, g0, g3, p1, k8b, p2]
    simp (disch := omega) only [eJ5_append_2, uJ5_append_2, zKK, zB, zBl, zBb, zlg, zA, zA3, zL3, km31, km63, klshr, kishr, k2p, kl1shl, klmask, kland1, kiand1, k_l2i, zrt_b, zrt_0, zrt_1, zdv_n, zdv_l, k4, gi]
  · rw [zup_o _ _ (fun z => e4 z.symm), ll]
    exact s1
  · rw [ll] at hk
    unfold zfu
    by_cases q : k = L.length
    · rw [if_pos q, q, kgS]
    · rw [if_neg q, kgA _ _ _ (by omega)]
      exact e3 k (by omega)
  · exact ((F.tr f1 (fun q hq z => by omega)).tr f2 (fun q hq z => by omega)).up (fun _ _ z => z) (by omega) (by omega)
/-- a number below 100 -/
def kdec (x : Nat) : List Nat := if x < 10 then [48 + x] else [48 + x / 10, 48 + x % 10]
theorem j_size {x : Nat} (hx : x < 100) (h : zH) : zc PG mJ0_stringSize [.int (nI x)] h = some (.inl (some (.int (nI (kdec x).length))), h) := by
  have q1 := kn10 x hx
  have q2 := eq_true (kn100 x hx).1
  unfold kdec
  by_cases z : x < 10
  · rw [if_pos z]
    have q3 := eq_true (q1.mpr z)
    simp (disch := omega) only [eJ0_stringSize, uJ0_stringSize, uJ0_stringSize_at16, zKK, zB, zBl, zBb, zlg, zA, zA3, zL3, km31, km63, klshr, kishr, k2p, kl1shl, klmask, kland1, kiand1, k_l2i, zrt_b, zrt_0, zrt_1, zdv_n, zdv_l, q3]
    rfl
  · rw [if_neg z]
    have q3 := eq_false (fun t => z (q1.mp t))
    simp (disch := omega) only [eJ0_stringSize, uJ0_stringSize, uJ0_stringSize_at16, zKK, zB, zBl, zBb, zlg, zA, zA3, zL3, km31, km63, klshr, kishr, k2p, kl1shl, klmask, kland1, kiand1, k_l2i, zrt_b, zrt_0, zrt_1, zdv_n, zdv_l, q3, q2]
    rfl
theorem j_chars1 {h : zH} {D v cap i x : Nat} {g : Nat → Value} (K : dY h D) (e : h.1 v = some (true, .inl (4, cap, g))) (hx : x < 10) (hi : i < cap) (hc : cap ≤ 800) : zc PG mJ0_getChars [.int (nI x), .int (nI (i + 1)), .ref v] h = some (.inl (some (.int (nI i))), zup h v (.inl (4, cap, zfu g i (.int (nI (48 + x)))))) := by
  obtain ⟨x1, y1, b1, b2, f, g', k1, k2, k3, k4, k5, k6, k7, k8⟩ := K
  have l1 := zald_k k5 (i := x) (by omega) (by omega)
  rw [k7 x (by omega), Nat.mod_eq_of_lt hx] at l1
  have q1 := eq_true (kn100 x (by omega)).2
  have q2 := eq_false (fun t => absurd ((kn9 x (by omega)).mp t) (by omega))
  have p1 : zast h v 4 (nI i) (.int (nI (48 + x))) = some (zup h v (.inl (4, cap, zfu g i (.int (nI (48 + x)))))) := zast_u e hi (by omega) rfl (by show some (Value.int _) = _; rw [k8b (48 + x) (by omega)])
  simp (disch := omega) only [eJ0_getChars, uJ0_getChars_p0, uJ0_getChars_p1, uJ0_getChars_at22, zKK, zB, zBl, zBb, zlg, zA, zA3, zL3, km31, km63, klshr, kishr, k2p, kl1shl, klmask, kland1, kiand1, k_l2i, zrt_b, zrt_0, zrt_1, zdv_n, zdv_l, q1, knn, Nat.add_sub_cancel, k1, l1, p1, q2]
theorem j_chars2 {h : zH} {D v cap i x : Nat} {g : Nat → Value} (K : dY h D) (hv : D ≤ v) (e : h.1 v = some (true, .inl (4, cap, g))) (hx : x < 100) (hx1 : 10 ≤ x) (hi : i + 1 < cap) (hc : cap ≤ 800) : zc PG mJ0_getChars [.int (nI x), .int (nI (i + 2)), .ref v] h = some (.inl (some (.int (nI i))), zup h v (.inl (4, cap, zfu (zfu g (i + 1) (.int (nI (48 + x % 10)))) i (.int (nI (48 + x / 10)))))) := by
  obtain ⟨x1, y1, b1, b2, f, g', k1, k2, k3, k4, k5, k6, k7, k8⟩ := K
  have l1 := zald_k k5 (i := x) (by omega) (by omega)
  rw [k7 x (by omega)] at l1
  have q1 := eq_true (kn100 x (by omega)).2
  have q2 := eq_true ((kn9 x (by omega)).mpr hx1)
  have p1 : zast h v 4 (nI (i + 1)) (.int (nI (48 + x % 10))) = some (zup h v (.inl (4, cap, zfu g (i + 1) (.int (nI (48 + x % 10)))))) := zast_u e hi (by omega) rfl (by show some (Value.int _) = _; rw [k8b (48 + x % 10) (by omega)])
  have e2 := zup_s h v (.inl (4, cap, zfu g (i + 1) (.int (nI (48 + x % 10)))))
  have k6' := (zup_o h (a := v) (q := y1) (.inl (4, cap, zfu g (i + 1) (.int (nI (48 + x % 10))))) (Nat.ne_of_lt (Nat.lt_of_lt_of_le k4 hv))).trans k6
  have ee : (zup h v (.inl (4, cap, zfu g (i + 1) (.int (nI (48 + x % 10)))))).2.2.2 2 = .ref y1 := k2
  have eu := zup_up h v (.inl (4, cap, zfu g (i + 1) (.int (nI (48 + x % 10))))) (.inl (4, cap, zfu (zfu g (i + 1) (.int (nI (48 + x % 10)))) i (.int (nI (48 + x / 10)))))
  rw [← eu]
  generalize zup h v (.inl (4, cap, zfu g (i + 1) (.int (nI (48 + x % 10))))) = h1 at *
  have l2 := zald_k k6' (i := x) (by omega) (by omega)
  rw [k8 x (by omega)] at l2
  have p2 : zast h1 v 4 (nI i) (.int (nI (48 + x / 10))) = some (zup h1 v (.inl (4, cap, zfu (zfu g (i + 1) (.int (nI (48 + x % 10)))) i (.int (nI (48 + x / 10)))))) := zast_u e2 (by omega) (by omega) rfl (by show some (Value.int _) = _; rw [k8b (48 + x / 10) (by omega)])
  simp (disch := omega) only [eJ0_getChars, uJ0_getChars_p0, uJ0_getChars_p1, uJ0_getChars_at22, zKK, zB, zBl, zBb, zlg, zA, zA3, zL3, km31, km63, klshr, kishr, k2p, kl1shl, klmask, kland1, kiand1, k_l2i, zrt_b, zrt_0, zrt_1, zdv_n, zdv_l, q1, knn, show i + 2 - 1 = i + 1 from rfl, Nat.add_sub_cancel, k1, l1, p1, q2, ee, l2, p2]
theorem s_num {h0 h : zH} (w0 : hW h0) {D b : Nat} (K0 : dC h0 D) (hD : D ≤ h0.2.1) {L : List Nat} (e : sB h0 h b 0 L) {x : Nat} (hx : x < 100) (hL : L.length ≤ 390) : ∃ h', zc PG mJ5_append [.ref b, .int (nI x)] h = some (.inl (some (.ref b)), h') ∧ sB h0 h' b 0 (L ++ kdec x) := by
  have lk : (kdec x).length ≤ 2 := by unfold kdec; split <;> simp
  obtain ⟨h1, k1, E1⟩ := s_ensure e (n := L.length + (kdec x).length) (by omega) hL
  have gi := e.is
  obtain ⟨v0, cap0, g0', z1, -⟩ := e
  have z3 := (zg6 z1).2.2.2.1
  obtain ⟨v, cap, g, e1, e2, e3, e4, e5, e6, F, e7, e8, e9, e10, e11⟩ := E1
  obtain ⟨g0, g1, g2, g3, gi1⟩ := zg6 e1
  have K1 := K0.fr w0 F (fun _ _ z => z)
  have sz := j_size hx h
  have k2 : zc PG mJ4_isLatin1 [.ref b] h1 = some (.inl (some (.int (nI 1))), h1) := by
    simp (disch := omega) only [eJ4_isLatin1, uJ4_isLatin1, zKK, zB, zBl, zBb, zlg, zA, zA3, zL3, km31, km63, klshr, kishr, k2p, kl1shl, klmask, kland1, kiand1, k_l2i, zrt_b, zrt_0, zrt_1, zdv_n, zdv_l, g1]
  have lb := F.1.lt e1
  have lv := F.1.lt e2
  have key : ∃ G i, zc PG mJ0_getChars [.int (nI x), .int (nI (L.length + (kdec x).length)), .ref v] h1 = some (.inl (some (.int (nI i))), zup h1 v (.inl (4, cap, G))) ∧ ∀ k, k < (L ++ kdec x).length → G k = .int (nI ((L ++ kdec x).getD k 0)) := by
    by_cases z : x < 10
    · have ek : kdec x = [48 + x] := if_pos z
      rw [ek] at e8 ⊢
      refine ⟨_, L.length, j_chars1 K1.2.1 e2 z e8 e9, fun k hk => ?_⟩
      have ll : (L ++ [48 + x]).length = L.length + 1 := by simp
      rw [ll] at hk
      unfold zfu
      by_cases q : k = L.length
      · rw [if_pos q, q, kgS]
      · rw [if_neg q, kgA _ _ _ (by omega)]
        exact e3 k (by omega)
    · have ek : kdec x = [48 + x / 10, 48 + x % 10] := if_neg z
      rw [ek] at e8 ⊢
      refine ⟨_, L.length, j_chars2 K1.2.1 (by omega) e2 hx (by omega) e8 e9, fun k hk => ?_⟩
      have ll : (L ++ [48 + x / 10, 48 + x % 10]).length = L.length + 2 := by simp
      have la : L ++ [48 + x / 10, 48 + x % 10] = (L ++ [48 + x / 10]) ++ [48 + x % 10] := by simp
      have l1 : (L ++ [48 + x / 10]).length = L.length + 1 := by simp
      rw [ll] at hk
      rw [la]
      unfold zfu
      by_cases q : k = L.length
      · rw [if_pos q, q, kgA _ _ _ (by omega), kgS]
      · rw [if_neg q]
        by_cases q1 : k = L.length + 1
        · rw [if_pos q1, q1, ← l1, kgS]
        · rw [if_neg q1, kgA _ _ _ (by omega), kgA _ _ _ (by omega)]
          exact e3 k (by omega)
  obtain ⟨G, i, c1, c2⟩ := key
  have f1 := hF_up F.1 lv (.inl (4, cap, G))
  have s1 := zup_s h1 v (.inl (4, cap, G))
  have s2 := (zup_o h1 (.inl (4, cap, G)) (Ne.symm e4)).trans e1
  have hh : (zup h1 v (.inl (4, cap, G))).2.1 = h1.2.1 := rfl
  generalize zup h1 v (.inl (4, cap, G)) = h2 at *
  have ll : (L ++ kdec x).length = L.length + (kdec x).length := by simp
  have p1 : zput h2 b 6 3 0 (.int (nI (L.length + (kdec x).length))) = some (zup h2 b (.inr (6, [.ref v, .int (nI 0), .int (nI 0), .int (nI (L.length + (kdec x).length))]))) := zput_u s2 (Nat.le_of_ble_eq_true rfl) rfl
  have f2 := hF_up f1.1 (a := b) (by omega) (.inr (6, [.ref v, .int (nI 0), .int (nI 0), .int (nI (L.length + (kdec x).length))]))
  refine ⟨zup h2 b (.inr (6, [.ref v, .int (nI 0), .int (nI 0), .int (nI (L.length + (kdec x).length))])), ?_, ⟨v, cap, G, by rw [ll]; exact zup_s _ _ _, (zup_o _ _ e4).trans s1, c2, e4, e5, e6, ?_, by omega, by omega, e9, e10, e11⟩⟩
  · have k4 : zc PG mJ4_append [.ref b, .int (nI x)] h = some (.inl (some (.ref b)), zup h2 b (.inr (6, [.ref v, .int (nI 0), .int (nI 0), .int (nI (L.length + (kdec x).length))]))) := by
      simp (disch := omega) only [eJ4_append, uJ4_append, zKK, zB, zBl, zBb, zlg, zA, zA3, zL3, km31, km63, klshr, kishr, k2p, kl1shl, klmask, kland1, kiand1, k_l2i, zrt_b, zrt_0, zrt_1, zdv_n, zdv_l, z3, sz, gi, k1, gi1, k2, g0, c1, p1]
    simp (disch := omega) only [eJ5_append, uJ5_append, zKK, zB, zBl, zBb, zlg, zA, zA3, zL3, km31, km63, klshr, kishr, k2p, kl1shl, klmask, kland1, kiand1, k_l2i, zrt_b, zrt_0, zrt_1, zdv_n, zdv_l, k4, gi]
  · exact ((F.tr f1 (fun q hq z => by omega)).tr f2 (fun q hq z => by omega)).up (fun _ _ z => z) (by omega) (by omega)
/-- a text is made of it -/
theorem s_str {h0 h : zH} {b : Nat} {L : List Nat} (e : sB h0 h b 0 L) (hm : L.length % 8 = 3 ∨ L.length % 8 = 4) : ∃ h' x y g, zc PG mJ5_toString [.ref b] h = some (.inl (some (.ref x)), h') ∧ h'.1 x = some (true, .inr (7, [.ref y, .int (nI 0), .int 0, .int 0])) ∧ h'.1 y = some (true, .inl (4, L.length, g)) ∧ (∀ k, k < L.length → g k = .int (nI (L.getD k 0))) ∧ hF hN 900 3000 h0 h' := by
  obtain ⟨v, cap, g, e1, e2, e3, e4, e5, e6, F, e7, e8, e9, e10, e11⟩ := e
  have w := F.1
  have lb := w.lt e1
  have lv := w.lt e2
  have f1 := hF_push w (.inr (7, [.null, .int 0, .int 0, .int 0])) 4
  have s1 := zpush_s h (.inr (7, [.null, .int 0, .int 0, .int 0])) 4
  have b1 := zpush_f w (.inr (7, [.null, .int 0, .int 0, .int 0])) 4 e1
  have v1 := zpush_f w (.inr (7, [.null, .int 0, .int 0, .int 0])) 4 e2
  have hh : (zpush h (.inr (7, [.null, .int 0, .int 0, .int 0])) 4).2.1 = h.2.1 + 1 := rfl
  have r0 : zc PG mJ5_toString [.ref b] h = zbk PG (zc PG mJ6_init [.ref h.2.1, .ref b] (zpush h (.inr (7, [.null, .int 0, .int 0, .int 0])) 4)) none mJ5_toString 8 [.ref b] [.ref h.2.1] := by
    simp (disch := omega) only [eJ5_toString, uJ5_toString, zKK, zB, zBl, zBb, zlg, zA, zA3, zL3, km31, km63, klshr, kishr, k2p, kl1shl, klmask, kland1, kiand1, k_l2i, zrt_b, zrt_0, zrt_1, zdv_n, zdv_l]
  generalize zpush h (.inr (7, [.null, .int 0, .int 0, .int 0])) 4 = h1 at *
  obtain ⟨g0, g1, g2, g3, gi⟩ := zg6 b1
  have p1 : zput h1 h.2.1 7 1 4 (.int (nI 0)) = some (zup h1 h.2.1 (.inr (7, [.null, .int (nI 0), .int 0, .int 0]))) := zput_u s1 (Nat.le_of_ble_eq_true rfl) (by decide)
  have f2 := hF_up f1.1 (a := h.2.1) (by omega) (.inr (7, [.null, .int (nI 0), .int 0, .int 0]))
  have s2 := zup_s h1 h.2.1 (.inr (7, [.null, .int (nI 0), .int 0, .int 0]))
  have v2 := (zup_o h1 (a := h.2.1) (q := v) (.inr (7, [.null, .int (nI 0), .int 0, .int 0])) (by omega)).trans v1
  have hh2 : (zup h1 h.2.1 (.inr (7, [.null, .int (nI 0), .int 0, .int 0]))).2.1 = h1.2.1 := rfl
  generalize zup h1 h.2.1 (.inr (7, [.null, .int (nI 0), .int 0, .int 0])) = h2 at *
  obtain ⟨h3, c1, c2, f3⟩ := j_copyOfRange f2.1 v2 (n := L.length) (by omega) (by omega)
  have s3 : h3.1 h.2.1 = _ := (f3.2.1 h.2.1 (by omega) (fun z => z)).trans s2
  have p2 : zput h3 h.2.1 7 0 3 (.ref h2.2.1) = some (zup h3 h.2.1 (.inr (7, [.ref h2.2.1, .int (nI 0), .int 0, .int 0]))) := zput_u s3 (Nat.le_of_ble_eq_true rfl) rfl
  have f4 := hF_up f3.1 (a := h.2.1) (by have := f3.2.2.1; omega) (.inr (7, [.ref h2.2.1, .int (nI 0), .int 0, .int 0]))
  refine ⟨zup h3 h.2.1 (.inr (7, [.ref h2.2.1, .int (nI 0), .int 0, .int 0])), h.2.1, h2.2.1, va_cpy g (fun _ => zdef 4) 0 0 L.length, ?_, zup_s _ _ _, (zup_o (q := h2.2.1) _ _ (by omega)).trans c2, fun k hk => (va_cpy0 _ _ hk).trans (e3 k hk), ?_⟩
  · have k1 : zc PG mJ4_getValue [.ref b] h1 = some (.inl (some (.ref v)), h1) := by
      simp (disch := omega) only [eJ4_getValue, uJ4_getValue, zKK, zB, zBl, zBb, zlg, zA, zA3, zL3, km31, km63, klshr, kishr, k2p, kl1shl, klmask, kland1, kiand1, k_l2i, zrt_b, zrt_0, zrt_1, zdv_n, zdv_l, g0]
    have k2 : zc PG mJ4_length [.ref b] h1 = some (.inl (some (.int (nI L.length))), h1) := by
      simp (disch := omega) only [eJ4_length, uJ4_length, zKK, zB, zBl, zBb, zlg, zA, zA3, zL3, km31, km63, klshr, kishr, k2p, kl1shl, klmask, kland1, kiand1, k_l2i, zrt_b, zrt_0, zrt_1, zdv_n, zdv_l, g3]
    have k3 : zc PG mJ5_length [.ref b] h1 = some (.inl (some (.int (nI L.length))), h1) := by
      simp (disch := omega) only [eJ5_length, uJ5_length, zKK, zB, zBl, zBb, zlg, zA, zA3, zL3, km31, km63, klshr, kishr, k2p, kl1shl, klmask, kland1, kiand1, k_l2i, zrt_b, zrt_0, zrt_1, zdv_n, zdv_l, gi, k2]
    have k4 : zc PG mJ4_isLatin1 [.ref b] h1 = some (.inl (some (.int (nI 1))), h1) := by
      simp (disch := omega) only [eJ4_isLatin1, uJ4_isLatin1, zKK, zB, zBl, zBb, zlg, zA, zA3, zL3, km31, km63, klshr, kishr, k2p, kl1shl, klmask, kland1, kiand1, k_l2i, zrt_b, zrt_0, zrt_1, zdv_n, zdv_l, g1]
    have k5 : zc PG mJ6_init_2 [.ref h.2.1, .ref b, .null] h1 = some (.inl none, zup h3 h.2.1 (.inr (7, [.ref h2.2.1, .int (nI 0), .int 0, .int 0]))) := by
      simp (disch := omega) only [eJ6_init_2, uJ6_init_2, zKK, zB, zBl, zBb, zlg, zA, zA3, zL3, km31, km63, klshr, kishr, k2p, kl1shl, klmask, kland1, kiand1, k_l2i, zrt_b, zrt_0, zrt_1, zdv_n, zdv_l, gi, k1, k3, k4, p1, c1, p2]
    have k6 : zc PG mJ6_init [.ref h.2.1, .ref b] h1 = some (.inl none, zup h3 h.2.1 (.inr (7, [.ref h2.2.1, .int (nI 0), .int 0, .int 0]))) := by
      simp (disch := omega) only [eJ6_init, uJ6_init, zKK, zB, zBl, zBb, zlg, zA, zA3, zL3, km31, km63, klshr, kishr, k2p, kl1shl, klmask, kland1, kiand1, k_l2i, zrt_b, zrt_0, zrt_1, zdv_n, zdv_l, k5]
    rw [r0, k6]
    simp (disch := omega) only [uJ5_toString, zKK, zB, zBl, zBb, zlg, zA, zA3, zL3, km31, km63, klshr, kishr, k2p, kl1shl, klmask, kland1, kiand1, k_l2i, zrt_b, zrt_0, zrt_1, zdv_n, zdv_l]
  · exact ((((F.tr1 f1).tr f2 (fun q hq z => by have := F.2.2.1; omega)).tr1 f3).tr f4 (fun q hq z => by have := F.2.2.1; omega)).up (fun _ _ z => z) (by omega) (by omega)
theorem eJ10_checkIndex (a0 a1 : Int32) (v : Value) (hv : (∃ x, v = .ref x) ∨ v = .null) (h : zH) : zc PG mJ10_checkIndex [.int a0, .int a1, v] h = zs PG mJ10_checkIndex 0 [.int a0, .int a1, v] [] h := by
  rcases hv with ⟨x, rfl⟩ | rfl
  · exact zc_eq (q := (3, pJ10_checkIndex)) rfl rfl (Nat.le_of_ble_eq_true rfl)
  · exact zc_eq (q := (3, pJ10_checkIndex)) rfl rfl (Nat.le_of_ble_eq_true rfl)
/-- a sign of a text -/
theorem s_charAt {h : zH} {D x y n k c : Nat} {t t' : Bool} {g : Nat → Value} {u1 u2 : Value} (K : dC h D) (ex : h.1 x = some (t, .inr (7, [.ref y, .int (nI 0), u1, u2]))) (ey : h.1 y = some (t', .inl (4, n, g))) (hk : k < n) (hn : n < 10000) (hc : c < 128) (eg : g k = .int (nI c)) : zis h x 7 = true ∧ zc PG mJ6_charAt [.ref x, .int (nI k)] h = some (.inl (some (.int (nI c))), h) := by
  have g0 : zget h x 7 0 = some (.ref y) := by unfold zget; rw [ex]; rfl
  have g1 : zget h x 7 1 = some (.int (nI 0)) := by unfold zget; rw [ex]; rfl
  have gi : zis h x 7 = true := by unfold zis; rw [ex]; rfl
  have gl := zlen_k ey
  have ld := zald_k ey hk (by omega)
  rw [eg] at ld
  refine ⟨gi, ?_⟩
  obtain ⟨_, _, _, _, i5⟩ := K.2.2.2
  have l2 : zc PG mJ6_isLatin1 [.ref x] h = some (.inl (some (.int (nI 1))), h) := by
    simp (disch := omega) only [eJ6_isLatin1, uJ6_isLatin1, zKK, zB, zBl, zBb, zlg, zA, zA3, zL3, km31, km63, klshr, kishr, k2p, kl1shl, klmask, kland1, kiand1, k_l2i, zrt_b, zrt_0, zrt_1, zdv_n, zdv_l, g1]
  have l3 : zc PG mJ10_checkIndex [.int (nI k), .int (nI n), h.2.2.2 5] h = some (.inl (some (.int (nI k))), h) := by
    rw [eJ10_checkIndex _ _ _ i5]
    simp (disch := omega) only [uJ10_checkIndex, zKK, zB, zBl, zBb, zlg, zA, zA3, zL3, km31, km63, klshr, kishr, k2p, kl1shl, klmask, kland1, kiand1, k_l2i, zrt_b, zrt_0, zrt_1, zdv_n, zdv_l]
  have l4 : zc PG mJ6_checkIndex [.int (nI k), .int (nI n)] h = some (.inl none, h) := by
    simp (disch := omega) only [eJ6_checkIndex, uJ6_checkIndex, zKK, zB, zBl, zBb, zlg, zA, zA3, zL3, km31, km63, klshr, kishr, k2p, kl1shl, klmask, kland1, kiand1, k_l2i, zrt_b, zrt_0, zrt_1, zdv_n, zdv_l, l3]
  have l5 : zc PG mJ11_charAt [.ref y, .int (nI k)] h = some (.inl (some (.int (nI c))), h) := by
    simp (disch := omega) only [eJ11_charAt, uJ11_charAt, zKK, zB, zBl, zBb, zlg, zA, zA3, zL3, km31, km63, klshr, kishr, k2p, kl1shl, klmask, kland1, kiand1, k_l2i, zrt_b, zrt_0, zrt_1, zdv_n, zdv_l, gl, l4, ld, k8a, k8c, zrt_t trivial]
  simp (disch := omega) only [eJ6_charAt, uJ6_charAt, zKK, zB, zBl, zBb, zlg, zA, zA3, zL3, km31, km63, klshr, kishr, k2p, kl1shl, klmask, kland1, kiand1, k_l2i, zrt_b, zrt_0, zrt_1, zdv_n, zdv_l, gi, l2, g0, l5, zrt_t (k8c c hc)]
theorem s_length {h : zH} {x y n : Nat} {t t' : Bool} {g : Nat → Value} {u1 u2 : Value} (ex : h.1 x = some (t, .inr (7, [.ref y, .int (nI 0), u1, u2]))) (ey : h.1 y = some (t', .inl (4, n, g))) (hn : n < 10000) : zis h x 7 = true ∧ zc PG mJ6_length [.ref x] h = some (.inl (some (.int (nI n))), h) := by
  have g0 : zget h x 7 0 = some (.ref y) := by unfold zget; rw [ex]; rfl
  have g1 : zget h x 7 1 = some (.int (nI 0)) := by unfold zget; rw [ex]; rfl
  have gi : zis h x 7 = true := by unfold zis; rw [ex]; rfl
  have gl := zlen_k ey
  refine ⟨gi, ?_⟩
  have l0 : zc PG mJ6_coder [.ref x] h = some (.inl (some (.int (nI 0))), h) := by
    simp (disch := omega) only [eJ6_coder, uJ6_coder, zKK, zB, zBl, zBb, zlg, zA, zA3, zL3, km31, km63, klshr, kishr, k2p, kl1shl, klmask, kland1, kiand1, k_l2i, zrt_b, zrt_0, zrt_1, zdv_n, zdv_l, g1, zrt_t (show (nI 0).toInt8.toInt32 = nI 0 by decide)]
  simp (disch := omega) only [eJ6_length, uJ6_length, zKK, zB, zBl, zBb, zlg, zA, zA3, zL3, km31, km63, klshr, kishr, k2p, kl1shl, klmask, kland1, kiand1, k_l2i, zrt_b, zrt_0, zrt_1, zdv_n, zdv_l, g0, gl, gi, l0, Nat.pow_zero, Nat.div_one]
/-- the sign of a number below 30 -/
theorem s_sign {h : zH} {D k : Nat} (K : dC h D) (hk : k < 30) : ∃ x, h.2.2.2 0 = .ref x ∧ zis h x 7 = true ∧ zc PG mJ6_charAt [.ref x, .int (nI k)] h = some (.inl (some (.int (nI (ksg k)))), h) := by
  obtain ⟨x, y, b, b', u, v, e1, e2, e3, e4, e5⟩ := K.1
  exact ⟨x, e1, s_charAt K e4 e5 hk (by omega) (ksg_ds k hk).2 rfl⟩
/-! a counter that is written -/
def kwL (C : kC) (n : Nat) : List Nat := (List.range n).map (ksn C)
theorem kwL_s (C : kC) (n : Nat) : kwL C (n + 1) = kwL C n ++ [ksn C n] := by
  unfold kwL
  rw [List.range_succ, List.map_append]
  rfl
theorem kwL_l (C : kC) (n : Nat) : (kwL C n).length = n := by
  unfold kwL
  simp
theorem kwL_h {C : kC} (h8 : C.p ≤ 8) (h48 : C.l ≤ 48) : kwL C (khd C) = ([] ++ kdec C.p) ++ kdec C.l ++ [if C.d then 100 else 115] := by
  have e1 : kdec C.p = [48 + C.p] := if_pos (by omega)
  rw [e1]
  by_cases e : C.l < 10
  · have e2 : kdec C.l = [48 + C.l] := if_pos e
    have e3 : khd C = 3 := if_pos e
    have e4 : C.l % 10 = C.l := Nat.mod_eq_of_lt e
    rw [e2, e3, kwL_s, kwL_s, kwL_s]
    unfold kwL ksn
    rw [e3, e4]
    rfl
  · have e2 : kdec C.l = [48 + C.l / 10, 48 + C.l % 10] := if_neg e
    have e3 : khd C = 4 := if_neg e
    rw [e2, e3, kwL_s, kwL_s, kwL_s, kwL_s]
    unfold kwL ksn
    rw [e3]
    rfl
theorem kwL_g (C : kC) {n k : Nat} (hk : k < n) : (kwL C n).getD k 0 = ksn C k := by
  unfold kwL
  simp [List.getD, hk]
