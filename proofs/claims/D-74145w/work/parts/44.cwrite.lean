/-! THE COMPONENT: a counter's cells are written -/
/-- cells other than q are kept, and how many there are -/
def cK (A : Nat → Prop) (h h' : zH) : Prop := (∀ q, ¬ A q → h'.1 q = h.1 q) ∧ h'.2 = h.2
theorem cK.rf (A : Nat → Prop) (h : zH) : cK A h h := ⟨fun _ _ => rfl, rfl⟩
theorem cK.trans {A : Nat → Prop} {h h' h'' : zH} (e : cK A h h') (g : cK A h' h'') : cK A h h'' := ⟨fun q hq => (g.1 q hq).trans (e.1 q hq), g.2.trans e.2⟩
theorem cK.mono {A B : Nat → Prop} {h h' : zH} (e : cK A h h') (hAB : ∀ q, A q → B q) : cK B h h' := ⟨fun q hq => e.1 q (fun w => hq (hAB q w)), e.2⟩
theorem cK_up (h : zH) (a : Nat) (e : zE) : cK (fun q => q = a) h (zup h a e) := ⟨fun q hq => if_neg hq, rfl⟩
theorem zup_s (h : zH) (a : Nat) (e : zE) : (zup h a e).1 a = some (true, e) := if_pos rfl
theorem zup_o (h : zH) {a q : Nat} (e : zE) (hq : q ≠ a) : (zup h a e).1 q = h.1 q := if_neg hq
theorem kby8 {r : Nat} (hr : r < 128) : (nI r).toInt8.toInt32 = nI r := by
  have : ∀ r, r < 128 → (nI r).toInt8.toInt32 = nI r := by decide
  exact this r hr
theorem cw_r {h : zH} {D a a1 a2 n : Nat} {f : Nat → Int32} {C : kC} (e : cO h D a a1 a2 n f C) {x r : Nat} (hx : x < 256) (hr : r < 128) : ∃ h', zast h a2 4 (nI x) (.int (nI r)) = some h' ∧ cO h' D a a1 a2 n f (C.p, C.l, C.d, C.m, va_up C.r x r) ∧ cK (fun q => q = a2) h h' := by
  obtain ⟨e1, e2, e3, e4, e5, e6⟩ := e
  have hc : (nI x).toNatClampNeg = x := nI_clamp (by omega)
  have hf : zfu (fun y => .int (nI (C.r y))) x (.int (nI r)) = fun y => .int (nI (va_up C.r x r y)) := by
    funext y
    unfold zfu va_up
    by_cases q : y = x
    · rw [if_pos q, if_pos q]
    · rw [if_neg q, if_neg q]
  refine ⟨zup h a2 (.inl (4, 256, fun y => .int (nI (va_up C.r x r y)))), ?_, ⟨?_, ?_, ?_, e4, e5, e6⟩, cK_up h a2 _⟩
  · unfold zast
    rw [e3]
    dsimp only
    rw [if_pos ⟨rfl, kNb hx (by decide), rfl⟩, hc]
    show (some (Value.int ((nI r).toInt8.toInt32))).map _ = _
    rw [kby8 hr]
    show some (zup h a2 (.inl (4, 256, zfu (fun y => .int (nI (C.r y))) x (.int (nI r))))) = _
    rw [hf]
  · rw [zup_o _ _ e5]; exact e1
  · rw [zup_o _ _ e6]; exact e2
  · rw [zup_s]; rfl
/-- a place is raised -/
theorem c_raises2 {h : zH} {D a a1 a2 n : Nat} {f : Nat → Int32} {C : kC} (e : cO h D a a1 a2 n f C) (hC : ∀ y, C.r y < 128) {x r : Nat} (hx : x < 256) (hr : r < 128) : ∃ h', zc PG mX2_raises_2 [.ref a, .int (nI x), .int (nI r)] h = some (.inl (some (.int (zb (decide (C.r x < r))))), h') ∧ cO h' D a a1 a2 n f (C.p, C.l, C.d, C.m, krs C.r x r) ∧ cK (fun q => q = a2) h h' := by
  have hr1 := cr_r e (x := x) hx
  have hb := hC x
  by_cases e1 : C.r x < r
  · obtain ⟨h', w1, w2, w3⟩ := cw_r e hx hr
    refine ⟨h', ?_, ?_, w3⟩
    · rw [decide_eq_true e1, zb_t]
      simp (disch := omega) only [eX2_raises_2, uX2_raises_2, zKK, zB, zBl, zBb, zlg, zA, zA3, zL3, km31, km63, klshr, kishr, k2p, kl1shl, klmask, kland1, kiand1, k_l2i, zrt_b, zrt_0, zrt_1, zdv_n, zdv_l, cg_r e, hr1, kby8, w1]
    · have : krs C.r x r = va_up C.r x r := by
        funext y
        unfold krs va_up
        by_cases q : y = x
        · rw [if_pos q, if_pos q]; rw [q]; omega
        · rw [if_neg q, if_neg q]
      rw [this]; exact w2
  · refine ⟨h, ?_, ?_, cK.rf _ h⟩
    · rw [decide_eq_false e1, zb_f]
      simp (disch := omega) only [eX2_raises_2, uX2_raises_2, zKK, zB, zBl, zBb, zlg, zA, zA3, zL3, km31, km63, klshr, kishr, k2p, kl1shl, klmask, kland1, kiand1, k_l2i, zrt_b, zrt_0, zrt_1, zdv_n, zdv_l, cg_r e, hr1]
    · have : krs C.r x r = C.r := by
        funext y
        unfold krs
        by_cases q : y = x
        · rw [if_pos q]; rw [q]; omega
        · rw [if_neg q]
      rw [this]; exact e
