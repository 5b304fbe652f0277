/-! THE COMPONENT: a counter's cells, and what is read of them -/
/-- a counter's object at a, its marks at a1, its ranks at a2; it belongs to D -/
def cO (h : zH) (D a a1 a2 n : Nat) (f : Nat → Int32) (C : kC) : Prop := h.1 a = some (true, .inr (2, [.int (nI C.p), .int (nI C.l), .ref a1, .ref a2, .int (nI n), .int (zb C.d), .ref D])) ∧ h.1 a1 = some (true, .inl (0, 49, fun k => .int (f k))) ∧ h.1 a2 = some (true, .inl (4, 256, fun x => .int (nI (C.r x)))) ∧ a ≠ a1 ∧ a ≠ a2 ∧ a1 ≠ a2
/-- the marks stand there, if it is not dense -/
def cM (n : Nat) (f : Nat → Int32) (C : kC) : Prop := n ≤ 49 ∧ (C.d = false → n = C.m.length ∧ ∀ k, k < n → f k = nI (C.m.getD k 0))
theorem cg_p {h : zH} {D a a1 a2 n : Nat} {f : Nat → Int32} {C : kC} (e : cO h D a a1 a2 n f C) : zget h a 2 0 = some (.int (nI C.p)) := by unfold zget; rw [e.1]; rfl
theorem cg_l {h : zH} {D a a1 a2 n : Nat} {f : Nat → Int32} {C : kC} (e : cO h D a a1 a2 n f C) : zget h a 2 1 = some (.int (nI C.l)) := by unfold zget; rw [e.1]; rfl
theorem cg_m {h : zH} {D a a1 a2 n : Nat} {f : Nat → Int32} {C : kC} (e : cO h D a a1 a2 n f C) : zget h a 2 2 = some (.ref a1) := by unfold zget; rw [e.1]; rfl
theorem cg_r {h : zH} {D a a1 a2 n : Nat} {f : Nat → Int32} {C : kC} (e : cO h D a a1 a2 n f C) : zget h a 2 3 = some (.ref a2) := by unfold zget; rw [e.1]; rfl
theorem cg_n {h : zH} {D a a1 a2 n : Nat} {f : Nat → Int32} {C : kC} (e : cO h D a a1 a2 n f C) : zget h a 2 4 = some (.int (nI n)) := by unfold zget; rw [e.1]; rfl
theorem cg_d {h : zH} {D a a1 a2 n : Nat} {f : Nat → Int32} {C : kC} (e : cO h D a a1 a2 n f C) : zget h a 2 5 = some (.int (zb C.d)) := by unfold zget; rw [e.1]; rfl
theorem cg_D {h : zH} {D a a1 a2 n : Nat} {f : Nat → Int32} {C : kC} (e : cO h D a a1 a2 n f C) : zget h a 2 6 = some (.ref D) := by unfold zget; rw [e.1]; rfl
theorem cg_is {h : zH} {D a a1 a2 n : Nat} {f : Nat → Int32} {C : kC} (e : cO h D a a1 a2 n f C) : zis h a 2 = true := by unfold zis; rw [e.1]; rfl
theorem kNb {i n : Nat} (hi : i < n) (hn : n < 2147483648) : ¬ (nI i < 0 ∨ n ≤ (nI i).toNatClampNeg) := by
  have e : (nI i).toNatClampNeg = i := nI_clamp (by omega)
  rw [e]
  intro q
  rcases q with q | q
  · have := Int32.lt_iff_toInt_lt.mp q
    rw [nI_toInt (by omega)] at this
    have h0 : (0 : Int32).toInt = 0 := by decide
    omega
  · omega
theorem cr_m {h : zH} {D a a1 a2 n : Nat} {f : Nat → Int32} {C : kC} (e : cO h D a a1 a2 n f C) {i : Nat} (hi : i < 49) : zald h a1 0 (nI i) = some (.int (f i)) := by
  unfold zald
  rw [e.2.1]
  dsimp only
  rw [nI_clamp (by omega)]
  simp [kNb hi (by decide), nI_clamp (show i < 2147483648 by omega)]
  have := kNb hi (by decide)
  rw [nI_clamp (by omega)] at this
  refine ⟨?_, by omega⟩
  simpa using fun q => this (Or.inl q)
theorem cr_r {h : zH} {D a a1 a2 n : Nat} {f : Nat → Int32} {C : kC} (e : cO h D a a1 a2 n f C) {x : Nat} (hx : x < 256) : zald h a2 4 (nI x) = some (.int (nI (C.r x))) := by
  unfold zald
  rw [e.2.2.1]
  dsimp only
  rw [nI_clamp (by omega)]
  have := kNb hx (by decide)
  rw [nI_clamp (by omega)] at this
  simp [this]
