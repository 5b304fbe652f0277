/-! THE COMPONENT: heaps that grow, frames, a counter as a whole -/
/-- nothing lies behind the end -/
def hW (h : zH) : Prop := ∀ q, h.2.1 ≤ q → h.1 q = none
theorem hW.lt {h : zH} (w : hW h) {q : Nat} {c : Bool × zE} (e : h.1 q = some c) : q < h.2.1 := Nat.lt_of_not_le (fun z => by have := w q z; rw [e] at this; cases this)
/-- what was there outside A is kept; at most n cells and s slots are new -/
def hF (A : Nat → Prop) (n s : Nat) (h h' : zH) : Prop := hW h' ∧ (∀ q, q < h.2.1 → ¬ A q → h'.1 q = h.1 q) ∧ h.2.1 ≤ h'.2.1 ∧ h'.2.1 ≤ h.2.1 + n ∧ h'.2.2.1 ≤ h.2.2.1 + s ∧ h'.2.2.2 = h.2.2.2
theorem hF.rf {h : zH} (w : hW h) (A : Nat → Prop) : hF A 0 0 h h := ⟨w, fun _ _ _ => rfl, Nat.le_refl _, Nat.le_refl _, Nat.le_refl _, rfl⟩
theorem hF.tr {A B : Nat → Prop} {n s n' s' : Nat} {h h' h'' : zH} (e : hF A n s h h') (g : hF B n' s' h' h'') (hB : ∀ q, q < h.2.1 → B q → A q) : hF A (n + n') (s + s') h h'' := by
  obtain ⟨e1, e2, e3, e4, e5, e6⟩ := e
  obtain ⟨g1, g2, g3, g4, g5, g6⟩ := g
  exact ⟨g1, fun q hq hA => (g2 q (by omega) (fun b => hA (hB q hq b))).trans (e2 q hq hA), by omega, by omega, by omega, g6.trans e6⟩
theorem hF.tr1 {A : Nat → Prop} {n s n' s' : Nat} {h h' h'' : zH} (e : hF A n s h h') (g : hF A n' s' h' h'') : hF A (n + n') (s + s') h h'' := e.tr g (fun _ _ q => q)
theorem hF.up {A B : Nat → Prop} {n s n' s' : Nat} {h h' : zH} (e : hF A n s h h') (hA : ∀ q, q < h.2.1 → A q → B q) (hn : n ≤ n') (hs : s ≤ s') : hF B n' s' h h' := by
  obtain ⟨e1, e2, e3, e4, e5, e6⟩ := e
  exact ⟨e1, fun q hq b => e2 q hq (fun a => b (hA q hq a)), e3, by omega, by omega, e6⟩
theorem hF.at {A : Nat → Prop} {n s : Nat} {h h' : zH} (e : hF A n s h h') (w : hW h) {q : Nat} {c : Bool × zE} (hq : h.1 q = some c) (hA : ¬ A q) : h'.1 q = some c := (e.2.1 q (w.lt hq) hA).trans hq
/-- only what is new -/
def hN : Nat → Prop := fun _ => False
theorem hF.new {A : Nat → Prop} {n s : Nat} {h h' : zH} (e : hF hN n s h h') : hF A n s h h' := e.up (fun _ _ q => False.elim q) (Nat.le_refl _) (Nat.le_refl _)
theorem cK.f {A : Nat → Prop} {h h' : zH} (e : cK A h h') (w : hW h) (hA : ∀ q, A q → q < h.2.1) : hF A 0 0 h h' := by
  obtain ⟨e1, e2⟩ := e
  refine ⟨fun q hq => ?_, fun q _ hq => e1 q hq, by rw [e2]; exact Nat.le_refl _, by rw [e2]; exact Nat.le_refl _, by rw [e2]; exact Nat.le_refl _, by rw [e2]⟩
  rw [e2] at hq
  rw [e1 q (fun a => by have := hA q a; omega)]
  exact w q hq
theorem hF_up {h : zH} (w : hW h) {a : Nat} (ha : a < h.2.1) (e : zE) : hF (fun q => q = a) 0 0 h (zup h a e) := (cK_up h a e).f w (fun q hq => by rw [hq]; exact ha)
theorem zpush_s (h : zH) (e : zE) (n : Nat) : (zpush h e n).1 h.2.1 = some (true, e) := if_pos rfl
theorem zpush_o (h : zH) (e : zE) (n : Nat) {q : Nat} (hq : q ≠ h.2.1) : (zpush h e n).1 q = h.1 q := if_neg hq
theorem hF_push {h : zH} (w : hW h) (e : zE) (n : Nat) : hF hN 1 n h (zpush h e n) := by
  refine ⟨fun q hq => ?_, fun q hq _ => zpush_o h e n (by omega), Nat.le_succ _, Nat.le_refl _, Nat.le_refl _, rfl⟩
  have hq : h.2.1 + 1 ≤ q := hq
  rw [zpush_o h e n (by omega)]
  exact w q (by omega)
theorem zpush_f {h : zH} (w : hW h) (e : zE) (n : Nat) {q : Nat} {c : Bool × zE} (hq : h.1 q = some c) : (zpush h e n).1 q = some c := by
  have := w.lt hq
  rw [zpush_o h e n (by omega)]
  exact hq
/-- a counter as a whole: at a, a + 1 and a + 2 -/
def cN (h : zH) (D a : Nat) (C : kC) : Prop := ∃ n f, cO h D a (a + 1) (a + 2) n f C ∧ cM n f C ∧ kI C
def cA (a : Nat) : Nat → Prop := fun q => q = a ∨ q = a + 1 ∨ q = a + 2
theorem cO.keep {h h' : zH} {D a n : Nat} {f : Nat → Int32} {C : kC} (e : cO h D a (a + 1) (a + 2) n f C) (k : ∀ q, cA a q → h'.1 q = h.1 q) : cO h' D a (a + 1) (a + 2) n f C := by
  obtain ⟨e1, e2, e3, e4⟩ := e
  exact ⟨(k _ (Or.inl rfl)).trans e1, (k _ (Or.inr (Or.inl rfl))).trans e2, (k _ (Or.inr (Or.inr rfl))).trans e3, e4⟩
theorem cN.keep {h h' : zH} {D a : Nat} {C : kC} (e : cN h D a C) (k : ∀ q, cA a q → h'.1 q = h.1 q) : cN h' D a C := by
  obtain ⟨n, f, e1, e2, e3⟩ := e
  exact ⟨n, f, e1.keep k, e2, e3⟩
theorem cN.lt {h : zH} {D a : Nat} {C : kC} (e : cN h D a C) (w : hW h) : a + 2 < h.2.1 := by
  obtain ⟨n, f, e1, e2, e3⟩ := e
  exact w.lt e1.2.2.1
theorem cN.ltA {h : zH} {D a : Nat} {C : kC} (e : cN h D a C) (w : hW h) : ∀ q, cA a q → q < h.2.1 := by
  have := e.lt w
  intro q hq
  rcases hq with rfl | rfl | rfl <;> omega
theorem cN.fr {A : Nat → Prop} {m s : Nat} {h h' : zH} {D a : Nat} {C : kC} (e : cN h D a C) (w : hW h) (F : hF A m s h h') (hA : ∀ q, cA a q → ¬ A q) : cN h' D a C := e.keep (fun q hq => F.2.1 q (e.ltA w q hq) (hA q hq))
theorem cN.nw {m s : Nat} {h h' : zH} {D a : Nat} {C : kC} (e : cN h D a C) (w : hW h) (F : hF hN m s h h') : cN h' D a C := e.fr w F (fun _ _ q => q)
theorem cN.I {h : zH} {D a : Nat} {C : kC} (e : cN h D a C) : kI C := e.choose_spec.choose_spec.2.2
/-- two counters are the same or apart -/
theorem cN.apart {h : zH} {D a b : Nat} {C C' : kC} (e : cN h D a C) (g : cN h D b C') (hab : a ≠ b) : ∀ q, cA a q → ¬ cA b q := by
  obtain ⟨n, f, ⟨e1, e2, e3, -⟩, -, -⟩ := e
  obtain ⟨n', f', ⟨g1, g2, g3, -⟩, -, -⟩ := g
  intro q hq hq'
  rcases hq with rfl | rfl | rfl
  · rcases hq' with z | z | z
    · exact hab z
    · rw [← z, e1] at g2; cases g2
    · rw [← z, e1] at g3; cases g3
  · rcases hq' with z | z | z
    · rw [← z, e2] at g1; cases g1
    · omega
    · rw [← z, e2] at g3; cases g3
  · rcases hq' with z | z | z
    · rw [← z, e3] at g1; cases g1
    · rw [← z, e3] at g2; cases g2
    · omega
/-! what is written of a counter -/
theorem cw_n {h : zH} {D a a1 a2 n : Nat} {f : Nat → Int32} {C : kC} (e : cO h D a a1 a2 n f C) (n' : Nat) : ∃ h', zput h a 2 4 0 (.int (nI n')) = some h' ∧ cO h' D a a1 a2 n' f C ∧ cK (fun q => q = a) h h' := by
  obtain ⟨e1, e2, e3, e4, e5, e6⟩ := e
  refine ⟨zup h a (.inr (2, [.int (nI C.p), .int (nI C.l), .ref a1, .ref a2, .int (nI n'), .int (zb C.d), .ref D])), ?_, ⟨zup_s _ _ _, ?_, ?_, e4, e5, e6⟩, cK_up h a _⟩
  · unfold zput
    rw [e1]
    rfl
  · rw [zup_o _ _ (Ne.symm e4)]; exact e2
  · rw [zup_o _ _ (Ne.symm e5)]; exact e3
theorem cw_d {h : zH} {D a a1 a2 n : Nat} {f : Nat → Int32} {C : kC} (e : cO h D a a1 a2 n f C) (b : Bool) (M : List Nat) : ∃ h', zput h a 2 5 1 (.int (zb b)) = some h' ∧ cO h' D a a1 a2 n f (C.p, C.l, b, M, C.r) ∧ cK (fun q => q = a) h h' := by
  obtain ⟨e1, e2, e3, e4, e5, e6⟩ := e
  refine ⟨zup h a (.inr (2, [.int (nI C.p), .int (nI C.l), .ref a1, .ref a2, .int (nI n), .int (zb b), .ref D])), ?_, ⟨zup_s _ _ _, ?_, ?_, e4, e5, e6⟩, cK_up h a _⟩
  · unfold zput
    rw [e1]
    cases b <;> rfl
  · rw [zup_o _ _ (Ne.symm e4)]; exact e2
  · rw [zup_o _ _ (Ne.symm e5)]; exact e3
theorem cw_m {h : zH} {D a a1 a2 n : Nat} {f : Nat → Int32} {C : kC} (e : cO h D a a1 a2 n f C) {i : Nat} (hi : i < 49) (x : Int32) : ∃ h', zast h a1 0 (nI i) (.int x) = some h' ∧ cO h' D a a1 a2 n (va_up f i x) C ∧ cK (fun q => q = a1) h h' := by
  obtain ⟨e1, e2, e3, e4, e5, e6⟩ := e
  have hc : (nI i).toNatClampNeg = i := nI_clamp (by omega)
  have hf : zfu (fun y => .int (f y)) i (.int x) = fun y => .int (va_up f i x y) := by
    funext y
    unfold zfu va_up
    by_cases q : y = i
    · rw [if_pos q, if_pos q]
    · rw [if_neg q, if_neg q]
  refine ⟨zup h a1 (.inl (0, 49, fun y => .int (va_up f i x y))), ?_, ⟨?_, ?_, ?_, e4, e5, e6⟩, cK_up h a1 _⟩
  · unfold zast
    rw [e2]
    dsimp only
    rw [if_pos ⟨rfl, kNb hi (by decide), rfl⟩, hc]
    show some (zup h a1 (.inl (0, 49, zfu (fun y => .int (f y)) i (.int x)))) = _
    rw [hf]
  · rw [zup_o _ _ e4]; exact e1
  · rw [zup_s]
  · rw [zup_o _ _ (Ne.symm e6)]; exact e3
theorem va_cpyI (f g : Nat → Int32) (i j k : Nat) : va_cpy (fun y => Value.int (f y)) (fun y => Value.int (g y)) i j k = fun y => .int (va_cpy f g i j k y) := by
  funext y
  unfold va_cpy
  by_cases q : j ≤ y ∧ y < j + k
  · rw [if_pos q, if_pos q]
  · rw [if_neg q, if_neg q]
theorem kN0 {i : Nat} (hi : i < 2147483648) : ¬ nI i < 0 := fun q => by
  have := Int32.lt_iff_toInt_lt.mp q
  rw [nI_toInt (by omega)] at this
  have h0 : (0 : Int32).toInt = 0 := by decide
  omega
theorem cw_cp {h : zH} {D a a1 a2 n : Nat} {f : Nat → Int32} {C : kC} (e : cO h D a a1 a2 n f C) {i j k : Nat} (hi : i + k ≤ 49) (hj : j + k ≤ 49) : ∃ h', zcp h a1 (nI i) a1 (nI j) (nI k) = some h' ∧ cO h' D a a1 a2 n (va_cpy f f i j k) C ∧ cK (fun q => q = a1) h h' := by
  obtain ⟨e1, e2, e3, e4, e5, e6⟩ := e
  have hci : (nI i).toNatClampNeg = i := nI_clamp (by omega)
  have hcj : (nI j).toNatClampNeg = j := nI_clamp (by omega)
  have hck : (nI k).toNatClampNeg = k := nI_clamp (by omega)
  refine ⟨zup h a1 (.inl (0, 49, fun y => .int (va_cpy f f i j k y))), ?_, ⟨?_, ?_, ?_, e4, e5, e6⟩, cK_up h a1 _⟩
  · unfold zcp
    rw [e2]
    dsimp only
    rw [hci, hcj, hck, if_pos ⟨rfl, Or.inl rfl, kN0 (by omega), kN0 (by omega), kN0 (by omega), hi, hj⟩, va_cpyI]
  · rw [zup_o _ _ e4]; exact e1
  · rw [zup_s]
  · rw [zup_o _ _ (Ne.symm e6)]; exact e3
