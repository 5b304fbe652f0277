/-! THE COMPONENT: each place of a counter; a counter takes another one; counters are made -/
theorem n_m {h : zH} {D a : Nat} {C : kC} (e : cN h D a C) : zc PG mX2_m [.ref a] h = some (.inl (some (.int (nI (2 ^ C.p)))), h) := by
  obtain ⟨n, f, e1, e2, iC⟩ := e
  exact c_m e1 iC.2.1
theorem n_empty {h : zH} {D a : Nat} {C : kC} (e : cN h D a C) : zc PG mX2_empty [.ref a] h = some (.inl (some (.int (nI (kz C)))), h) := by
  obtain ⟨n, f, e1, e2, iC⟩ := e
  exact c_empty e1 iC
theorem n_greatest {h : zH} {D a : Nat} {C : kC} (e : cN h D a C) : zc PG mX2_greatest [.ref a] h = some (.inl (some (.int (nI (kgr C.r (2 ^ C.p))))), h) := by
  obtain ⟨n, f, e1, e2, iC⟩ := e
  exact c_greatest e1 iC
theorem n_all {h : zH} {D a : Nat} {C : kC} (e : cN h D a C) : zc PG mX2_all [.ref a] h = some (.inl (some (.long (lN (kall C)))), h) := by
  obtain ⟨n, f, e1, e2, iC⟩ := e
  exact c_all e1 iC
theorem n_find {h : zH} {D a : Nat} {C : kC} (e : cN h D a C) (hd : C.d = false) {m : Nat} (hm : m < 4294967296) : zc PG mX2_find [.ref a, .int (nI m)] h = some (.inl (some (.int (kfd m C.m))), h) := by
  obtain ⟨n, f, e1, e2, iC⟩ := e
  exact c_find e1 e2 iC hd hm
/-- fields and ranks of a counter -/
theorem nG {h : zH} {D a : Nat} {C : kC} (e : cN h D a C) : zget h a 2 0 = some (.int (nI C.p)) ∧ zget h a 2 1 = some (.int (nI C.l)) ∧ zget h a 2 2 = some (.ref (a + 1)) ∧ zget h a 2 3 = some (.ref (a + 2)) ∧ zget h a 2 5 = some (.int (zb C.d)) ∧ zget h a 2 6 = some (.ref D) ∧ zis h a 2 = true ∧ (∀ x, x < 256 → zald h (a + 2) 4 (nI x) = some (.int (nI (C.r x)))) := by
  obtain ⟨n, f, e1, e2, iC⟩ := e
  exact ⟨cg_p e1, cg_l e1, cg_m e1, cg_r e1, cg_d e1, cg_D e1, cg_is e1, fun x hx => cr_r e1 hx⟩
/-- marks of a sparse one -/
theorem nM {h : zH} {D a : Nat} {C : kC} (e : cN h D a C) (hd : C.d = false) : zget h a 2 4 = some (.int (nI C.m.length)) ∧ (∀ k, k < C.m.length → zald h (a + 1) 0 (nI k) = some (.int (nI (C.m.getD k 0)))) := by
  obtain ⟨n, f, e1, e2, iC⟩ := e
  obtain ⟨h1, h2⟩ := e2.2 hd
  refine ⟨by rw [← h1]; exact cg_n e1, fun k hk => ?_⟩
  have h49 := e2.1
  rw [cr_m e1 (by omega), h2 k (by omega)]
/-- it becomes dense -/
theorem n_dense {h : zH} {D a : Nat} {C : kC} (w : hW h) (e : cN h D a C) : ∃ h', zput h a 2 5 1 (.int (nI 1)) = some h' ∧ cN h' D a (kdense C) ∧ hF (cA a) 0 0 h h' := by
  have e0 := e
  obtain ⟨n, f, e1, e2, iC⟩ := e
  obtain ⟨h', p1, q1, k1⟩ := cw_d e1 true []
  exact ⟨h', p1, ⟨n, f, q1, ⟨e2.1, fun z => by cases z⟩, kI_dense iC⟩, (k1.mono (fun q z => Or.inl z)).f w (e0.ltA w)⟩
theorem n_raises {h : zH} {D a : Nat} {C : kC} (w : hW h) (e : cN h D a C) (hd : C.d = true) {m : Nat} (hm : m < 4294967296) : ∃ h', zc PG mX2_raises [.ref a, .int (nI m)] h = some (.inl (some (.int (zb (decide (C.r (kpl m C.p) < krk m C.p))))), h') ∧ cN h' D a (kraise C m) ∧ hF (cA a) 0 0 h h' := by
  have e0 := e
  obtain ⟨n, f, e1, e2, iC⟩ := e
  obtain ⟨h', r1, r2, r3⟩ := c_raises e1 iC.1 iC.2.1 iC.2.2.2.2.1 hm
  have ek : kcomes C m = kraise C m := by unfold kcomes; rw [hd]; rfl
  have hI := kI_comes iC hm
  rw [ek] at hI
  exact ⟨h', r1, ⟨n, f, r2, ⟨e2.1, fun z => absurd (z.symm.trans (show (kraise C m).d = true from hd)) (by decide)⟩, hI⟩, (r3.mono (fun q z => Or.inr (Or.inr z))).f w (e0.ltA w)⟩
/-- what is done with each place that has a rank -/
theorem n_each {D b lam : Nat} {C : kC} {k : Nat} {fs : List Value} {P : Nat → zH → Prop} (hc : ∀ x h, P x h → cN h D b C ∧ zlam h [(104, mX1_lambda_slice_4), (107, mX1_lambda_lessers_7), (112, mX2_lambda_takes_0)] lam = some (k, fs)) (h0 : ∀ x h, x < 2 ^ C.p → C.r x = 0 → P x h → P (x + 1) h) (h1 : ∀ x h, x < 2 ^ C.p → 0 < C.r x → P x h → ∃ h', zc PG k (fs ++ [.int (nI x), .int (nI (C.r x))]) h = some (.inl none, h') ∧ P (x + 1) h') {h : zH} (hP : P 0 h) : ∃ h', zc PG mX2_each [.ref b, .ref lam] h = some (.inl none, h') ∧ P (2 ^ C.p) h' := by
  have loop : ∀ (j x : Nat) (h : zH), x + j = 2 ^ C.p → P x h → ∃ h', zs PG mX2_each 2 [.ref b, .ref lam, .int (nI x)] [] h = some (.inl none, h') ∧ P (2 ^ C.p) h' := by
    intro j
    induction j with
    | zero =>
      intro x h hx hP
      have hx : x = 2 ^ C.p := hx
      obtain ⟨c1, c2⟩ := hc x h hP
      have h2 := k2p_le c1.I.2.1
      have hm := n_m c1
      refine ⟨h, ?_, by rw [← hx]; exact hP⟩
      rw [uX2_each_at2, hx]
      simp (disch := omega) only [uX2_each, zKK, zB, zBl, zBb, zlg, zA, zA3, zL3, km31, km63, klshr, kishr, k2p, kl1shl, klmask, kland1, kiand1, k_l2i, zrt_b, zrt_0, zrt_1, zdv_n, zdv_l, nG c1, hm]
    | succ j ih =>
      intro x h hx hP
      obtain ⟨c1, c2⟩ := hc x h hP
      have h2 := k2p_le c1.I.2.1
      have hm := n_m c1
      have hr := c1.I.2.2.2.2.1 x
      have g := (nG c1).2.2.2.2.2.2.2 x (by omega)
      by_cases e : C.r x = 0
      · obtain ⟨h', r1, r2⟩ := ih (x + 1) h (by omega) (h0 x h (by omega) e hP)
        refine ⟨h', ?_, r2⟩
        rw [e] at g
        rw [← r1, uX2_each_at2]
        simp (disch := omega) only [uX2_each, zKK, zB, zBl, zBb, zlg, zA, zA3, zL3, km31, km63, klshr, kishr, k2p, kl1shl, klmask, kland1, kiand1, k_l2i, zrt_b, zrt_0, zrt_1, zdv_n, zdv_l, nG c1, hm, g]
      · obtain ⟨hh, s1, s2⟩ := h1 x h (by omega) (by omega) hP
        obtain ⟨h', r1, r2⟩ := ih (x + 1) hh (by omega) s2
        refine ⟨h', ?_, r2⟩
        rw [← r1, uX2_each_at2]
        simp (disch := omega) only [uX2_each, zKK, zB, zBl, zBb, zlg, zA, zA3, zL3, km31, km63, klshr, kishr, k2p, kl1shl, klmask, kland1, kiand1, k_l2i, zrt_b, zrt_0, zrt_1, zdv_n, zdv_l, nG c1, hm, g, c2, s1]
  obtain ⟨h', r1, r2⟩ := loop (2 ^ C.p) 0 h (Nat.zero_add _) hP
  refine ⟨h', ?_, r2⟩
  rw [← r1]
  simp only [eX2_each, uX2_each]
/-- what a counter takes of another one -/
def ktk (A C : kC) : kC := if !C.d && !A.d then C.m.foldl kcomes A else (A.p, A.l, true, [], if C.d then kfo (C.p - A.p) C.r A.r (2 ^ C.p) else klay A.p A.r C.m)
theorem kdrop_s {L : List Nat} {i : Nat} (h : i < L.length) : L.drop i = L.getD i 0 :: L.drop (i + 1) := by
  rw [List.drop_eq_getElem_cons h, List.getD_eq_getElem?_getD, List.getElem?_eq_getElem h]
  rfl
theorem n_takes_1 {D a b : Nat} {C : kC} (hd : C.d = false) (hab : a ≠ b) (k : Nat) : ∀ (i : Nat) (h : zH) (A : kC), i + k = C.m.length → hW h → cN h D a A → cN h D b C → ∃ h', zs PG mX2_takes 16 [.ref a, .ref b, .int (nI i)] [] h = some (.inl none, h') ∧ cN h' D a ((C.m.drop i).foldl kcomes A) ∧ hF (cA a) 0 0 h h' := by
  induction k with
  | zero =>
    intro i h A hi w ea eb
    have hi : i = C.m.length := hi
    have hl := eb.I.2.2.2.2.2.2.2.2.2.1
    have hl3 := eb.I.2.2.2.1
    refine ⟨h, ?_, by rw [hi, List.drop_length]; exact ea, hF.rf w _⟩
    rw [uX2_takes_at16, hi]
    simp (disch := omega) only [uX2_takes, zKK, zB, zBl, zBb, zlg, zA, zA3, zL3, km31, km63, klshr, kishr, k2p, kl1shl, klmask, kland1, kiand1, k_l2i, zrt_b, zrt_0, zrt_1, zdv_n, zdv_l, nM eb hd]
  | succ k ih =>
    intro i h A hi w ea eb
    have hl := eb.I.2.2.2.2.2.2.2.2.2.1
    have hl3 := eb.I.2.2.2.1
    have hi2 : i < C.m.length := by omega
    have hm := eb.I.2.2.2.2.2.2.2.1 _ (kget_mem hi2)
    obtain ⟨h1, p1, q1, k1⟩ := n_adds w ea hm
    obtain ⟨h', r1, r2, r3⟩ := ih (i + 1) h1 _ (by omega) k1.1 q1 (eb.fr w k1 (fun q hq => eb.apart ea (Ne.symm hab) q hq))
    refine ⟨h', ?_, by rw [kdrop_s hi2, List.foldl_cons]; exact r2, k1.tr1 r3⟩
    rw [← r1, uX2_takes_at16]
    simp (disch := omega) only [uX2_takes, zKK, zB, zBl, zBb, zlg, zA, zA3, zL3, km31, km63, klshr, kishr, k2p, kl1shl, klmask, kland1, kiand1, k_l2i, zrt_b, zrt_0, zrt_1, zdv_n, zdv_l, nM eb hd, nG eb, nG ea, p1]
theorem n_takes_2 {D a b : Nat} {C : kC} (hd : C.d = false) (hab : a ≠ b) (k : Nat) : ∀ (i : Nat) (h : zH) (A : kC), i + k = C.m.length → A.d = true → hW h → cN h D a A → cN h D b C → ∃ h', zs PG mX2_takes 56 [.ref a, .ref b, .int (nI i)] [] h = some (.inl none, h') ∧ cN h' D a ((C.m.drop i).foldl kraise A) ∧ hF (cA a) 0 0 h h' := by
  induction k with
  | zero =>
    intro i h A hi hA w ea eb
    have hi : i = C.m.length := hi
    have hl := eb.I.2.2.2.2.2.2.2.2.2.1
    have hl3 := eb.I.2.2.2.1
    refine ⟨h, ?_, by rw [hi, List.drop_length]; exact ea, hF.rf w _⟩
    rw [uX2_takes_at56, hi]
    simp (disch := omega) only [uX2_takes, zKK, zB, zBl, zBb, zlg, zA, zA3, zL3, km31, km63, klshr, kishr, k2p, kl1shl, klmask, kland1, kiand1, k_l2i, zrt_b, zrt_0, zrt_1, zdv_n, zdv_l, nM eb hd]
  | succ k ih =>
    intro i h A hi hA w ea eb
    have hl := eb.I.2.2.2.2.2.2.2.2.2.1
    have hl3 := eb.I.2.2.2.1
    have hi2 : i < C.m.length := by omega
    have hm := eb.I.2.2.2.2.2.2.2.1 _ (kget_mem hi2)
    obtain ⟨h1, p1, q1, k1⟩ := n_raises w ea hA hm
    obtain ⟨h', r1, r2, r3⟩ := ih (i + 1) h1 (kraise A (C.m.getD i 0)) (by omega) hA k1.1 q1 (eb.fr w k1 (fun q hq => eb.apart ea (Ne.symm hab) q hq))
    refine ⟨h', ?_, by rw [kdrop_s hi2, List.foldl_cons]; exact r2, k1.tr1 r3⟩
    rw [← r1, uX2_takes_at56]
    simp (disch := omega) only [uX2_takes, zKK, zB, zBl, zBb, zlg, zA, zA3, zL3, km31, km63, klshr, kishr, k2p, kl1shl, klmask, kland1, kiand1, k_l2i, zrt_b, zrt_0, zrt_1, zdv_n, zdv_l, nM eb hd, nG eb, nG ea, p1]
theorem kraise_lay (L : List Nat) : ∀ A : kC, L.foldl kraise A = (A.p, A.l, A.d, A.m, klay A.p A.r L) := by
  induction L with
  | nil => intro A; rfl
  | cons m L ih => intro A; rw [List.foldl_cons, ih]; rfl
theorem kfo_I {C : kC} (iC : kI C) {P : Nat} (hP : P ≤ C.p) {F : Nat → Nat} (hF1 : ∀ y, F y ≤ 33 - P) (hF2 : ∀ y, 2 ^ P ≤ y → F y = 0) {n : Nat} (hn : n ≤ 2 ^ C.p) : (∀ y, kfo (C.p - P) C.r F n y ≤ 33 - P) ∧ ∀ y, 2 ^ P ≤ y → kfo (C.p - P) C.r F n y = 0 := by
  have h8 := iC.2.1
  constructor
  · intro y
    rw [kfo_le]
    refine ⟨hF1 y, fun x hx hr _ => ?_⟩
    have := iC.2.2.2.2.1 x
    unfold kfv
    by_cases e : x % 2 ^ (C.p - P) = 0
    · rw [if_pos e]; omega
    · rw [if_neg e]; omega
  · intro y hy
    have : kfo (C.p - P) C.r F n y ≤ 0 := by
      rw [kfo_le]
      refine ⟨by rw [hF2 y hy]; exact Nat.le_refl _, fun x hx hr e => ?_⟩
      exfalso
      have : x / 2 ^ (C.p - P) < 2 ^ P := by
        rw [Nat.div_lt_iff_lt_mul (Nat.pow_pos (by decide)), ← Nat.pow_add, show P + (C.p - P) = C.p by omega]
        omega
      omega
    omega
theorem kdiv_2p {x d q p : Nat} (hx : x < 2 ^ p) (hd : d + q = p) : x / 2 ^ d < 2 ^ q := by
  rw [Nat.div_lt_iff_lt_mul (Nat.pow_pos (by decide)), ← Nat.pow_add, show q + d = p by omega]
  exact hx
theorem n_lam_takes {h : zH} {D a b : Nat} {A C : kC} (w : hW h) (ea : cN h D a A) (eb : cN h D b C) (hA : A.d = true) (hp : A.p ≤ C.p) {x : Nat} (hx : x < 2 ^ C.p) (hI : kI (A.p, A.l, true, [], krs A.r (x / 2 ^ (C.p - A.p)) (kfv (C.p - A.p) x (C.r x)))) : ∃ h', zc PG mX2_lambda_takes_0 [.ref a, .ref b, .int (nI x), .int (nI (C.r x))] h = some (.inl none, h') ∧ cN h' D a (A.p, A.l, true, [], krs A.r (x / 2 ^ (C.p - A.p)) (kfv (C.p - A.p) x (C.r x))) ∧ hF (cA a) 0 0 h h' := by
  have e0 := ea
  obtain ⟨n, f, e1, e2, iA⟩ := ea
  have i4 := iA.1
  have i8 := eb.I.2.1
  have h2 := k2p_le i8
  have hr := eb.I.2.2.2.2.1 x
  have hf := c_folded h a (x := x) (r := C.r x) (d := C.p - A.p) (by omega) (by omega) (by omega)
  have hv : kfv (C.p - A.p) x (C.r x) < 128 := by
    unfold kfv
    split <;> omega
  have hq : x / 2 ^ (C.p - A.p) < 2 ^ A.p := kdiv_2p hx (by omega)
  have h2a := k2p_le iA.2.1
  obtain ⟨h', w1, w2, w3⟩ := c_raises2 e1 (fun y => by have := iA.2.2.2.2.1 y; omega) (x := x / 2 ^ (C.p - A.p)) (r := kfv (C.p - A.p) x (C.r x)) (by omega) hv
  rw [hA] at w2
  refine ⟨h', ?_, ⟨n, f, w2, ⟨e2.1, fun z => by cases z⟩, hI⟩, (w3.mono (fun q z => Or.inr (Or.inr z))).f w (e0.ltA w)⟩
  simp (disch := omega) only [eX2_lambda_takes_0, uX2_lambda_takes_0, zKK, zB, zBl, zBb, zlg, zA, zA3, zL3, km31, km63, klshr, kishr, k2p, kl1shl, klmask, kland1, kiand1, k_l2i, zrt_b, zrt_0, zrt_1, zdv_n, zdv_l, nG e0, nG eb, hf, w1]
theorem zlam_s {h : zH} {l : List (Nat × Nat)} {b c k : Nat} {fs : List Value} {t : Bool} (e : h.1 b = some (t, .inr (c, fs))) (hl : zsite l c = some k) : zlam h l b = some (k, fs) := by
  unfold zlam
  rw [e]
  dsimp only
  rw [hl]
/-- a counter takes another one -/
theorem n_takes {h : zH} {D a b : Nat} {A C : kC} (w : hW h) (ea : cN h D a A) (eb : cN h D b C) (hab : a ≠ b) (hp : A.p ≤ C.p) : ∃ h', zc PG mX2_takes [.ref a, .ref b] h = some (.inl none, h') ∧ cN h' D a (ktk A C) ∧ hF (cA a) 1 2 h h' := by
  have apb : ∀ q, cA b q → ¬ cA a q := fun q hq => eb.apart ea (Ne.symm hab) q hq
  have gb := nG eb
  have ga := nG ea
  have up : ∀ {h1 : zH}, hF (cA a) 0 0 h h1 → hF (cA a) 1 2 h h1 := fun F => F.up (fun _ _ z => z) (by omega) (by omega)
  cases hC : C.d with
  | false =>
    rw [hC] at gb
    cases hA : A.d with
    | false =>
      rw [hA] at ga
      obtain ⟨h', r1, r2, r3⟩ := n_takes_1 hC hab C.m.length 0 h A (Nat.zero_add _) w ea eb
      refine ⟨h', ?_, ?_, up r3⟩
      · rw [← r1]
        simp (disch := omega) only [eX2_takes, uX2_takes, zKK, zB, zBl, zBb, zlg, zA, zA3, zL3, km31, km63, klshr, kishr, k2p, kl1shl, klmask, kland1, kiand1, k_l2i, zrt_b, zrt_0, zrt_1, zdv_n, zdv_l, ga, gb]
      · unfold ktk
        rw [hC, hA]
        exact r2
    | true =>
      rw [hA] at ga
      obtain ⟨h1, p1, q1, k1⟩ := n_dense w ea
      have eb1 := eb.fr w k1 apb
      obtain ⟨h', r1, r2, r3⟩ := n_takes_2 hC hab C.m.length 0 h1 _ (Nat.zero_add _) rfl k1.1 q1 eb1
      refine ⟨h', ?_, ?_, up (k1.tr1 r3)⟩
      · have gb1 := nG eb1
        rw [hC] at gb1
        rw [← r1]
        simp (disch := omega) only [eX2_takes, uX2_takes, zKK, zB, zBl, zBb, zlg, zA, zA3, zL3, km31, km63, klshr, kishr, k2p, kl1shl, klmask, kland1, kiand1, k_l2i, zrt_b, zrt_0, zrt_1, zdv_n, zdv_l, ga, gb, p1, gb1]
      · unfold ktk
        rw [hC, hA]
        rw [kraise_lay] at r2
        exact r2
  | true =>
    rw [hC] at gb
    obtain ⟨h1, p1, q1, k1⟩ := n_dense w ea
    have eb1 := eb.fr w k1 apb
    have gb1 := nG eb1
    rw [hC] at gb1
    have f2 := hF_push k1.1 (.inr (112, [.ref a, .ref b])) 2
    have ea2 := q1.nw k1.1 f2
    have eb2 := eb1.nw k1.1 f2
    have hl2 : (zpush h1 (.inr (112, [.ref a, .ref b])) 2).1 h1.2.1 = some (true, .inr (112, [.ref a, .ref b])) := zpush_s _ _ _
    have hlam : ¬ cA a h1.2.1 := fun z => by have := q1.ltA k1.1 _ z; omega
    obtain ⟨h', r1, r2⟩ := n_each (D := D) (b := b) (lam := h1.2.1) (C := C) (k := mX2_lambda_takes_0) (fs := [.ref a, .ref b]) (P := fun x g => cN g D b C ∧ g.1 h1.2.1 = some (true, .inr (112, [.ref a, .ref b])) ∧ cN g D a (A.p, A.l, true, [], kfo (C.p - A.p) C.r A.r x) ∧ hF (cA a) 0 0 (zpush h1 (.inr (112, [.ref a, .ref b])) 2) g)
      (fun x g hP => ⟨hP.1, zlam_s hP.2.1 rfl⟩)
      (fun x g hx hr hP => by
        refine ⟨hP.1, hP.2.1, ?_, hP.2.2.2⟩
        rw [kfo, if_pos hr]
        exact hP.2.2.1)
      (fun x g hx hr hP => by
        obtain ⟨b1, b2, b3, b4⟩ := hP
        have iA := ea.I
        have hI := kfo_I eb.I hp iA.2.2.2.2.1 iA.2.2.2.2.2.1 (n := x + 1) (by omega)
        rw [kfo, if_neg (by omega)] at hI
        obtain ⟨g', t1, t2, t3⟩ := n_lam_takes b4.1 b3 b1 rfl hp hx ⟨iA.1, iA.2.1, iA.2.2.1, iA.2.2.2.1, hI.1, hI.2, fun _ => rfl, (fun _ z => by cases z), List.Pairwise.nil, Nat.zero_le _, (fun z => by cases z)⟩
        refine ⟨g', t1, b1.fr b4.1 t3 (fun q hq => b1.apart b3 (Ne.symm hab) q hq), t3.at b4.1 b2 hlam, ?_, b4.tr1 t3⟩
        rw [kfo, if_neg (by omega)]
        exact t2)
      (h := zpush h1 (.inr (112, [.ref a, .ref b])) 2) ⟨eb2, hl2, ea2, hF.rf f2.1 _⟩
    refine ⟨h', ?_, ?_, ?_⟩
    · simp (disch := omega) only [eX2_takes, uX2_takes, zKK, zB, zBl, zBb, zlg, zA, zA3, zL3, km31, km63, klshr, kishr, k2p, kl1shl, klmask, kland1, kiand1, k_l2i, zrt_b, zrt_0, zrt_1, zdv_n, zdv_l, gb, p1, gb1, nG eb2, r1]
    · have := r2.2.2.1
      unfold ktk
      rw [hC]
      exact this
    · exact ((k1.tr1 f2.new).tr1 r2.2.2.2)
/-- a counter is made, at the end -/
def hNew (h : zH) (D p l : Nat) : zH := zpush (zpush (zpush h (.inr (2, [.int (nI p), .int (nI l), .ref (h.2.1 + 1), .ref (h.2.1 + 2), .int 0, .int 0, .ref D])) 7) (.inl (0, 49, fun _ => .int 0)) 49) (.inl (4, 256, fun _ => .int 0)) 256
theorem hNew_F {h : zH} (w : hW h) (D p l : Nat) : hF hN 3 312 h (hNew h D p l) := by
  have f1 := hF_push w (.inr (2, [.int (nI p), .int (nI l), .ref (h.2.1 + 1), .ref (h.2.1 + 2), .int 0, .int 0, .ref D])) 7
  have f2 := hF_push f1.1 (.inl (0, 49, fun _ => .int 0)) 49
  have f3 := hF_push f2.1 (.inl (4, 256, fun _ => .int 0)) 256
  exact (f1.tr1 f2).tr1 f3
theorem hNew_N {h : zH} (D : Nat) {p l : Nat} (h4 : 4 ≤ p) (h8 : p ≤ 8) (h1 : 1 ≤ l) (h48 : l ≤ 48) : cN (hNew h D p l) D h.2.1 (kopen p l) := by
  refine ⟨0, fun _ => 0, ⟨?_, ?_, ?_, by omega, by omega, by omega⟩, ⟨by omega, fun _ => ⟨rfl, fun k hk => absurd hk (Nat.not_lt_zero _)⟩⟩, kI_open h4 h8 h1 h48⟩
  · unfold hNew
    rw [zpush_o _ _ _ (by show h.2.1 ≠ h.2.1 + 1 + 1; omega), zpush_o _ _ _ (by show h.2.1 ≠ h.2.1 + 1; omega), zpush_s]
    rfl
  · unfold hNew
    rw [zpush_o _ _ _ (by show h.2.1 + 1 ≠ h.2.1 + 1 + 1; omega)]
    exact zpush_s _ _ _
  · exact zpush_s _ _ _
theorem zup_ps (h : zH) (e e' : zE) (s : Nat) : zup (zpush h e s) h.2.1 e' = zpush h e' s := by
  refine Prod.ext (funext fun q => ?_) rfl
  show (if q = h.2.1 then some (true, e') else if q = h.2.1 then some (true, e) else h.1 q) = if q = h.2.1 then some (true, e') else h.1 q
  by_cases z : q = h.2.1
  · rw [if_pos z, if_pos z]
  · rw [if_neg z, if_neg z, if_neg z]
theorem zup_po (h : zH) (e e' : zE) (s : Nat) {a : Nat} (ha : a ≠ h.2.1) : zup (zpush h e s) a e' = zpush (zup h a e') e s := by
  refine Prod.ext (funext fun q => ?_) rfl
  show (if q = a then some (true, e') else if q = h.2.1 then some (true, e) else h.1 q) = if q = h.2.1 then some (true, e) else if q = a then some (true, e') else h.1 q
  by_cases z : q = a
  · rw [if_pos z, if_neg (by omega), if_pos z]
  · rw [if_neg z, if_neg z]
theorem zput_u {h : zH} {a c k ty : Nat} {fs : List Value} {v : Value} (e : h.1 a = some (true, .inr (c, fs))) (hk : k < fs.length) (hv : zkind ty v = true) : zput h a c k ty v = some (zup h a (.inr (c, fs.set k v))) := by
  unfold zput
  rw [e]
  dsimp only
  rw [if_pos ⟨rfl, hk, hv⟩]
theorem znew_k (h : zH) (t : Nat) {k : Nat} (hk : k < 60000000) : znew h t (nI k) = some (zpush h (.inl (t, k, fun _ => zdef t)) k) := by
  unfold znew
  rw [nI_clamp (by omega), if_neg]
  intro z
  rcases z with z | z
  · exact kN0 (by omega) z
  · omega
theorem n_new (h : zH) (D p l : Nat) : zc PG mX2_init [.ref h.2.1, .ref D, .int (nI p), .int (nI l)] (zpush h (.inr (2, [.int 0, .int 0, .null, .null, .int 0, .int 0, .null])) 7) = some (.inl none, hNew h D p l) := by
  have p1 : zput (zpush h (.inr (2, [.int 0, .int 0, .null, .null, .int 0, .int 0, .null])) 7) h.2.1 2 6 3 (.ref D) = some (zpush h (.inr (2, [.int 0, .int 0, .null, .null, .int 0, .int 0, .ref D])) 7) := by
    rw [zput_u (zpush_s _ _ _) (Nat.le_of_ble_eq_true rfl) rfl, zup_ps]
    rfl
  have p2 : zput (zpush (zpush h (.inr (2, [.int 0, .int 0, .null, .null, .int 0, .int 0, .ref D])) 7) (.inl (0, 49, fun _ => zdef 0)) 49) h.2.1 2 2 3 (.ref (h.2.1 + 1)) = some (zpush (zpush h (.inr (2, [.int 0, .int 0, .ref (h.2.1 + 1), .null, .int 0, .int 0, .ref D])) 7) (.inl (0, 49, fun _ => zdef 0)) 49) := by
    rw [zput_u (fs := [.int 0, .int 0, .null, .null, .int 0, .int 0, .ref D]) (by rw [zpush_o _ _ _ (by show h.2.1 ≠ h.2.1 + 1; omega)]; exact zpush_s _ _ _) (Nat.le_of_ble_eq_true rfl) rfl, zup_po _ _ _ _ (by show h.2.1 ≠ h.2.1 + 1; omega), zup_ps]
    rfl
  have q : ∀ (k ty : Nat) (v : Value) (fs gs : List Value), k < fs.length → zkind ty v = true → fs.set k v = gs → zput (zpush (zpush (zpush h (.inr (2, fs)) 7) (.inl (0, 49, fun _ => zdef 0)) 49) (.inl (4, 256, fun _ => zdef 4)) 256) h.2.1 2 k ty v = some (zpush (zpush (zpush h (.inr (2, gs)) 7) (.inl (0, 49, fun _ => zdef 0)) 49) (.inl (4, 256, fun _ => zdef 4)) 256) := by
    intro k ty v fs gs h1 h2 h3
    rw [zput_u (fs := fs) (by rw [zpush_o _ _ _ (by show h.2.1 ≠ h.2.1 + 1 + 1; omega), zpush_o _ _ _ (by show h.2.1 ≠ h.2.1 + 1; omega)]; exact zpush_s _ _ _) h1 h2, zup_po _ _ _ _ (by show h.2.1 ≠ h.2.1 + 1 + 1; omega), zup_po _ _ _ _ (by show h.2.1 ≠ h.2.1 + 1; omega), zup_ps, h3]
  have p3 := q 3 3 (.ref (h.2.1 + 2)) [.int 0, .int 0, .ref (h.2.1 + 1), .null, .int 0, .int 0, .ref D] _ (Nat.le_of_ble_eq_true rfl) rfl rfl
  have p4 := q 0 0 (.int (nI p)) [.int 0, .int 0, .ref (h.2.1 + 1), .ref (h.2.1 + 2), .int 0, .int 0, .ref D] _ (Nat.le_of_ble_eq_true rfl) rfl rfl
  have p5 := q 1 0 (.int (nI l)) [.int (nI p), .int 0, .ref (h.2.1 + 1), .ref (h.2.1 + 2), .int 0, .int 0, .ref D] _ (Nat.le_of_ble_eq_true rfl) rfl rfl
  simp only [List.set] at p3 p4 p5
  have z1 : ∀ e, (zpush h e 7).2.1 = h.2.1 + 1 := fun _ => rfl
  have z2 : ∀ e e', (zpush (zpush h e 7) e' 49).2.1 = h.2.1 + 2 := fun _ _ => rfl
  simp (disch := omega) only [eX2_init, uX2_init, zKK, p1, znew_k, z1, z2, p2, p3, p4, p5]
  rfl
/-- a counter as another one, of a lesser P perhaps -/
theorem kI_keep {C : kC} (h : kI C) : C.d = false → C.r = klay C.p (fun _ => 0) C.m := h.2.2.2.2.2.2.2.2.2.2
