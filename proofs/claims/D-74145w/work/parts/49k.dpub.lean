/-! THE COMPONENT's PUBLIC METHODS: unlike, apart, within, over, chain -/
section DR
variable {h h1 : zH} {D B : Nat} {al : Nat → Nat} {S : kS} {X : dX}
theorem d_foldedTo {b q : Nat} {C : kC} (w : hW h) (eb : cN h D b C) (h4 : 4 ≤ q) (h8 : q ≤ 8) : ∃ h', zc PG mX1_foldedTo [.ref D, .ref b, .int (nI q)] h = some (.inl (some (.ref h.2.1)), h') ∧ cN h' D h.2.1 (kfoldC C (min q C.p)) ∧ hF hN 4 314 h h' := by
  have i4 := eb.I.1
  have i8 := eb.I.2.1
  obtain ⟨h', t1, t2, t3⟩ := n_copy w eb (q := min q C.p) (by omega) (Nat.min_le_right _ _)
  refine ⟨h', ?_, t2, t3⟩
  simp (disch := omega) only [eX1_foldedTo, uX1_foldedTo, zKK, zB, zBl, zBb, zlg, zA, zA3, zL3, km31, km63, klshr, kishr, k2p, kl1shl, klmask, kland1, kiand1, k_l2i, zrt_b, zrt_0, zrt_1, zdv_n, zdv_l, nGp w eb, j_minI, t1]
/-- two of them folded to the lesser P -/
theorem d_both (R : dR h D B al S X) {a b : Nat} (ha : a < 6) (hb : b < 6) : ∃ h1 h2, zc PG mX1_foldedTo [.ref D, .ref (al a), .int (nI (S.c b).p)] h = some (.inl (some (.ref h.2.1)), h1) ∧ zc PG mX1_foldedTo [.ref D, .ref (al b), .int (nI (S.c a).p)] h1 = some (.inl (some (.ref h1.2.1)), h2) ∧ dR h1 D B al S X ∧ dR h2 D B al S X ∧ cN h2 D h.2.1 (kfoldC (S.c a) (min (S.c a).p (S.c b).p)) ∧ cN h2 D h1.2.1 (kfoldC (S.c b) (min (S.c a).p (S.c b).p)) ∧ hF hN 8 628 h h2 ∧ h.2.1 < h1.2.1 := by
  have iA := (R.c ha).I
  have iB := (R.c hb).I
  obtain ⟨h1, r1, n1, f1⟩ := d_foldedTo R.w (R.c ha) (q := (S.c b).p) iB.1 iB.2.1
  have R1 := R.nw f1
  obtain ⟨h2, r2, n2, f2⟩ := d_foldedTo R1.w (R1.c hb) (q := (S.c a).p) iA.1 iA.2.1
  rw [Nat.min_comm] at n1
  have := n1.lt R1.w
  exact ⟨h1, h2, r1, r2, R1, R1.nw f2, n1.nw R1.w f2, n2, f1.tr1 f2, by omega⟩
theorem kfoldC_p (C : kC) (q : Nat) : (kfoldC C q).p = q := rfl
theorem kfoldC_r (C : kC) (q : Nat) : (kfoldC C q).r = kfold C.p q C.r := rfl
theorem d_unlike_loop {a b q : Nat} {A C : kC} (ea : cN h D a A) (eb : cN h D b C) (hq : A.p = q) (x1 x2 : Int32) (k : Nat) : ∀ x, x + k = 2 ^ q → zs PG mX1_unlike 69 [.ref D, .int x1, .int x2, .ref a, .ref b, .int (nI (kgt A.r C.r x)), .int (nI (kgt C.r A.r x)), .int (nI x)] [] h = zs PG mX1_unlike 140 [.ref D, .int x1, .int x2, .ref a, .ref b, .int (nI (kgt A.r C.r (2 ^ q))), .int (nI (kgt C.r A.r (2 ^ q))), .int (nI (2 ^ q))] [] h := by
  have h2 := k2p_le ea.I.2.1
  have hp := n_m ea
  rw [hq] at h2 hp
  induction k with
  | zero =>
    intro x hx
    have hx : x = 2 ^ q := hx
    subst hx
    rw [uX1_unlike_at69]
    simp (disch := omega) only [uX1_unlike_at71, uX1_unlike_at72, uX1_unlike_at75, nG ea, hp, zKK, zB]
  | succ k ih =>
    intro x hx
    have f1 := (nG ea).2.2.2.2.2.2.2 x (by omega)
    have f2 := (nG eb).2.2.2.2.2.2.2 x (by omega)
    have f3 := ea.I.2.2.2.2.1 x
    have f4 := eb.I.2.2.2.2.1 x
    rw [← ih (x + 1) (by omega), uX1_unlike_at69, kgt, kgt]
    by_cases e1 : C.r x < A.r x
    · have e2 : ¬ A.r x < C.r x := by omega
      simp (disch := omega) only [uX1_unlike_p0, uX1_unlike_p1, zKK, zB, zBl, zBb, zlg, zA, zA3, zL3, km31, km63, klshr, kishr, k2p, kl1shl, klmask, kland1, kiand1, k_l2i, zrt_b, zrt_0, zrt_1, zdv_n, zdv_l, nG ea, nG eb, hp, f1, f2, if_pos e1, if_neg e2]
    · by_cases e2 : A.r x < C.r x
      · simp (disch := omega) only [uX1_unlike_p0, uX1_unlike_p1, zKK, zB, zBl, zBb, zlg, zA, zA3, zL3, km31, km63, klshr, kishr, k2p, kl1shl, klmask, kland1, kiand1, k_l2i, zrt_b, zrt_0, zrt_1, zdv_n, zdv_l, nG ea, nG eb, hp, f1, f2, if_neg e1, if_pos e2]
      · simp (disch := omega) only [uX1_unlike_p0, uX1_unlike_p1, zKK, zB, zBl, zBb, zlg, zA, zA3, zL3, km31, km63, klshr, kishr, k2p, kl1shl, klmask, kland1, kiand1, k_l2i, zrt_b, zrt_0, zrt_1, zdv_n, zdv_l, nG ea, nG eb, hp, f1, f2, if_neg e1, if_neg e2]
theorem D_unlike (H : dW D B S h) (a b : Int32) : ∃ h', zc PG mX1_unlike [.ref D, .int a, .int b] h = some (.inl (some (.int (q_unlike S a b).1)), h') ∧ dQ D B (q_unlike S a b).2 h h' := by
  obtain ⟨al, X, R⟩ := H
  have f1 := hv2_F R.w a b
  have R1 := R.nw f1
  unfold q_unlike
  cases e : (kbd a 0 5 && kbd b 0 5) with
  | false =>
    refine ⟨hv2 h a b, ?_, R1.q f1.A⟩
    simp (disch := omega) only [eX1_unlike, uX1_unlike_p0, uX1_unlike_p1, zKK, zB, zBl, zBb, zlg, zA, zA3, zL3, km31, km63, klshr, kishr, k2p, kl1shl, klmask, kland1, kiand1, k_l2i, zrt_b, zrt_0, zrt_1, zdv_n, zdv_l, znew_k, zast_p0, zast_p2, d_are1, d_are2, d_are3, e, Bool.false_eq_true, if_false]
  | true =>
    obtain ⟨e1, e2⟩ := Bool.and_eq_true_iff.mp e
    rcases kbd_cases a 0 5 with z | ⟨a, -, ha, rfl⟩
    · rw [z] at e1; cases e1
    rcases kbd_cases b 0 5 with z | ⟨b, -, hb, rfl⟩
    · rw [z] at e2; cases e2
    have ha : a < 6 := by omega
    have hb : b < 6 := by omega
    rw [kN_nI (by omega), kN_nI (by omega)]
    have iA := (R.c ha).I
    obtain ⟨g1, g2, r1, r2, R2, R3, c1, c2, F, -⟩ := d_both R1 ha hb
    have el := d_unlike_loop c1 c2 (q := min (S.c a).p (S.c b).p) rfl (nI a) (nI b) (2 ^ min (S.c a).p (S.c b).p) 0 (Nat.zero_add _)
    rw [kfoldC_r, kfoldC_r] at el
    have z1 : ∀ r s, kgt r s 0 = 0 := fun _ _ => rfl
    rw [z1, z1] at el
    have h2 := k2p_le c1.I.2.1
    rw [kfoldC_p] at h2
    have l1 := kgt_le (kfold (S.c a).p (min (S.c a).p (S.c b).p) (S.c a).r) (kfold (S.c b).p (min (S.c a).p (S.c b).p) (S.c b).r) (2 ^ min (S.c a).p (S.c b).p)
    have l2 := kgt_le (kfold (S.c b).p (min (S.c a).p (S.c b).p) (S.c b).r) (kfold (S.c a).p (min (S.c a).p (S.c b).p) (S.c a).r) (2 ^ min (S.c a).p (S.c b).p)
    unfold kfr kfs
    obtain ⟨h5, X5, n5, R5, F5⟩ := d_row2 R3 (lN (kgt (kfold (S.c a).p (min (S.c a).p (S.c b).p) (S.c a).r) (kfold (S.c b).p (min (S.c a).p (S.c b).p) (S.c b).r) (2 ^ min (S.c a).p (S.c b).p))) (lN (kgt (kfold (S.c b).p (min (S.c a).p (S.c b).p) (S.c b).r) (kfold (S.c a).p (min (S.c a).p (S.c b).p) (S.c a).r) (2 ^ min (S.c a).p (S.c b).p)))
    refine ⟨h5, ?_, R5.q ((f1.A.tr1 F.A).tr1 F5.E)⟩
    simp (disch := omega) only [eX1_unlike, uX1_unlike_p0, uX1_unlike_p1, zKK, zB, zBl, zBb, zlg, zA, zA3, zL3, km31, km63, klshr, kishr, k2p, kl1shl, klmask, kland1, kiand1, k_l2i, zrt_b, zrt_0, zrt_1, zdv_n, zdv_l, znew_k, zast_p0, zast_p2, d_are1, d_are2, d_are3, e, dG R1, nG (R1.c hb), r1, dG R2, nG (R2.c ha), r2, el, dGp R3, n5, if_true]
theorem d_apart_loop {a b q : Nat} {A C : kC} (ea : cN h D a A) (eb : cN h D b C) (hq : A.p = q) (x1 x2 : Int32) (k : Nat) : ∀ (x : Nat) (u : Value), x + k = 2 ^ q → ∃ u', zs PG mX1_apart 72 [.ref D, .int x1, .int x2, .ref a, .ref b, .int (nI (kap A.r C.r x).1), .int (nI (kap A.r C.r x).2.1), .int (nI (kap A.r C.r x).2.2), .int (nI x), u] [] h = zs PG mX1_apart 133 [.ref D, .int x1, .int x2, .ref a, .ref b, .int (nI (kap A.r C.r (2 ^ q)).1), .int (nI (kap A.r C.r (2 ^ q)).2.1), .int (nI (kap A.r C.r (2 ^ q)).2.2), .int (nI (2 ^ q)), u'] [] h := by
  have h2 := k2p_le ea.I.2.1
  have i4 := ea.I.1
  have j4 := eb.I.1
  have hp := n_m ea
  rw [hq] at h2 hp
  induction k with
  | zero =>
    intro x u hx
    have hx : x = 2 ^ q := hx
    subst hx
    refine ⟨u, ?_⟩
    rw [uX1_apart_at72]
    simp (disch := omega) only [uX1_apart_at74, uX1_apart_at75, uX1_apart_at78, nG ea, hp, zKK, zB]
  | succ k ih =>
    intro x u hx
    have f1 := (nG ea).2.2.2.2.2.2.2 x (by omega)
    have f2 := (nG eb).2.2.2.2.2.2.2 x (by omega)
    have f3 := ea.I.2.2.2.2.1 x
    have f4 := eb.I.2.2.2.2.1 x
    obtain ⟨l1, l2, l3⟩ := kap_le (r1 := A.r) (r2 := C.r) (fun x => by have := ea.I.2.2.2.2.1 x; omega) (fun x => by have := eb.I.2.2.2.2.1 x; omega) x
    have ho : koff A.r C.r x ≤ 58 := by unfold koff; omega
    have eo : kabs (nI (A.r x) - nI (C.r x)) = nI (koff A.r C.r x) := kabs_sub (by omega) (by omega)
    have ej := j_abs (nI (A.r x) - nI (C.r x)) h
    rw [eo] at ej
    obtain ⟨u', r⟩ := ih (x + 1) (.int (nI (koff A.r C.r x))) (by omega)
    refine ⟨u', ?_⟩
    rw [← r, uX1_apart_at72, kap]
    dsimp only
    by_cases e1 : (kap A.r C.r x).2.1 < koff A.r C.r x
    · rw [if_pos e1, if_pos e1]
      simp (disch := omega) only [uX1_apart_p0, uX1_apart_p1, zKK, zB, zA, nG ea, nG eb, hp, f1, f2, ej]
    · rw [if_neg e1, if_neg e1]
      simp (disch := omega) only [uX1_apart_p0, uX1_apart_p1, zKK, zB, zA, nG ea, nG eb, hp, f1, f2, ej]
theorem D_apart (H : dW D B S h) (a b : Int32) : ∃ h', zc PG mX1_apart [.ref D, .int a, .int b] h = some (.inl (some (.int (q_apart S a b).1)), h') ∧ dQ D B (q_apart S a b).2 h h' := by
  obtain ⟨al, X, R⟩ := H
  have f1 := hv2_F R.w a b
  have R1 := R.nw f1
  unfold q_apart
  cases e : (kbd a 0 5 && kbd b 0 5) with
  | false =>
    refine ⟨hv2 h a b, ?_, R1.q f1.A⟩
    simp (disch := omega) only [eX1_apart, uX1_apart_p0, uX1_apart_p1, zKK, zB, zBl, zBb, zlg, zA, zA3, zL3, km31, km63, klshr, kishr, k2p, kl1shl, klmask, kland1, kiand1, k_l2i, zrt_b, zrt_0, zrt_1, zdv_n, zdv_l, znew_k, zast_p0, zast_p2, d_are1, d_are2, d_are3, e, Bool.false_eq_true, if_false]
  | true =>
    obtain ⟨e1, e2⟩ := Bool.and_eq_true_iff.mp e
    rcases kbd_cases a 0 5 with z | ⟨a, -, ha, rfl⟩
    · rw [z] at e1; cases e1
    rcases kbd_cases b 0 5 with z | ⟨b, -, hb, rfl⟩
    · rw [z] at e2; cases e2
    have ha : a < 6 := by omega
    have hb : b < 6 := by omega
    rw [kN_nI (by omega), kN_nI (by omega)]
    obtain ⟨g1, g2, r1, r2, R2, R3, c1, c2, F, -⟩ := d_both R1 ha hb
    obtain ⟨u, el⟩ := d_apart_loop c1 c2 (q := min (S.c a).p (S.c b).p) rfl (nI a) (nI b) (2 ^ min (S.c a).p (S.c b).p) 0 zJ (Nat.zero_add _)
    have i4 := c1.I.1
    have j4 := c2.I.1
    obtain ⟨l1, l2, l3⟩ := kap_le (r1 := (kfoldC (S.c a) (min (S.c a).p (S.c b).p)).r) (r2 := (kfoldC (S.c b) (min (S.c a).p (S.c b).p)).r) (fun x => by have := c1.I.2.2.2.2.1 x; omega) (fun x => by have := c2.I.2.2.2.2.1 x; omega) (2 ^ min (S.c a).p (S.c b).p)
    rw [kfoldC_r, kfoldC_r] at el l1 l2 l3
    have z1 : ∀ r s, kap r s 0 = (0, 0, 0) := fun _ _ => rfl
    rw [z1] at el
    have h2 := k2p_le c1.I.2.1
    rw [kfoldC_p] at h2
    unfold kfr kfs
    obtain ⟨h5, X5, n5, R5, F5⟩ := d_row2 R3 (lN (kap (kfold (S.c a).p (min (S.c a).p (S.c b).p) (S.c a).r) (kfold (S.c b).p (min (S.c a).p (S.c b).p) (S.c b).r) (2 ^ min (S.c a).p (S.c b).p)).2.1) (lN (kap (kfold (S.c a).p (min (S.c a).p (S.c b).p) (S.c a).r) (kfold (S.c b).p (min (S.c a).p (S.c b).p) (S.c b).r) (2 ^ min (S.c a).p (S.c b).p)).2.2)
    refine ⟨h5, ?_, R5.q ((f1.A.tr1 F.A).tr1 F5.E)⟩
    simp (disch := omega) only [eX1_apart, uX1_apart_p0, uX1_apart_p1, zKK, zB, zBl, zBb, zlg, zA, zA3, zL3, km31, km63, klshr, kishr, k2p, kl1shl, klmask, kland1, kiand1, k_l2i, zrt_b, zrt_0, zrt_1, zdv_n, zdv_l, znew_k, zast_p0, zast_p2, d_are1, d_are2, d_are3, e, dG R1, nG (R1.c hb), r1, dG R2, nG (R2.c ha), r2, el, dGp R3, n5, if_true]
/-! within -/
theorem d_within_loop {a b q : Nat} {A C : kC} {r2 : Nat → Nat} (ea : cN h D a A) (eb : cN h D b C) (hq : A.p = q) (hr : ∀ x, C.r x = max (A.r x) (r2 x)) (x1 x2 : Int32) (bb : Bool) (k : Nat) : ∀ x, x + k = 2 ^ q → zs PG mX1_within 89 [.ref D, .int x1, .int x2, .ref a, .ref b, .int (zb (kwi bb A.r r2 x)), .int (nI x)] [] h = some (.inl (some (.int (zb (kwi bb A.r r2 (2 ^ q))))), h) := by
  have h2 := k2p_le ea.I.2.1
  have hp := n_m ea
  rw [hq] at h2 hp
  induction k with
  | zero =>
    intro x hx
    have hx : x = 2 ^ q := hx
    subst hx
    rw [uX1_within_at89]
    cases e : kwi bb A.r r2 (2 ^ q) with
    | true => simp (disch := omega) only [uX1_within_p0, uX1_within_p1, zKK, zB, zBl, zBb, zlg, zA, zA3, zL3, km31, km63, klshr, kishr, k2p, kl1shl, klmask, kland1, kiand1, k_l2i, zrt_b, zrt_0, zrt_1, zdv_n, zdv_l, nG ea, hp, zb_t]
    | false => simp (disch := omega) only [uX1_within_p0, uX1_within_p1, zKK, zB, zBl, zBb, zlg, zA, zA3, zL3, km31, km63, klshr, kishr, k2p, kl1shl, klmask, kland1, kiand1, k_l2i, zrt_b, zrt_0, zrt_1, zdv_n, zdv_l, nG ea, hp, zb_f]
  | succ k ih =>
    intro x hx
    have f1 := (nG ea).2.2.2.2.2.2.2 x (by omega)
    have f2 := (nG eb).2.2.2.2.2.2.2 x (by omega)
    have f3 := ea.I.2.2.2.2.1 x
    have f4 := eb.I.2.2.2.2.1 x
    have f5 := hr x
    rw [← ih (x + 1) (by omega), uX1_within_at89, kwi]
    cases e : kwi bb A.r r2 x with
    | false =>
      rw [Bool.false_and]
      simp (disch := omega) only [uX1_within_p0, uX1_within_p1, zKK, zB, zBl, zBb, zlg, zA, zA3, zL3, km31, km63, klshr, kishr, k2p, kl1shl, klmask, kland1, kiand1, k_l2i, zrt_b, zrt_0, zrt_1, zdv_n, zdv_l, nG ea, hp, zb_f]
    | true =>
      rw [Bool.true_and]
      by_cases e2 : r2 x ≤ A.r x
      · rw [decide_eq_true e2]
        simp (disch := omega) only [uX1_within_p0, uX1_within_p1, zKK, zB, zBl, zBb, zlg, zA, zA3, zL3, km31, km63, klshr, kishr, k2p, kl1shl, klmask, kland1, kiand1, k_l2i, zrt_b, zrt_0, zrt_1, zdv_n, zdv_l, nG ea, nG eb, hp, f1, f2, zb_t]
      · rw [decide_eq_false e2]
        simp (disch := omega) only [uX1_within_p0, uX1_within_p1, zKK, zB, zBl, zBb, zlg, zA, zA3, zL3, km31, km63, klshr, kishr, k2p, kl1shl, klmask, kland1, kiand1, k_l2i, zrt_b, zrt_0, zrt_1, zdv_n, zdv_l, nG ea, nG eb, hp, f1, f2, zb_f, zb_t]
theorem kjoin2_r {A C : kC} : (kjoin [A, C]).r = fun y => max (max 0 (kfold A.p (min (min 8 A.p) C.p) A.r y)) (kfold C.p (min (min 8 A.p) C.p) C.r y) := rfl
theorem D_within (H : dW D B S h) (a b : Int32) : ∃ h', zc PG mX1_within [.ref D, .int a, .int b] h = some (.inl (some (.int (q_within S a b))), h') ∧ dQ D B S h h' := by
  obtain ⟨al, X, R⟩ := H
  have f1 := hv2_F R.w a b
  have R1 := R.nw f1
  unfold q_within
  cases e : (kbd a 0 5 && kbd b 0 5) with
  | false =>
    refine ⟨hv2 h a b, ?_, R1.q f1.A⟩
    simp (disch := omega) only [eX1_within, uX1_within_p0, uX1_within_p1, zKK, zB, zBl, zBb, zlg, zA, zA3, zL3, km31, km63, klshr, kishr, k2p, kl1shl, klmask, kland1, kiand1, k_l2i, zrt_b, zrt_0, zrt_1, zdv_n, zdv_l, znew_k, zast_p0, zast_p2, d_are1, d_are2, d_are3, e, Bool.false_eq_true, if_false]
  | true =>
    obtain ⟨e1, e2⟩ := Bool.and_eq_true_iff.mp e
    rcases kbd_cases a 0 5 with z | ⟨a, -, ha, rfl⟩
    · rw [z] at e1; cases e1
    rcases kbd_cases b 0 5 with z | ⟨b, -, hb, rfl⟩
    · rw [z] at e2; cases e2
    have ha : a < 6 := by omega
    have hb : b < 6 := by omega
    rw [kN_nI (by omega), kN_nI (by omega)]
    have iA := (R.c ha).I
    have iB := (R.c hb).I
    have i8 := iA.2.1
    obtain ⟨g1, r1, n1, F1⟩ := d_foldedTo R1.w (R1.c ha) (q := (S.c b).p) iB.1 iB.2.1
    rw [Nat.min_comm] at n1
    have R2 := R1.nw F1
    obtain ⟨g2, r2, n2, F2⟩ := d_join2 R2 ha hb
    have R3 := R2.nw F2
    have n1' := n1.nw R2.w F2
    have hr : ∀ x, (kjoin [S.c a, S.c b]).r x = max ((kfoldC (S.c a) (min (S.c a).p (S.c b).p)).r x) (kfold (S.c b).p (min (S.c a).p (S.c b).p) (S.c b).r x) := by
      intro x
      rw [kjoin2_r, kfoldC_r, show min (min 8 (S.c a).p) (S.c b).p = min (S.c a).p (S.c b).p by omega]
      simp
    have el := fun bb => d_within_loop n1' n2 (q := min (S.c a).p (S.c b).p) rfl hr (nI a) (nI b) bb (2 ^ min (S.c a).p (S.c b).p) 0 (Nat.zero_add _)
    have k1 := kguess_le n1.I
    have k2 := kguess_le n2.I
    have q1 := n_guess n1' R3.t
    have q2 := n_guess n2 R3.t
    refine ⟨g2, ?_, R3.q ((f1.A.tr1 F1.A).tr1 F2.A)⟩
    unfold kfr kfs kgg
    by_cases e3 : kguess (kjoin [S.c a, S.c b]) = kguess (kfoldC (S.c a) (min (S.c a).p (S.c b).p))
    · have el := el true
      rw [show zb (kwi true (kfoldC (S.c a) (min (S.c a).p (S.c b).p)).r (kfold (S.c b).p (min (S.c a).p (S.c b).p) (S.c b).r) 0) = nI 1 from rfl] at el
      rw [decide_eq_true e3]
      simp (disch := omega) only [eX1_within, uX1_within_p0, uX1_within_p1, zKK, zB, zBl, zBb, zlg, zA, zA3, zL3, km31, km63, klshr, kishr, k2p, kl1shl, klmask, kland1, kiand1, k_l2i, zrt_b, zrt_0, zrt_1, zdv_n, zdv_l, znew_k, zast_p0, zast_p2, d_are1, d_are2, d_are3, e, dG R1, nG (R1.c hb), r1, dG R2, dGp R2, st3 R2 ha, st3 R2 hb, r2, nG n1', nG n2, q1, q2, el, if_true]
      rfl
    · have el := el false
      rw [show zb (kwi false (kfoldC (S.c a) (min (S.c a).p (S.c b).p)).r (kfold (S.c b).p (min (S.c a).p (S.c b).p) (S.c b).r) 0) = nI 0 from rfl] at el
      rw [decide_eq_false e3]
      simp (disch := omega) only [eX1_within, uX1_within_p0, uX1_within_p1, zKK, zB, zBl, zBb, zlg, zA, zA3, zL3, km31, km63, klshr, kishr, k2p, kl1shl, klmask, kland1, kiand1, k_l2i, zrt_b, zrt_0, zrt_1, zdv_n, zdv_l, znew_k, zast_p0, zast_p2, d_are1, d_are2, d_are3, e, dG R1, nG (R1.c hb), r1, dG R2, dGp R2, st3 R2 ha, st3 R2 hb, r2, nG n1', nG n2, q1, q2, el, if_true]
      rfl
/-! over, chain -/
theorem d_over_loop {b : Nat} {L : List (Nat × kC)} (v : dV h D b L) (t : dT h D) (h6 : L.length ≤ 6) (s : Int32) (k : Nat) : ∀ (i n : Nat) (u : Value), i + k = L.length → n ≤ 2000000000 * i → ∃ u', zs PG mX1_over 28 [.ref D, .int s, .long (lN n), zJ, .ref b, .int (nI L.length), .int (nI i), u] [] h = zs PG mX1_over 57 [.ref D, .int s, .long (lN ((L.drop i).foldl (fun n x => n + kguess x.2) n)), zJ, .ref b, .int (nI L.length), .int (nI L.length), u'] [] h ∧ (L.drop i).foldl (fun n x => n + kguess x.2) n ≤ 2000000000 * L.length := by
  induction k with
  | zero =>
    intro i n u hi hn
    have hi : i = L.length := hi
    subst hi
    refine ⟨u, ?_, by rw [List.drop_length]; exact hn⟩
    rw [List.drop_length, uX1_over_at28]
    simp (disch := omega) only [uX1_over, zKK, zB, zBl, zBb, zlg, zA, zA3, zL3, km31, km63, klshr, kishr, k2p, kl1shl, klmask, kland1, kiand1, k_l2i, zrt_b, zrt_0, zrt_1, zdv_n, zdv_l, List.foldl_nil]
  | succ k ih =>
    intro i n u hi hn
    have hi2 : i < L.length := by omega
    have c := v.2 _ (kL_mem hi2)
    have g1 := (dVG v h6).2 i hi2
    have kg := kguess_le c.I
    obtain ⟨u', r, l⟩ := ih (i + 1) (n + kguess (L.getD i (0, kopen 4 1)).2) (.ref (L.getD i (0, kopen 4 1)).1) (by omega) (by omega)
    rw [kL_drop hi2, List.foldl_cons]
    refine ⟨u', ?_, l⟩
    rw [← r, uX1_over_at28]
    simp (disch := omega) only [uX1_over, zKK, zB, zBl, zBb, zlg, zA, zA3, zL3, km31, km63, klshr, kishr, k2p, kl1shl, klmask, kland1, kiand1, k_l2i, zrt_b, zrt_0, zrt_1, zdv_n, zdv_l, g1, nG c, n_guess c t]
theorem kov_fold (al : Nat → Nat) (S : kS) (s n : Nat) : (kas al S.c s n).foldl (fun n x => n + kguess x.2) 0 = kov S s n := by
  induction n with
  | zero => rfl
  | succ n ih =>
    rw [kas_s, List.foldl_append, ih, kov]
    cases s.testBit n <;> rfl
theorem D_over (H : dW D B S h) (s : Int32) : ∃ h', zc PG mX1_over [.ref D, .int s] h = some (.inl (some (.long (q_over S s).1)), h') ∧ dQ D B (q_over S s).2 h h' := by
  obtain ⟨al, X, R⟩ := H
  unfold q_over
  rcases kbd_cases s 1 63 with e | ⟨s, h1, hs, rfl⟩
  · simp only [e, Bool.false_eq_true, if_false]
    refine ⟨h, ?_, R.q (hF.rf R.w _)⟩
    simp (disch := omega) only [eX1_over, uX1_over, zKK, zB, zBl, zBb, zlg, zA, zA3, zL3, km31, km63, klshr, kishr, k2p, kl1shl, klmask, kland1, kiand1, k_l2i, zrt_b, zrt_0, zrt_1, zdv_n, zdv_l, znew_k, zast_p0, zast_p2, d_are1, d_are2, d_are3, d_isSet, e]
  · have e := kbd_nI h1 hs (by omega)
    simp only [e, if_true]
    rw [kN_nI (by omega)]
    have h6 := kpc_le s
    obtain ⟨g1, r1, v1, F1⟩ := d_those R (s := s) (by omega)
    have R1 := R.nw F1
    have hl : (kas al S.c s 6).length ≤ 6 := by rw [kas_len]; exact h6
    obtain ⟨u, r2, l2⟩ := d_over_loop v1 R1.t hl (nI s) (kas al S.c s 6).length 0 0 zJ (Nat.zero_add _) (by omega)
    rw [List.drop_zero, kov_fold] at r2 l2
    obtain ⟨g3, g4, r3, r4, r5, F3⟩ := d_GS R1 (s := s) (by omega) h1
    have R3 := R1.nw F3
    have kg := kguess_le (kI_join (kI_ls (S := S.c) (s := s) (n := 6) (fun c hc => (R.c hc).I)))
    have kg : kG S s ≤ 2000000000 := kg
    obtain ⟨h5, X5, n5, R5, F5⟩ := d_row2 R3 (lN (kov S s 6)) (lN (kG S s))
    refine ⟨h5, ?_, R5.q ((F1.A.tr1 F3.A).tr1 F5.E)⟩
    simp (disch := omega) only [eX1_over, uX1_over, zKK, zBb, zB, d_isSet, e, dG R, r1, dVG v1 hl, r2, dG R1, r3, r4, r5, znew_k, zast_p2, dGp R3, nI_l, n5]
theorem d_chain_loop (hI : kSI S) {s : Nat} (hs : s < 64) (j : Nat) : ∀ (c : Nat) (h : zH) (X : dX) (u : Value), c + j = 6 → dR h D B al (S.s_w (kch (kG S) s c).1) X → ∃ h' X', zs PG mX1_chain 24 [.ref D, .int (nI s), .int (nI (s % 2 ^ c)), .int (nI (kch (kG S) s c).2.2), .int (nI (kch (kG S) s c).2.1), .int (nI c), u] [] h = some (.inl (some (.int (nI (kch (kG S) s 6).2.1))), h') ∧ dR h' D B al (S.s_w (kch (kG S) s 6).1) X' ∧ hF (dE D) (10 * j) (336 * j) h h' := by
  induction j with
  | zero =>
    intro c h X u hc R
    have hc : c = 6 := by omega
    subst hc
    refine ⟨h, X, ?_, R, hF.rf R.w _⟩
    rw [uX1_chain_at24]
    simp (disch := omega) only [uX1_chain, zKK, zB, zBl, zBb, zlg, zA, zA3, zL3, km31, km63, klshr, kishr, k2p, kl1shl, klmask, kland1, kiand1, k_l2i, zrt_b, zrt_0, zrt_1, zdv_n, zdv_l]
  | succ j ih =>
    intro c h X u hc R
    have hd : s / 2 ^ c ≤ s := Nat.div_le_self _ _
    have hm : s % 2 ^ c ≤ s := Nat.mod_le _ _
    obtain ⟨l1, l2, l3⟩ := kb_low hs (show c < 6 by omega)
    obtain ⟨b1, b2, b3⟩ := kch_b (kG_le hI) s c
    cases e : s.testBit c with
    | false =>
      have e1 := kbit0 e
      have ek : kch (kG S) s (c + 1) = kch (kG S) s c := by rw [kch, e]; rfl
      obtain ⟨h', X', r1, r2, r3⟩ := ih (c + 1) h X u (by omega) (by rw [ek]; exact R)
      refine ⟨h', X', ?_, r2, r3.up (fun _ _ z => z) (by omega) (by omega)⟩
      rw [ek, l2 e] at r1
      rw [uX1_chain_at24, ← r1]
      simp (disch := omega) only [uX1_chain, zKK, zB, zBl, zBb, zlg, zA, zA3, zL3, km31, km63, klshr, kishr, k2p, kl1shl, klmask, kland1, kiand1, k_l2i, zrt_b, zrt_0, zrt_1, zdv_n, zdv_l, e1]
    | true =>
      have e1 := kbit1 e
      have ek : kch (kG S) s (c + 1) = ((kch (kG S) s c).1 ++ [lN (kG S (s % 2 ^ (c + 1)))], (kch (kG S) s c).2.1 + (if (kch (kG S) s c).2.2 < kG S (s % 2 ^ (c + 1)) then 1 else 0), kG S (s % 2 ^ (c + 1))) := by rw [kch, e]; rfl
      have hm2 : s % 2 ^ (c + 1) ≤ s := Nat.mod_le _ _
      obtain ⟨g1, g2, q1, q2, q3, F1⟩ := d_GS R (s := s % 2 ^ (c + 1)) (by omega) (l3 e)
      have q3 : zc PG mX1_guessOf [.ref D, .ref h.2.1] g1 = some (.inl (some (.int (nI (kG S (s % 2 ^ (c + 1)))))), g2) := q3
      have R1 := R.nw F1
      obtain ⟨g3, X3, n3, R3, F3⟩ := d_notes R1 (by omega) (lN (kG S (s % 2 ^ (c + 1))))
      have kg := kG_le hI (s % 2 ^ (c + 1))
      have hk2 : 2 ^ c ≤ 32 := Nat.pow_le_pow_right (n := 2) (by decide) (by omega : c ≤ 5)
      obtain ⟨h', X', r1, r2, r3⟩ := ih (c + 1) g3 X3 (.int (nI (kG S (s % 2 ^ (c + 1))))) (by omega) (by rw [ek]; exact R3)
      refine ⟨h', X', ?_, r2, ((F1.new.tr1 F3).tr1 r3).up (fun _ _ z => z) (by omega) (by omega)⟩
      rw [ek] at r1
      dsimp only at r1
      rw [uX1_chain_at24, ← r1]
      by_cases e2 : (kch (kG S) s c).2.2 < kG S (s % 2 ^ (c + 1))
      · rw [if_pos e2]
        simp (disch := omega) only [uX1_chain, zKK, zB, zBl, zBb, zlg, zA, zA3, zL3, km31, km63, klshr, kishr, k2p, kl1shl, klmask, kland1, kiand1, k_l2i, zrt_b, zrt_0, zrt_1, zdv_n, zdv_l, e1, nx_or, l1 e, dG R, q1, q2, q3, dG R1, n3]
      · rw [if_neg e2]
        simp (disch := omega) only [uX1_chain, zKK, zB, zBl, zBb, zlg, zA, zA3, zL3, km31, km63, klshr, kishr, k2p, kl1shl, klmask, kland1, kiand1, k_l2i, zrt_b, zrt_0, zrt_1, zdv_n, zdv_l, e1, nx_or, l1 e, dG R, q1, q2, q3, dG R1, n3]
theorem D_chain (H : dW D B S h) (hI : kSI S) (s : Int32) : ∃ h', zc PG mX1_chain [.ref D, .int s] h = some (.inl (some (.int (q_chain S s).1)), h') ∧ dQ D B (q_chain S s).2 h h' := by
  obtain ⟨al, X, R⟩ := H
  unfold q_chain
  rcases kbd_cases s 1 63 with e | ⟨s, h1, hs, rfl⟩
  · simp only [e, Bool.false_eq_true, if_false]
    refine ⟨h, ?_, R.q (hF.rf R.w _)⟩
    simp (disch := omega) only [eX1_chain, uX1_chain, zKK, zB, zBl, zBb, zlg, zA, zA3, zL3, km31, km63, klshr, kishr, k2p, kl1shl, klmask, kland1, kiand1, k_l2i, zrt_b, zrt_0, zrt_1, zdv_n, zdv_l, znew_k, zast_p0, zast_p2, d_are1, d_are2, d_are3, d_isSet, e]
  · have e := kbd_nI h1 hs (by omega)
    simp only [e, if_true]
    rw [kN_nI (by omega)]
    have p1 := dP_w R [] (n := 0) rfl
    have R1 := R.fld (S' := S.s_w []) (X' := X) rfl rfl rfl rfl (fun k => R.xt) (fun k hk => absurd hk (Nat.not_lt_zero _))
    have F1 := (hD_F R (S.s_w []) X).up (B := dE D) (fun q _ z => show dE D q by unfold dE; omega) (Nat.le_refl _) (Nat.le_refl _)
    obtain ⟨h', X', r1, R2, F2⟩ := d_chain_loop hI (s := s) (by omega) 6 0 _ X zJ rfl R1
    rw [show s % 2 ^ 0 = 0 by omega, show (kch (kG S) s 0).2.2 = 0 from rfl, show (kch (kG S) s 0).2.1 = 0 from rfl] at r1
    refine ⟨h', ?_, R2.q (F1.tr1 F2).E⟩
    simp (disch := omega) only [eX1_chain, uX1_chain, zKK, zB, zBl, zBb, zlg, zA, zA3, zL3, km31, km63, klshr, kishr, k2p, kl1shl, klmask, kland1, kiand1, k_l2i, zrt_b, zrt_0, zrt_1, zdv_n, zdv_l, znew_k, zast_p0, zast_p2, d_are1, d_are2, d_are3, d_isSet, e, p1, r1]
end DR
