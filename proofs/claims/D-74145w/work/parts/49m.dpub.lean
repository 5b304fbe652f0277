/-! THE COMPONENT's PUBLIC METHODS: lessers, what is to be looked for -/
section DR
variable {h h1 : zH} {D B : Nat} {al : Nat → Nat} {S : kS} {X : dX}
theorem n_min {a b : Nat} {P l : Nat} {C : kC} {r : Nat → Nat} (w : hW h) (ea : cN h D a (P, l, true, [], r)) (eb : cN h D b C) {x v : Nat} (hx : x < 256) (hv : v < 64) (hI : kI (P, l, true, [], krs r x (min v (C.r x)))) : ∃ h', zc PG mX1_lambda_lessers_7 [.ref a, .ref b, .int (nI x), .int (nI v)] h = some (.inl none, h') ∧ cN h' D a (P, l, true, [], krs r x (min v (C.r x))) ∧ hF (cA a) 0 0 h h' := by
  have e0 := ea
  obtain ⟨n, f, e1, e2, iA⟩ := ea
  have hr := eb.I.2.2.2.2.1 x
  obtain ⟨h', w1, w2, w3⟩ := c_raises2 e1 (fun y => by have := iA.2.2.2.2.1 y; omega) (x := x) (r := min v (C.r x)) hx (by omega)
  refine ⟨h', ?_, ⟨n, f, w2, ⟨e2.1, fun z => by cases z⟩, hI⟩, (w3.mono (fun q z => Or.inr (Or.inr z))).f w (e0.ltA w)⟩
  simp (disch := omega) only [eX1_lambda_lessers_7, uX1_lambda_lessers_7, zKK, zB, zBl, zBb, zlg, zA, zA3, zL3, km31, km63, klshr, kishr, k2p, kl1shl, klmask, kland1, kiand1, k_l2i, zrt_b, zrt_0, zrt_1, zdv_n, zdv_l, nG e0, nG eb, j_minI, w1]
theorem kpf_krs (F : Nat → Nat) (x : Nat) : krs (kpf F (fun _ => 0) x) x (F x) = kpf F (fun _ => 0) (x + 1) := by
  funext y
  unfold krs kpf
  by_cases e : y = x
  · rw [if_pos e, if_neg (by omega), if_pos (by omega), e]
    exact Nat.max_eq_right (Nat.zero_le _)
  · rw [if_neg e]
    by_cases e2 : y < x
    · rw [if_pos e2, if_pos (by omega)]
    · rw [if_neg e2, if_neg (by omega)]
theorem D_lessers (H : dW D B S h) (a b k : Int32) : ∃ h', zc PG mX1_lessers [.ref D, .int a, .int b, .int k] h = some (.inl (some (.int (q_lessers S a b k).1)), h') ∧ dQ D B (q_lessers S a b k).2 h h' := by
  obtain ⟨al, X, R⟩ := H
  have f1 := hv3_F R.w a b k
  have R1 := R.nw f1
  unfold q_lessers
  cases e : (kbd a 0 5 && kbd b 0 5 && kbd k 0 5) with
  | false =>
    refine ⟨hv3 h a b k, ?_, R1.q f1.A⟩
    simp (disch := omega) only [eX1_lessers, uX1_lessers_p0, uX1_lessers_p1, zKK, zB, zBl, zBb, zlg, zA, zA3, zL3, km31, km63, klshr, kishr, k2p, kl1shl, klmask, kland1, kiand1, k_l2i, zrt_b, zrt_0, zrt_1, zdv_n, zdv_l, znew_k, zast_p0, zast_p2, d_are1, d_are2, d_are3, e, Bool.false_eq_true, if_false]
  | true =>
    obtain ⟨e12, e3⟩ := Bool.and_eq_true_iff.mp e
    obtain ⟨e1, e2⟩ := Bool.and_eq_true_iff.mp e12
    rcases kbd_cases a 0 5 with z | ⟨a, -, ha, rfl⟩
    · rw [z] at e1; cases e1
    rcases kbd_cases b 0 5 with z | ⟨b, -, hb, rfl⟩
    · rw [z] at e2; cases e2
    rcases kbd_cases k 0 5 with z | ⟨k, -, hk, rfl⟩
    · rw [z] at e3; cases e3
    have ha : a < 6 := by omega
    have hb : b < 6 := by omega
    rw [kN_nI (by omega), kN_nI (by omega), kN_nI (by omega)]
    generalize hg : hv3 h (nI a) (nI b) (nI k) = g at f1 R1
    have iA := (R.c ha).I
    have iB := (R.c hb).I
    have iL := kI_lss iA iB
    obtain ⟨g1, g2, r1, r2, R2, R3, c1, c2, F, hlt⟩ := d_both R1 ha hb
    have q1 : (kfoldC (S.c a) (min (S.c a).p (S.c b).p)).p = min (S.c a).p (S.c b).p := rfl
    have l1 : (kfoldC (S.c a) (min (S.c a).p (S.c b).p)).l = (S.c a).l := rfl
    have l2 : (kfoldC (S.c b) (min (S.c a).p (S.c b).p)).l = (S.c b).l := rfl
    have i4 : 4 ≤ min (S.c a).p (S.c b).p := iL.1
    have i8 : min (S.c a).p (S.c b).p ≤ 8 := iL.2.1
    have i1 : 1 ≤ min (S.c a).l (S.c b).l := iL.2.2.1
    have i48 : min (S.c a).l (S.c b).l ≤ 48 := iL.2.2.2.1
    have h256 := k2p_le i8
    have f3 := hNew_F R3.w D (min (S.c a).p (S.c b).p) (min (S.c a).l (S.c b).l)
    have n3 := hNew_N (h := g2) D i4 i8 i1 i48
    obtain ⟨g4, s4, c4, f4⟩ := n_dense f3.1 n3
    have F4 : hF hN 3 312 g2 g4 := f3.tr f4 (fun q hq z => by have := cA_ge z; omega)
    have c1' := c1.nw R3.w F4
    have c2' := c2.nw R3.w F4
    have f5 := hF_push F4.1 (.inr (107, [.ref g2.2.1, .ref g1.2.1])) 2
    have cl1 := c1.lt R3.w
    have cl2 := c2.lt R3.w
    have cl4 := c4.lt F4.1
    have hF0 : ∀ y, (klss (S.c a) (S.c b)).r y = min ((kfoldC (S.c a) (min (S.c a).p (S.c b).p)).r y) ((kfoldC (S.c b) (min (S.c a).p (S.c b).p)).r y) := fun _ => rfl
    have hIk : ∀ x, kI (min (S.c a).p (S.c b).p, min (S.c a).l (S.c b).l, true, [], kpf (klss (S.c a) (S.c b)).r (fun _ => 0) x) := by
      intro x
      refine ⟨i4, i8, i1, i48, fun y => ?_, fun y hy => ?_, fun _ => rfl, (fun _ q => by cases q), List.Pairwise.nil, Nat.zero_le _, (fun q => by cases q)⟩
      · show kpf (klss (S.c a) (S.c b)).r (fun _ => 0) x y ≤ 33 - min (S.c a).p (S.c b).p
        unfold kpf
        split
        · exact iL.2.2.2.2.1 y
        · exact Nat.zero_le _
      · show kpf (klss (S.c a) (S.c b)).r (fun _ => 0) x y = 0
        unfold kpf
        split
        · exact iL.2.2.2.2.2.1 y hy
        · rfl
    obtain ⟨h6, r6, p6⟩ := n_each (D := D) (b := g.2.1) (lam := g4.2.1) (C := kfoldC (S.c a) (min (S.c a).p (S.c b).p)) (k := mX1_lambda_lessers_7) (fs := [.ref g2.2.1, .ref g1.2.1]) (P := fun x t => cN t D g.2.1 (kfoldC (S.c a) (min (S.c a).p (S.c b).p)) ∧ t.1 g4.2.1 = some (true, .inr (107, [.ref g2.2.1, .ref g1.2.1])) ∧ cN t D g1.2.1 (kfoldC (S.c b) (min (S.c a).p (S.c b).p)) ∧ cN t D g2.2.1 (min (S.c a).p (S.c b).p, min (S.c a).l (S.c b).l, true, [], kpf (klss (S.c a) (S.c b)).r (fun _ => 0) x) ∧ hF hN 4 314 g2 t)
      (fun x t hP => ⟨hP.1, zlam_s hP.2.1 rfl⟩)
      (fun x t hx hr hP => by
        obtain ⟨t1, t2, t3, t4, t5⟩ := hP
        refine ⟨t1, t2, t3, ?_, t5⟩
        have ez : (klss (S.c a) (S.c b)).r x = 0 := by rw [hF0, hr]; exact Nat.zero_min _
        rw [← kpf_krs, ez, krs_same (Nat.zero_le _)]
        exact t4)
      (fun x t hx hr hP => by
        obtain ⟨t1, t2, t3, t4, t5⟩ := hP
        have hb1 := c1.I.2.2.2.2.1 x
        have hx : x < 2 ^ min (S.c a).p (S.c b).p := hx
        obtain ⟨t', u1, u2, u3⟩ := n_min t5.1 t4 t3 (x := x) (v := (kfoldC (S.c a) (min (S.c a).p (S.c b).p)).r x) (by omega) (by omega) (by rw [← hF0, kpf_krs]; exact hIk (x + 1))
        rw [← hF0, kpf_krs] at u2
        have np : ∀ q, q < g2.2.1 → ¬ cA g2.2.1 q := fun q hq z => by have := cA_ge z; omega
        refine ⟨t', u1, t1.fr t5.1 u3 (fun q hq => np q (by rcases hq with rfl | rfl | rfl <;> omega)), u3.at t5.1 t2 (fun z => by rcases z with z | z | z <;> omega), t3.fr t5.1 u3 (fun q hq => np q (by rcases hq with rfl | rfl | rfl <;> omega)), u2, t5.tr u3 (fun q hq z => absurd z (np q hq))⟩)
      (h := zpush g4 (.inr (107, [.ref g2.2.1, .ref g1.2.1])) 2) ⟨c1'.nw F4.1 f5, zpush_s _ _ _, c2'.nw F4.1 f5, by
        have := c4.nw F4.1 f5
        have e0 : kpf (klss (S.c a) (S.c b)).r (fun _ => 0) 0 = fun _ => 0 := kpf_0 _ _
        rw [e0]
        exact this, F4.tr1 f5⟩
    obtain ⟨t1, t2, t3, t4, t5⟩ := p6
    have eE : kpf (klss (S.c a) (S.c b)).r (fun _ => 0) (2 ^ (kfoldC (S.c a) (min (S.c a).p (S.c b).p)).p) = (klss (S.c a) (S.c b)).r := by
      funext y
      unfold kpf
      split
      · rfl
      · rename_i z
        rw [q1] at z
        exact (iL.2.2.2.2.2.1 y (Nat.le_of_not_lt z)).symm
    rw [eE] at t4
    have t4 : cN h6 D g2.2.1 (klss (S.c a) (S.c b)) := t4
    obtain ⟨s7, R7, F7⟩ := d_becomes R3 t5 (k := k) (by omega) t4 (Nat.le_refl _)
    have gc1 := nG c1
    have gc2 := nG c2
    rw [q1, l1] at gc1
    rw [l2] at gc2
    have fp := fun e n => hF_push R3.w e n
    have gp1 := fun e n => nG (c1.nw R3.w (fp e n))
    have gp2 := fun e n => nG (c2.nw R3.w (fp e n))
    rw [q1, l1] at gp1
    rw [l2] at gp2
    have ll1 := iA.2.2.2.1
    have ll2 := iB.2.2.2.1
    refine ⟨_, ?_, R7.q ((f1.A.tr1 F.A).tr1 F7)⟩
    simp (disch := omega) only [eX1_lessers, uX1_lessers_p0, uX1_lessers_p1, zKK, zB, zBl, zBb, zlg, zA, zA3, zL3, km31, km63, klshr, kishr, k2p, kl1shl, klmask, kland1, kiand1, k_l2i, zrt_b, zrt_0, zrt_1, zdv_n, zdv_l, znew_k, zast_p0, zast_p2, d_are1, d_are2, d_are3, e, hg, dG R1, nG (R1.c hb), r1, dG R2, nG (R2.c ha), r2, gp1, gp2, j_minI, n_new, s4, nG (c1'.nw F4.1 f5), r6, dG (R3.nw t5), s7, if_true]
/-! things looked for -/
theorem d_areThings (n s : Int32) (h : zH) : zc PG mX1_areThings [.int n, .int s] h = some (.inl (some (.int (zb (krun n s)))), h) := by
  unfold krun
  cases e1 : kbd n 1 1000 with
  | false => simp (disch := omega) only [eX1_areThings, uX1_areThings, zKK, zB, zBl, zBb, zlg, zA, zA3, zL3, km31, km63, klshr, kishr, k2p, kl1shl, klmask, kland1, kiand1, k_l2i, zrt_b, zrt_0, zrt_1, zdv_n, zdv_l, d_ini, e1, Bool.false_and, zb_f]
  | true =>
    by_cases e2 : s = nI 0
    · simp (disch := omega) only [eX1_areThings, uX1_areThings, zKK, zB, zBl, zBb, zlg, zA, zA3, zL3, km31, km63, klshr, kishr, k2p, kl1shl, klmask, kland1, kiand1, k_l2i, zrt_b, zrt_0, zrt_1, zdv_n, zdv_l, d_ini, e1, e2, not_true_eq_false, decide_false, Bool.and_false, zb_f]
    · simp (disch := omega) only [eX1_areThings, uX1_areThings, zKK, zB, zBl, zBb, zlg, zA, zA3, zL3, km31, km63, klshr, kishr, k2p, kl1shl, klmask, kland1, kiand1, k_l2i, zrt_b, zrt_0, zrt_1, zdv_n, zdv_l, d_ini, e1, e2, not_false_eq_true, decide_true, Bool.and_self, zb_t]
/-- of limit 48 -/
def kl48 (C : kC) : kC := (C.p, 48, C.d, C.m, C.r)
theorem kl48_comes {C : kC} (h : C.d = true) (m : Nat) : kcomes (kl48 C) m = kl48 (kcomes C m) ∧ (kcomes C m).d = true := by
  have e : (kl48 C).d = true := h
  unfold kcomes
  rw [e, h]
  exact ⟨rfl, h⟩
theorem krn_d (f : Nat → Nat) (p n : Nat) : (krn f (ktr p) n).1.d = true := by
  induction n with
  | zero => rfl
  | succ n ih => exact (kl48_comes ih _).2
theorem d_empty (R : dR h D B al S X) {p : Nat} (h4 : 4 ≤ p) (h8 : p ≤ 8) : ∃ h', zc PG mX1_empty [.ref D, .int (nI p)] h = some (.inl (some (.ref h.2.1)), h') ∧ cN h' D h.2.1 (kl48 (ktr p)) ∧ hF hN 3 312 h h' := by
  have f1 := hNew_F R.w D p 48
  have n1 := hNew_N (h := h) D (l := 48) h4 h8 (by decide) (by decide)
  obtain ⟨h', s1, c1, f2⟩ := n_dense f1.1 n1
  refine ⟨h', ?_, c1, f1.tr f2 (fun q hq z => by have := cA_ge z; omega)⟩
  simp (disch := omega) only [eX1_empty, uX1_empty, zKK, zB, zBl, zBb, zlg, zA, zA3, zL3, km31, km63, klshr, kishr, k2p, kl1shl, klmask, kland1, kiand1, k_l2i, zrt_b, zrt_0, zrt_1, zdv_n, zdv_l, n_new, s1]
/-- a mark comes to a counter that is new -/
theorem d_come {h0 : zH} (R0 : dR h0 D B al S X) {n s : Nat} (F : hF hN n s h0 h) {a : Nat} (ha : h0.2.1 ≤ a) {C : kC} (e : cN h D a C) {m : Nat} (hm : m < 4294967296) : ∃ h', zc PG mX2_adds [.ref a, .int (nI m)] h = some (.inl (some (.int (zb (kwould C m)))), h') ∧ cN h' D a (kcomes C m) ∧ hF hN n s h0 h' := by
  obtain ⟨h', a1, a2, a3⟩ := n_adds F.1 e hm
  exact ⟨h', a1, a2, F.tr a3 (fun q hq z => by have := cA_ge z; omega)⟩
theorem ksub1 (x : Int32) (k : Nat) : x - nI k - nI 1 = x - nI (k + 1) := by
  rw [← nI_add]
  apply Int32.toBitVec_inj.mp
  show x.toBitVec - (nI k).toBitVec - (nI 1).toBitVec = x.toBitVec - ((nI k).toBitVec + (nI 1).toBitVec)
  apply BitVec.eq_of_toNat_eq
  generalize x.toBitVec = a
  generalize (nI k).toBitVec = b
  generalize (nI 1).toBitVec = c
  have := a.isLt
  have := b.isLt
  have := c.isLt
  rw [BitVec.toNat_sub, BitVec.toNat_sub, BitVec.toNat_sub, BitVec.toNat_add]
  omega
theorem d_errs_loop {h0 : zH} (R0 : dR h0 D B al S X) {c p : Nat} (hc : h0.2.1 ≤ c) (a s : Int32) {n : Nat} (hn : n ≤ 1000) (j : Nat) : ∀ (k : Nat) (h : zH) (u : Value), k + j = n → hF hN 3 312 h0 h → cN h D c (kl48 (krn (kms S.a S.b a s) (ktr p) k).1) → ∃ (h' : zH) (u' : Value), zs PG mX1_errs 34 [.ref D, .int (nI p), .int a, .int (nI n), .int s, .ref c, .int (ker (kof S p a s) k).1, .int (nI (ker (kof S p a s) k).2), .int (nI k), u] [] h = zs PG mX1_errs 98 [.ref D, .int (nI p), .int a, .int (nI n), .int s, .ref c, .int (ker (kof S p a s) n).1, .int (nI (ker (kof S p a s) n).2), .int (nI n), u'] [] h' ∧ cN h' D c (kl48 (krn (kms S.a S.b a s) (ktr p) n).1) ∧ hF hN 3 312 h0 h' := by
  induction j with
  | zero =>
    intro k h u hk F e
    have hk : k = n := by omega
    subst hk
    refine ⟨h, u, ?_, e, F⟩
    rw [uX1_errs_at34]
    simp (disch := omega) only [uX1_errs_at36, uX1_errs_at37, zKK, zB]
  | succ j ih =>
    intro k h u hk F e
    have R := R0.nw F
    have mk : zc PG mX1_markOf [.ref D, .int (a + nI k * s)] h = some (.inl (some (.int (nI (kms S.a S.b a s k)))), h) := d_markOf R _
    obtain ⟨g, a1, a2, a3⟩ := d_come R0 F hc e (kms_lt S.a S.b a s k)
    rw [(kl48_comes (krn_d _ p k) _).1] at a2
    have a2 : cN g D c (kl48 (krn (kms S.a S.b a s) (ktr p) (k + 1)).1) := a2
    have Rg := R0.nw a3
    have qg := n_guess a2 Rg.t
    have eg : kguess (kl48 (krn (kms S.a S.b a s) (ktr p) (k + 1)).1) = kguess (krn (kms S.a S.b a s) (ktr p) (k + 1)).1 := rfl
    rw [eg] at qg
    obtain ⟨h', u', r1, r2, r3⟩ := ih (k + 1) g (.int (kof S p a s (k + 1))) (by omega) a3 a2
    refine ⟨h', u', ?_, r2, r3⟩
    have ea := j_abs (nI (kguess (krn (kms S.a S.b a s) (ktr p) (k + 1)).1) - nI (k + 1)) g
    rw [show kabs (nI (kguess (krn (kms S.a S.b a s) (ktr p) (k + 1)).1) - nI (k + 1)) = kof S p a s (k + 1) from rfl] at ea
    rw [← r1, uX1_errs_at34, ker]
    by_cases e2 : (ker (kof S p a s) k).1 < kof S p a s (k + 1)
    · rw [if_pos e2]
      simp (disch := omega) only [uX1_errs_p0, uX1_errs_p1, zKK, zB, zA, dG R, mk, nG e, a1, nG a2, qg, ksub1, ea, e2]
    · rw [if_neg e2]
      simp (disch := omega) only [uX1_errs_p0, uX1_errs_p1, zKK, zB, zA, dG R, mk, nG e, a1, nG a2, qg, ksub1, ea, e2]
theorem D_errs (H : dW D B S h) (p a n s : Int32) : ∃ h', zc PG mX1_errs [.ref D, .int p, .int a, .int n, .int s] h = some (.inl (some (.int (q_errs S p a n s).1)), h') ∧ dQ D B (q_errs S p a n s).2 h h' := by
  obtain ⟨al, X, R⟩ := H
  unfold q_errs
  rcases kbd_cases p 4 8 with e | ⟨p, h4, h8, rfl⟩
  · simp only [e, Bool.false_and, Bool.false_eq_true, if_false]
    refine ⟨h, ?_, R.q (hF.rf R.w _)⟩
    simp (disch := omega) only [eX1_errs, uX1_errs_p0, uX1_errs_p1, zKK, zB, zBl, zBb, zlg, zA, zA3, zL3, km31, km63, klshr, kishr, k2p, kl1shl, klmask, kland1, kiand1, k_l2i, zrt_b, zrt_0, zrt_1, zdv_n, zdv_l, znew_k, zast_p0, zast_p2, d_are1, d_are2, d_are3, d_isP, e]
  · have e := kbd_nI h4 h8 (by omega)
    cases e2 : krun n s with
    | false =>
      simp only [Bool.and_false, Bool.false_eq_true, if_false]
      refine ⟨h, ?_, R.q (hF.rf R.w _)⟩
      simp (disch := omega) only [eX1_errs, uX1_errs_p0, uX1_errs_p1, zKK, zB, zBl, zBb, zlg, zA, zA3, zL3, km31, km63, klshr, kishr, k2p, kl1shl, klmask, kland1, kiand1, k_l2i, zrt_b, zrt_0, zrt_1, zdv_n, zdv_l, znew_k, zast_p0, zast_p2, d_are1, d_are2, d_are3, d_isP, e, d_areThings, e2]
    | true =>
      obtain ⟨n, n1, n2, rfl⟩ := krun_of e2
      simp only [e, Bool.and_self, if_true]
      rw [kN_nI (by omega), kN_nI (by omega)]
      obtain ⟨g, r0, c0, f0⟩ := d_empty R h4 h8
      obtain ⟨g1, u, r1, c1, f1⟩ := d_errs_loop R (Nat.le_refl _) a s n2 n 0 g zJ (Nat.zero_add _) f0 c0
      rw [show ker (kof S p a s) 0 = (-1, 0) from rfl] at r1
      have R1 := R.nw f1
      have kl := ker_le (kof S p a s) n
      have kg := kguess_le c1.I
      have eg : kguess (kl48 (krn (kms S.a S.b a s) (ktr p) n).1) = kguess (krn (kms S.a S.b a s) (ktr p) n).1 := rfl
      rw [eg] at kg
      have n2 := fun e n => nTp (D := D) R1.w c1 R1.t e n
      rw [eg] at n2
      have gp := fun e n => nG (c1.nw R1.w (hF_push R1.w e n))
      obtain ⟨h5, X5, n5, R5, F5⟩ := d_row2 R1 (lN (ker (kof S p a s) n).2) (lN (kguess (krn (kms S.a S.b a s) (ktr p) n).1))
      refine ⟨h5, ?_, R5.q (f1.A.tr1 F5.E)⟩
      simp (disch := omega) only [eX1_errs, uX1_errs_p0, uX1_errs_p1, zKK, zB, zBl, zBb, zlg, zA, zA3, zL3, km31, km63, klshr, kishr, k2p, kl1shl, klmask, kland1, kiand1, k_l2i, zrt_b, zrt_0, zrt_1, zdv_n, zdv_l, znew_k, zast_p0, zast_p2, d_are1, d_are2, d_are3, d_isP, e, d_areThings, e2, dG R, r0, r1, dGp R1, gp, n2, n5]
theorem d_offBy_loop {h0 : zH} (R0 : dR h0 D B al S X) {c p : Nat} (hc : h0.2.1 ≤ c) (a s : Int32) {n : Nat} (hn : n ≤ 1000) (j : Nat) : ∀ (k : Nat) (h : zH), k + j = n → hF hN 3 312 h0 h → cN h D c (kl48 (krn (kms S.a S.b a s) (ktr p) k).1) → ∃ (h' : zH), zs PG mX1_offBy 10 [.ref D, .int (nI p), .int a, .int (nI n), .int s, .ref c, .int (nI k)] [] h = zs PG mX1_offBy 39 [.ref D, .int (nI p), .int a, .int (nI n), .int s, .ref c, .int (nI n)] [] h' ∧ cN h' D c (kl48 (krn (kms S.a S.b a s) (ktr p) n).1) ∧ hF hN 3 312 h0 h' := by
  induction j with
  | zero =>
    intro k h hk F e
    have hk : k = n := by omega
    subst hk
    refine ⟨h, ?_, e, F⟩
    rw [uX1_offBy_at10]
    simp (disch := omega) only [uX1_offBy_at12, uX1_offBy_at13, zKK, zB]
  | succ j ih =>
    intro k h hk F e
    have R := R0.nw F
    have mk : zc PG mX1_markOf [.ref D, .int (a + nI k * s)] h = some (.inl (some (.int (nI (kms S.a S.b a s k)))), h) := d_markOf R _
    obtain ⟨g, a1, a2, a3⟩ := d_come R0 F hc e (kms_lt S.a S.b a s k)
    rw [(kl48_comes (krn_d _ p k) _).1] at a2
    obtain ⟨h', r1, r2, r3⟩ := ih (k + 1) g (by omega) a3 a2
    refine ⟨h', ?_, r2, r3⟩
    rw [← r1, uX1_offBy_at10]
    simp (disch := omega) only [uX1_offBy, zKK, zB, zA, dG R, mk, nG e, a1]
theorem d_offBy (R : dR h D B al S X) {p : Nat} (h4 : 4 ≤ p) (h8 : p ≤ 8) (a s : Int32) {n : Nat} (hn : n ≤ 1000) : ∃ h', zc PG mX1_offBy [.ref D, .int (nI p), .int a, .int (nI n), .int s] h = some (.inl (some (.int (kofN S a s n p))), h') ∧ hF hN 3 312 h h' := by
  obtain ⟨g, r0, c0, f0⟩ := d_empty R h4 h8
  obtain ⟨g1, r1, c1, f1⟩ := d_offBy_loop R (Nat.le_refl _) a s hn n 0 g (Nat.zero_add _) f0 c0
  have R1 := R.nw f1
  have qg := n_guess c1 R1.t
  have eg : kguess (kl48 (krn (kms S.a S.b a s) (ktr p) n).1) = kguess (krn (kms S.a S.b a s) (ktr p) n).1 := rfl
  rw [eg] at qg
  have ea := j_abs (nI (kguess (krn (kms S.a S.b a s) (ktr p) n).1) - nI n) g1
  rw [show kabs (nI (kguess (krn (kms S.a S.b a s) (ktr p) n).1) - nI n) = kofN S a s n p from rfl] at ea
  refine ⟨g1, ?_, f1⟩
  simp (disch := omega) only [eX1_offBy, uX1_offBy, zKK, dG R, r0, r1, nG c1, qg, ea]
theorem d_least_loop (a s e : Int32) {n : Nat} (hn : n ≤ 1000) (j : Nat) : ∀ (p : Nat) (h : zH) (u : Value), 4 ≤ p → p + j = 9 → dR h D B al S X → ∃ h' X', zs PG mX1_least 18 [.ref D, .int a, .int (nI n), .int s, .int e, .int (nI p), u] [] h = some (.inl (some (.int ((match kfi (fun p => decide (¬ e < kofN S a s n p)) j p with | some p => (nI p, S.s_w [(kofN S a s n p).toInt64]) | none => (-2, S)) : Int32 × kS).1)), h') ∧ dR h' D B al ((match kfi (fun p => decide (¬ e < kofN S a s n p)) j p with | some p => (nI p, S.s_w [(kofN S a s n p).toInt64]) | none => (-2, S)) : Int32 × kS).2 X' ∧ hF (dE D) (4 * j) (400 * j) h h' := by
  induction j with
  | zero =>
    intro p h u h4 hp R
    refine ⟨h, X, ?_, R, hF.rf R.w _⟩
    rw [uX1_least_at18]
    simp (disch := omega) only [uX1_least, zKK, zB, zBl, zBb, zlg, zA, zA3, zL3, km31, km63, klshr, kishr, k2p, kl1shl, klmask, kland1, kiand1, k_l2i, zrt_b, zrt_0, zrt_1, zdv_n, zdv_l, kfi]
  | succ j ih =>
    intro p h u h4 hp R
    obtain ⟨g, q1, F1⟩ := d_offBy R h4 (show p ≤ 8 by omega) a s hn
    have R1 := R.nw F1
    unfold kfi
    by_cases eo : e < kofN S a s n p
    · rw [decide_eq_false (fun q => q eo)]
      simp only [Bool.false_eq_true, if_false]
      obtain ⟨h', X', r1, r2, r3⟩ := ih (p + 1) g (.int (kofN S a s n p)) (by omega) (by omega) R1
      refine ⟨h', X', ?_, r2, (F1.new.tr1 r3).up (fun _ _ z => z) (by omega) (by omega)⟩
      rw [uX1_least_at18, ← r1]
      simp (disch := omega) only [uX1_least, zKK, zB, zA, dG R, q1, eo]
    · rw [decide_eq_true eo]
      simp only [if_true]
      obtain ⟨h5, X5, n5, R5, F5⟩ := d_row1 R1 (kofN S a s n p).toInt64
      refine ⟨h5, X5, ?_, R5, (F1.new.tr1 F5).up (fun _ _ z => z) (by omega) (by omega)⟩
      rw [uX1_least_at18]
      simp (disch := omega) only [uX1_least, zKK, zB, zA, dG R, q1, eo, znew_k, zast_p2, dGp R1, n5]
theorem D_least (H : dW D B S h) (a n s e : Int32) : ∃ h', zc PG mX1_least [.ref D, .int a, .int n, .int s, .int e] h = some (.inl (some (.int (q_least S a n s e).1)), h') ∧ dQ D B (q_least S a n s e).2 h h' := by
  obtain ⟨al, X, R⟩ := H
  unfold q_least
  cases e2 : krun n s with
  | false =>
    simp only [Bool.false_and, Bool.false_eq_true, if_false]
    refine ⟨h, ?_, R.q (hF.rf R.w _)⟩
    simp (disch := omega) only [eX1_least, uX1_least, zKK, zB, zBl, zBb, zlg, zA, zA3, zL3, km31, km63, klshr, kishr, k2p, kl1shl, klmask, kland1, kiand1, k_l2i, zrt_b, zrt_0, zrt_1, zdv_n, zdv_l, znew_k, zast_p0, zast_p2, d_are1, d_are2, d_are3, d_areThings, e2]
  | true =>
    obtain ⟨n, n1, n2, rfl⟩ := krun_of e2
    by_cases e3 : e < nI 0
    · rw [decide_eq_false (fun q => q e3)]
      simp only [Bool.and_false, Bool.false_eq_true, if_false]
      refine ⟨h, ?_, R.q (hF.rf R.w _)⟩
      simp (disch := omega) only [eX1_least, uX1_least, zKK, zB, zBl, zBb, zlg, zA, zA3, zL3, km31, km63, klshr, kishr, k2p, kl1shl, klmask, kland1, kiand1, k_l2i, zrt_b, zrt_0, zrt_1, zdv_n, zdv_l, znew_k, zast_p0, zast_p2, d_are1, d_are2, d_are3, d_areThings, e2, e3]
    · rw [decide_eq_true e3]
      simp only [Bool.and_self, if_true]
      rw [kN_nI (by omega)]
      obtain ⟨h', X', r1, r2, r3⟩ := d_least_loop a s e n2 5 4 h zJ (by decide) (by decide) R
      refine ⟨h', ?_, r2.q r3.E⟩
      simp (disch := omega) only [eX1_least, uX1_least, zKK, zB, zBl, zBb, zlg, zA, zA3, zL3, km31, km63, klshr, kishr, k2p, kl1shl, klmask, kland1, kiand1, k_l2i, zrt_b, zrt_0, zrt_1, zdv_n, zdv_l, znew_k, zast_p0, zast_p2, d_are1, d_are2, d_are3, d_areThings, e2, e3, r1]
      rfl
theorem d_expects_loop (H : zH) (a0 : Nat) {p : Nat} (h8 : p ≤ 8) {n : Nat} (hn : n ≤ 100000) (j : Nat) : ∀ k, k + j = n → zs PG mX1_expects 30 [.ref a0, .int (nI p), .int (nI n), .int (nI (kex (2 ^ p) k)), .int (nI k)] [] H = some (.inl (some (.int (nI (kex (2 ^ p) n)))), H) := by
  have h2 := k2p_le h8
  induction j with
  | zero =>
    intro k hk
    have hk : k = n := by omega
    subst hk
    rw [uX1_expects_at30]
    simp (disch := omega) only [uX1_expects, zKK, zB, zBl, zBb, zlg, zA, zA3, zL3, km31, km63, klshr, kishr, k2p, kl1shl, klmask, kland1, kiand1, k_l2i, zrt_b, zrt_0, zrt_1, zdv_n, zdv_l]
  | succ j ih =>
    intro k hk
    have hl := kex_le (2 ^ p) k
    have hd : kex (2 ^ p) k / 2 ^ p ≤ kex (2 ^ p) k := Nat.div_le_self _ _
    rw [uX1_expects_at30, ← ih (k + 1) (by omega), kex]
    simp (disch := omega) only [uX1_expects, zKK, zB, zBl, zBb, zlg, zA, zA3, zL3, km31, km63, klshr, kishr, k2p, kl1shl, klmask, kland1, kiand1, k_l2i, zrt_b, zrt_0, zrt_1, zdv_n, zdv_l]
theorem D_expects (H : dW D B S h) (p n : Int32) : ∃ h', zc PG mX1_expects [.ref D, .int p, .int n] h = some (.inl (some (.int (q_expects p n))), h') ∧ dQ D B S h h' := by
  obtain ⟨al, X, R⟩ := H
  refine ⟨h, ?_, R.q (hF.rf R.w _)⟩
  unfold q_expects
  rcases kbd_cases p 4 8 with e1 | ⟨p, h4, h8, rfl⟩
  · simp only [e1, Bool.false_and, Bool.false_eq_true, if_false]
    simp (disch := omega) only [eX1_expects, uX1_expects, zKK, zB, zBl, zBb, zlg, zA, zA3, zL3, km31, km63, klshr, kishr, k2p, kl1shl, klmask, kland1, kiand1, k_l2i, zrt_b, zrt_0, zrt_1, zdv_n, zdv_l, znew_k, zast_p0, zast_p2, d_are1, d_are2, d_are3, d_isP, e1]
  · have e1 := kbd_nI h4 h8 (by omega)
    rcases kbd_cases n 0 100000 with e2 | ⟨n, -, hn, rfl⟩
    · simp only [e1, e2, Bool.and_false, Bool.false_eq_true, if_false]
      simp (disch := omega) only [eX1_expects, uX1_expects, zKK, zB, zBl, zBb, zlg, zA, zA3, zL3, km31, km63, klshr, kishr, k2p, kl1shl, klmask, kland1, kiand1, k_l2i, zrt_b, zrt_0, zrt_1, zdv_n, zdv_l, znew_k, zast_p0, zast_p2, d_are1, d_are2, d_are3, d_isP, d_ini, e1, e2]
    · have e2 := kbd_nI (Nat.zero_le n) hn (by omega)
      simp only [e1, e2, Bool.and_self, if_true]
      rw [kN_nI (by omega), kN_nI (by omega)]
      have h2 := k2p_le h8
      have r := d_expects_loop h D h8 hn n 0 (by omega)
      rw [show kex (2 ^ p) 0 = 1000 * 2 ^ p from rfl] at r
      simp (disch := omega) only [eX1_expects, uX1_expects, zKK, zB, zBl, zBb, zlg, zA, zA3, zL3, km31, km63, klshr, kishr, k2p, kl1shl, klmask, kland1, kiand1, k_l2i, zrt_b, zrt_0, zrt_1, zdv_n, zdv_l, znew_k, zast_p0, zast_p2, d_are1, d_are2, d_are3, d_isP, d_inN, e1, e2, kishl', r]
theorem d_things_loop (H : zH) (a0 : Nat) {p : Nat} (h8 : p ≤ 8) (e : Int32) (j : Nat) : ∀ k, k + (j + 1) = 100001 → zs PG mX1_things 22 [.ref a0, .int (nI p), .int e, .int (nI (kex (2 ^ p) k)), .int (nI k)] [] H = some (.inl (some (.int ((kfi (fun k => decide (¬ e < nI (kex (2 ^ p) k))) (j + 1) k).elim (-2) nI))), H) := by
  have h2 := k2p_le h8
  induction j with
  | zero =>
    intro k hk
    have hl := kex_le (2 ^ p) k
    rw [uX1_things_at22]
    unfold kfi
    by_cases eo : e < nI (kex (2 ^ p) k)
    · rw [decide_eq_false (fun q => q eo)]
      simp (disch := omega) only [uX1_things, zKK, zB, zBl, zBb, zlg, zA, zA3, zL3, km31, km63, klshr, kishr, k2p, kl1shl, klmask, kland1, kiand1, k_l2i, zrt_b, zrt_0, zrt_1, zdv_n, zdv_l, eo, kfi, Option.elim, Bool.false_eq_true, if_false]
    · rw [decide_eq_true eo]
      simp (disch := omega) only [uX1_things, zKK, zB, zBl, zBb, zlg, zA, zA3, zL3, km31, km63, klshr, kishr, k2p, kl1shl, klmask, kland1, kiand1, k_l2i, zrt_b, zrt_0, zrt_1, zdv_n, zdv_l, eo, Option.elim, if_true]
  | succ j ih =>
    intro k hk
    have hl := kex_le (2 ^ p) k
    have hd : kex (2 ^ p) k / 2 ^ p ≤ kex (2 ^ p) k := Nat.div_le_self _ _
    rw [uX1_things_at22]
    unfold kfi
    by_cases eo : e < nI (kex (2 ^ p) k)
    · rw [decide_eq_false (fun q => q eo)]
      simp only [Bool.false_eq_true, if_false]
      rw [← ih (k + 1) (by omega), kex]
      simp (disch := omega) only [uX1_things, zKK, zB, zBl, zBb, zlg, zA, zA3, zL3, km31, km63, klshr, kishr, k2p, kl1shl, klmask, kland1, kiand1, k_l2i, zrt_b, zrt_0, zrt_1, zdv_n, zdv_l, eo]
    · rw [decide_eq_true eo]
      simp only [if_true]
      simp (disch := omega) only [uX1_things, zKK, zB, zBl, zBb, zlg, zA, zA3, zL3, km31, km63, klshr, kishr, k2p, kl1shl, klmask, kland1, kiand1, k_l2i, zrt_b, zrt_0, zrt_1, zdv_n, zdv_l, eo, Option.elim]
theorem D_things (H : dW D B S h) (p e : Int32) : ∃ h', zc PG mX1_things [.ref D, .int p, .int e] h = some (.inl (some (.int (q_things p e))), h') ∧ dQ D B S h h' := by
  obtain ⟨al, X, R⟩ := H
  refine ⟨h, ?_, R.q (hF.rf R.w _)⟩
  unfold q_things
  rcases kbd_cases p 4 8 with e1 | ⟨p, h4, h8, rfl⟩
  · simp only [e1, Bool.false_and, Bool.false_eq_true, if_false]
    simp (disch := omega) only [eX1_things, uX1_things, zKK, zB, zBl, zBb, zlg, zA, zA3, zL3, km31, km63, klshr, kishr, k2p, kl1shl, klmask, kland1, kiand1, k_l2i, zrt_b, zrt_0, zrt_1, zdv_n, zdv_l, znew_k, zast_p0, zast_p2, d_are1, d_are2, d_are3, d_isP, e1]
  · have e1 := kbd_nI h4 h8 (by omega)
    by_cases e3 : e < nI 0
    · rw [decide_eq_false (fun q => q e3)]
      simp only [e1, Bool.and_false, Bool.false_eq_true, if_false]
      simp (disch := omega) only [eX1_things, uX1_things, zKK, zB, zBl, zBb, zlg, zA, zA3, zL3, km31, km63, klshr, kishr, k2p, kl1shl, klmask, kland1, kiand1, k_l2i, zrt_b, zrt_0, zrt_1, zdv_n, zdv_l, znew_k, zast_p0, zast_p2, d_are1, d_are2, d_are3, d_isP, e1, e3]
    · rw [decide_eq_true e3]
      simp only [e1, Bool.and_self, if_true]
      rw [kN_nI (by omega)]
      have h2 := k2p_le h8
      have r := d_things_loop h D h8 e 100000 0 (by omega)
      rw [show kex (2 ^ p) 0 = 1000 * 2 ^ p from rfl] at r
      simp (disch := omega) only [eX1_things, uX1_things, zKK, zB, zBl, zBb, zlg, zA, zA3, zL3, km31, km63, klshr, kishr, k2p, kl1shl, klmask, kland1, kiand1, k_l2i, zrt_b, zrt_0, zrt_1, zdv_n, zdv_l, znew_k, zast_p0, zast_p2, d_are1, d_are2, d_are3, d_isP, e1, e3, kishl', r]
theorem d_would_loop {h0 : zH} (R0 : dR h0 D B al S X) {c : Nat} {C : kC} {N M : Nat} (hc : h0.2.1 ≤ c) (x1 a s : Int32) {n : Nat} (hn : n ≤ 1000) (j : Nat) : ∀ (k : Nat) (h : zH), k + j = n → (krn (kms S.a S.b a s) C k).2 ≤ k → hF hN N M h0 h → cN h D c (krn (kms S.a S.b a s) C k).1 → ∃ (h' : zH), zs PG mX1_would 52 [.ref D, .int x1, .int a, .int (nI n), .int s, .ref c, .int (nI (krn (kms S.a S.b a s) C k).2), .int (nI k)] [] h = zs PG mX1_would 93 [.ref D, .int x1, .int a, .int (nI n), .int s, .ref c, .int (nI (krn (kms S.a S.b a s) C n).2), .int (nI n)] [] h' ∧ cN h' D c (krn (kms S.a S.b a s) C n).1 ∧ (krn (kms S.a S.b a s) C n).2 ≤ n ∧ hF hN N M h0 h' := by
  induction j with
  | zero =>
    intro k h hk hb F e
    have hk : k = n := by omega
    subst hk
    refine ⟨h, ?_, e, hb, F⟩
    rw [uX1_would_at52]
    simp (disch := omega) only [uX1_would_at54, uX1_would_at55, zKK, zB]
  | succ j ih =>
    intro k h hk hb F e
    have R := R0.nw F
    have mk : zc PG mX1_markOf [.ref D, .int (a + nI k * s)] h = some (.inl (some (.int (nI (kms S.a S.b a s k)))), h) := d_markOf R _
    obtain ⟨g, a1, a2, a3⟩ := d_come R0 F hc e (kms_lt S.a S.b a s k)
    have e2 : (krn (kms S.a S.b a s) C (k + 1)).2 = (krn (kms S.a S.b a s) C k).2 + if kwould (krn (kms S.a S.b a s) C k).1 (kms S.a S.b a s k) then 1 else 0 := rfl
    obtain ⟨h', r1, r2, r3, r4⟩ := ih (k + 1) g (by omega) (by rw [e2]; split <;> omega) a3 a2
    refine ⟨h', ?_, r2, r3, r4⟩
    rw [← r1, uX1_would_at52, e2]
    cases ew : kwould (krn (kms S.a S.b a s) C k).1 (kms S.a S.b a s k) with
    | true =>
      rw [ew] at a1
      simp (disch := omega) only [uX1_would_p0, uX1_would_p1, zKK, zB, zBl, zBb, zlg, zA, zA3, zL3, km31, km63, klshr, kishr, k2p, kl1shl, klmask, kland1, kiand1, k_l2i, zrt_b, zrt_0, zrt_1, zdv_n, zdv_l, dG R, mk, nG e, a1, if_true]
    | false =>
      rw [ew] at a1
      simp (disch := omega) only [uX1_would_p0, uX1_would_p1, zKK, zB, zBl, zBb, zlg, zA, zA3, zL3, km31, km63, klshr, kishr, k2p, kl1shl, klmask, kland1, kiand1, k_l2i, zrt_b, zrt_0, zrt_1, zdv_n, zdv_l, dG R, mk, nG e, a1, if_false, Bool.false_eq_true]
theorem D_would (H : dW D B S h) (c a n s : Int32) : ∃ h', zc PG mX1_would [.ref D, .int c, .int a, .int n, .int s] h = some (.inl (some (.int (q_would S c a n s).1)), h') ∧ dQ D B (q_would S c a n s).2 h h' := by
  obtain ⟨al, X, R⟩ := H
  have f1 := hv1_F R.w c
  have R1 := R.nw f1
  unfold q_would
  rcases kbd_cases c 0 5 with e | ⟨k, -, hk, rfl⟩
  · rw [e]
    refine ⟨hv1 h c, ?_, R1.q f1.A⟩
    simp (disch := omega) only [eX1_would, uX1_would_p0, uX1_would_p1, zKK, zB, zBl, zBb, zlg, zA, zA3, zL3, km31, km63, klshr, kishr, k2p, kl1shl, klmask, kland1, kiand1, k_l2i, zrt_b, zrt_0, zrt_1, zdv_n, zdv_l, znew_k, zast_p0, zast_p2, d_are1, d_are2, d_are3, e, Bool.false_and, Bool.false_eq_true, if_false]
  · have e := kbd_nI (Nat.zero_le k) hk (by omega)
    rcases kbd_cases n 0 1000 with e2 | ⟨n, -, h1000, rfl⟩
    · rw [e, e2]
      refine ⟨hv1 h (nI k), ?_, R1.q f1.A⟩
      simp (disch := omega) only [eX1_would, uX1_would_p0, uX1_would_p1, zKK, zB, zBl, zBb, zlg, zA, zA3, zL3, km31, km63, klshr, kishr, k2p, kl1shl, klmask, kland1, kiand1, k_l2i, zrt_b, zrt_0, zrt_1, zdv_n, zdv_l, znew_k, zast_p0, zast_p2, d_are1, d_are2, d_are3, d_ini, e, e2, Bool.and_false, Bool.false_eq_true, if_false]
    · have e2 := kbd_nI (Nat.zero_le n) h1000 (by omega)
      have hk6 : k < 6 := by omega
      rw [e, e2, kN_nI (by omega), kN_nI (by omega)]
      generalize hg : hv1 h (nI k) = g at f1 R1
      obtain ⟨g2, t1, t2, t3⟩ := d_copy1 R1 hk6
      obtain ⟨g3, r1, c3, l3, f3⟩ := d_would_loop R1 (C := S.c k) (Nat.le_succ _) (nI k) a s h1000 n 0 g2 (Nat.zero_add _) (Nat.le_refl _) t3 t2
      have z0 : (krn (kms S.a S.b a s) (S.c k) 0).2 = 0 := rfl
      rw [z0] at r1
      have R3 := R1.nw f3
      have st := st3 R1 hk6 (n := 1) (i := 0) (by omega) (by omega) (fun _ => zdef 3)
      have gp := fun e n => nG (c3.nw R3.w (hF_push R3.w e n))
      obtain ⟨h5, X5, n5, R5, F5⟩ := d_row2 R3 (lN (krn (kms S.a S.b a s) (S.c k) n).2) (lN (if (krn (kms S.a S.b a s) (S.c k) n).1.d then 1 else 0))
      have c5 := c3.fr R3.w F5 (fun q hq z => by have := cA_ge hq; have := R1.lt; unfold dE at z; omega)
      refine ⟨h5, ?_, R5.q ((f1.A.tr1 f3.A).tr1 F5.E)⟩
      cases hd : (krn (kms S.a S.b a s) (S.c k) n).1.d with
      | true =>
        rw [hd] at gp n5
        simp only [if_true] at n5
        simp (disch := omega) only [eX1_would, uX1_would_p0, uX1_would_p1, zKK, zB, zBl, zBb, zlg, zA, zA3, zL3, km31, km63, klshr, kishr, k2p, kl1shl, klmask, kland1, kiand1, k_l2i, zrt_b, zrt_0, zrt_1, zdv_n, zdv_l, znew_k, zast_p0, zast_p2, d_are1, d_are2, d_are3, hg, d_inN, e, e2, dG R1, dGp R1, st, t1, r1, dGp R3, gp, n5, nG c5, n_guess c5 R5.t, Bool.and_self, if_true]
      | false =>
        rw [hd] at gp n5
        simp only [Bool.false_eq_true, if_false] at n5
        simp (disch := omega) only [eX1_would, uX1_would_p0, uX1_would_p1, zKK, zB, zBl, zBb, zlg, zA, zA3, zL3, km31, km63, klshr, kishr, k2p, kl1shl, klmask, kland1, kiand1, k_l2i, zrt_b, zrt_0, zrt_1, zdv_n, zdv_l, znew_k, zast_p0, zast_p2, d_are1, d_are2, d_are3, hg, d_inN, e, e2, dG R1, dGp R1, st, t1, r1, dGp R3, gp, n5, nG c5, n_guess c5 R5.t, Bool.and_self, if_true]
theorem d_reaches_loop {h0 : zH} (R0 : dR h0 D B al S X) {c : Nat} {C : kC} {N M : Nat} (hc : h0.2.1 ≤ c) (x1 a s v : Int32) (j : Nat) : ∀ (k : Nat) (h : zH), k + (j + 1) = 1001 → hF hN N M h0 h → cN h D c (krn (kms S.a S.b a s) C k).1 → ∃ h' X', zs PG mX1_reaches 42 [.ref D, .int x1, .int a, .int s, .int v, .ref c, .int (nI k)] [] h = some (.inl (some (.int ((match kfi (krc S C a s v) (j + 1) k with | some n => (nI n, S.s_w [lN (kguess (krn (kms S.a S.b a s) C n).1)]) | none => (-2, S)) : Int32 × kS).1)), h') ∧ dR h' D B al ((match kfi (krc S C a s v) (j + 1) k with | some n => (nI n, S.s_w [lN (kguess (krn (kms S.a S.b a s) C n).1)]) | none => (-2, S)) : Int32 × kS).2 X' ∧ hF (dE D) (N + 1) (M + 1) h0 h' := by
  have fin : ∀ (k : Nat) (h : zH), k ≤ 1000 → hF hN N M h0 h → cN h D c (krn (kms S.a S.b a s) C k).1 → ¬ nI (kguess (krn (kms S.a S.b a s) C k).1) < v → ∃ h' X', zs PG mX1_reaches 42 [.ref D, .int x1, .int a, .int s, .int v, .ref c, .int (nI k)] [] h = some (.inl (some (.int (nI k))), h') ∧ dR h' D B al (S.s_w [lN (kguess (krn (kms S.a S.b a s) C k).1)]) X' ∧ hF (dE D) (N + 1) (M + 1) h0 h' := by
    intro k h hk F e hv
    have R := R0.nw F
    have kg := kguess_le e.I
    have gp := fun e' n => nG (e.nw R.w (hF_push R.w e' n))
    obtain ⟨h5, X5, n5, R5, F5⟩ := d_row1 R (lN (kguess (krn (kms S.a S.b a s) C k).1))
    refine ⟨h5, X5, ?_, R5, F.new.tr1 F5⟩
    rw [uX1_reaches_at42]
    simp (disch := omega) only [uX1_reaches_p0, uX1_reaches_p1, zKK, zB, zBl, zBb, zlg, zA, zA3, zL3, km31, km63, klshr, kishr, k2p, kl1shl, klmask, kland1, kiand1, k_l2i, zrt_b, zrt_0, zrt_1, zdv_n, zdv_l, nG e, n_guess e R.t, hv, znew_k, dGp R, gp, nTp R.w e R.t, zast_p2, n5]
  have hk0 : ∀ k, krc S C a s v k = decide (¬ nI (kguess (krn (kms S.a S.b a s) C k).1) < v) := fun _ => rfl
  induction j with
  | zero =>
    intro k h hk F e
    have R := R0.nw F
    unfold kfi
    rw [hk0]
    by_cases eo : nI (kguess (krn (kms S.a S.b a s) C k).1) < v
    · rw [decide_eq_false (fun q => q eo)]
      simp only [Bool.false_eq_true, if_false, kfi]
      refine ⟨h, X, ?_, R, F.new.up (fun _ _ z => z) (by omega) (by omega)⟩
      rw [uX1_reaches_at42]
      simp (disch := omega) only [uX1_reaches_p0, uX1_reaches_p1, zKK, zB, zBl, zBb, zlg, zA, zA3, zL3, km31, km63, klshr, kishr, k2p, kl1shl, klmask, kland1, kiand1, k_l2i, zrt_b, zrt_0, zrt_1, zdv_n, zdv_l, nG e, n_guess e R.t, eo]
    · rw [decide_eq_true eo]
      simp only [if_true]
      exact fin k h (by omega) F e eo
  | succ j ih =>
    intro k h hk F e
    have R := R0.nw F
    unfold kfi
    rw [hk0]
    by_cases eo : nI (kguess (krn (kms S.a S.b a s) C k).1) < v
    · rw [decide_eq_false (fun q => q eo)]
      simp only [Bool.false_eq_true, if_false]
      have mk : zc PG mX1_markOf [.ref D, .int (a + nI k * s)] h = some (.inl (some (.int (nI (kms S.a S.b a s k)))), h) := d_markOf R _
      obtain ⟨g, a1, a2, a3⟩ := d_come R0 F hc e (kms_lt S.a S.b a s k)
      obtain ⟨h', X', r1, r2, r3⟩ := ih (k + 1) g (by omega) a3 a2
      refine ⟨h', X', ?_, r2, r3⟩
      rw [uX1_reaches_at42, ← r1]
      simp (disch := omega) only [uX1_reaches_p0, uX1_reaches_p1, zKK, zB, zBl, zBb, zlg, zA, zA3, zL3, km31, km63, klshr, kishr, k2p, kl1shl, klmask, kland1, kiand1, k_l2i, zrt_b, zrt_0, zrt_1, zdv_n, zdv_l, nG e, n_guess e R.t, eo, dG R, mk, a1]
    · rw [decide_eq_true eo]
      simp only [if_true]
      exact fin k h (by omega) F e eo
theorem D_reaches (H : dW D B S h) (c a s v : Int32) : ∃ h', zc PG mX1_reaches [.ref D, .int c, .int a, .int s, .int v] h = some (.inl (some (.int (q_reaches S c a s v).1)), h') ∧ dQ D B (q_reaches S c a s v).2 h h' := by
  obtain ⟨al, X, R⟩ := H
  have f1 := hv1_F R.w c
  have R1 := R.nw f1
  unfold q_reaches
  rcases kbd_cases c 0 5 with e | ⟨k, -, hk, rfl⟩
  · rw [e]
    refine ⟨hv1 h c, ?_, R1.q f1.A⟩
    simp (disch := omega) only [eX1_reaches, uX1_reaches_p0, uX1_reaches_p1, zKK, zB, zBl, zBb, zlg, zA, zA3, zL3, km31, km63, klshr, kishr, k2p, kl1shl, klmask, kland1, kiand1, k_l2i, zrt_b, zrt_0, zrt_1, zdv_n, zdv_l, znew_k, zast_p0, zast_p2, d_are1, d_are2, d_are3, e, Bool.false_and, Bool.false_eq_true, if_false]
  · have e := kbd_nI (Nat.zero_le k) hk (by omega)
    by_cases e2 : v < nI 0
    · rw [e, decide_eq_false (fun q => q e2)]
      refine ⟨hv1 h (nI k), ?_, R1.q f1.A⟩
      simp (disch := omega) only [eX1_reaches, uX1_reaches_p0, uX1_reaches_p1, zKK, zB, zBl, zBb, zlg, zA, zA3, zL3, km31, km63, klshr, kishr, k2p, kl1shl, klmask, kland1, kiand1, k_l2i, zrt_b, zrt_0, zrt_1, zdv_n, zdv_l, znew_k, zast_p0, zast_p2, d_are1, d_are2, d_are3, e, e2, Bool.and_false, Bool.false_eq_true, if_false]
    · rw [e, decide_eq_true e2, kN_nI (by omega)]
      have hk6 : k < 6 := by omega
      simp only [Bool.and_self, if_true]
      generalize hg : hv1 h (nI k) = g at f1 R1
      obtain ⟨g2, t1, t2, t3⟩ := d_copy1 R1 hk6
      obtain ⟨h5, X5, r5, R5, F5⟩ := d_reaches_loop R1 (C := S.c k) (Nat.le_succ _) (nI k) a s v 1000 0 g2 (Nat.zero_add _) t3 t2
      have st := st3 R1 hk6 (n := 1) (i := 0) (by omega) (by omega) (fun _ => zdef 3)
      refine ⟨h5, ?_, R5.q (f1.A.tr1 F5.E)⟩
      simp (disch := omega) only [eX1_reaches, uX1_reaches_p0, uX1_reaches_p1, zKK, zB, zBl, zBb, zlg, zA, zA3, zL3, km31, km63, klshr, kishr, k2p, kl1shl, klmask, kland1, kiand1, k_l2i, zrt_b, zrt_0, zrt_1, zdv_n, zdv_l, znew_k, zast_p0, zast_p2, d_are1, d_are2, d_are3, hg, e, e2, dG R1, dGp R1, st, t1, r5]
      rfl
end DR
