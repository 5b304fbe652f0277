/-! THE COMPONENT's PUBLIC METHODS: marks picked, swaps, ranks put -/
section DR
variable {h h1 : zH} {D B : Nat} {al : Nat → Nat} {S : kS} {X : dX}
theorem d_picked_loop {b a lam k : Nat} {C : kC} {fs : List Value} {P : Nat → Bool} (hd : C.d = false) (hab : a ≠ b) (h0 : zH) (hl : ∀ g, hF hN 3 312 h0 g → zlam g [(100, mX1_lambda_keeps_0), (101, mX1_lambda_less_1), (102, mX1_lambda_splits_2), (103, mX1_lambda_splits_3)] lam = some (k, fs) ∧ ∀ m ∈ C.m, zc PG k (fs ++ [.int (nI m)]) g = some (.inl (some (.int (zb (P m)))), g)) (ha : h0.2.1 ≤ a) (x2 x3 : Int32) (j : Nat) : ∀ (i : Nat) (h : zH) (A : kC), i + j = C.m.length → hF hN 3 312 h0 h → cN h D a A → cN h D b C → ∃ h', zs PG mX1_picked 15 [.ref D, .ref b, .int x2, .int x3, .ref lam, .ref a, .int (nI i)] [] h = some (.inl (some (.ref a)), h') ∧ cN h' D a (((C.m.drop i).filter P).foldl kcomes A) ∧ hF hN 3 312 h0 h' := by
  induction j with
  | zero =>
    intro i h A hi F ea eb
    have hi : i = C.m.length := hi
    have hl1 := eb.I.2.2.2.2.2.2.2.2.2.1
    have hl3 := eb.I.2.2.2.1
    refine ⟨h, ?_, by rw [hi, List.drop_length]; exact ea, F⟩
    rw [uX1_picked_at15, hi]
    simp (disch := omega) only [uX1_picked, zKK, zB, zBl, zBb, zlg, zA, zA3, zL3, km31, km63, klshr, kishr, k2p, kl1shl, klmask, kland1, kiand1, k_l2i, zrt_b, zrt_0, zrt_1, zdv_n, zdv_l, nM eb hd]
  | succ j ih =>
    intro i h A hi F ea eb
    have hl1 := eb.I.2.2.2.2.2.2.2.2.2.1
    have hl3 := eb.I.2.2.2.1
    have hi2 : i < C.m.length := by omega
    have hm := eb.I.2.2.2.2.2.2.2.1 _ (kget_mem hi2)
    obtain ⟨l1, l2⟩ := hl h F
    have l3 := l2 _ (kget_mem hi2)
    cases hP : P (C.m.getD i 0) with
    | false =>
      rw [hP] at l3
      obtain ⟨h', r1, r2, r3⟩ := ih (i + 1) h A (by omega) F ea eb
      refine ⟨h', ?_, by rw [kdrop_s hi2, List.filter_cons_of_neg (by rw [hP]; exact Bool.false_ne_true)]; exact r2, r3⟩
      rw [← r1, uX1_picked_at15]
      simp (disch := omega) only [uX1_picked, zKK, zB, zBl, zBb, zlg, zA, zA3, zL3, km31, km63, klshr, kishr, k2p, kl1shl, klmask, kland1, kiand1, k_l2i, zrt_b, zrt_0, zrt_1, zdv_n, zdv_l, nM eb hd, nG eb, l1, l3]
    | true =>
      rw [hP] at l3
      obtain ⟨h1, p1, q1, k1⟩ := n_adds F.1 ea hm
      obtain ⟨h', r1, r2, r3⟩ := ih (i + 1) h1 (kcomes A (C.m.getD i 0)) (by omega) (F.tr k1 (fun q hq z => by have := cA_ge z; omega)) q1 (eb.fr F.1 k1 (fun q hq => eb.apart ea (Ne.symm hab) q hq))
      refine ⟨h', ?_, by rw [kdrop_s hi2, List.filter_cons_of_pos hP, List.foldl_cons]; exact r2, r3⟩
      rw [← r1, uX1_picked_at15]
      simp (disch := omega) only [uX1_picked, zKK, zB, zBl, zBb, zlg, zA, zA3, zL3, km31, km63, klshr, kishr, k2p, kl1shl, klmask, kland1, kiand1, k_l2i, zrt_b, zrt_0, zrt_1, zdv_n, zdv_l, nM eb hd, nG eb, l1, l3, nG ea, p1]
theorem d_picked {b lam k : Nat} {C : kC} {fs : List Value} {P : Nat → Bool} (w : hW h) (eb : cN h D b C) (hd : C.d = false) {p l : Nat} (h4 : 4 ≤ p) (h8 : p ≤ 8) (h1 : 1 ≤ l) (h48 : l ≤ 48) (hf : (C.m.filter P).length ≤ l) (hl : ∀ g, hF hN 3 312 h g → zlam g [(100, mX1_lambda_keeps_0), (101, mX1_lambda_less_1), (102, mX1_lambda_splits_2), (103, mX1_lambda_splits_3)] lam = some (k, fs) ∧ ∀ m ∈ C.m, zc PG k (fs ++ [.int (nI m)]) g = some (.inl (some (.int (zb (P m)))), g)) : ∃ h', zc PG mX1_picked [.ref D, .ref b, .int (nI p), .int (nI l), .ref lam] h = some (.inl (some (.ref h.2.1)), h') ∧ cN h' D h.2.1 (kspr p l (C.m.filter P)) ∧ hF hN 3 312 h h' := by
  have f1 := hNew_F w D p l
  have n1 := hNew_N (h := h) D h4 h8 h1 h48
  have hb := eb.lt w
  obtain ⟨h', r1, r2, r3⟩ := d_picked_loop hd (show h.2.1 ≠ b by omega) h hl (Nat.le_refl _) (nI p) (nI l) C.m.length 0 _ _ (Nat.zero_add _) f1 n1 (eb.nw w f1)
  rw [List.drop_zero, ← kst_nil, kst_fold, kunion_nil (List.Pairwise.filter _ eb.I.2.2.2.2.2.2.2.2.1), kst_s hf] at r2
  refine ⟨h', ?_, r2, r3⟩
  simp (disch := omega) only [eX1_picked, uX1_picked, zKK, zB, zBl, zBb, zlg, zA, zA3, zL3, km31, km63, klshr, kishr, k2p, kl1shl, klmask, kland1, kiand1, k_l2i, zrt_b, zrt_0, zrt_1, zdv_n, zdv_l, n_new, r1]
theorem d_lam_keeps {g : zH} {b : Nat} {C : kC} (e : cN g D b C) (hd : C.d = false) {m : Nat} (hm : m < 4294967296) : zc PG mX1_lambda_keeps_0 [.ref b, .int (nI m)] g = some (.inl (some (.int (zb (decide (m ∈ C.m) == true)))), g) := by
  have hf := n_find e hd hm
  have hl := kpos_le m C.m
  have hl2 := e.I.2.2.2.2.2.2.2.2.2.1
  have hl3 := e.I.2.2.2.1
  by_cases hin : m ∈ C.m
  · rw [kfd_in hin] at hf
    rw [decide_eq_true hin, show (true == true) = true from rfl, zb_t]
    simp (disch := omega) only [eX1_lambda_keeps_0, uX1_lambda_keeps_0, zKK, zB, zBl, zBb, zlg, zA, zA3, zL3, km31, km63, klshr, kishr, k2p, kl1shl, klmask, kland1, kiand1, k_l2i, zrt_b, zrt_0, zrt_1, zdv_n, zdv_l, nG e, hf]
  · rw [kfd_out hin] at hf
    rw [decide_eq_false hin, show (false == true) = false from rfl, zb_f]
    simp (disch := omega) only [eX1_lambda_keeps_0, uX1_lambda_keeps_0, zKK, zB, zBl, zBb, zlg, zA, zA3, zL3, km31, km63, klshr, kishr, k2p, kl1shl, klmask, kland1, kiand1, k_l2i, zrt_b, zrt_0, zrt_1, zdv_n, zdv_l, nG e, hf, zBn]
theorem d_lam_less {g : zH} {b : Nat} {C : kC} (e : cN g D b C) (hd : C.d = false) {m : Nat} (hm : m < 4294967296) : zc PG mX1_lambda_less_1 [.ref b, .int (nI m)] g = some (.inl (some (.int (zb (decide (m ∈ C.m) == false)))), g) := by
  have hf := n_find e hd hm
  have hl := kpos_le m C.m
  have hl2 := e.I.2.2.2.2.2.2.2.2.2.1
  have hl3 := e.I.2.2.2.1
  by_cases hin : m ∈ C.m
  · rw [kfd_in hin] at hf
    rw [decide_eq_true hin, show (true == false) = false from rfl, zb_f]
    simp (disch := omega) only [eX1_lambda_less_1, uX1_lambda_less_1, zKK, zB, zBl, zBb, zlg, zA, zA3, zL3, km31, km63, klshr, kishr, k2p, kl1shl, klmask, kland1, kiand1, k_l2i, zrt_b, zrt_0, zrt_1, zdv_n, zdv_l, nG e, hf]
  · rw [kfd_out hin] at hf
    rw [decide_eq_false hin, show (false == false) = true from rfl, zb_t]
    simp (disch := omega) only [eX1_lambda_less_1, uX1_lambda_less_1, zKK, zB, zBl, zBb, zlg, zA, zA3, zL3, km31, km63, klshr, kishr, k2p, kl1shl, klmask, kland1, kiand1, k_l2i, zrt_b, zrt_0, zrt_1, zdv_n, zdv_l, nG e, hf, zBn]
theorem D_keeps (H : dW D B S h) (a b k : Int32) : ∃ h', zc PG mX1_keeps [.ref D, .int a, .int b, .int k] h = some (.inl (some (.int (q_keeps S a b k).1)), h') ∧ dQ D B (q_keeps S a b k).2 h h' := by
  obtain ⟨al, X, R⟩ := H
  have f1 := hv3_F R.w a b k
  have R1 := R.nw f1
  unfold q_keeps
  cases e : (kbd a 0 5 && kbd b 0 5 && kbd k 0 5) with
  | false =>
    refine ⟨hv3 h a b k, ?_, R1.q f1.A⟩
    simp (disch := omega) only [eX1_keeps, uX1_keeps, zKK, zB, zBl, zBb, zlg, zA, zA3, zL3, km31, km63, klshr, kishr, k2p, kl1shl, klmask, kland1, kiand1, k_l2i, zrt_b, zrt_0, zrt_1, zdv_n, zdv_l, znew_k, zast_p0, zast_p2, d_are1, d_are2, d_are3, e, Bool.false_eq_true, if_false]
  | true =>
    obtain ⟨e12, e3⟩ := Bool.and_eq_true_iff.mp e
    obtain ⟨e1, e2⟩ := Bool.and_eq_true_iff.mp e12
    rcases kbd_cases a 0 5 with z | ⟨a, -, ha, rfl⟩
    · rw [z] at e1; cases e1
    rcases kbd_cases b 0 5 with z | ⟨b, -, hb, rfl⟩
    · rw [z] at e2; cases e2
    rcases kbd_cases k 0 5 with z | ⟨k, -, hk, rfl⟩
    · rw [z] at e3; cases e3
    have ha : a < 6 := by omega
    have hb : b < 6 := by omega
    rw [kN_nI (by omega), kN_nI (by omega), kN_nI (by omega)]
    generalize hg : hv3 h (nI a) (nI b) (nI k) = g at f1 R1
    have ca := R1.c ha
    have cb := R1.c hb
    have iA := ca.I
    have iB := cb.I
    have ga := nG ca
    have gb := nG cb
    cases da : (S.c a).d with
    | true =>
      rw [da] at ga
      refine ⟨g, ?_, R1.q f1.A⟩
      simp (disch := omega) only [eX1_keeps, uX1_keeps, zKK, zB, zBl, zBb, zlg, zA, zA3, zL3, km31, km63, klshr, kishr, k2p, kl1shl, klmask, kland1, kiand1, k_l2i, zrt_b, zrt_0, zrt_1, zdv_n, zdv_l, znew_k, zast_p0, zast_p2, d_are1, d_are2, d_are3, e, hg, dG R1, ga, if_true, Bool.true_or]
    | false =>
      rw [da] at ga
      cases db : (S.c b).d with
      | true =>
        rw [db] at gb
        refine ⟨g, ?_, R1.q f1.A⟩
        simp (disch := omega) only [eX1_keeps, uX1_keeps, zKK, zB, zBl, zBb, zlg, zA, zA3, zL3, km31, km63, klshr, kishr, k2p, kl1shl, klmask, kland1, kiand1, k_l2i, zrt_b, zrt_0, zrt_1, zdv_n, zdv_l, znew_k, zast_p0, zast_p2, d_are1, d_are2, d_are3, e, hg, dG R1, ga, gb, if_true, Bool.or_true]
      | false =>
        rw [db] at gb
        have := iA.1; have := iA.2.1; have := iA.2.2.1; have := iA.2.2.2.1
        have := iB.1; have := iB.2.1; have := iB.2.2.1; have := iB.2.2.2.1
        have l1 : ((S.c a).m.filter (fun x => decide (x ∈ (S.c b).m) == true)).length ≤ (S.c a).m.length := List.length_filter_le _ _
        have l2 : ((S.c a).m.filter (fun x => decide (x ∈ (S.c b).m) == true)).length ≤ (S.c b).m.length := knd_le (List.Pairwise.filter _ iA.2.2.2.2.2.2.2.2.1) _ (fun x hx => by simpa using (List.mem_filter.mp hx).2)
        have g1 := iA.2.2.2.2.2.2.2.2.2.1
        have g2 := iB.2.2.2.2.2.2.2.2.2.1
        have f2 := hF_push R1.w (.inr (100, [.ref (al b)])) 1
        have R2 := R1.nw f2
        have cl : (zpush g (.inr (100, [.ref (al b)])) 1).1 g.2.1 = some (true, .inr (100, [.ref (al b)])) := zpush_s _ _ _
        obtain ⟨h3, t1, t2, t3⟩ := d_picked (lam := g.2.1) (k := mX1_lambda_keeps_0) (fs := [.ref (al b)]) (P := fun x => decide (x ∈ (S.c b).m) == true) R2.w (R2.c ha) da (p := min (S.c a).p (S.c b).p) (l := min (S.c a).l (S.c b).l) (by omega) (by omega) (by omega) (by omega) (by omega) (fun g' F => ⟨zlam_s (F.at R2.w cl (fun z => z)) rfl, fun m hm => d_lam_keeps ((R2.c hb).nw R2.w F) db (iA.2.2.2.2.2.2.2.1 m hm)⟩)
        obtain ⟨s1, R4, F4⟩ := d_becomes R2 t3 (k := k) (by omega) t2 (Nat.le_refl _)
        have eg : kguess (kspr (min (S.c a).p (S.c b).p) (min (S.c a).l (S.c b).l) ((S.c a).m.filter (fun x => decide (x ∈ (S.c b).m) == true))) = ((S.c a).m.filter (fun x => decide (x ∈ (S.c b).m) == true)).length := rfl
        rw [eg] at s1
        refine ⟨_, ?_, R4.q ((f1.A.tr1 f2.A).tr1 F4)⟩
        simp (disch := omega) only [eX1_keeps, uX1_keeps, zKK, zB, zBl, zBb, zlg, zA, zA3, zL3, km31, km63, klshr, kishr, k2p, kl1shl, klmask, kland1, kiand1, k_l2i, zrt_b, zrt_0, zrt_1, zdv_n, zdv_l, znew_k, zast_p0, zast_p2, d_are1, d_are2, d_are3, e, hg, dG R1, ga, gb, j_minI, dG R2, t1, dG (R2.nw t3), s1, if_true, Bool.or_false, Bool.false_eq_true, if_false]
theorem D_less (H : dW D B S h) (a b k : Int32) : ∃ h', zc PG mX1_less [.ref D, .int a, .int b, .int k] h = some (.inl (some (.int (q_less S a b k).1)), h') ∧ dQ D B (q_less S a b k).2 h h' := by
  obtain ⟨al, X, R⟩ := H
  have f1 := hv3_F R.w a b k
  have R1 := R.nw f1
  unfold q_less
  cases e : (kbd a 0 5 && kbd b 0 5 && kbd k 0 5) with
  | false =>
    refine ⟨hv3 h a b k, ?_, R1.q f1.A⟩
    simp (disch := omega) only [eX1_less, uX1_less, zKK, zB, zBl, zBb, zlg, zA, zA3, zL3, km31, km63, klshr, kishr, k2p, kl1shl, klmask, kland1, kiand1, k_l2i, zrt_b, zrt_0, zrt_1, zdv_n, zdv_l, znew_k, zast_p0, zast_p2, d_are1, d_are2, d_are3, e, Bool.false_eq_true, if_false]
  | true =>
    obtain ⟨e12, e3⟩ := Bool.and_eq_true_iff.mp e
    obtain ⟨e1, e2⟩ := Bool.and_eq_true_iff.mp e12
    rcases kbd_cases a 0 5 with z | ⟨a, -, ha, rfl⟩
    · rw [z] at e1; cases e1
    rcases kbd_cases b 0 5 with z | ⟨b, -, hb, rfl⟩
    · rw [z] at e2; cases e2
    rcases kbd_cases k 0 5 with z | ⟨k, -, hk, rfl⟩
    · rw [z] at e3; cases e3
    have ha : a < 6 := by omega
    have hb : b < 6 := by omega
    rw [kN_nI (by omega), kN_nI (by omega), kN_nI (by omega)]
    generalize hg : hv3 h (nI a) (nI b) (nI k) = g at f1 R1
    have ca := R1.c ha
    have cb := R1.c hb
    have iA := ca.I
    have iB := cb.I
    have ga := nG ca
    have gb := nG cb
    cases da : (S.c a).d with
    | true =>
      rw [da] at ga
      refine ⟨g, ?_, R1.q f1.A⟩
      simp (disch := omega) only [eX1_less, uX1_less, zKK, zB, zBl, zBb, zlg, zA, zA3, zL3, km31, km63, klshr, kishr, k2p, kl1shl, klmask, kland1, kiand1, k_l2i, zrt_b, zrt_0, zrt_1, zdv_n, zdv_l, znew_k, zast_p0, zast_p2, d_are1, d_are2, d_are3, e, hg, dG R1, ga, if_true, Bool.true_or]
    | false =>
      rw [da] at ga
      cases db : (S.c b).d with
      | true =>
        rw [db] at gb
        refine ⟨g, ?_, R1.q f1.A⟩
        simp (disch := omega) only [eX1_less, uX1_less, zKK, zB, zBl, zBb, zlg, zA, zA3, zL3, km31, km63, klshr, kishr, k2p, kl1shl, klmask, kland1, kiand1, k_l2i, zrt_b, zrt_0, zrt_1, zdv_n, zdv_l, znew_k, zast_p0, zast_p2, d_are1, d_are2, d_are3, e, hg, dG R1, ga, gb, if_true, Bool.or_true]
      | false =>
        rw [db] at gb
        have l1 : ((S.c a).m.filter (fun x => decide (x ∈ (S.c b).m) == false)).length ≤ (S.c a).m.length := List.length_filter_le _ _
        have g1 := iA.2.2.2.2.2.2.2.2.2.1
        have f2 := hF_push R1.w (.inr (101, [.ref (al b)])) 1
        have R2 := R1.nw f2
        have cl : (zpush g (.inr (101, [.ref (al b)])) 1).1 g.2.1 = some (true, .inr (101, [.ref (al b)])) := zpush_s _ _ _
        obtain ⟨h3, t1, t2, t3⟩ := d_picked (lam := g.2.1) (k := mX1_lambda_less_1) (fs := [.ref (al b)]) (P := fun x => decide (x ∈ (S.c b).m) == false) R2.w (R2.c ha) da (p := (S.c a).p) (l := (S.c a).l) iA.1 iA.2.1 iA.2.2.1 iA.2.2.2.1 (Nat.le_trans l1 g1) (fun g' F => ⟨zlam_s (F.at R2.w cl (fun z => z)) rfl, fun m hm => d_lam_less ((R2.c hb).nw R2.w F) db (iA.2.2.2.2.2.2.2.1 m hm)⟩)
        obtain ⟨s1, R4, F4⟩ := d_becomes R2 t3 (k := k) (by omega) t2 (Nat.le_refl _)
        have eg : kguess (kspr (S.c a).p (S.c a).l ((S.c a).m.filter (fun x => decide (x ∈ (S.c b).m) == false))) = ((S.c a).m.filter (fun x => decide (x ∈ (S.c b).m) == false)).length := rfl
        rw [eg] at s1
        refine ⟨_, ?_, R4.q ((f1.A.tr1 f2.A).tr1 F4)⟩
        simp (disch := omega) only [eX1_less, uX1_less, zKK, zB, zBl, zBb, zlg, zA, zA3, zL3, km31, km63, klshr, kishr, k2p, kl1shl, klmask, kland1, kiand1, k_l2i, zrt_b, zrt_0, zrt_1, zdv_n, zdv_l, znew_k, zast_p0, zast_p2, d_are1, d_are2, d_are3, e, hg, dG R1, ga, gb, dG R2, t1, dG (R2.nw t3), s1, if_true, Bool.or_false, Bool.false_eq_true, if_false]
theorem kneg_lt {m : Nat} (h1 : 2147483648 ≤ m) (h2 : m < 4294967296) : nI m < nI 0 := by
  rw [Int32.lt_iff_toInt_lt, nI_toInt (by omega : 0 < 2147483648)]
  have e3 : (nI m).toInt = (m : Int) - 4294967296 := by
    show (BitVec.ofNat 32 m).toInt = _
    rw [BitVec.toInt_eq_toNat_cond, BitVec.toNat_ofNat, Nat.mod_eq_of_lt h2, if_neg (by omega)]
    rfl
  omega
theorem d_lam_low (g : zH) {m : Nat} (hm : m < 4294967296) : zc PG mX1_lambda_splits_2 [.int (nI m)] g = some (.inl (some (.int (zb (klow m)))), g) ∧ zc PG mX1_lambda_splits_3 [.int (nI m)] g = some (.inl (some (.int (zb (!klow m)))), g) := by
  unfold klow
  by_cases e : m < 2147483648
  · rw [decide_eq_true e]
    constructor
    · simp (disch := omega) only [eX1_lambda_splits_2, uX1_lambda_splits_2, zKK, zB, zBl, zBb, zlg, zA, zA3, zL3, km31, km63, klshr, kishr, k2p, kl1shl, klmask, kland1, kiand1, k_l2i, zrt_b, zrt_0, zrt_1, zdv_n, zdv_l, zb_t]
    · simp (disch := omega) only [eX1_lambda_splits_3, uX1_lambda_splits_3, zKK, zB, zBl, zBb, zlg, zA, zA3, zL3, km31, km63, klshr, kishr, k2p, kl1shl, klmask, kland1, kiand1, k_l2i, zrt_b, zrt_0, zrt_1, zdv_n, zdv_l, zb_f, Bool.not_true]
  · rw [decide_eq_false e]
    have e2 := kneg_lt (m := m) (by omega) hm
    constructor
    · simp (disch := omega) only [eX1_lambda_splits_2, uX1_lambda_splits_2, zKK, zB, zBl, zBb, zlg, zA, zA3, zL3, km31, km63, klshr, kishr, k2p, kl1shl, klmask, kland1, kiand1, k_l2i, zrt_b, zrt_0, zrt_1, zdv_n, zdv_l, e2, zb_f]
    · simp (disch := omega) only [eX1_lambda_splits_3, uX1_lambda_splits_3, zKK, zB, zBl, zBb, zlg, zA, zA3, zL3, km31, km63, klshr, kishr, k2p, kl1shl, klmask, kland1, kiand1, k_l2i, zrt_b, zrt_0, zrt_1, zdv_n, zdv_l, e2, zb_t, Bool.not_false]
theorem d_becomes' (R : dR h D B al S X) {k a : Nat} (hk : k < 6) {C : kC} (e : cN h D a C) (ha : B ≤ a) (hn : ∀ c, c < 6 → a ≠ al c) : zc PG mX1_becomes [.ref D, .int (nI k), .ref a] h = some (.inl (some (.int (nI (kguess C)))), hC h D (va_up al k a)) ∧ dR (hC h D (va_up al k a)) D B (va_up al k a) (S.s_c k C) X ∧ hF (fun q => q = D + 12) 0 0 h (hC h D (va_up al k a)) := by
  obtain ⟨s1, R2, F2⟩ := R.set hk e ha hn
  refine ⟨?_, R2, F2⟩
  have g2 := R2.c (c := k) hk
  rw [kS_ck, show va_up al k a k = a from if_pos rfl] at g2
  simp (disch := omega) only [eX1_becomes, uX1_becomes, zKK, zB, zBl, zBb, zlg, zA, zA3, zL3, km31, km63, klshr, kishr, k2p, kl1shl, klmask, kland1, kiand1, k_l2i, zrt_b, zrt_0, zrt_1, zdv_n, zdv_l, dG R, s1, nG g2, n_guess g2 R2.t]
theorem kS_comm (S : kS) {j k : Nat} (hjk : j ≠ k) (C C' : kC) : (S.s_c k C').s_c j C = (S.s_c j C).s_c k C' := by
  refine Prod.ext (funext fun i => ?_) rfl
  show (if i = j then C else if i = k then C' else S.c i) = if i = k then C' else if i = j then C else S.c i
  by_cases z : i = j
  · rw [if_pos z, if_neg (by omega), if_pos z]
  · rw [if_neg z, if_neg z]
theorem D_splits (H : dW D B S h) (c j k : Int32) : ∃ h', zc PG mX1_splits [.ref D, .int c, .int j, .int k] h = some (.inl (some (.int (q_splits S c j k).1)), h') ∧ dQ D B (q_splits S c j k).2 h h' := by
  obtain ⟨al, X, R⟩ := H
  have f1 := hv3_F R.w c j k
  have R1 := R.nw f1
  unfold q_splits
  cases e : (kbd c 0 5 && kbd j 0 5 && kbd k 0 5) with
  | false =>
    refine ⟨hv3 h c j k, ?_, R1.q f1.A⟩
    simp (disch := omega) only [eX1_splits, uX1_splits, zKK, zB, zBl, zBb, zlg, zA, zA3, zL3, km31, km63, klshr, kishr, k2p, kl1shl, klmask, kland1, kiand1, k_l2i, zrt_b, zrt_0, zrt_1, zdv_n, zdv_l, znew_k, zast_p0, zast_p2, d_are1, d_are2, d_are3, e, Bool.false_eq_true, if_false]
  | true =>
    obtain ⟨e12, e3⟩ := Bool.and_eq_true_iff.mp e
    obtain ⟨e1, e2⟩ := Bool.and_eq_true_iff.mp e12
    rcases kbd_cases c 0 5 with z | ⟨c, -, hc, rfl⟩
    · rw [z] at e1; cases e1
    rcases kbd_cases j 0 5 with z | ⟨j, -, hj, rfl⟩
    · rw [z] at e2; cases e2
    rcases kbd_cases k 0 5 with z | ⟨k, -, hk, rfl⟩
    · rw [z] at e3; cases e3
    have hc : c < 6 := by omega
    rw [kN_nI (by omega), kN_nI (by omega), kN_nI (by omega)]
    generalize hg : hv3 h (nI c) (nI j) (nI k) = g at f1 R1
    have ca := R1.c hc
    have iA := ca.I
    have ga := nG ca
    cases da : (S.c c).d with
    | true =>
      rw [da] at ga
      refine ⟨g, ?_, R1.q f1.A⟩
      simp (disch := omega) only [eX1_splits, uX1_splits, zKK, zB, zBl, zBb, zlg, zA, zA3, zL3, km31, km63, klshr, kishr, k2p, kl1shl, klmask, kland1, kiand1, k_l2i, zrt_b, zrt_0, zrt_1, zdv_n, zdv_l, znew_k, zast_p0, zast_p2, d_are1, d_are2, d_are3, e, hg, dG R1, ga, if_true]
    | false =>
      rw [da] at ga
      by_cases ejk : j = k
      · subst ejk
        refine ⟨g, ?_, ?_⟩
        · simp (disch := omega) only [eX1_splits, uX1_splits, zKK, zB, zBl, zBb, zlg, zA, zA3, zL3, km31, km63, klshr, kishr, k2p, kl1shl, klmask, kland1, kiand1, k_l2i, zrt_b, zrt_0, zrt_1, zdv_n, zdv_l, znew_k, zast_p0, zast_p2, d_are1, d_are2, d_are3, e, hg, dG R1, ga, if_true, Bool.false_eq_true, if_false]
        · simp only [if_true, Bool.false_eq_true, if_false]
          exact R1.q f1.A
      · obtain ⟨x2, b2, y2, y3, y4⟩ := R1.k.2.2.1 2 (Or.inl rfl)
        obtain ⟨x3, b3, w2, w3, w4⟩ := R1.k.2.2.1 3 (Or.inr (Or.inl rfl))
        have y2 : g.2.2.2 12 = .ref x2 := y2
        have w2 : g.2.2.2 13 = .ref x3 := w2
        have m1 := iA.2.2.2.2.2.2.2.1
        have g1 := iA.2.2.2.2.2.2.2.2.2.1
        have l1 : ((S.c c).m.filter klow).length ≤ (S.c c).m.length := List.length_filter_le _ _
        have l2 : ((S.c c).m.filter (fun x => !klow x)).length ≤ (S.c c).m.length := List.length_filter_le _ _
        obtain ⟨h3, t1, t2, t3⟩ := d_picked (lam := x2) (k := mX1_lambda_splits_2) (fs := []) (P := klow) R1.w ca da (p := (S.c c).p) (l := (S.c c).l) iA.1 iA.2.1 iA.2.2.1 iA.2.2.2.1 (Nat.le_trans l1 g1) (fun g' F => ⟨zlam_s (F.at R1.w y4 (fun z => z)) rfl, fun m hm => (d_lam_low g' (m1 m hm)).1⟩)
        have R3 := R1.nw t3
        have c3 := R3.c hc
        have w2' : h3.2.2.2 13 = .ref x3 := by rw [t3.2.2.2.2.2]; exact w2
        have w4' := t3.at R1.w w4 (fun z => z)
        obtain ⟨h4, u1, u2, u3⟩ := d_picked (lam := x3) (k := mX1_lambda_splits_3) (fs := []) (P := fun x => !klow x) R3.w c3 da (p := (S.c c).p) (l := (S.c c).l) iA.1 iA.2.1 iA.2.2.1 iA.2.2.2.1 (Nat.le_trans l2 g1) (fun g' F => ⟨zlam_s (F.at R3.w w4' (fun z => z)) rfl, fun m hm => (d_lam_low g' (m1 m hm)).2⟩)
        obtain ⟨s1, R4, F4⟩ := d_becomes R3 u3 (k := k) (by omega) u2 (Nat.le_refl _)
        have t2' := t2.nw R3.w u3
        have hB := R1.b
        have h3lt : g.2.1 + 2 < h3.2.1 := t2.lt R3.w
        have t2'' : cN (hC h4 D (va_up al k h3.2.1)) D g.2.1 (kspr (S.c c).p (S.c c).l ((S.c c).m.filter klow)) := t2'.fr u3.1 (hF_up u3.1 (by have := (R3.nw u3).lt; omega) _) (fun q hq z => by have := cA_ge hq; omega)
        obtain ⟨s5, R5, F5⟩ := d_becomes' R4 (k := j) (by omega) t2'' hB.2 (fun d hd z => by
          unfold va_up at z
          by_cases q : d = k
          · rw [if_pos q] at z; omega
          · rw [if_neg q] at z; have := (R1.c hd).lt R1.w; omega)
        have eg : kguess (kspr (S.c c).p (S.c c).l ((S.c c).m.filter klow)) = ((S.c c).m.filter klow).length := rfl
        rw [eg] at s5
        rw [kS_comm S ejk] at R5
        refine ⟨hC (hC h4 D (va_up al k h3.2.1)) D (va_up (va_up al k h3.2.1) j g.2.1), ?_, ?_⟩
        rotate_left
        · simp only [if_true, Bool.false_eq_true, if_false, ejk]
          exact R5.q (((f1.A.tr1 t3.A).tr1 F4).tr1 (F5.dD (fun q z => Or.inl (by omega))))
        · simp (disch := omega) only [eX1_splits, uX1_splits, zKK, zB, zBl, zBb, zlg, zA, zA3, zL3, km31, km63, klshr, kishr, k2p, kl1shl, klmask, kland1, kiand1, k_l2i, zrt_b, zrt_0, zrt_1, zdv_n, zdv_l, znew_k, zast_p0, zast_p2, d_are1, d_are2, d_are3, e, hg, dG R1, ga, y2, t1, dG R3, nG c3, w2', u1, dG (R3.nw u3), s1, dG R4, s5, if_true, Bool.false_eq_true, if_false, ejk]
/-! swaps -/
theorem D_swaps (H : dW D B S h) (a b : Int32) : ∃ h', zc PG mX1_swaps [.ref D, .int a, .int b] h = some (.inl (some (.int (q_swaps S a b).1)), h') ∧ dQ D B (q_swaps S a b).2 h h' := by
  obtain ⟨al, X, R⟩ := H
  have f1 := hv2_F R.w a b
  have R1 := R.nw f1
  unfold q_swaps
  cases e : (kbd a 0 5 && kbd b 0 5) with
  | false =>
    refine ⟨hv2 h a b, ?_, R1.q f1.A⟩
    simp (disch := omega) only [eX1_swaps, uX1_swaps, zKK, zB, zBl, zBb, zlg, zA, zA3, zL3, km31, km63, klshr, kishr, k2p, kl1shl, klmask, kland1, kiand1, k_l2i, zrt_b, zrt_0, zrt_1, zdv_n, zdv_l, znew_k, zast_p0, zast_p2, d_are1, d_are2, d_are3, e, Bool.false_eq_true, if_false]
  | true =>
    obtain ⟨e1, e2⟩ := Bool.and_eq_true_iff.mp e
    rcases kbd_cases a 0 5 with z | ⟨a, -, ha, rfl⟩
    · rw [z] at e1; cases e1
    rcases kbd_cases b 0 5 with z | ⟨b, -, hb, rfl⟩
    · rw [z] at e2; cases e2
    have ha : a < 6 := by omega
    have hb : b < 6 := by omega
    rw [kN_nI (by omega), kN_nI (by omega)]
    generalize hg : hv2 h (nI a) (nI b) = g at f1 R1
    have hlt := R1.lt
    have p1 : ∀ (g : zH) (be : Nat → Nat) (k x : Nat) (C : kC), k < 6 → g.1 (D + 12) = some (true, .inl (3, 6, dcs be)) → cN g D x C → zast g (D + 12) 3 (nI k) (.ref x) = some (hC g D (va_up be k x)) := by
      intro g be k x C hk ec e
      obtain ⟨n, f, e1, -, -⟩ := e
      rw [zast_u ec hk (by omega) (zasg3 e1.1) rfl]
      rw [dcs_u hk]
      rfl
    have s1 := p1 g al a (al b) (S.c b) ha R1.cs (R1.c hb)
    have F1 : hF (fun q => q = D + 12) 0 0 g (hC g D (va_up al a (al b))) := hF_up R1.w (by omega) _
    have nd : ∀ c, c < 6 → ∀ q, cA (al c) q → q ≠ D + 12 := fun c hc q hq z => (R1.ap hc).1 q (by omega) hq
    have ca1 := (R1.c ha).fr R1.w F1 (nd a ha)
    have s2 := p1 (hC g D (va_up al a (al b))) (va_up al a (al b)) b (al a) (S.c a) hb (zup_s _ _ _) ca1
    have F2 : hF (fun q => q = D + 12) 0 0 (hC g D (va_up al a (al b))) (hC (hC g D (va_up al a (al b))) D (va_up (va_up al a (al b)) b (al a))) := hF_up F1.1 (by show D + 12 < g.2.1; omega) _
    have F := F1.tr1 F2
    have hal : ∀ c, c < 6 → ∃ d, d < 6 ∧ va_up (va_up al a (al b)) b (al a) c = al d ∧ ((S.s_c a (S.c b)).s_c b (S.c a)).c c = S.c d ∧ d = (if c = b then a else if c = a then b else c) := by
      intro c hc
      show ∃ d, d < 6 ∧ (if c = b then al a else if c = a then al b else al c) = al d ∧ (if c = b then S.c a else if c = a then S.c b else S.c c) = S.c d ∧ _
      by_cases z1 : c = b
      · exact ⟨a, ha, by rw [if_pos z1], by rw [if_pos z1], by rw [if_pos z1]⟩
      · by_cases z2 : c = a
        · exact ⟨b, hb, by rw [if_neg z1, if_pos z2], by rw [if_neg z1, if_pos z2], by rw [if_neg z1, if_pos z2]⟩
        · exact ⟨c, hc, by rw [if_neg z1, if_neg z2], by rw [if_neg z1, if_neg z2], by rw [if_neg z1, if_neg z2]⟩
    have w := R1.w
    have R3 : dR (hC (hC g D (va_up al a (al b))) D (va_up (va_up al a (al b)) b (al a))) D B (va_up (va_up al a (al b)) b (al a)) ((S.s_c a (S.c b)).s_c b (S.c a)) X := by
      refine ⟨F.1, F.at w R1.o (by omega), R1.t.fr w F (fun q _ _ => by omega), zup_s _ _ _, F.at w R1.tx (by omega), F.at w R1.th (by omega), F.at w R1.rw (by omega), fun c hc => ?_, fun c d hc hd z => ?_, fun c hc => ?_, R1.b, fun k => R1.xt, fun k => R1.wr, R1.k.fr w F (fun q hq => by omega)⟩
      · obtain ⟨d, hd, d1, d2, -⟩ := hal c hc
        rw [d1, d2]
        exact (R1.c hd).fr w F (nd d hd)
      · obtain ⟨c', hc', d1, -, d3⟩ := hal c hc
        obtain ⟨d', hd', f1, -, f3⟩ := hal d hd
        rw [d1, f1] at z
        have := R1.inj hc' hd' z
        rw [d3, f3] at this
        split at this <;> split at this <;> (try split at this) <;> (try split at this) <;> omega
      · obtain ⟨d, hd, d1, -, -⟩ := hal c hc
        rw [d1]
        exact R1.pl hd
    have ga : va_up (va_up al a (al b)) b (al a) a = al b := by
      show (if a = b then al a else if a = a then al b else al a) = al b
      by_cases z : a = b
      · rw [if_pos z, z]
      · rw [if_neg z, if_pos rfl]
    have cb3 := (R1.c hb).fr w F (nd b hb)
    have g3 := dG R3
    have l1 := R1.cs
    have r1 : ∀ k, k < 6 → zald (hC g D (va_up al a (al b))) (D + 12) 3 (nI k) = some (.ref (va_up al a (al b) k)) := fun k hk => (zald_k (g := dcs (va_up al a (al b))) (zup_s _ _ _) hk (by decide)).trans (by rw [dcs_g hk])
    have o1 : zget (hC g D (va_up al a (al b))) D 1 4 = some (.ref (D + 12)) := by
      unfold zget
      rw [F1.at w R1.o (by omega)]
      rfl
    have r3 := g3.2.2.2.2.2.2.2.2.2.2.2.2.1 a ha
    rw [ga] at r3
    refine ⟨_, ?_, R3.q (f1.A.tr1 (F.dD (fun q z => Or.inl (by omega))))⟩
    simp (disch := omega) only [eX1_swaps, uX1_swaps, zKK, zB, zBl, zBb, zlg, zA, zA3, zL3, km31, km63, klshr, kishr, k2p, kl1shl, klmask, kland1, kiand1, k_l2i, zrt_b, zrt_0, zrt_1, zdv_n, zdv_l, znew_k, zast_p0, zast_p2, d_are1, d_are2, d_are3, e, hg, dG R1, s1, o1, s2, g3.2.2.1, r3, nG cb3, n_guess cb3 R3.t, if_true]
end DR
