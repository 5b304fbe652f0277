/-! THE COMPONENT: several counters joined -/
/-- an array of counters -/
def dV (h : zH) (D b : Nat) (L : List (Nat × kC)) : Prop := (∃ g, h.1 b = some (true, .inl (3, L.length, g)) ∧ ∀ i, i < L.length → g i = .ref (L.getD i (0, kopen 4 1)).1) ∧ ∀ x ∈ L, cN h D x.1 x.2
theorem dV.fr {A : Nat → Prop} {m s : Nat} {h h' : zH} {D b : Nat} {L : List (Nat × kC)} (v : dV h D b L) (w : hW h) (F : hF A m s h h') (hb : ¬ A b) (hL : ∀ x ∈ L, ∀ q, cA x.1 q → ¬ A q) : dV h' D b L := by
  obtain ⟨⟨g, v1, v2⟩, v3⟩ := v
  exact ⟨⟨g, F.at w v1 hb, v2⟩, fun x hx => (v3 x hx).fr w F (hL x hx)⟩
theorem dV.nw {m s : Nat} {h h' : zH} {D b : Nat} {L : List (Nat × kC)} (v : dV h D b L) (w : hW h) (F : hF hN m s h h') : dV h' D b L := v.fr w F (fun z => z) (fun _ _ _ _ z => z)
theorem dVG {h : zH} {D b : Nat} {L : List (Nat × kC)} (v : dV h D b L) (h6 : L.length ≤ 6) : zlen h b = some (.int (nI L.length)) ∧ ∀ i, i < L.length → zald h b 3 (nI i) = some (.ref (L.getD i (0, kopen 4 1)).1) := by
  obtain ⟨⟨g, v1, v2⟩, v3⟩ := v
  refine ⟨by unfold zlen; rw [v1], fun i hi => ?_⟩
  rw [zald_k v1 hi (by omega), v2 i hi]
theorem kL_mem {L : List (Nat × kC)} {i : Nat} (h : i < L.length) : L.getD i (0, kopen 4 1) ∈ L := by
  rw [List.getD_eq_getElem?_getD, List.getElem?_eq_getElem h]
  exact List.getElem_mem h
theorem kL_drop {L : List (Nat × kC)} {i : Nat} (h : i < L.length) : L.drop i = L.getD i (0, kopen 4 1) :: L.drop (i + 1) := by
  rw [List.drop_eq_getElem_cons h, List.getD_eq_getElem?_getD, List.getElem?_eq_getElem h]
  rfl
theorem d_joined_1 {h : zH} {D b : Nat} {L : List (Nat × kC)} (v : dV h D b L) (h6 : L.length ≤ 6) (k : Nat) : ∀ (i p l : Nat) (d : Bool) (u : Value), i + k = L.length → p ≤ 8 → l ≤ 48 → ∃ u', zs PG mX1_joined 44 [.ref D, .ref b, .int (nI p), .int (nI l), .int (zb d), .ref b, .int (nI L.length), .int (nI i), u, zJ] [] h = zs PG mX1_joined 104 [.ref D, .ref b, .int (nI ((L.drop i).foldl (fun a C => min a C.2.p) p)), .int (nI ((L.drop i).foldl (fun a C => min a C.2.l) l)), .int (zb (d || (L.drop i).any (fun C => C.2.d))), .ref b, .int (nI L.length), .int (nI L.length), u', zJ] [] h := by
  induction k with
  | zero =>
    intro i p l d u hi hp hl
    have hi : i = L.length := hi
    subst hi
    refine ⟨u, ?_⟩
    rw [List.drop_length, uX1_joined_at44]
    simp (disch := omega) only [uX1_joined_p0, uX1_joined_p1, zKK, zB, zBl, zBb, zlg, zA, zA3, zL3, km31, km63, klshr, kishr, k2p, kl1shl, klmask, kland1, kiand1, k_l2i, zrt_b, zrt_0, zrt_1, zdv_n, zdv_l, List.foldl_nil, List.any_nil, Bool.or_false]
  | succ k ih =>
    intro i p l d u hi hp hl
    have hi2 : i < L.length := by omega
    have c := v.2 _ (kL_mem hi2)
    have g := nG c
    have g1 := (dVG v h6).2 i hi2
    obtain ⟨u', e⟩ := ih (i + 1) (min p (L.getD i (0, kopen 4 1)).2.p) (min l (L.getD i (0, kopen 4 1)).2.l) (d || (L.getD i (0, kopen 4 1)).2.d) (.ref (L.getD i (0, kopen 4 1)).1) (by omega) (by omega) (by omega)
    have i8 := c.I.2.1
    have i48 := c.I.2.2.2.1
    refine ⟨u', ?_⟩
    rw [kL_drop hi2, List.foldl_cons, List.foldl_cons, List.any_cons, ← Bool.or_assoc, ← e, uX1_joined_at44]
    cases d with
    | true => simp (disch := omega) only [uX1_joined_p0, uX1_joined_p1, zKK, zB, zBl, zBb, zlg, zA, zA3, zL3, km31, km63, klshr, kishr, k2p, kl1shl, klmask, kland1, kiand1, k_l2i, zrt_b, zrt_0, zrt_1, zdv_n, zdv_l, g1, g, j_minI, Bool.true_or, zb_t]
    | false =>
      cases hd : (L.getD i (0, kopen 4 1)).2.d with
      | true =>
        rw [hd] at g
        simp (disch := omega) only [uX1_joined_p0, uX1_joined_p1, zKK, zB, zBl, zBb, zlg, zA, zA3, zL3, km31, km63, klshr, kishr, k2p, kl1shl, klmask, kland1, kiand1, k_l2i, zrt_b, zrt_0, zrt_1, zdv_n, zdv_l, g1, g, j_minI, Bool.false_or, zb_t, zb_f]
      | false =>
        rw [hd] at g
        simp (disch := omega) only [uX1_joined_p0, uX1_joined_p1, zKK, zB, zBl, zBb, zlg, zA, zA3, zL3, km31, km63, klshr, kishr, k2p, kl1shl, klmask, kland1, kiand1, k_l2i, zrt_b, zrt_0, zrt_1, zdv_n, zdv_l, g1, g, j_minI, Bool.false_or, zb_t, zb_f]
theorem kcomes_p (A : kC) (m : Nat) : (kcomes A m).p = A.p := by
  unfold kcomes
  split
  · rfl
  · split
    · rfl
    · rfl
theorem kfc_p (L : List Nat) : ∀ A : kC, (L.foldl kcomes A).p = A.p := by
  induction L with
  | nil => intro A; rfl
  | cons m L ih => intro A; rw [List.foldl_cons, ih, kcomes_p]
theorem ktk_p (A C : kC) : (ktk A C).p = A.p := by
  unfold ktk
  split
  · exact kfc_p _ _
  · rfl
theorem d_joined_2 {D b a P : Nat} {L : List (Nat × kC)} (h6 : L.length ≤ 6) (hba : b < a) (hL : ∀ x ∈ L, x.1 + 2 < a ∧ P ≤ x.2.p) (x2 x3 x4 : Int32) (k : Nat) : ∀ (i : Nat) (h : zH) (A : kC) (u : Value), i + k = L.length → hW h → A.p = P → cN h D a A → dV h D b L → ∃ h', zs PG mX1_joined 134 [.ref D, .ref b, .int x2, .int x3, .int x4, .ref a, .ref b, .int (nI L.length), .int (nI i), u] [] h = some (.inl (some (.ref a)), h') ∧ cN h' D a (((L.drop i).map (fun x => x.2)).foldl ktk A) ∧ hF (cA a) k (2 * k) h h' := by
  induction k with
  | zero =>
    intro i h A u hi w hP ea v
    have hi : i = L.length := hi
    subst hi
    refine ⟨h, ?_, by rw [List.drop_length]; exact ea, hF.rf w _⟩
    rw [uX1_joined_at134]
    simp (disch := omega) only [uX1_joined_p0, uX1_joined_p1, zKK, zB, zBl, zBb, zlg, zA, zA3, zL3, km31, km63, klshr, kishr, k2p, kl1shl, klmask, kland1, kiand1, k_l2i, zrt_b, zrt_0, zrt_1, zdv_n, zdv_l]
  | succ k ih =>
    intro i h A u hi w hP ea v
    have hi2 : i < L.length := by omega
    have hm := kL_mem hi2
    have c := v.2 _ hm
    obtain ⟨q1, q2⟩ := hL _ hm
    have g1 := (dVG v h6).2 i hi2
    obtain ⟨h1, t1, t2, t3⟩ := n_takes w ea c (by omega) (by omega)
    have v1 := v.fr w t3 (fun z => by have := cA_ge z; omega) (fun x hx q hq z => by
      have := (hL x hx).1
      have := cA_ge z
      rcases hq with rfl | rfl | rfl <;> omega)
    obtain ⟨h', r1, r2, r3⟩ := ih (i + 1) h1 _ (.ref (L.getD i (0, kopen 4 1)).1) (by omega) t3.1 ((ktk_p _ _).trans hP) t2 v1
    refine ⟨h', ?_, by rw [kL_drop hi2, List.map_cons, List.foldl_cons]; exact r2, (t3.tr1 r3).up (fun _ _ z => z) (by omega) (by omega)⟩
    rw [← r1, uX1_joined_at134]
    simp (disch := omega) only [uX1_joined_p0, uX1_joined_p1, zKK, zB, zBl, zBb, zlg, zA, zA3, zL3, km31, km63, klshr, kishr, k2p, kl1shl, klmask, kland1, kiand1, k_l2i, zrt_b, zrt_0, zrt_1, zdv_n, zdv_l, g1, nG ea, t1]
theorem n_setd {h : zH} {D a p l : Nat} (w : hW h) (e : cN h D a (kopen p l)) (d : Bool) : ∃ h', zput h a 2 5 1 (.int (zb d)) = some h' ∧ cN h' D a (p, l, d, [], fun _ => 0) ∧ hF (cA a) 0 0 h h' := by
  have e0 := e
  obtain ⟨n, f, e1, e2, iC⟩ := e
  obtain ⟨h', p1, q1, k1⟩ := cw_d e1 d []
  have hn := (e2.2 rfl).1
  have hI : kI (p, l, d, [], fun _ => 0) := by
    cases d with
    | false => exact iC
    | true => exact kI_dense iC
  exact ⟨h', p1, ⟨n, f, q1, ⟨e2.1, fun _ => ⟨hn, (e2.2 rfl).2⟩⟩, hI⟩, (k1.mono (fun q z => Or.inl z)).f w (e0.ltA w)⟩
/-- those joined -/
theorem d_joined {h : zH} {D b : Nat} {L : List (Nat × kC)} (w : hW h) (v : dV h D b L) (h1 : 1 ≤ L.length) (h6 : L.length ≤ 6) : ∃ h', zc PG mX1_joined [.ref D, .ref b] h = some (.inl (some (.ref h.2.1)), h') ∧ cN h' D h.2.1 (kjoin (L.map (fun x => x.2))) ∧ hF hN 9 330 h h' := by
  have hIs : ∀ x ∈ L, kI x.2 := fun x hx => (v.2 x hx).I
  by_cases e1 : L.length = 1
  · have f0 := hF_push w (.inr (2, [.int 0, .int 0, .null, .null, .int 0, .int 0, .null])) 7
    have v0 := v.nw w f0
    have hm := kL_mem (L := L) (i := 0) (by omega)
    have c := v.2 _ hm
    have g0 := (dVG v0 h6).2 0 (by omega)
    have gl := (dVG v h6).1
    obtain ⟨h', t1, t2, t3⟩ := n_copy w c c.I.1 (Nat.le_refl _)
    rw [kfoldC_id c.I] at t2
    have eL : L.map (fun x => x.2) = [(L.getD 0 (0, kopen 4 1)).2] := by
      match L, e1 with
      | [x], _ => rfl
    refine ⟨h', ?_, ?_, t3.up (fun _ _ z => z) (by omega) (by omega)⟩
    · rw [e1] at gl
      simp (disch := omega) only [eX1_joined, uX1_joined_p0, uX1_joined_p1, zKK, zB, zBl, zBb, zlg, zA, zA3, zL3, km31, km63, klshr, kishr, k2p, kl1shl, klmask, kland1, kiand1, k_l2i, zrt_b, zrt_0, zrt_1, zdv_n, zdv_l, gl, g0, nG (v0.2 _ hm), t1]
    · rw [eL, kjoin_one c.I]; exact t2
  · obtain ⟨u', j1⟩ := d_joined_1 v h6 L.length 0 8 48 false zJ (Nat.zero_add _) (by omega) (by omega)
    have gl := dVG v h6
    have eP : (L.drop 0).foldl (fun a C => min a C.2.p) 8 = kjp (L.map (fun x => x.2)) := by unfold kjp; rw [List.foldl_map]; rfl
    have eL : (L.drop 0).foldl (fun a C => min a C.2.l) 48 = kjl (L.map (fun x => x.2)) := by unfold kjl; rw [List.foldl_map]; rfl
    have eD : (false || (L.drop 0).any (fun C => C.2.d)) = kjd (L.map (fun x => x.2)) := by unfold kjd; rw [List.any_map]; rfl
    have hIm : ∀ C ∈ L.map (fun x => x.2), kI C := fun C hC => by
      obtain ⟨x, hx, rfl⟩ := List.mem_map.mp hC
      exact hIs x hx
    have hp := kjp_le (L.map (fun x => x.2))
    have hp4 := kjp_ge (fun C hC => (hIm C hC).1)
    have hl := kjl_le (L.map (fun x => x.2))
    have hl1 := kjl_ge (fun C hC => (hIm C hC).2.2.1)
    rw [eP, eL, eD] at j1
    have f1 := hNew_F w D (kjp (L.map (fun x => x.2))) (kjl (L.map (fun x => x.2)))
    have n1 := hNew_N (h := h) D hp4 hp.1 hl1 hl.1
    obtain ⟨h2, s1, s2, s3⟩ := n_setd f1.1 n1 (kjd (L.map (fun x => x.2)))
    have nA : ∀ q, q < h.2.1 → ¬ cA h.2.1 q := fun q hq z => by have := cA_ge z; omega
    have hbx : b < h.2.1 := by
      obtain ⟨g, v1, v2⟩ := v.1
      exact w.lt v1
    have hLx : ∀ x ∈ L, x.1 + 2 < h.2.1 ∧ kjp (L.map (fun x => x.2)) ≤ x.2.p := fun x hx => ⟨(v.2 x hx).lt w, hp.2 _ (List.mem_map.mpr ⟨x, hx, rfl⟩)⟩
    have v1 := v.nw w f1
    have v2 := v1.fr f1.1 s3 (nA b hbx) (fun x hx q hq => nA q (by have := (hLx x hx).1; rcases hq with rfl | rfl | rfl <;> omega))
    obtain ⟨h', r1, r2, r3⟩ := d_joined_2 h6 hbx hLx (nI (kjp (L.map (fun x => x.2)))) (nI (kjl (L.map (fun x => x.2)))) (zb (kjd (L.map (fun x => x.2)))) L.length 0 h2 _ zJ (Nat.zero_add _) s3.1 rfl s2 v2
    rw [List.drop_zero, kjs_join hIm] at r2
    refine ⟨h', ?_, r2, ?_⟩
    · rw [zb_f] at j1
      have gl2 := dVG v2 h6
      simp (disch := omega) only [eX1_joined, uX1_joined_p0, uX1_joined_p1, zKK, zB, zBl, zBb, zlg, zA, zA3, zL3, km31, km63, klshr, kishr, k2p, kl1shl, klmask, kland1, kiand1, k_l2i, zrt_b, zrt_0, zrt_1, zdv_n, zdv_l, gl.1, j1, n_new, s1, gl2.1, r1]
    · exact ((f1.tr s3 (fun q hq z => absurd z (nA q hq))).tr r3 (fun q hq z => absurd z (nA q hq))).up (fun _ _ z => z) (by omega) (by omega)
/-- the counters of a set, with their places -/
def kas (al : Nat → Nat) (C : Nat → kC) (s n : Nat) : List (Nat × kC) := ((List.range n).filter (fun c => s.testBit c)).map (fun c => (al c, C c))
theorem kas_len (al : Nat → Nat) (C : Nat → kC) (s : Nat) : (kas al C s 6).length = kpc s := by unfold kas kpc; rw [List.length_map]
theorem kas_s (al : Nat → Nat) (C : Nat → kC) (s n : Nat) : kas al C s (n + 1) = kas al C s n ++ if s.testBit n then [(al n, C n)] else [] := by
  unfold kas
  rw [List.range_succ, List.filter_append, List.map_append]
  congr 1
  cases e : s.testBit n with
  | true => simp [e]
  | false => simp [e]
theorem kas_ls (al : Nat → Nat) (C : Nat → kC) (s n : Nat) : (kas al C s n).map (fun x => x.2) = kls C s n := by
  induction n with
  | zero => rfl
  | succ n ih =>
    rw [kas_s, List.map_append, ih, kls]
    congr 1
    split <;> rfl
theorem kas_mem {al : Nat → Nat} {C : Nat → kC} {s n : Nat} {x : Nat × kC} (h : x ∈ kas al C s n) : ∃ c, c < n ∧ x = (al c, C c) := by
  unfold kas at h
  obtain ⟨c, hc, e⟩ := List.mem_map.mp h
  exact ⟨c, List.mem_range.mp (List.mem_filter.mp hc).1, e.symm⟩
theorem kas_le (al : Nat → Nat) (C : Nat → kC) (s : Nat) (n : Nat) (hn : n ≤ 6) : (kas al C s n).length ≤ kpc s := by
  rw [← kas_len al C s]
  have : ∀ k, (kas al C s n).length ≤ (kas al C s (n + k)).length := by
    intro k
    induction k with
    | zero => exact Nat.le_refl _
    | succ k ih => rw [show n + (k + 1) = (n + k) + 1 by omega, kas_s, List.length_append]; omega
  have h2 := this (6 - n)
  rw [show n + (6 - n) = 6 by omega] at h2
  exact h2
theorem kpc_pos : ∀ s, s < 64 → 1 ≤ s → 1 ≤ kpc s := by decide
section DR
variable {h h1 : zH} {D B : Nat} {al : Nat → Nat} {S : kS} {X : dX}
theorem d_those_loop (R : dR h D B al S X) {s : Nat} (hs : s < 64) (k : Nat) : ∀ (c : Nat) (g : Nat → Value), c + k = 6 → (∀ i, i < (kas al S.c s c).length → g i = .ref ((kas al S.c s c).getD i (0, kopen 4 1)).1) → ∃ g', zs PG mX1_those 13 [.ref D, .int (nI s), .ref h.2.1, .int (nI (kas al S.c s c).length), .int (nI c)] [] (zpush h (.inl (3, kpc s, g)) (kpc s)) = some (.inl (some (.ref h.2.1)), zpush h (.inl (3, kpc s, g')) (kpc s)) ∧ ∀ i, i < (kas al S.c s 6).length → g' i = .ref ((kas al S.c s 6).getD i (0, kopen 4 1)).1 := by
  have h6 := kpc_le s
  induction k with
  | zero =>
    intro c g hc hg
    have hc : c = 6 := hc
    subst hc
    refine ⟨g, ?_, hg⟩
    rw [uX1_those_at13]
    simp (disch := omega) only [uX1_those, zKK, zB, zBl, zBb, zlg, zA, zA3, zL3, km31, km63, klshr, kishr, k2p, kl1shl, klmask, kland1, kiand1, k_l2i, zrt_b, zrt_0, zrt_1, zdv_n, zdv_l]
  | succ k ih =>
    intro c g hc hg
    have hc6 : c < 6 := by omega
    have R0 := R.nw (hF_push R.w (.inl (3, kpc s, g)) (kpc s))
    have hl := kas_le al S.c s c (by omega)
    have hdv := Nat.div_le_self s (2 ^ c)
    cases e : s.testBit c with
    | false =>
      have e2 := kbit0 e
      have e3 : kas al S.c s (c + 1) = kas al S.c s c := by rw [kas_s, e]; simp
      obtain ⟨g', r1, r2⟩ := ih (c + 1) g (by omega) (by rw [e3]; exact hg)
      refine ⟨g', ?_, r2⟩
      rw [e3] at r1
      rw [← r1, uX1_those_at13]
      simp (disch := omega) only [uX1_those, zKK, zB, zBl, zBb, zlg, zA, zA3, zL3, km31, km63, klshr, kishr, k2p, kl1shl, klmask, kland1, kiand1, k_l2i, zrt_b, zrt_0, zrt_1, zdv_n, zdv_l, e2]
    | true =>
      have e2 := kbit1 e
      have e3 : kas al S.c s (c + 1) = kas al S.c s c ++ [(al c, S.c c)] := by rw [kas_s, e]; simp
      have hl2 := kas_le al S.c s (c + 1) (by omega)
      have e4 : (kas al S.c s (c + 1)).length = (kas al S.c s c).length + 1 := by rw [e3, List.length_append]; rfl
      obtain ⟨g', r1, r2⟩ := ih (c + 1) (zfu g (kas al S.c s c).length (.ref (al c))) (by omega) (fun i hi => by
        rw [e4] at hi
        rw [e3]
        by_cases z : i = (kas al S.c s c).length
        · rw [z, zfu_s, List.getD_eq_getElem?_getD, List.getElem?_append_right (Nat.le_refl _), Nat.sub_self]; rfl
        · rw [zfu_o _ _ z, hg i (by omega), List.getD_eq_getElem?_getD, List.getD_eq_getElem?_getD, List.getElem?_append_left (by omega)])
      refine ⟨g', ?_, r2⟩
      have st := zast_p3 R.w (R.c hc6) (n := kpc s) (m := kpc s) (i := (kas al S.c s c).length) (g := g) (by omega) (by omega)
      rw [e4] at r1
      rw [← r1, uX1_those_at13]
      simp (disch := omega) only [uX1_those, zKK, zB, zBl, zBb, zlg, zA, zA3, zL3, km31, km63, klshr, kishr, k2p, kl1shl, klmask, kland1, kiand1, k_l2i, zrt_b, zrt_0, zrt_1, zdv_n, zdv_l, e2, dG R0, st]
theorem d_those (R : dR h D B al S X) {s : Nat} (hs : s < 64) : ∃ h', zc PG mX1_those [.ref D, .int (nI s)] h = some (.inl (some (.ref h.2.1)), h') ∧ dV h' D h.2.1 (kas al S.c s 6) ∧ hF hN 1 6 h h' := by
  have h6 := kpc_le s
  obtain ⟨g', r1, r2⟩ := d_those_loop R hs 6 0 (fun _ => zdef 3) (Nat.zero_add _) (fun i hi => absurd hi (Nat.not_lt_zero _))
  have F := hF_push R.w (.inl (3, kpc s, g')) (kpc s)
  refine ⟨_, ?_, ⟨⟨g', ?_, r2⟩, fun x hx => ?_⟩, F.up (fun _ _ z => z) (by omega) (by omega)⟩
  · have z0 : (kas al S.c s 0).length = 0 := rfl
    rw [z0] at r1
    simp (disch := omega) only [eX1_those, uX1_those, zKK, zB, zBl, zBb, zlg, zA, zA3, zL3, km31, km63, klshr, kishr, k2p, kl1shl, klmask, kland1, kiand1, k_l2i, zrt_b, zrt_0, zrt_1, zdv_n, zdv_l, j_bitC hs, znew_k, r1]
  · rw [kas_len]; exact zpush_s _ _ _
  · obtain ⟨c, hc, rfl⟩ := kas_mem hx
    exact (R.c hc).nw R.w F
/-- a set's joint counter -/
theorem d_joinS (R : dR h D B al S X) {s : Nat} (hs : s < 64) (h1 : 1 ≤ s) : ∃ g1 h', zc PG mX1_those [.ref D, .int (nI s)] h = some (.inl (some (.ref h.2.1)), g1) ∧ zis g1 D 1 = true ∧ zc PG mX1_joined [.ref D, .ref h.2.1] g1 = some (.inl (some (.ref g1.2.1)), h') ∧ cN h' D g1.2.1 (kjoin (kls S.c s 6)) ∧ h.2.1 ≤ g1.2.1 ∧ hF hN 10 336 h h' := by
  have h6 := kpc_le s
  have hp := kpc_pos s hs h1
  obtain ⟨g1, r1, v1, f1⟩ := d_those R hs
  obtain ⟨g2, r2, n2, f2⟩ := d_joined f1.1 v1 (by rw [kas_len]; exact hp) (by rw [kas_len]; exact h6)
  rw [kas_ls] at n2
  exact ⟨g1, g2, r1, (dG (R.nw f1)).2.2.2.2.2.2.2.2.2.2.2.1, r2, n2, f1.2.2.1, f1.tr1 f2⟩
theorem d_guessOf (R : dR h D B al S X) {b : Nat} {L : List (Nat × kC)} (v : dV h D b L) (h1 : 1 ≤ L.length) (h6 : L.length ≤ 6) : ∃ h', zc PG mX1_guessOf [.ref D, .ref b] h = some (.inl (some (.int (nI (kguess (kjoin (L.map (fun x => x.2))))))), h') ∧ hF hN 9 330 h h' := by
  obtain ⟨g2, r2, n2, f2⟩ := d_joined R.w v h1 h6
  refine ⟨g2, ?_, f2⟩
  simp (disch := omega) only [eX1_guessOf, uX1_guessOf, zKK, zB, zBl, zBb, zlg, zA, zA3, zL3, km31, km63, klshr, kishr, k2p, kl1shl, klmask, kland1, kiand1, k_l2i, zrt_b, zrt_0, zrt_1, zdv_n, zdv_l, dG R, r2, nG n2, n_guess n2 (R.t.nw R.w f2)]
theorem d_GS (R : dR h D B al S X) {s : Nat} (hs : s < 64) (h1 : 1 ≤ s) : ∃ g1 h', zc PG mX1_those [.ref D, .int (nI s)] h = some (.inl (some (.ref h.2.1)), g1) ∧ zis g1 D 1 = true ∧ zc PG mX1_guessOf [.ref D, .ref h.2.1] g1 = some (.inl (some (.int (nI (kG S s)))), h') ∧ hF hN 10 336 h h' := by
  have h6 := kpc_le s
  have hp := kpc_pos s hs h1
  obtain ⟨g1, r1, v1, f1⟩ := d_those R hs
  have R1 := R.nw f1
  obtain ⟨g2, r2, f2⟩ := d_guessOf R1 v1 (by rw [kas_len]; exact hp) (by rw [kas_len]; exact h6)
  rw [kas_ls] at r2
  exact ⟨g1, g2, r1, (dG R1).2.2.2.2.2.2.2.2.2.2.2.1, r2, f1.tr1 f2⟩
theorem dV_1 (R : dR h D B al S X) {a : Nat} (ha : a < 6) : dV (zpush h (.inl (3, 1, zfu (fun _ => zdef 3) 0 (.ref (al a)))) 1) D h.2.1 [(al a, S.c a)] := by
  refine ⟨⟨_, zpush_s _ _ _, fun i hi => ?_⟩, fun x hx => ?_⟩
  · match i, hi with
    | 0, _ => rfl
  · rw [List.mem_singleton.mp hx]
    exact (R.c ha).nw R.w (hF_push R.w _ _)
theorem dV_2 (R : dR h D B al S X) {a b : Nat} (ha : a < 6) (hb : b < 6) : dV (zpush h (.inl (3, 2, zfu (zfu (fun _ => zdef 3) 0 (.ref (al a))) 1 (.ref (al b)))) 2) D h.2.1 [(al a, S.c a), (al b, S.c b)] := by
  refine ⟨⟨_, zpush_s _ _ _, fun i hi => ?_⟩, fun x hx => ?_⟩
  · match i, hi with
    | 0, _ => rfl
    | 1, _ => rfl
  · rcases List.mem_cons.mp hx with rfl | hx
    · exact (R.c ha).nw R.w (hF_push R.w _ _)
    · rw [List.mem_singleton.mp hx]
      exact (R.c hb).nw R.w (hF_push R.w _ _)
/-- two of them joined -/
theorem d_join2 (R : dR h D B al S X) {a b : Nat} (ha : a < 6) (hb : b < 6) : ∃ h', zc PG mX1_joined [.ref D, .ref h.2.1] (zpush h (.inl (3, 2, zfu (zfu (fun _ => zdef 3) 0 (.ref (al a))) 1 (.ref (al b)))) 2) = some (.inl (some (.ref (h.2.1 + 1))), h') ∧ cN h' D (h.2.1 + 1) (kjoin [S.c a, S.c b]) ∧ hF hN 10 332 h h' := by
  have f1 := hF_push R.w (.inl (3, 2, zfu (zfu (fun _ => zdef 3) 0 (.ref (al a))) 1 (.ref (al b)))) 2
  obtain ⟨h', r1, r2, r3⟩ := d_joined f1.1 (dV_2 R ha hb) (Nat.le_of_ble_eq_true rfl) (Nat.le_of_ble_eq_true rfl)
  exact ⟨h', r1, r2, f1.tr1 r3⟩
theorem d_guess2 (R : dR h D B al S X) {a b : Nat} (ha : a < 6) (hb : b < 6) : ∃ h', zc PG mX1_guessOf [.ref D, .ref h.2.1] (zpush h (.inl (3, 2, zfu (zfu (fun _ => zdef 3) 0 (.ref (al a))) 1 (.ref (al b)))) 2) = some (.inl (some (.int (nI (kgg S a b)))), h') ∧ hF hN 10 332 h h' := by
  have f1 := hF_push R.w (.inl (3, 2, zfu (zfu (fun _ => zdef 3) 0 (.ref (al a))) 1 (.ref (al b)))) 2
  obtain ⟨h', r1, r3⟩ := d_guessOf (R.nw f1) (dV_2 R ha hb) (Nat.le_of_ble_eq_true rfl) (Nat.le_of_ble_eq_true rfl)
  exact ⟨h', r1, f1.tr1 r3⟩
theorem d_copy1 (R : dR h D B al S X) {a : Nat} (ha : a < 6) : ∃ h', zc PG mX1_joined [.ref D, .ref h.2.1] (zpush h (.inl (3, 1, zfu (fun _ => zdef 3) 0 (.ref (al a)))) 1) = some (.inl (some (.ref (h.2.1 + 1))), h') ∧ cN h' D (h.2.1 + 1) (S.c a) ∧ hF hN 10 331 h h' := by
  have f1 := hF_push R.w (.inl (3, 1, zfu (fun _ => zdef 3) 0 (.ref (al a)))) 1
  obtain ⟨h', r1, r2, r3⟩ := d_joined f1.1 (dV_1 R ha) (Nat.le_of_ble_eq_true rfl) (Nat.le_of_ble_eq_true rfl)
  have r2 : cN h' D (h.2.1 + 1) (kjoin [S.c a]) := r2
  rw [kjoin_one (R.c ha).I] at r2
  exact ⟨h', r1, r2, f1.tr1 r3⟩
/-- a new counter becomes one of them, and its guess -/
theorem d_becomes (R : dR h D B al S X) {n s k a : Nat} (F : hF hN n s h h1) (hk : k < 6) {C : kC} (e : cN h1 D a C) (ha : h.2.1 ≤ a) : zc PG mX1_becomes [.ref D, .int (nI k), .ref a] h1 = some (.inl (some (.int (nI (kguess C)))), hC h1 D (va_up al k a)) ∧ dR (hC h1 D (va_up al k a)) D B (va_up al k a) (S.s_c k C) X ∧ hF (dA D B) n s h (hC h1 D (va_up al k a)) := by
  obtain ⟨s1, R2, F2⟩ := R.setN F hk e ha
  refine ⟨?_, R2, F2⟩
  have R1 := R.nw F
  have g2 := R2.c (c := k) hk
  rw [kS_ck, show va_up al k a k = a from if_pos rfl] at g2
  simp (disch := omega) only [eX1_becomes, uX1_becomes, zKK, zB, zBl, zBb, zlg, zA, zA3, zL3, km31, km63, klshr, kishr, k2p, kl1shl, klmask, kland1, kiand1, k_l2i, zrt_b, zrt_0, zrt_1, zdv_n, zdv_l, dG R1, s1, nG g2, n_guess g2 R2.t]
theorem d_filled {a : Nat} {C : kC} (e : cN h D a C) : zc PG mX1_filled [.ref a] h = some (.inl (some (.int (nI (krd C.r (2 ^ C.p))))), h) := by
  have h1 := krd_le C.r (2 ^ C.p)
  have h2 := k2p_le e.I.2.1
  have e2 : krd C.r (2 ^ C.p) = 2 ^ C.p - kz C := by unfold kz; omega
  have h3 := kz_le2 C
  rw [e2]
  simp (disch := omega) only [eX1_filled, uX1_filled, zKK, zB, zBl, zBb, zlg, zA, zA3, zL3, km31, km63, klshr, kishr, k2p, kl1shl, klmask, kland1, kiand1, k_l2i, zrt_b, zrt_0, zrt_1, zdv_n, zdv_l, nG e, n_m e, n_empty e]
end DR
