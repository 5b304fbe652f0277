/-! THE COMPONENT's PUBLIC METHODS: texts told, signs, counts, the row -/
section DR
variable {h h1 : zH} {D B : Nat} {al : Nat → Nat} {S : kS} {X : dX}
theorem d_tells_loop {c : Nat} (hc : c < 6) {L : List Int32} (hl : L.length ≤ 600) (hG : dTg L X) (C : kC) (j : Nat) : ∀ (k : Nat) (h : zH), k + j = L.length → (krn (fun k => kun (S.a * L.getD k 0 + S.b)) C k).2 ≤ k → dR h D B al (S.s_c c (krn (fun k => kun (S.a * L.getD k 0 + S.b)) C k).1) X → ∃ h', zs PG mX1_tells 36 [.ref D, .int (nI c), .int (nI (krn (fun k => kun (S.a * L.getD k 0 + S.b)) C k).2), .int (nI k)] [] h = some (.inl (some (.int (nI (krn (fun k => kun (S.a * L.getD k 0 + S.b)) C L.length).2))), h') ∧ dR h' D B al (S.s_c c (krn (fun k => kun (S.a * L.getD k 0 + S.b)) C L.length).1) X ∧ hF (dA D B) 0 0 h h' := by
  induction j with
  | zero =>
    intro k h hk hb R
    have hk : k = L.length := hk
    subst hk
    refine ⟨h, ?_, R, hF.rf R.w _⟩
    have g := dG R
    rw [hG.1] at g
    rw [uX1_tells_at36]
    simp (disch := omega) only [uX1_tells, zKK, zB, zBl, zBb, zlg, zA, zA3, zL3, km31, km63, klshr, kishr, k2p, kl1shl, klmask, kland1, kiand1, k_l2i, zrt_b, zrt_0, zrt_1, zdv_n, zdv_l, g]
  | succ j ih =>
    intro k h hk hb R
    have rc := R.c hc
    rw [kS_ck] at rc
    have g := dG R
    rw [hG.1] at g
    have hg : X.g k = L.getD k 0 := hG.2 k (by omega)
    obtain ⟨h1, a1, a2, a3⟩ := n_adds R.w rc (m := kun (S.a * L.getD k 0 + S.b)) (kun_lt _)
    have R1 := R.one hc a3 a2
    rw [kS_cc] at R1
    have mk : zc PG mX1_markOf [.ref D, .int (L.getD k 0)] h = some (.inl (some (.int (nI (kun (S.a * L.getD k 0 + S.b))))), h) := d_markOf R (L.getD k 0)
    have e2 : (krn (fun k => kun (S.a * L.getD k 0 + S.b)) C (k + 1)).2 = (krn (fun k => kun (S.a * L.getD k 0 + S.b)) C k).2 + if kwould (krn (fun k => kun (S.a * L.getD k 0 + S.b)) C k).1 (kun (S.a * L.getD k 0 + S.b)) then 1 else 0 := rfl
    obtain ⟨h', r1, r2, r3⟩ := ih (k + 1) h1 (by omega) (by rw [e2]; split <;> omega) R1
    refine ⟨h', ?_, r2, (a3.dD (R.cA hc)).tr1 r3⟩
    rw [← r1, uX1_tells_at36, e2]
    cases ew : kwould (krn (fun k => kun (S.a * L.getD k 0 + S.b)) C k).1 (kun (S.a * L.getD k 0 + S.b)) with
    | true =>
      rw [ew] at a1
      simp (disch := omega) only [uX1_tells, zKK, zB, zBl, zBb, zlg, zA, zA3, zL3, km31, km63, klshr, kishr, k2p, kl1shl, klmask, kland1, kiand1, k_l2i, zrt_b, zrt_0, zrt_1, zdv_n, zdv_l, g, hg, mk, nG rc, a1, if_true]
    | false =>
      rw [ew] at a1
      simp (disch := omega) only [uX1_tells, zKK, zB, zBl, zBb, zlg, zA, zA3, zL3, km31, km63, klshr, kishr, k2p, kl1shl, klmask, kland1, kiand1, k_l2i, zrt_b, zrt_0, zrt_1, zdv_n, zdv_l, g, hg, mk, nG rc, a1, if_false, Bool.false_eq_true]
theorem kpt_split {T : List Nat} {o : Option (List Int32)} {p : Nat} (h1 : (kpt T).1 = o) (h2 : (kpt T).2 = p) : kpt T = (o, p) := Prod.ext h1 h2
theorem D_tells (H : dW D B S h) (hI : kSI S) (c : Int32) : ∃ h', zc PG mX1_tells [.ref D, .int c] h = some (.inl (some (.int (q_tells S c).1)), h') ∧ dQ D B (q_tells S c).2 h h' := by
  obtain ⟨al, X, R⟩ := H
  obtain ⟨g1, X1, b1, R1, T1, i1, F1⟩ := d_begins R hI
  obtain ⟨g2, X2, r2, R2, i2, F2⟩ := d_thingsTold R1 T1 i1
  unfold q_tells
  rcases r2 with ⟨M, e1, t2, G2, hl⟩ | ⟨e1, t2⟩
  · rw [kpt_split e1 rfl]
    dsimp only
    have f3 := hv1_F R2.w c
    have R3 := R2.nw f3
    have Fb := (F1.tr1 F2).E (B := B)
    rcases kbd_cases c 0 5 with e | ⟨k, -, hk, rfl⟩
    · rw [e]
      refine ⟨hv1 g2 c, ?_, R3.q (Fb.tr1 f3.A)⟩
      simp (disch := omega) only [eX1_tells, uX1_tells, zKK, zB, zBl, zBb, zlg, zA, zA3, zL3, km31, km63, klshr, kishr, k2p, kl1shl, klmask, kland1, kiand1, k_l2i, zrt_b, zrt_0, zrt_1, zdv_n, zdv_l, znew_k, zast_p0, zast_p2, d_are1, d_are2, d_are3, dG R, b1, dG R1, t2, e, Bool.false_eq_true, if_false]
    · have e := kbd_nI (Nat.zero_le k) hk (by omega)
      have hk6 : k < 6 := by omega
      rw [e, kN_nI (by omega)]
      obtain ⟨h5, r5, R5, F5⟩ := d_tells_loop (S := S.s_t []) hk6 hl G2 (S.c k) M.length 0 (hv1 g2 (nI k)) (Nat.zero_add _) (Nat.le_refl _) (by show dR _ D B al ((S.s_t []).s_c k ((S.s_t []).c k)) X2; rw [kS_self]; exact R3)
      have z0 : (krn (fun k => kun ((S.s_t []).a * M.getD k 0 + (S.s_t []).b)) (S.c k) 0).2 = 0 := rfl
      rw [z0] at r5
      refine ⟨h5, ?_, R5.q ((Fb.tr1 f3.A).tr1 F5)⟩
      simp (disch := omega) only [eX1_tells, uX1_tells, zKK, zB, zBl, zBb, zlg, zA, zA3, zL3, km31, km63, klshr, kishr, k2p, kl1shl, klmask, kland1, kiand1, k_l2i, zrt_b, zrt_0, zrt_1, zdv_n, zdv_l, znew_k, zast_p0, zast_p2, d_are1, d_are2, d_are3, dG R, b1, dG R1, t2, e, r5, if_true]
      rfl
  · rw [kpt_split e1 rfl]
    dsimp only
    have wr := d_wrong R2 i2
    have hb := zbk_h (pg := PG) (j := 12) (k := 2) (M := mX1_tells) (n := 8) (q := 4) (ls := [.ref D, .int c, zJ, zJ]) (st := []) (l := [.ref D, .int c, zJ, zJ]) (h := g2) rfl
    refine ⟨g2, ?_, R2.q (F1.tr1 F2).E⟩
    simp (disch := omega) only [eX1_tells, uX1_tells, zKK, zB, zBl, zBb, zlg, zA, zA3, zL3, km31, km63, klshr, kishr, k2p, kl1shl, klmask, kland1, kiand1, k_l2i, zrt_b, zrt_0, zrt_1, zdv_n, zdv_l, znew_k, zast_p0, zast_p2, d_are1, d_are2, d_are3, dG R, b1, dG R1, t2, hb, dG R2, wr]
theorem d_replays_loop (R : dR h D B al S X) {c : Nat} (hc : c < 6) {L : List Int32} (hl : L.length ≤ 600) (hG : dTg L X) (j : Nat) : ∀ (k : Nat), k + j = L.length → zs PG mX1_replays 39 [.ref D, .int (nI c), .int (nI (krp (fun k => kwould (S.c c) (kun (S.a * L.getD k 0 + S.b))) k).1), .long (krp (fun k => kwould (S.c c) (kun (S.a * L.getD k 0 + S.b))) k).2, zJ, .int (nI k)] [] h = zs PG mX1_replays 101 [.ref D, .int (nI c), .int (nI (krp (fun k => kwould (S.c c) (kun (S.a * L.getD k 0 + S.b))) L.length).1), .long (krp (fun k => kwould (S.c c) (kun (S.a * L.getD k 0 + S.b))) L.length).2, zJ, .int (nI L.length)] [] h := by
  have g := dG R
  rw [hG.1] at g
  have rc := R.c hc
  induction j with
  | zero =>
    intro k hk
    have hk : k = L.length := by omega
    subst hk
    rw [uX1_replays_at39]
    simp (disch := omega) only [uX1_replays_at41, uX1_replays_at42, uX1_replays_at45, zKK, zB, g]
  | succ j ih =>
    intro k hk
    have hg : X.g k = L.getD k 0 := hG.2 k (by omega)
    have mk : zc PG mX1_markOf [.ref D, .int (L.getD k 0)] h = some (.inl (some (.int (nI (kun (S.a * L.getD k 0 + S.b))))), h) := d_markOf R (L.getD k 0)
    have ew := n_wouldChange rc (kun_lt (S.a * L.getD k 0 + S.b))
    have e2 := ih (k + 1) (by omega)
    have hle := krp_le (fun k => kwould (S.c c) (kun (S.a * L.getD k 0 + S.b))) k
    rw [uX1_replays_at39, ← e2]
    rw [show krp (fun k => kwould (S.c c) (kun (S.a * L.getD k 0 + S.b))) (k + 1) = if kwould (S.c c) (kun (S.a * L.getD k 0 + S.b)) then ((krp (fun k => kwould (S.c c) (kun (S.a * L.getD k 0 + S.b))) k).1 + 1, (krp (fun k => kwould (S.c c) (kun (S.a * L.getD k 0 + S.b))) k).2 ||| (if k < 60 then lN (2 ^ k) else lN 0)) else krp (fun k => kwould (S.c c) (kun (S.a * L.getD k 0 + S.b))) k from rfl]
    generalize krp (fun k => kwould (S.c c) (kun (S.a * L.getD k 0 + S.b))) k = K at hle ⊢
    cases hw : kwould (S.c c) (kun (S.a * L.getD k 0 + S.b)) with
    | true =>
      rw [hw] at ew
      by_cases e6 : k < 60
      · simp only [if_true, if_pos e6]
        simp (disch := omega) only [uX1_replays_p0, uX1_replays_p1, zKK, zB, zBl, zBb, zlg, zA, zA3, zL3, km31, km63, klshr, kishr, k2p, kl1shl, klmask, kland1, kiand1, k_l2i, zrt_b, zrt_0, zrt_1, zdv_n, zdv_l, g, hg, mk, nG rc, ew]
      · simp only [if_true, if_neg e6]
        simp (disch := omega) only [uX1_replays_p0, uX1_replays_p1, zKK, zB, zBl, zBb, zlg, zA, zA3, zL3, km31, km63, klshr, kishr, k2p, kl1shl, klmask, kland1, kiand1, k_l2i, zrt_b, zrt_0, zrt_1, zdv_n, zdv_l, g, hg, mk, nG rc, ew]
    | false =>
      rw [hw] at ew
      simp only [Bool.false_eq_true, if_false]
      simp (disch := omega) only [uX1_replays_p0, uX1_replays_p1, zKK, zB, zBl, zBb, zlg, zA, zA3, zL3, km31, km63, klshr, kishr, k2p, kl1shl, klmask, kland1, kiand1, k_l2i, zrt_b, zrt_0, zrt_1, zdv_n, zdv_l, g, hg, mk, nG rc, ew]
theorem D_replays (H : dW D B S h) (hI : kSI S) (c : Int32) : ∃ h', zc PG mX1_replays [.ref D, .int c] h = some (.inl (some (.int (q_replays S c).1)), h') ∧ dQ D B (q_replays S c).2 h h' := by
  obtain ⟨al, X, R⟩ := H
  obtain ⟨g1, X1, b1, R1, T1, i1, F1⟩ := d_begins R hI
  obtain ⟨g2, X2, r2, R2, i2, F2⟩ := d_thingsTold R1 T1 i1
  unfold q_replays
  rcases r2 with ⟨M, e1, t2, G2, hl⟩ | ⟨e1, t2⟩
  · rw [kpt_split e1 rfl]
    dsimp only
    have f3 := hv1_F R2.w c
    have R3 := R2.nw f3
    have Fb := (F1.tr1 F2).E (B := B)
    rcases kbd_cases c 0 5 with e | ⟨k, -, hk, rfl⟩
    · rw [e]
      refine ⟨hv1 g2 c, ?_, R3.q (Fb.tr1 f3.A)⟩
      simp (disch := omega) only [eX1_replays, uX1_replays_p0, uX1_replays_p1, zKK, zB, zBl, zBb, zlg, zA, zA3, zL3, km31, km63, klshr, kishr, k2p, kl1shl, klmask, kland1, kiand1, k_l2i, zrt_b, zrt_0, zrt_1, zdv_n, zdv_l, znew_k, zast_p0, zast_p2, d_are1, d_are2, d_are3, dG R, b1, dG R1, t2, e, Bool.false_eq_true, if_false]
    · have e := kbd_nI (Nat.zero_le k) hk (by omega)
      have hk6 : k < 6 := by omega
      rw [e, kN_nI (by omega)]
      have r5 := d_replays_loop R3 hk6 hl G2 M.length 0 (Nat.zero_add _)
      have z0 : krp (fun k_1 => kwould ((S.s_t []).c k) (kun ((S.s_t []).a * M.getD k_1 0 + (S.s_t []).b))) 0 = (0, lN 0) := rfl
      rw [z0] at r5
      obtain ⟨h5, X5, n5, R5, F5⟩ := d_row1 R3 (krp (fun k_1 => kwould ((S.s_t []).c k) (kun ((S.s_t []).a * M.getD k_1 0 + (S.s_t []).b))) M.length).2
      refine ⟨h5, ?_, R5.q ((Fb.tr1 f3.A).tr1 F5.E)⟩
      simp (disch := omega) only [eX1_replays, uX1_replays_p0, uX1_replays_p1, zKK, zB, zBl, zBb, zlg, zA, zA3, zL3, km31, km63, klshr, kishr, k2p, kl1shl, klmask, kland1, kiand1, k_l2i, zrt_b, zrt_0, zrt_1, zdv_n, zdv_l, znew_k, zast_p0, zast_p2, d_are1, d_are2, d_are3, dG R, b1, dG R1, t2, e, r5, dGp R3, n5, if_true]
      rfl
  · rw [kpt_split e1 rfl]
    dsimp only
    have wr := d_wrong R2 i2
    have hb := zbk_h (pg := PG) (j := 12) (k := 2) (M := mX1_replays) (n := 8) (q := 4) (ls := [.ref D, .int c, zJ, zJ, zJ, zJ]) (st := []) (l := [.ref D, .int c, zJ, zJ, zJ, zJ]) (h := g2) rfl
    refine ⟨g2, ?_, R2.q (F1.tr1 F2).E⟩
    simp (disch := omega) only [eX1_replays, uX1_replays_p0, uX1_replays_p1, zKK, zB, zBl, zBb, zlg, zA, zA3, zL3, km31, km63, klshr, kishr, k2p, kl1shl, klmask, kland1, kiand1, k_l2i, zrt_b, zrt_0, zrt_1, zdv_n, zdv_l, znew_k, zast_p0, zast_p2, d_are1, d_are2, d_are3, dG R, b1, dG R1, t2, hb, dG R2, wr]
/-! signs -/
theorem kand255 (x : Int32) : x &&& nI 255 = nI (kun x % 256) := by
  have := pk_andN (n := kun x) (m := nI 255) (kun_lt x) 8 (by decide)
  rw [kun_nI] at this
  exact this
theorem d_tput (R : dR h D B al S X) {i : Nat} (hi : i < 600) (hs : S.t.length ≤ i) (v : Int32) : ∃ h', zast h (D + 31) 0 (nI i) (.int v) = some h' ∧ dR h' D B al S (X.1, X.2.1, X.2.2.1, X.2.2.2.1, va_up X.x i v, X.2.2.2.2.2) ∧ hF (dE D) 0 0 h h' := by
  have hlt := R.lt
  have s1 := zast_u R.tx (i := i) (v := .int v) hi (by omega) rfl rfl
  have hf : zfu (fun k => .int (X.x k)) i (.int v) = fun k => .int (va_up X.x i v k) := by
    funext y
    unfold zfu va_up
    by_cases q : y = i
    · rw [if_pos q, if_pos q]
    · rw [if_neg q, if_neg q]
  rw [hf] at s1
  refine ⟨_, s1, ?_, (hF_up R.w (a := D + 31) (by omega) _).up (fun q _ z => show dE D q by unfold dE; omega) (Nat.le_refl _) (Nat.le_refl _)⟩
  refine R.arr (a := 31) (by omega) _ _ rfl rfl ?_ (zup_s _ _ _) ?_ (fun k hk => ?_) (fun k => R.wr)
  · rw [zup_o _ _ (by omega)]; exact R.th
  · rw [zup_o _ _ (by omega)]; exact R.rw
  · show va_up X.x i v k = _
    unfold va_up
    rw [if_neg (by omega)]
    exact R.xt hk
theorem d_sign_step (R : dR h D B al S X) (v : Int32) {k : Nat} (hk : k < 4) (hs : S.t.length ≤ 596) : ∃ h' X', zs PG mX1_sign 14 [.ref D, .int v, .int (nI k)] [] h = zs PG mX1_sign 14 [.ref D, .int v, .int (nI (k + 1))] [] h' ∧ dR h' D B al S X' ∧ X'.x = va_up X.x (S.t.length + k) (nI (kun (v >>> nI (24 - 8 * k)) % 256)) ∧ hF (dE D) 0 0 h h' := by
  obtain ⟨h', s1, R1, F1⟩ := d_tput R (i := S.t.length + k) (by omega) (by omega) (nI (kun (v >>> nI (24 - 8 * k)) % 256))
  refine ⟨h', _, ?_, R1, rfl, F1⟩
  rw [uX1_sign_at14]
  simp (disch := omega) only [uX1_sign, zKK, zB, dG R, zA, zA3, km31, kand255, s1]
def ksg4 (v : Int32) : List Nat := [kun (v >>> nI 24) % 256, kun (v >>> nI 16) % 256, kun (v >>> nI 8) % 256, kun (v >>> nI 0) % 256]
theorem D_sign (H : dW D B S h) (hI : kSI S) (v : Int32) : ∃ h', zc PG mX1_sign [.ref D, .int v] h = some (.inl (some (.int (q_sign S v).1)), h') ∧ dQ D B (q_sign S v).2 h h' := by
  obtain ⟨al, X, R⟩ := H
  have hl := hI.2.1
  unfold q_sign
  by_cases e : 596 < S.t.length
  · rw [if_pos e]
    refine ⟨h, ?_, R.q (hF.rf R.w _)⟩
    simp (disch := omega) only [eX1_sign, uX1_sign, zKK, zB, zBl, zBb, zlg, zA, zA3, zL3, km31, km63, klshr, kishr, k2p, kl1shl, klmask, kland1, kiand1, k_l2i, zrt_b, zrt_0, zrt_1, zdv_n, zdv_l, znew_k, zast_p0, zast_p2, d_are1, d_are2, d_are3, dG R]
  · rw [if_neg e]
    show ∃ h', zc PG mX1_sign [.ref D, .int v] h = some (.inl (some (.int (nI (S.t.length + 4)))), h') ∧ dQ D B (S.s_t (S.t ++ ksg4 v)) h h'
    obtain ⟨h1, X1, q1, R1, x1, F1⟩ := d_sign_step R v (k := 0) (by omega) (by omega)
    obtain ⟨h2, X2, q2, R2, x2, F2⟩ := d_sign_step R1 v (k := 1) (by omega) (by omega)
    obtain ⟨h3, X3, q3, R3, x3, F3⟩ := d_sign_step R2 v (k := 2) (by omega) (by omega)
    obtain ⟨h4, X4, q4, R4, x4, F4⟩ := d_sign_step R3 v (k := 3) (by omega) (by omega)
    have lT : (S.t ++ ksg4 v).length = S.t.length + 4 := by rw [List.length_append]; rfl
    have p5 := dP_t R4 (n := S.t.length + 4) (S.t ++ ksg4 v) lT
    have R5 := R4.fld (S' := S.s_t (S.t ++ ksg4 v)) (X' := X4) rfl rfl rfl rfl (fun k hk => by
      have hk : k < (S.t ++ ksg4 v).length := hk
      rw [lT] at hk
      show X4.x k = nI ((S.t ++ ksg4 v).getD k 0)
      rw [x4, x3, x2, x1]
      unfold va_up
      by_cases z : k < S.t.length
      · rw [if_neg (by omega), if_neg (by omega), if_neg (by omega), if_neg (by omega), R.xt z, List.getD_eq_getElem?_getD, List.getD_eq_getElem?_getD, List.getElem?_append_left z]
      · rw [List.getD_eq_getElem?_getD, List.getElem?_append_right (by omega)]
        have z2 : k = S.t.length ∨ k = S.t.length + 1 ∨ k = S.t.length + 2 ∨ k = S.t.length + 3 := by omega
        rcases z2 with z2 | z2 | z2 | z2
        · rw [if_neg (by omega), if_neg (by omega), if_neg (by omega), if_pos (by omega), show k - S.t.length = 0 by omega]; rfl
        · rw [if_neg (by omega), if_neg (by omega), if_pos (by omega), show k - S.t.length = 1 by omega]; rfl
        · rw [if_neg (by omega), if_pos (by omega), show k - S.t.length = 2 by omega]; rfl
        · rw [if_pos (by omega), show k - S.t.length = 3 by omega]; rfl) (fun k => R4.wr)
    have F5 := (hD_F R4 (S.s_t (S.t ++ ksg4 v)) X4).up (B := dE D) (fun q _ z => show dE D q by unfold dE; omega) (Nat.le_refl _) (Nat.le_refl _)
    have l5 : (S.s_t (S.t ++ ksg4 v)).t.length = S.t.length + 4 := lT
    have g5 := dG R5
    rw [l5] at g5
    refine ⟨_, ?_, R5.q ((((F1.tr1 F2).tr1 F3).tr1 F4).tr1 F5).E⟩
    have z3 : zs PG mX1_sign 14 [.ref D, .int v, .int (nI 0)] [] h = zs PG mX1_sign 14 [.ref D, .int v, .int (nI 4)] [] h4 := by rw [q1, q2, q3, q4]
    have z4 : zs PG mX1_sign 14 [.ref D, .int v, .int (nI 4)] [] h4 = zs PG mX1_sign 49 [.ref D, .int v, .int (nI 4)] [] h4 := by
      rw [uX1_sign_at14]
      simp (disch := omega) only [uX1_sign_at15, uX1_sign_at16, zKK, zB]
    simp (disch := omega) only [eX1_sign, uX1_sign, zKK, zB, zBl, zBb, zlg, zA, zA3, zL3, km31, km63, klshr, kishr, k2p, kl1shl, klmask, kland1, kiand1, k_l2i, zrt_b, zrt_0, zrt_1, zdv_n, zdv_l, znew_k, zast_p0, zast_p2, d_are1, d_are2, d_are3, dG R, z3, z4, dG R4, p5, g5]
theorem D_end (H : dW D B S h) (hI : kSI S) (n : Int32) : ∃ h', zc PG mX1_end [.ref D, .int n] h = some (.inl (some (.int (zb (q_end S n).1))), h') ∧ dQ D B (q_end S n).2 h h' := by
  obtain ⟨al, X, R⟩ := H
  have hl := hI.2.1
  unfold q_end
  rcases kbd_cases n 0 S.t.length with e | ⟨n, -, hn, rfl⟩
  · rw [e]
    refine ⟨h, ?_, R.q (hF.rf R.w _)⟩
    simp (disch := omega) only [eX1_end, uX1_end, zKK, zB, zBl, zBb, zlg, zA, zA3, zL3, km31, km63, klshr, kishr, k2p, kl1shl, klmask, kland1, kiand1, k_l2i, zrt_b, zrt_0, zrt_1, zdv_n, zdv_l, znew_k, zast_p0, zast_p2, d_are1, d_are2, d_are3, dG R, d_ini, e, Bool.false_eq_true, if_false, zb_f]
  · have e := kbd_nI (Nat.zero_le n) hn (by omega)
    rw [e, kN_nI (by omega)]
    have hl2 : (S.t.take n).length = n := by rw [List.length_take]; omega
    have p := dP_t R (n := n) (S.t.take n) hl2
    have R1 := R.fld (S' := S.s_t (S.t.take n)) (X' := X) rfl rfl rfl rfl (fun k hk => by
      have hk : k < (S.t.take n).length := hk
      rw [hl2] at hk
      rw [R.xt (by omega)]
      show nI (S.t.getD k 0) = nI ((S.t.take n).getD k 0)
      rw [List.getD_eq_getElem?_getD, List.getD_eq_getElem?_getD, List.getElem?_take_of_lt hk]) (fun k => R.wr)
    have F1 := (hD_F R (S.s_t (S.t.take n)) X).up (B := dE D) (fun q _ z => show dE D q by unfold dE; omega) (Nat.le_refl _) (Nat.le_refl _)
    refine ⟨_, ?_, R1.q F1.E⟩
    simp (disch := omega) only [eX1_end, uX1_end, zKK, zB, zBl, zBb, zlg, zA, zA3, zL3, km31, km63, klshr, kishr, k2p, kl1shl, klmask, kland1, kiand1, k_l2i, zrt_b, zrt_0, zrt_1, zdv_n, zdv_l, znew_k, zast_p0, zast_p2, d_are1, d_are2, d_are3, dG R, d_inN, e, p, if_true, zb_t]
/-! counts -/
theorem d_setOf (R : dR h D B al S X) {lam k : Nat} {P : Nat → Bool} (hl : zlam h [(108, mX1_lambda_count_8), (109, mX1_lambda_count_9)] lam = some (k, [])) (hP : ∀ c, c < 6 → zc PG k [.ref (al c)] h = some (.inl (some (.int (zb (P c)))), h)) : zc PG mX1_setOf [.ref D, .ref lam] h = some (.inl (some (.int (nI (kdb P 6)))), h) := by
  have loop : ∀ (j c : Nat), c + j = 6 → zs PG mX1_setOf 4 [.ref D, .ref lam, .int (nI (kdb P c)), .int (nI c)] [] h = some (.inl (some (.int (nI (kdb P 6)))), h) := by
    intro j
    induction j with
    | zero =>
      intro c hc
      have hc : c = 6 := by omega
      subst hc
      rw [uX1_setOf_at4]
      simp (disch := omega) only [uX1_setOf, zKK, zB, zBl, zBb, zlg, zA, zA3, zL3, km31, km63, klshr, kishr, k2p, kl1shl, klmask, kland1, kiand1, k_l2i, zrt_b, zrt_0, zrt_1, zdv_n, zdv_l]
    | succ j ih =>
      intro c hc
      have hp := hP c (by omega)
      rw [uX1_setOf_at4, ← ih (c + 1) (by omega), kdb]
      cases e : P c with
      | true =>
        rw [e] at hp
        simp (disch := omega) only [uX1_setOf, zKK, zB, zBl, zBb, zlg, zA, zA3, zL3, km31, km63, klshr, kishr, k2p, kl1shl, klmask, kland1, kiand1, k_l2i, zrt_b, zrt_0, zrt_1, zdv_n, zdv_l, dG R, hl, List.nil_append, hp, nx_or, if_true]
      | false =>
        rw [e] at hp
        simp (disch := omega) only [uX1_setOf, zKK, zB, zBl, zBb, zlg, zA, zA3, zL3, km31, km63, klshr, kishr, k2p, kl1shl, klmask, kland1, kiand1, k_l2i, zrt_b, zrt_0, zrt_1, zdv_n, zdv_l, dG R, hl, List.nil_append, hp, nx_or, Bool.false_eq_true, if_false]
  have r := loop 6 0 (Nat.zero_add _)
  rw [show kdb P 0 = 0 from rfl] at r
  simp (disch := omega) only [eX1_setOf, uX1_setOf, zKK, zB, zBl, zBb, zlg, zA, zA3, zL3, km31, km63, klshr, kishr, k2p, kl1shl, klmask, kland1, kiand1, k_l2i, zrt_b, zrt_0, zrt_1, zdv_n, zdv_l, r]
theorem d_sumOf (R : dR h D B al S X) {lam k : Nat} {f : Nat → Nat} (hl : zlam h [(110, mX1_lambda_count_10), (111, mX1_lambda_count_11)] lam = some (k, [])) (hf : ∀ c, c < 6 → zc PG k [.ref (al c)] h = some (.inl (some (.int (nI (f c)))), h)) : zc PG mX1_sumOf [.ref D, .ref lam] h = some (.inl (some (.int (nI (ksm f 6)))), h) := by
  have loop : ∀ (j c : Nat) (u : Value), c + j = 6 → zs PG mX1_sumOf 14 [.ref D, .ref lam, .int (nI (ksm f c)), .ref (D + 12), .int (nI 6), .int (nI c), u] [] h = some (.inl (some (.int (nI (ksm f 6)))), h) := by
    intro j
    induction j with
    | zero =>
      intro c u hc
      have hc : c = 6 := by omega
      subst hc
      rw [uX1_sumOf_at14]
      simp (disch := omega) only [uX1_sumOf, zKK, zB, zBl, zBb, zlg, zA, zA3, zL3, km31, km63, klshr, kishr, k2p, kl1shl, klmask, kland1, kiand1, k_l2i, zrt_b, zrt_0, zrt_1, zdv_n, zdv_l]
    | succ j ih =>
      intro c u hc
      have hp := hf c (by omega)
      rw [uX1_sumOf_at14, ← ih (c + 1) (.ref (al c)) (by omega), ksm]
      simp (disch := omega) only [uX1_sumOf, zKK, zB, zBl, zBb, zlg, zA, zA3, zL3, km31, km63, klshr, kishr, k2p, kl1shl, klmask, kland1, kiand1, k_l2i, zrt_b, zrt_0, zrt_1, zdv_n, zdv_l, dG R, hl, List.nil_append, hp]
  have r := loop 6 0 zJ (Nat.zero_add _)
  rw [show ksm f 0 = 0 from rfl] at r
  simp (disch := omega) only [eX1_sumOf, uX1_sumOf, zKK, zB, zBl, zBb, zlg, zA, zA3, zL3, km31, km63, klshr, kishr, k2p, kl1shl, klmask, kland1, kiand1, k_l2i, zrt_b, zrt_0, zrt_1, zdv_n, zdv_l, dG R, r]
theorem kgr_pos (r : Nat → Nat) (n : Nat) : 0 < kgr r n ↔ 0 < krd r n := by
  induction n with
  | zero => exact ⟨fun q => absurd q (Nat.lt_irrefl _), fun q => absurd q (Nat.lt_irrefl _)⟩
  | succ n ih =>
    unfold kgr krd
    by_cases e : 0 < r n
    · rw [if_pos e]; omega
    · rw [if_neg e]; omega
theorem kgr_le {r : Nat → Nat} {b : Nat} (h : ∀ x, r x ≤ b) (n : Nat) : kgr r n ≤ b := by
  induction n with
  | zero => exact Nat.zero_le _
  | succ n ih => unfold kgr; have := h n; omega
theorem D_count (H : dW D B S h) (w : Int32) : ∃ h', zc PG mX1_count [.ref D, .int w] h = some (.inl (some (.int (q_count S w))), h') ∧ dQ D B S h h' := by
  obtain ⟨al, X, R⟩ := H
  refine ⟨h, ?_, R.q (hF.rf R.w _)⟩
  unfold q_count
  have lm : ∀ s, s = 2 ∨ s = 3 ∨ (8 ≤ s ∧ s ≤ 11) → ∃ x b, h.2.2.2 (10 + s) = .ref x ∧ x < D ∧ h.1 x = some (b, .inr (100 + s, [])) := R.k.2.2.1
  rcases kbd_cases w 0 7 with e | ⟨w, -, hw, rfl⟩
  · have es := zsw_out (lo := 0) (ts := [48, 53, 58, 68, 78, 83, 88, 98]) (d := 108) (x := w) e (by decide)
    simp only [e, Bool.false_eq_true, if_false]
    simp (disch := omega) only [eX1_count, uX1_count, zKK, zB, zBl, zBb, zlg, zA, zA3, zL3, km31, km63, klshr, kishr, k2p, kl1shl, klmask, kland1, kiand1, k_l2i, zrt_b, zrt_0, zrt_1, zdv_n, zdv_l, znew_k, zast_p0, zast_p2, d_are1, d_are2, d_are3, es]
  · have e := kbd_nI (Nat.zero_le w) hw (by omega)
    simp only [e, if_true]
    rw [kN_nI (by omega)]
    have h' : w = 0 ∨ w = 1 ∨ w = 2 ∨ w = 3 ∨ w = 4 ∨ w = 5 ∨ w = 6 ∨ w = 7 := by omega
    rcases h' with rfl | rfl | rfl | rfl | rfl | rfl | rfl | rfl
    · simp (disch := omega) only [eX1_count, uX1_count, zKK, zB, zBl, zBb, zlg, zA, zA3, zL3, km31, km63, klshr, kishr, k2p, kl1shl, klmask, kland1, kiand1, k_l2i, zrt_b, zrt_0, zrt_1, zdv_n, zdv_l, znew_k, zast_p0, zast_p2, d_are1, d_are2, d_are3, show zsw 0 [48, 53, 58, 68, 78, 83, 88, 98] 108 (nI 0) = 48 by decide, dG R]
    · simp (disch := omega) only [eX1_count, uX1_count, zKK, zB, zBl, zBb, zlg, zA, zA3, zL3, km31, km63, klshr, kishr, k2p, kl1shl, klmask, kland1, kiand1, k_l2i, zrt_b, zrt_0, zrt_1, zdv_n, zdv_l, znew_k, zast_p0, zast_p2, d_are1, d_are2, d_are3, show zsw 0 [48, 53, 58, 68, 78, 83, 88, 98] 108 (nI 1) = 53 by decide, dG R]
    · obtain ⟨x, b, y1, y2, y3⟩ := lm 8 (by omega)
      have y1 : h.2.2.2 18 = .ref x := y1
      have r := d_setOf R (P := fun c => (S.c c).d) (zlam_s y3 rfl) (fun c hc => by simp (disch := omega) only [eX1_lambda_count_8, uX1_lambda_count_8, zKK, zB, zBl, zBb, zlg, zA, zA3, zL3, km31, km63, klshr, kishr, k2p, kl1shl, klmask, kland1, kiand1, k_l2i, zrt_b, zrt_0, zrt_1, zdv_n, zdv_l, nG (R.c hc)])
      simp (disch := omega) only [eX1_count, uX1_count, zKK, zB, zBl, zBb, zlg, zA, zA3, zL3, km31, km63, klshr, kishr, k2p, kl1shl, klmask, kland1, kiand1, k_l2i, zrt_b, zrt_0, zrt_1, zdv_n, zdv_l, znew_k, zast_p0, zast_p2, d_are1, d_are2, d_are3, show zsw 0 [48, 53, 58, 68, 78, 83, 88, 98] 108 (nI 2) = 58 by decide, y1, dG R, r]
    · obtain ⟨x, b, y1, y2, y3⟩ := lm 9 (by omega)
      have y1 : h.2.2.2 19 = .ref x := y1
      have r := d_setOf R (P := fun c => decide (0 < krd (S.c c).r (2 ^ (S.c c).p))) (zlam_s y3 rfl) (fun c hc => by
        have gl := kgr_le (R.c hc).I.2.2.2.2.1 (2 ^ (S.c c).p)
        by_cases z : 0 < krd (S.c c).r (2 ^ (S.c c).p)
        · have z2 := (kgr_pos _ _).mpr z
          rw [decide_eq_true z, zb_t]
          simp (disch := omega) only [eX1_lambda_count_9, uX1_lambda_count_9, zKK, zB, zBl, zBb, zlg, zA, zA3, zL3, km31, km63, klshr, kishr, k2p, kl1shl, klmask, kland1, kiand1, k_l2i, zrt_b, zrt_0, zrt_1, zdv_n, zdv_l, nG (R.c hc), n_greatest (R.c hc)]
        · have z2 : ¬ 0 < kgr (S.c c).r (2 ^ (S.c c).p) := fun q => z ((kgr_pos _ _).mp q)
          rw [decide_eq_false z, zb_f]
          simp (disch := omega) only [eX1_lambda_count_9, uX1_lambda_count_9, zKK, zB, zBl, zBb, zlg, zA, zA3, zL3, km31, km63, klshr, kishr, k2p, kl1shl, klmask, kland1, kiand1, k_l2i, zrt_b, zrt_0, zrt_1, zdv_n, zdv_l, nG (R.c hc), n_greatest (R.c hc)])
      simp (disch := omega) only [eX1_count, uX1_count, zKK, zB, zBl, zBb, zlg, zA, zA3, zL3, km31, km63, klshr, kishr, k2p, kl1shl, klmask, kland1, kiand1, k_l2i, zrt_b, zrt_0, zrt_1, zdv_n, zdv_l, znew_k, zast_p0, zast_p2, d_are1, d_are2, d_are3, show zsw 0 [48, 53, 58, 68, 78, 83, 88, 98] 108 (nI 3) = 68 by decide, y1, dG R, r]
    · simp (disch := omega) only [eX1_count, uX1_count, zKK, zB, zBl, zBb, zlg, zA, zA3, zL3, km31, km63, klshr, kishr, k2p, kl1shl, klmask, kland1, kiand1, k_l2i, zrt_b, zrt_0, zrt_1, zdv_n, zdv_l, znew_k, zast_p0, zast_p2, d_are1, d_are2, d_are3, show zsw 0 [48, 53, 58, 68, 78, 83, 88, 98] 108 (nI 4) = 78 by decide, dG R]
    · simp (disch := omega) only [eX1_count, uX1_count, zKK, zB, zBl, zBb, zlg, zA, zA3, zL3, km31, km63, klshr, kishr, k2p, kl1shl, klmask, kland1, kiand1, k_l2i, zrt_b, zrt_0, zrt_1, zdv_n, zdv_l, znew_k, zast_p0, zast_p2, d_are1, d_are2, d_are3, show zsw 0 [48, 53, 58, 68, 78, 83, 88, 98] 108 (nI 5) = 83 by decide, dG R]
    · obtain ⟨x, b, y1, y2, y3⟩ := lm 10 (by omega)
      have y1 : h.2.2.2 20 = .ref x := y1
      have r := d_sumOf R (f := fun c => (S.c c).m.length) (zlam_s y3 rfl) (fun c hc => by
        have g := nG (R.c hc)
        cases hd : (S.c c).d with
        | true =>
          rw [hd] at g
          have hm : (S.c c).m = [] := (R.c hc).I.2.2.2.2.2.2.1 hd
          rw [hm]
          simp (disch := omega) only [eX1_lambda_count_10, uX1_lambda_count_10, zKK, zB, zBl, zBb, zlg, zA, zA3, zL3, km31, km63, klshr, kishr, k2p, kl1shl, klmask, kland1, kiand1, k_l2i, zrt_b, zrt_0, zrt_1, zdv_n, zdv_l, g, List.length_nil]
        | false =>
          rw [hd] at g
          simp (disch := omega) only [eX1_lambda_count_10, uX1_lambda_count_10, zKK, zB, zBl, zBb, zlg, zA, zA3, zL3, km31, km63, klshr, kishr, k2p, kl1shl, klmask, kland1, kiand1, k_l2i, zrt_b, zrt_0, zrt_1, zdv_n, zdv_l, g, nM (R.c hc) hd])
      simp (disch := omega) only [eX1_count, uX1_count, zKK, zB, zBl, zBb, zlg, zA, zA3, zL3, km31, km63, klshr, kishr, k2p, kl1shl, klmask, kland1, kiand1, k_l2i, zrt_b, zrt_0, zrt_1, zdv_n, zdv_l, znew_k, zast_p0, zast_p2, d_are1, d_are2, d_are3, show zsw 0 [48, 53, 58, 68, 78, 83, 88, 98] 108 (nI 6) = 88 by decide, y1, dG R, r]
    · obtain ⟨x, b, y1, y2, y3⟩ := lm 11 (by omega)
      have y1 : h.2.2.2 21 = .ref x := y1
      have r := d_sumOf R (f := fun c => 2 ^ (S.c c).p) (zlam_s y3 rfl) (fun c hc => by simp (disch := omega) only [eX1_lambda_count_11, uX1_lambda_count_11, zKK, zB, zBl, zBb, zlg, zA, zA3, zL3, km31, km63, klshr, kishr, k2p, kl1shl, klmask, kland1, kiand1, k_l2i, zrt_b, zrt_0, zrt_1, zdv_n, zdv_l, nG (R.c hc), n_m (R.c hc)])
      simp (disch := omega) only [eX1_count, uX1_count, zKK, zB, zBl, zBb, zlg, zA, zA3, zL3, km31, km63, klshr, kishr, k2p, kl1shl, klmask, kland1, kiand1, k_l2i, zrt_b, zrt_0, zrt_1, zdv_n, zdv_l, znew_k, zast_p0, zast_p2, d_are1, d_are2, d_are3, show zsw 0 [48, 53, 58, 68, 78, 83, 88, 98] 108 (nI 7) = 98 by decide, y1, dG R, r]
theorem D_row (H : dW D B S h) (hI : kSI S) (i : Int32) : (kix i S.w.length = false → ∃ h', zc PG mX1_row [.ref D, .int i] h = some (.inr 5, h') ∧ dQ D B S h h') ∧ (kix i S.w.length = true → zc PG mX1_row [.ref D, .int i] h = some (.inl (some (.long (S.w.getD (kN i) 0))), h)) := by
  obtain ⟨al, X, R⟩ := H
  have hl := hI.2.2.2
  have ex := d_inx i (n := S.w.length) (by omega) h
  constructor
  · intro e
    rw [e] at ex
    have f1 := hF_push R.w (.inr (5, [])) 6
    refine ⟨_, ?_, (R.nw f1).q f1.A⟩
    simp (disch := omega) only [eX1_row, uX1_row, zKK, zBb, dG R, ex]
  · intro e
    rw [e] at ex
    rcases kix_cases i (n := S.w.length) (by omega) with z | ⟨k, hk, rfl, z⟩
    · rw [e] at z; cases z
    · have hr := R.wr hk
      rw [kN_nI (by omega)]
      simp (disch := omega) only [eX1_row, uX1_row, zKK, zBb, dG R, ex, hr]
end DR
