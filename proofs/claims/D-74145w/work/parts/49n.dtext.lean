/-! THE COMPONENT: texts -/
theorem zput_ps {h : zH} {c k ty n : Nat} {fs : List Value} {v : Value} (hk : Nat.ble (k + 1) fs.length = true) (hv : zkind ty v = true) : zput (zpush h (.inr (c, fs)) n) h.2.1 c k ty v = some (zpush h (.inr (c, fs.set k v)) n) := by
  rw [zput_u (zpush_s _ _ _) (Nat.le_of_ble_eq_true hk) hv, zup_ps]
section DR
variable {h h1 : zH} {D B : Nat} {al : Nat → Nat} {S : kS} {X : dX}
theorem d_must0 (R : dR h D B al S X) : ∃ h', zc PG mX1_must [.ref D, .int (nI 0)] h = some (.inr 4, h') ∧ hF hN 1 6 h h' := by
  obtain ⟨x, y, i1, i2, -⟩ := R.k.2.2.2
  refine ⟨zpush h (.inr (4, [.null, .null, .null, .null, .null, .int 0])) 6, ?_, hF_push R.w _ _⟩
  have ee : ∀ e n, (zpush h e n).2.2.2 = h.2.2.2 := fun _ _ => rfl
  have et : ∀ fs n, zthr (zpush h (.inr (4, fs)) n) h.2.1 = some 4 := fun fs n => by
    unfold zthr
    rw [zpush_s]
    rfl
  have q : ∀ (k ty : Nat) (v : Value) (fs gs : List Value), k < fs.length → zkind ty v = true → fs.set k v = gs → zput (zpush h (.inr (4, fs)) 6) h.2.1 4 k ty v = some (zpush h (.inr (4, gs)) 6) := by
    intro k ty v fs gs h1 h2 h3
    rw [zput_u (zpush_s _ _ _) h1 h2, zup_ps, h3]
  have q1 := q 0 3 (.ref h.2.1) [.null, .null, .null, .null, .null, .int 0] _ (Nat.le_of_ble_eq_true rfl) rfl rfl
  have q2 := q 1 3 (.ref x) [.ref h.2.1, .null, .null, .null, .null, .int 0] _ (Nat.le_of_ble_eq_true rfl) rfl rfl
  have q3 := q 2 3 (.ref y) [.ref h.2.1, .ref x, .null, .null, .null, .int 0] _ (Nat.le_of_ble_eq_true rfl) rfl rfl
  have q4 := q 1 3 .null [.ref h.2.1, .ref x, .ref y, .null, .null, .int 0] _ (Nat.le_of_ble_eq_true rfl) rfl rfl
  have q5 := q 3 3 .null [.ref h.2.1, .null, .ref y, .null, .null, .int 0] _ (Nat.le_of_ble_eq_true rfl) rfl rfl
  have q6 := q 0 3 .null [.ref h.2.1, .null, .ref y, .null, .null, .int 0] _ (Nat.le_of_ble_eq_true rfl) rfl rfl
  have q7 := q 2 3 .null [.null, .null, .ref y, .null, .null, .int 0] _ (Nat.le_of_ble_eq_true rfl) rfl rfl
  simp only [List.set] at q1 q2 q3 q4 q5 q6 q7
  simp (disch := omega) only [eX1_must, uX1_must, zKK, zB, eX4_init, uX4_init, eJ3_init, uJ3_init, eJ2_init_2, uJ2_init_2, q1, ee, i1, q2, i2, q3, q4, q5, q6, q7, et, zth]
theorem d_must1 (h : zH) (D : Nat) : zc PG mX1_must [.ref D, .int (nI 1)] h = some (.inl none, h) := by
  simp (disch := omega) only [eX1_must, uX1_must, zKK, zB, zBl, zBb, zlg, zA, zA3, zL3, km31, km63, klshr, kishr, k2p, kl1shl, klmask, kland1, kiand1, k_l2i, zrt_b, zrt_0, zrt_1, zdv_n, zdv_l]
/-- the text that is read -/
def dTx (T : List Nat) (X : dX) : Prop := X.e = nI T.length ∧ (∀ k, k < T.length → X.x k = nI (T.getD k 0)) ∧ T.length ≤ 600 ∧ ∀ x ∈ T, x < 256
/-- at is set -/
theorem dR.at (R : dR h D B al S X) (v : Int32) : zput h D 1 7 0 (.int v) = some (hD h D S (v, X.2)) ∧ dR (hD h D S (v, X.2)) D B al S (v, X.2) ∧ hF (dE D) 0 0 h (hD h D S (v, X.2)) :=
  ⟨(dP R).2.2.1 v, R.fld rfl rfl rfl rfl (fun k => R.xt) (fun k => R.wr), (hD_F R _ _).up (fun q _ z => show dE D q by unfold dE; omega) (Nat.le_refl _) (Nat.le_refl _)⟩
def kchr (T : List Nat) (i c : Nat) : Bool := decide (i < T.length ∧ T.getD i 0 = c)
theorem d_takesC (R : dR h D B al S X) {T : List Nat} (hT : dTx T X) {i : Nat} (hi : X.i = nI i) (hl : i ≤ T.length) {c : Nat} (hc : c < 256) : zc PG mX1_takes [.ref D, .int (nI c)] h = some (.inl (some (.int (zb (kchr T i c)))), hD h D S (nI (if kchr T i c then i + 1 else i), X.2)) := by
  obtain ⟨t1, t2, t3, t4⟩ := hT
  have g := dG R
  rw [hi, t1] at g
  have p := fun v => (R.at v).1
  unfold kchr
  by_cases e : i < T.length
  · have hb : T.getD i 0 < 256 := t4 _ (kget_mem e)
    have ld := t2 i e
    by_cases e2 : T.getD i 0 = c
    · rw [decide_eq_true ⟨e, e2⟩, zb_t]
      simp (disch := omega) only [eX1_takes, uX1_takes, zKK, zB, zBl, zBb, zlg, zA, zA3, zL3, km31, km63, klshr, kishr, k2p, kl1shl, klmask, kland1, kiand1, k_l2i, zrt_b, zrt_0, zrt_1, zdv_n, zdv_l, g, ld, e2, p, if_true]
    · rw [decide_eq_false (fun q => e2 q.2), zb_f]
      simp (disch := omega) only [eX1_takes, uX1_takes, zKK, zB, zBl, zBb, zlg, zA, zA3, zL3, km31, km63, klshr, kishr, k2p, kl1shl, klmask, kland1, kiand1, k_l2i, zrt_b, zrt_0, zrt_1, zdv_n, zdv_l, g, ld, p, Bool.false_eq_true, if_false, Nat.add_zero]
  · rw [decide_eq_false (fun q => e q.1), zb_f]
    simp (disch := omega) only [eX1_takes, uX1_takes, zKK, zB, zBl, zBb, zlg, zA, zA3, zL3, km31, km63, klshr, kishr, k2p, kl1shl, klmask, kland1, kiand1, k_l2i, zrt_b, zrt_0, zrt_1, zdv_n, zdv_l, g, p, Bool.false_eq_true, if_false, Nat.add_zero]
theorem d_isDigit (R : dR h D B al S X) {T : List Nat} (hT : dTx T X) {i : Nat} (hi : X.i = nI i) (hl : i ≤ T.length) : zc PG mX1_isDigit [.ref D] h = some (.inl (some (.int (zb (kisd T i)))), h) := by
  obtain ⟨t1, t2, t3, t4⟩ := hT
  have g := dG R
  rw [hi, t1] at g
  unfold kisd
  by_cases e : i < T.length
  · have hb : T.getD i 0 < 256 := t4 _ (kget_mem e)
    have ld := t2 i e
    by_cases e2 : 48 ≤ T.getD i 0 ∧ T.getD i 0 ≤ 57
    · have ek := kbd_nI e2.1 e2.2 (by omega)
      rw [decide_eq_true ⟨e, e2⟩, zb_t]
      simp (disch := omega) only [eX1_isDigit, uX1_isDigit, zKK, zB, zBl, zBb, zlg, zA, zA3, zL3, km31, km63, klshr, kishr, k2p, kl1shl, klmask, kland1, kiand1, k_l2i, zrt_b, zrt_0, zrt_1, zdv_n, zdv_l, g, ld, d_inN, ek]
    · have ek := kbd_f (kbt_n (k := T.getD i 0) (lo := 48) (hi := 57) (by omega) (by omega))
      rw [decide_eq_false (fun q => e2 q.2), zb_f]
      simp (disch := omega) only [eX1_isDigit, uX1_isDigit, zKK, zB, zBl, zBb, zlg, zA, zA3, zL3, km31, km63, klshr, kishr, k2p, kl1shl, klmask, kland1, kiand1, k_l2i, zrt_b, zrt_0, zrt_1, zdv_n, zdv_l, g, ld, d_inN, ek]
  · rw [decide_eq_false (fun q => e q.1), zb_f]
    simp (disch := omega) only [eX1_isDigit, uX1_isDigit, zKK, zB, zBl, zBb, zlg, zA, zA3, zL3, km31, km63, klshr, kishr, k2p, kl1shl, klmask, kland1, kiand1, k_l2i, zrt_b, zrt_0, zrt_1, zdv_n, zdv_l, g]
theorem d_wrong (R : dR h D B al S X) {i : Nat} (hi : X.i = nI i) : zc PG mX1_wrong [.ref D] h = some (.inl (some (.int (-2000 - nI i))), h) := by
  have g := dG R
  rw [hi] at g
  simp (disch := omega) only [eX1_wrong, uX1_wrong, zKK, zB, zBl, zBb, zlg, zA, zA3, zL3, km31, km63, klshr, kishr, k2p, kl1shl, klmask, kland1, kiand1, k_l2i, zrt_b, zrt_0, zrt_1, zdv_n, zdv_l, g]
/-- digits of a number -/
theorem d_num_loop {T : List Nat} (s : Int32) (n : Nat) : ∀ (i : Nat) (v : Int32) (h : zH) (X : dX), n ≤ 9 → dR h D B al S X → dTx T X → X.i = nI i → i ≤ T.length → ∃ h', zs PG mX1_numberTold 27 [.ref D, .int s, .int v, .int (nI (9 - n))] [] h = some (.inl (some (.int (s * (knm T n i v).2))), h') ∧ dR h' D B al S (nI (knm T n i v).1, X.2) ∧ hF (dE D) 0 0 h h' := by
  induction n with
  | zero =>
    intro i v h X hn R hT hi hl
    refine ⟨h, ?_, by rw [knm, ← hi]; exact R, hF.rf R.w _⟩
    rw [uX1_numberTold_at27, knm]
    simp (disch := omega) only [uX1_numberTold, zKK, zB, zBl, zBb, zlg, zA, zA3, zL3, km31, km63, klshr, kishr, k2p, kl1shl, klmask, kland1, kiand1, k_l2i, zrt_b, zrt_0, zrt_1, zdv_n, zdv_l]
  | succ n ih =>
    intro i v h X hn R hT hi hl
    have dg := d_isDigit R hT hi hl
    have g := dG R
    rw [hi] at g
    unfold knm
    cases e : kisd T i with
    | false =>
      rw [e] at dg
      refine ⟨h, ?_, by rw [if_neg Bool.false_ne_true, ← hi]; exact R, hF.rf R.w _⟩
      rw [uX1_numberTold_at27, if_neg Bool.false_ne_true]
      simp (disch := omega) only [uX1_numberTold, zKK, zB, zBl, zBb, zlg, zA, zA3, zL3, km31, km63, klshr, kishr, k2p, kl1shl, klmask, kland1, kiand1, k_l2i, zrt_b, zrt_0, zrt_1, zdv_n, zdv_l, g, dg]
    | true =>
      rw [e] at dg
      have e' : i < T.length ∧ 48 ≤ T.getD i 0 ∧ T.getD i 0 ≤ 57 := of_decide_eq_true e
      have t3 := hT.2.2.1
      have ld := hT.2.1 i e'.1
      obtain ⟨p1, R1, F1⟩ := R.at (nI (i + 1))
      obtain ⟨h', r1, r2, r3⟩ := ih (i + 1) (nI 10 * v + nI (T.getD i 0) - nI 48) _ _ (by omega) R1 hT rfl (by omega)
      rw [if_pos rfl]
      refine ⟨h', ?_, r2, F1.tr1 r3⟩
      rw [show 9 - n = 9 - (n + 1) + 1 by omega] at r1
      rw [uX1_numberTold_at27, ← r1]
      simp (disch := omega) only [uX1_numberTold, zKK, zB, zBb, zA, g, dg, ld, p1]
theorem kmul1 (x : Int32) : nI 1 * x = x := by
  apply Int32.toBitVec_inj.mp
  show 1#32 * x.toBitVec = x.toBitVec
  exact BitVec.one_mul _
theorem kmulN (x : Int32) : (-1) * x = -x := by
  have : (-1 : Int32) * x = -(1 * x) := Int32.neg_mul 1 x
  rw [this, Int32.one_mul]
theorem d_numberTold1 (R : dR h D B al S X) {T : List Nat} (hT : dTx T X) {i : Nat} (hi : X.i = nI i) (hl : i ≤ T.length) (e : kisd T (ki1 T i) = true) : ∃ h', zc PG mX1_numberTold [.ref D] h = some (.inl (some (.int (kval T i))), h') ∧ dR h' D B al S (nI (knm T 9 (ki1 T i) (nI 0)).1, X.2) ∧ hF (dE D) 0 0 h h' := by
  have tk := d_takesC R hT hi hl (c := 45) (by omega)
  have ek : kchr T i 45 = kneg T i := rfl
  have e1 : (if kneg T i = true then i + 1 else i) = ki1 T i := rfl
  rw [ek, e1] at tk
  obtain ⟨p1, R1, F1⟩ := R.at (nI (ki1 T i))
  have l1 := (ki1_le hl).2
  have dg := d_isDigit R1 (T := T) hT rfl l1
  have g := dG R
  have g1 := dG R1
  rw [e] at dg
  unfold kval
  cases en : kneg T i with
  | false =>
    rw [en] at tk
    obtain ⟨h2, r1, r2, r3⟩ := d_num_loop (T := T) (nI 1) 9 (ki1 T i) (nI 0) _ _ (Nat.le_refl _) R1 hT rfl l1
    rw [Nat.sub_self, kmul1] at r1
    refine ⟨h2, ?_, r2, F1.tr1 r3⟩
    rw [if_neg Bool.false_ne_true]
    simp (disch := omega) only [eX1_numberTold, uX1_numberTold, zKK, zB, zBl, zBb, zlg, zA, zA3, zL3, km31, km63, klshr, kishr, k2p, kl1shl, klmask, kland1, kiand1, k_l2i, zrt_b, zrt_0, zrt_1, zdv_n, zdv_l, g, tk, g1, dg, zb_t, d_must1, r1]
  | true =>
    rw [en] at tk
    obtain ⟨h2, r1, r2, r3⟩ := d_num_loop (T := T) (-1) 9 (ki1 T i) (nI 0) _ _ (Nat.le_refl _) R1 hT rfl l1
    rw [Nat.sub_self, kmulN] at r1
    refine ⟨h2, ?_, r2, F1.tr1 r3⟩
    rw [if_pos rfl]
    simp (disch := omega) only [eX1_numberTold, uX1_numberTold, zKK, zB, zBl, zBb, zlg, zA, zA3, zL3, km31, km63, klshr, kishr, k2p, kl1shl, klmask, kland1, kiand1, k_l2i, zrt_b, zrt_0, zrt_1, zdv_n, zdv_l, g, tk, g1, dg, zb_t, d_must1, r1]
theorem d_numberTold0 (R : dR h D B al S X) {T : List Nat} (hT : dTx T X) {i : Nat} (hi : X.i = nI i) (hl : i ≤ T.length) (e : kisd T (ki1 T i) = false) : ∃ h', zc PG mX1_numberTold [.ref D] h = some (.inr 4, h') ∧ dR h' D B al S (nI (ki1 T i), X.2) ∧ hF (dE D) 1 6 h h' := by
  have tk := d_takesC R hT hi hl (c := 45) (by omega)
  have ek : kchr T i 45 = kneg T i := rfl
  have e1 : (if kneg T i = true then i + 1 else i) = ki1 T i := rfl
  rw [ek, e1] at tk
  obtain ⟨p1, R1, F1⟩ := R.at (nI (ki1 T i))
  have l1 := (ki1_le hl).2
  have dg := d_isDigit R1 (T := T) hT rfl l1
  have g := dG R
  have g1 := dG R1
  rw [e] at dg
  obtain ⟨h2, m1, F2⟩ := d_must0 R1
  refine ⟨h2, ?_, R1.nw F2, F1.tr1 F2.new⟩
  cases en : kneg T i with
  | false => rw [en] at tk; simp (disch := omega) only [eX1_numberTold, uX1_numberTold, zKK, zB, zBl, zBb, zlg, zA, zA3, zL3, km31, km63, klshr, kishr, k2p, kl1shl, klmask, kland1, kiand1, k_l2i, zrt_b, zrt_0, zrt_1, zdv_n, zdv_l, g, tk, g1, dg, zb_f, m1]
  | true => rw [en] at tk; simp (disch := omega) only [eX1_numberTold, uX1_numberTold, zKK, zB, zBl, zBb, zlg, zA, zA3, zL3, km31, km63, klshr, kishr, k2p, kl1shl, klmask, kland1, kiand1, k_l2i, zrt_b, zrt_0, zrt_1, zdv_n, zdv_l, g, tk, g1, dg, zb_f, m1]
/-- the things read so far -/
def dTg (L : List Int32) (X : dX) : Prop := X.n = L.length ∧ ∀ k, k < L.length → X.g k = L.getD k 0
theorem d_thing_put (R : dR h D B al S X) {L : List Int32} (hG : dTg L X) (hn : L.length < 600) (v : Int32) : ∃ h1 h2 X', zast h (D + 32) 0 (nI L.length) (.int v) = some h1 ∧ zget h1 D 1 10 = some (.int (nI L.length)) ∧ zput h1 D 1 10 0 (.int (nI (L.length + 1))) = some h2 ∧ dR h2 D B al S X' ∧ dTg (L ++ [v]) X' ∧ X'.i = X.i ∧ X'.e = X.e ∧ X'.x = X.x ∧ hF (dE D) 0 0 h h2 := by
  have hlt := R.lt
  have s1 := zast_u R.th (i := L.length) (v := .int v) hn (by omega) rfl rfl
  have hf : zfu (fun k => .int (X.g k)) L.length (.int v) = fun k => .int (va_up X.g L.length v k) := by
    funext y
    unfold zfu va_up
    by_cases q : y = L.length
    · rw [if_pos q, if_pos q]
    · rw [if_neg q, if_neg q]
  rw [hf] at s1
  have R1 : dR (zup h (D + 32) (.inl (0, 600, fun k => .int (va_up X.g L.length v k)))) D B al S (X.1, X.2.1, X.2.2.1, va_up X.g L.length v, X.2.2.2.2.1, X.2.2.2.2.2) := by
    refine R.arr (a := 32) (by omega) _ _ rfl rfl (zup_s _ _ _) ?_ ?_ (fun k => R.xt) (fun k => R.wr)
    · rw [zup_o _ _ (by omega)]; exact R.tx
    · rw [zup_o _ _ (by omega)]; exact R.rw
  have g1 := dG R1
  have R2 : dR (hD (zup h (D + 32) (.inl (0, 600, fun k => .int (va_up X.g L.length v k)))) D S (X.1, X.2.1, L.length + 1, va_up X.g L.length v, X.2.2.2.2.1, X.2.2.2.2.2)) D B al S (X.1, X.2.1, L.length + 1, va_up X.g L.length v, X.2.2.2.2.1, X.2.2.2.2.2) := R1.fld rfl rfl rfl rfl (fun k => R.xt) (fun k => R.wr)
  refine ⟨_, _, _, s1, ?_, (dP R1).2.2.2.2 (L.length + 1), R2, ⟨by rw [List.length_append]; rfl, fun k hk => ?_⟩, rfl, rfl, rfl, ?_⟩
  · have := g1.2.2.2.2.2.2.2.2.1
    rw [this]
    show some (Value.int (nI X.n)) = _
    rw [hG.1]
  · rw [List.length_append, List.length_singleton] at hk
    show va_up X.g L.length v k = _
    rw [kapp_get32]
    unfold va_up
    by_cases e : k = L.length
    · rw [if_pos e, if_neg (by omega), if_pos e]
    · rw [if_neg e, if_pos (by omega), hG.2 k (by omega)]
  · exact ((hF_up R.w (a := D + 32) (by omega) _).up (fun q _ z => show dE D q by unfold dE; omega) (Nat.le_refl _) (Nat.le_refl _)).tr1 ((hD_F R1 _ _).up (fun q _ z => show dE D q by unfold dE; omega) (Nat.le_refl _) (Nat.le_refl _))
theorem d_told_loop {T : List Nat} (f : Nat) : ∀ (i : Nat) (L : List Int32) (h : zH) (X : dX), dR h D B al S X → dTx T X → X.i = nI i → i ≤ T.length → T.length + 1 ≤ f + i → 2 * L.length ≤ i → dTg L X → ∃ h' X', ((∃ M, (kth T f i L).1 = some M ∧ zs PG mX1_thingsTold 12 [.ref D] [] h = some (.inl none, h') ∧ dTg M X' ∧ M.length ≤ 600) ∨ ((kth T f i L).1 = none ∧ zs PG mX1_thingsTold 12 [.ref D] [] h = some (.inr 4, h'))) ∧ dR h' D B al S X' ∧ X'.i = nI (kth T f i L).2 ∧ hF (dE D) 1 6 h h' := by
  induction f with
  | zero => intro i L h X R hT hi hl hf; omega
  | succ f ih =>
    intro i L h X R hT hi hl hf hL hG
    have h600 := hT.2.2.1
    obtain ⟨p1, p2⟩ := ki1_le hl
    obtain ⟨k1, k2, k3⟩ := knm_ge T 9 (ki1 T i) (nI 0)
    have k3 := k3 p2
    have g := dG R
    rw [hG.1] at g
    rw [uX1_thingsTold_at12]
    unfold kth
    cases e : kisd T (ki1 T i) with
    | false =>
      obtain ⟨h1, n1, R1, F1⟩ := d_numberTold0 R hT hi hl e
      simp only [Bool.false_eq_true, if_false]
      refine ⟨h1, _, Or.inr ⟨trivial, ?_⟩, R1, rfl, F1⟩
      simp (disch := omega) only [uX1_thingsTold, zKK, zB, zBl, zBb, zlg, zA, zA3, zL3, km31, km63, klshr, kishr, k2p, kl1shl, klmask, kland1, kiand1, k_l2i, zrt_b, zrt_0, zrt_1, zdv_n, zdv_l, g, n1]
    | true =>
      obtain ⟨h1, n1, R1, F1⟩ := d_numberTold1 R hT hi hl e
      simp only [if_true]
      have e' : ki1 T i < T.length := (of_decide_eq_true e).1
      have G1 : dTg L (nI (knm T 9 (ki1 T i) (nI 0)).1, X.2) := hG
      obtain ⟨h2, h3, X3, s1, s2, s3, R3, G3, x1, x2, x3, F3⟩ := d_thing_put R1 G1 (by omega) (kval T i)
      have hT3 : dTx T X3 := ⟨x2.trans hT.1, fun k hk => by rw [x3]; exact hT.2.1 k hk, hT.2.2⟩
      have hi3 : X3.i = nI (knm T 9 (ki1 T i) (nI 0)).1 := x1
      have tk := d_takesC R3 hT3 hi3 k3 (c := 44) (by omega)
      have g3 := dG R3
      have F13 : hF (dE D) 0 0 h h3 := F1.tr1 F3
      have up : ∀ {t : zH}, hF (dE D) 0 0 h t → hF (dE D) 1 6 h t := fun F => F.up (fun _ _ z => z) (by omega) (by omega)
      have fin : kchr T (knm T 9 (ki1 T i) (nI 0)).1 44 = false → ∃ h4 X4, zs PG mX1_thingsTold 12 [.ref D] [] h = zbk PG (zc PG mX1_must [.ref D, .int (zb (decide ((knm T 9 (ki1 T i) (nI 0)).1 = T.length)))] h4) none mX1_thingsTold 64 [.ref D] [] ∧ dR h4 D B al S X4 ∧ X4.i = nI (knm T 9 (ki1 T i) (nI 0)).1 ∧ dTg (L ++ [kval T i]) X4 ∧ hF (dE D) 0 0 h h4 := by
        intro ec
        rw [ec] at tk
        simp only [Bool.false_eq_true, if_false] at tk
        obtain ⟨-, R4, F4⟩ := R3.at (nI (knm T 9 (ki1 T i) (nI 0)).1)
        have g4 := dG R4
        have ge : zget (hD h3 D S (nI (knm T 9 (ki1 T i) (nI 0)).1, X3.2)) D 1 8 = some (.int (nI T.length)) := by
          rw [g4.2.2.2.2.2.2.1]
          show some (Value.int X3.e) = _
          rw [x2]
          show some (Value.int X.e) = _
          rw [hT.1]
        have gi : zget (hD h3 D S (nI (knm T 9 (ki1 T i) (nI 0)).1, X3.2)) D 1 7 = some (.int (nI (knm T 9 (ki1 T i) (nI 0)).1)) := g4.2.2.2.2.2.1
        refine ⟨_, _, ?_, R4, rfl, G3, F13.tr1 F4⟩
        rw [uX1_thingsTold_at12]
        by_cases e2 : (knm T 9 (ki1 T i) (nI 0)).1 = T.length
        · rw [decide_eq_true e2, zb_t]
          simp (disch := omega) only [uX1_thingsTold, zKK, zB, zBl, zBb, zlg, zA, zA3, zL3, km31, km63, klshr, kishr, k2p, kl1shl, klmask, kland1, kiand1, k_l2i, zrt_b, zrt_0, zrt_1, zdv_n, zdv_l, g, n1, s1, s2, s3, g3, tk, gi, ge, g4.2.2.2.2.2.2.2.2.2.2.2.1]
        · rw [decide_eq_false e2, zb_f]
          simp (disch := omega) only [uX1_thingsTold, zKK, zB, zBl, zBb, zlg, zA, zA3, zL3, km31, km63, klshr, kishr, k2p, kl1shl, klmask, kland1, kiand1, k_l2i, zrt_b, zrt_0, zrt_1, zdv_n, zdv_l, g, n1, s1, s2, s3, g3, tk, gi, ge, g4.2.2.2.2.2.2.2.2.2.2.2.1]
      rw [← uX1_thingsTold_at12]
      by_cases e2 : (knm T 9 (ki1 T i) (nI 0)).1 = T.length
      · obtain ⟨h4, X4, q1, R4, q2, q3, F4⟩ := fin (decide_eq_false (fun q => by have := q.1; omega))
        rw [if_pos e2]
        rw [decide_eq_true e2, zb_t] at q1
        refine ⟨h4, X4, Or.inl ⟨_, rfl, ?_, q3, by rw [List.length_append, List.length_singleton]; omega⟩, R4, by rw [q2, e2], up F4⟩
        rw [q1]
        simp (disch := omega) only [d_must1, uX1_thingsTold, zKK, zB, zBl, zBb, zlg, zA, zA3, zL3, km31, km63, klshr, kishr, k2p, kl1shl, klmask, kland1, kiand1, k_l2i, zrt_b, zrt_0, zrt_1, zdv_n, zdv_l]
      · rw [if_neg e2]
        have hlt : (knm T 9 (ki1 T i) (nI 0)).1 < T.length := by omega
        by_cases e3 : T.getD (knm T 9 (ki1 T i) (nI 0)).1 0 = 44
        · rw [if_pos e3]
          have ec : kchr T (knm T 9 (ki1 T i) (nI 0)).1 44 = true := decide_eq_true ⟨hlt, e3⟩
          rw [ec] at tk
          simp only [if_true] at tk
          obtain ⟨-, R4, F4⟩ := R3.at (nI ((knm T 9 (ki1 T i) (nI 0)).1 + 1))
          have hd1 : ki1 T i < (knm T 9 (ki1 T i) (nI 0)).1 := by
            rw [knm, e]
            simp only [if_true]
            have := (knm_ge T 8 (ki1 T i + 1) (nI 10 * nI 0 + nI (T.getD (ki1 T i) 0) - nI 48)).1
            omega
          obtain ⟨h', X', r1, r2, r3, r4⟩ := ih ((knm T 9 (ki1 T i) (nI 0)).1 + 1) (L ++ [kval T i]) _ _ R4 hT3 rfl (by omega) (by omega) (by rw [List.length_append, List.length_singleton]; omega) G3
          have step : zs PG mX1_thingsTold 12 [.ref D] [] h = zs PG mX1_thingsTold 12 [.ref D] [] (hD h3 D S (nI ((knm T 9 (ki1 T i) (nI 0)).1 + 1), X3.2)) := by
            rw [uX1_thingsTold_at12]
            simp (disch := omega) only [uX1_thingsTold, zKK, zB, zBl, zBb, zlg, zA, zA3, zL3, km31, km63, klshr, kishr, k2p, kl1shl, klmask, kland1, kiand1, k_l2i, zrt_b, zrt_0, zrt_1, zdv_n, zdv_l, g, n1, s1, s2, s3, g3, tk]
          rw [step]
          exact ⟨h', X', r1, r2, r3, (F13.tr1 F4).tr1 r4⟩
        · rw [if_neg e3]
          obtain ⟨h4, X4, q1, R4, q2, q3, F4⟩ := fin (decide_eq_false (fun q => e3 q.2))
          rw [decide_eq_false e2, zb_f] at q1
          obtain ⟨h5, m5, F5⟩ := d_must0 R4
          refine ⟨h5, X4, Or.inr ⟨rfl, ?_⟩, R4.nw F5, q2, F4.tr1 F5.new⟩
          rw [q1]
          simp (disch := omega) only [m5, zKK]
theorem d_thingsTold (R : dR h D B al S X) {T : List Nat} (hT : dTx T X) (hi : X.i = nI 0) : ∃ h' X', ((∃ M, (kpt T).1 = some M ∧ zc PG mX1_thingsTold [.ref D] h = some (.inl none, h') ∧ dTg M X' ∧ M.length ≤ 600) ∨ ((kpt T).1 = none ∧ zc PG mX1_thingsTold [.ref D] h = some (.inr 4, h'))) ∧ dR h' D B al S X' ∧ X'.i = nI (kpt T).2 ∧ hF (dE D) 1 6 h h' := by
  have p1 := (dP R).2.2.2.2 0
  have R1 : dR (hD h D S (X.1, X.2.1, 0, X.2.2.2)) D B al S (X.1, X.2.1, 0, X.2.2.2) := R.fld rfl rfl rfl rfl (fun k => R.xt) (fun k => R.wr)
  have F1 := (hD_F R S (X.1, X.2.1, 0, X.2.2.2)).up (B := dE D) (fun q _ z => show dE D q by unfold dE; omega) (Nat.le_refl _) (Nat.le_refl _)
  have g1 := dG R1
  have ge : zget (hD h D S (X.1, X.2.1, 0, X.2.2.2)) D 1 8 = some (.int (nI T.length)) := by
    rw [g1.2.2.2.2.2.2.1]
    show some (Value.int X.e) = _
    rw [hT.1]
  have gi : zget (hD h D S (X.1, X.2.1, 0, X.2.2.2)) D 1 7 = some (.int (nI 0)) := by
    rw [g1.2.2.2.2.2.1]
    show some (Value.int X.i) = _
    rw [hi]
  have h600 := hT.2.2.1
  unfold kpt
  by_cases e : T.length = 0
  · rw [if_pos e]
    rw [e] at ge
    refine ⟨_, _, Or.inl ⟨[], rfl, ?_, ⟨rfl, fun k hk => absurd hk (Nat.not_lt_zero _)⟩, Nat.zero_le _⟩, R1, hi, F1.up (fun _ _ z => z) (by omega) (by omega)⟩
    simp (disch := omega) only [eX1_thingsTold, uX1_thingsTold, zKK, zB, zBl, zBb, zlg, zA, zA3, zL3, km31, km63, klshr, kishr, k2p, kl1shl, klmask, kland1, kiand1, k_l2i, zrt_b, zrt_0, zrt_1, zdv_n, zdv_l, p1, ge, gi, g1.2.2.2.2.2.2.2.2.2.2.2.1, d_must1]
  · rw [if_neg e]
    obtain ⟨h', X', r1, r2, r3, r4⟩ := d_told_loop (T := T) (T.length + 1) 0 [] _ _ R1 hT hi (Nat.zero_le _) (by omega) (Nat.le_refl _) ⟨rfl, fun k hk => absurd hk (Nat.not_lt_zero _)⟩
    have st : zc PG mX1_thingsTold [.ref D] h = zs PG mX1_thingsTold 12 [.ref D] [] (hD h D S (X.1, X.2.1, 0, X.2.2.2)) := by
      simp (disch := omega) only [eX1_thingsTold, uX1_thingsTold, zKK, zB, zBl, zBb, zlg, zA, zA3, zL3, km31, km63, klshr, kishr, k2p, kl1shl, klmask, kland1, kiand1, k_l2i, zrt_b, zrt_0, zrt_1, zdv_n, zdv_l, p1, ge]
    rw [st]
    exact ⟨h', X', r1, r2, r3, F1.tr1 r4⟩
/-- a text is begun -/
theorem d_begins (R : dR h D B al S X) (hI : kSI S) : ∃ h' X', zc PG mX1_begins [.ref D] h = some (.inl none, h') ∧ dR h' D B al (S.s_t []) X' ∧ dTx S.t X' ∧ X'.i = nI 0 ∧ hF (dE D) 0 0 h h' := by
  have R1 : dR (hD h D S (X.1, nI S.t.length, X.2.2)) D B al S (X.1, nI S.t.length, X.2.2) := R.fld rfl rfl rfl rfl (fun k => R.xt) (fun k => R.wr)
  have R2 : dR (hD (hD h D S (X.1, nI S.t.length, X.2.2)) D (S.s_t []) (X.1, nI S.t.length, X.2.2)) D B al (S.s_t []) (X.1, nI S.t.length, X.2.2) := R1.fld rfl rfl rfl rfl (fun k hk => absurd hk (Nat.not_lt_zero _)) (fun k => R.wr)
  have R3 : dR (hD (hD (hD h D S (X.1, nI S.t.length, X.2.2)) D (S.s_t []) (X.1, nI S.t.length, X.2.2)) D (S.s_t []) (nI 0, nI S.t.length, X.2.2)) D B al (S.s_t []) (nI 0, nI S.t.length, X.2.2) := R2.fld rfl rfl rfl rfl (fun k hk => absurd hk (Nat.not_lt_zero _)) (fun k => R.wr)
  have p1 := (dP R).2.2.2.1 (nI S.t.length)
  have p2 := dP_t R1 (n := 0) [] rfl
  have p3 : zput (hD (hD h D S (X.1, nI S.t.length, X.2.2)) D (S.s_t []) (X.1, nI S.t.length, X.2.2)) D 1 7 0 (.int (nI 0)) = some (hD (hD (hD h D S (X.1, nI S.t.length, X.2.2)) D (S.s_t []) (X.1, nI S.t.length, X.2.2)) D (S.s_t []) (nI 0, nI S.t.length, X.2.2)) := (dP R2).2.2.1 (nI 0)
  have dd : ∀ q, q = D → dE D q := fun q z => by unfold dE; omega
  refine ⟨_, _, ?_, R3, ⟨rfl, fun k hk => R.xt hk, hI.2.1, hI.2.2.1⟩, rfl, (((hD_F R _ _).tr1 (hD_F R1 _ _)).tr1 (hD_F R2 _ _)).up (fun q _ z => dd q z) (Nat.le_refl _) (Nat.le_refl _)⟩
  simp (disch := omega) only [eX1_begins, uX1_begins, zKK, zB, zBl, zBb, zlg, zA, zA3, zL3, km31, km63, klshr, kishr, k2p, kl1shl, klmask, kland1, kiand1, k_l2i, zrt_b, zrt_0, zrt_1, zdv_n, zdv_l, dG R, p1, p2, p3]
end DR
