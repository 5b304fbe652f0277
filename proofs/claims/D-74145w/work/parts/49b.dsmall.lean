/-! THE COMPONENT: small methods, arrays that are passed, the row -/
theorem d_in (v lo hi : Int64) (h : zH) : zc PG mX1_in [.long v, .long lo, .long hi] h = some (.inl (some (.int (zb (decide (¬ v < lo ∧ ¬ hi < v))))), h) := by
  by_cases h1 : v < lo
  · simp only [eX1_in, uX1_in, zlg, h1, zKK, zrt_0, not_true_eq_false, false_and, decide_false, zb_f]
  · by_cases h2 : hi < v
    · simp only [eX1_in, uX1_in, zlg, h1, h2, zKK, zrt_0, not_true_eq_false, and_false, decide_false, zb_f]
    · simp only [eX1_in, uX1_in, zlg, h1, h2, zKK, zrt_1, not_false_eq_true, and_self, decide_true, zb_t]
theorem d_ini (x : Int32) {lo hi : Nat} (h1 : lo < 2147483648) (h2 : hi < 2147483648) (h : zH) : zc PG mX1_in [.long x.toInt64, .long (lN lo), .long (lN hi)] h = some (.inl (some (.int (zb (kbd x lo hi)))), h) := by
  rw [d_in, kbd_in h1 h2]
theorem d_inN {k lo hi : Nat} (hk : k < 2147483648) (h1 : lo < 2147483648) (h2 : hi < 2147483648) (h : zH) : zc PG mX1_in [.long (lN k), .long (lN lo), .long (lN hi)] h = some (.inl (some (.int (zb (kbd (nI k) lo hi)))), h) := by
  rw [← nI_l hk, d_ini _ h1 h2]
theorem d_isP (p : Int32) (h : zH) : zc PG mX1_isP [.int p] h = some (.inl (some (.int (zb (kbd p 4 8)))), h) := by
  simp (disch := omega) only [eX1_isP, uX1_isP, d_ini, zKK, zrt_b]
theorem d_isSet (c : Int32) (h : zH) : zc PG mX1_isSet [.int c] h = some (.inl (some (.int (zb (kbd c 1 63)))), h) := by
  simp (disch := omega) only [eX1_isSet, uX1_isSet, d_ini, zKK, zrt_b]
/-! an array that was made last -/
theorem zald_ps (h : zH) {t n m i : Nat} {g : Nat → Value} (hi : i < n) (hn : n < 2147483648) : zald (zpush h (.inl (t, n, g)) m) h.2.1 t (nI i) = some (g i) := zald_k (zpush_s _ _ _) hi hn
theorem zlen_ps (h : zH) (t n m : Nat) (g : Nat → Value) : zlen (zpush h (.inl (t, n, g)) m) h.2.1 = some (.int (nI n)) := by unfold zlen; rw [zpush_s]
theorem zast_p {h : zH} {t n m i : Nat} {g : Nat → Value} {v u : Value} (hi : i < n) (hn : n < 2147483648) (hv : zasg (zpush h (.inl (t, n, g)) m) t v = true) (hu : znar t v = some u) : zast (zpush h (.inl (t, n, g)) m) h.2.1 t (nI i) v = some (zpush h (.inl (t, n, zfu g i u)) m) := by
  unfold zast
  rw [zpush_s]
  dsimp only
  rw [if_pos ⟨rfl, kNb hi hn, hv⟩, nI_clamp (by omega), hu]
  show some (zup (zpush h (.inl (t, n, g)) m) h.2.1 _) = _
  rw [zup_ps]
theorem zast_p0 (h : zH) {n m i : Nat} {g : Nat → Value} {x : Int32} (hi : i < n) (hn : n < 2147483648) : zast (zpush h (.inl (0, n, g)) m) h.2.1 0 (nI i) (.int x) = some (zpush h (.inl (0, n, zfu g i (.int x))) m) := zast_p hi hn rfl rfl
theorem zast_p2 (h : zH) {n m i : Nat} {g : Nat → Value} {x : Int64} (hi : i < n) (hn : n < 2147483648) : zast (zpush h (.inl (2, n, g)) m) h.2.1 2 (nI i) (.long x) = some (zpush h (.inl (2, n, zfu g i (.long x))) m) := zast_p hi hn rfl rfl
theorem zast_p3 {h : zH} {D a : Nat} {C : kC} (w : hW h) (e : cN h D a C) {n m i : Nat} {g : Nat → Value} (hi : i < n) (hn : n < 2147483648) : zast (zpush h (.inl (3, n, g)) m) h.2.1 3 (nI i) (.ref a) = some (zpush h (.inl (3, n, zfu g i (.ref a))) m) := by
  refine zast_p hi hn ?_ rfl
  obtain ⟨k, f, e1, -, -⟩ := e
  exact zasg3 (zpush_f w _ _ e1.1)
theorem zfu_s (f : Nat → Value) (k : Nat) (v : Value) : zfu f k v k = v := if_pos rfl
theorem zfu_o (f : Nat → Value) {k j : Nat} (v : Value) (h : j ≠ k) : zfu f k v j = f j := if_neg h
/-- counters that are named -/
def hv1 (h : zH) (x : Int32) : zH := zpush h (.inl (0, 1, zfu (fun _ => zdef 0) 0 (.int x))) 1
def hv2 (h : zH) (x y : Int32) : zH := zpush h (.inl (0, 2, zfu (zfu (fun _ => zdef 0) 0 (.int x)) 1 (.int y))) 2
def hv3 (h : zH) (x y z : Int32) : zH := zpush h (.inl (0, 3, zfu (zfu (zfu (fun _ => zdef 0) 0 (.int x)) 1 (.int y)) 2 (.int z))) 3
theorem hv1_F {h : zH} (w : hW h) (x : Int32) : hF hN 1 1 h (hv1 h x) := hF_push w _ _
theorem hv2_F {h : zH} (w : hW h) (x y : Int32) : hF hN 1 2 h (hv2 h x y) := hF_push w _ _
theorem hv3_F {h : zH} (w : hW h) (x y z : Int32) : hF hN 1 3 h (hv3 h x y z) := hF_push w _ _
theorem d_are1 (h : zH) (x : Int32) : zc PG mX1_are [.ref h.2.1] (zpush h (.inl (0, 1, zfu (fun _ => zdef 0) 0 (.int x))) 1) = some (.inl (some (.int (zb (kbd x 0 5)))), hv1 h x) := by
  show _ = some (_, zpush h (.inl (0, 1, zfu (fun _ => zdef 0) 0 (.int x))) 1)
  cases e : kbd x 0 5 <;> simp (disch := omega) only [eX1_are, uX1_are, uX1_are_at10, zKK, zB, zBl, zBb, zlg, zA, zA3, zL3, km31, km63, klshr, kishr, k2p, kl1shl, klmask, kland1, kiand1, k_l2i, zrt_b, zrt_0, zrt_1, zdv_n, zdv_l, zlen_ps, zald_ps, zfu_s, d_ini, e, zb_t, zb_f]
theorem d_are2 (h : zH) (x y : Int32) : zc PG mX1_are [.ref h.2.1] (zpush h (.inl (0, 2, zfu (zfu (fun _ => zdef 0) 0 (.int x)) 1 (.int y))) 2) = some (.inl (some (.int (zb (kbd x 0 5 && kbd y 0 5)))), hv2 h x y) := by
  show _ = some (_, zpush h (.inl (0, 2, zfu (zfu (fun _ => zdef 0) 0 (.int x)) 1 (.int y))) 2)
  cases e : kbd x 0 5 <;> cases e2 : kbd y 0 5 <;> simp (disch := omega) only [eX1_are, uX1_are, uX1_are_at10, zKK, zB, zBl, zBb, zlg, zA, zA3, zL3, km31, km63, klshr, kishr, k2p, kl1shl, klmask, kland1, kiand1, k_l2i, zrt_b, zrt_0, zrt_1, zdv_n, zdv_l, zlen_ps, zald_ps, zfu_s, zfu_o, d_ini, e, e2, zb_t, zb_f, Bool.and_true, Bool.and_false]
theorem d_are3 (h : zH) (x y z : Int32) : zc PG mX1_are [.ref h.2.1] (zpush h (.inl (0, 3, zfu (zfu (zfu (fun _ => zdef 0) 0 (.int x)) 1 (.int y)) 2 (.int z))) 3) = some (.inl (some (.int (zb (kbd x 0 5 && kbd y 0 5 && kbd z 0 5)))), hv3 h x y z) := by
  show _ = some (_, zpush h (.inl (0, 3, zfu (zfu (zfu (fun _ => zdef 0) 0 (.int x)) 1 (.int y)) 2 (.int z))) 3)
  cases e : kbd x 0 5 <;> cases e2 : kbd y 0 5 <;> cases e3 : kbd z 0 5 <;> simp (disch := omega) only [eX1_are, uX1_are, uX1_are_at10, zKK, zB, zBl, zBb, zlg, zA, zA3, zL3, km31, km63, klshr, kishr, k2p, kl1shl, klmask, kland1, kiand1, k_l2i, zrt_b, zrt_0, zrt_1, zdv_n, zdv_l, zlen_ps, zald_ps, zfu_s, zfu_o, d_ini, e, e2, e3, zb_t, zb_f, Bool.and_true, Bool.and_false]
/-! marks, the row -/
section DR
variable {h h' : zH} {D B : Nat} {al : Nat → Nat} {S : kS} {X : dX}
theorem d_markOf (R : dR h D B al S X) (t : Int32) : zc PG mX1_markOf [.ref D, .int t] h = some (.inl (some (.int (nI (kmk S t)))), h) := by
  rw [kmk_nI]
  simp only [eX1_markOf, uX1_markOf, dG R, zKK]
/-- D's own cells -/
def dE (D : Nat) : Nat → Prop := fun q => D ≤ q ∧ q < D + 34
theorem dE_A {D B q : Nat} (h : dE D q) : dA D B q := Or.inl h
theorem d_notes {W : List Int64} (R : dR h D B al (S.s_w W) X) (hW : W.length < 6) (v : Int64) : ∃ h' X', zc PG mX1_notes [.ref D, .long v] h = some (.inl none, h') ∧ dR h' D B al (S.s_w (W ++ [v])) X' ∧ hF (dE D) 0 0 h h' := by
  have hl : (S.s_w W).w.length = W.length := rfl
  have w := R.w
  have hlt := R.lt
  have hs : zast h (D + 33) 2 (nI W.length) (.long v) = some (zup h (D + 33) (.inl (2, 6, fun k => .long (va_up X.r W.length v k)))) := by
    unfold zast
    rw [R.rw]
    dsimp only
    rw [if_pos ⟨rfl, kNb hW (by decide), rfl⟩, nI_clamp (by omega)]
    show some (zup h (D + 33) (.inl (2, 6, zfu (fun k => .long (X.r k)) W.length (.long v)))) = _
    congr 3
    refine Prod.ext rfl (Prod.ext rfl (funext fun y => ?_))
    show (if y = W.length then Value.long v else .long (X.r y)) = .long (if y = W.length then v else X.r y)
    by_cases q : y = W.length
    · rw [if_pos q, if_pos q]
    · rw [if_neg q, if_neg q]
  have R1 : dR (zup h (D + 33) (.inl (2, 6, fun k => .long (va_up X.r W.length v k)))) D B al (S.s_w W) (X.1, X.2.1, X.2.2.1, X.2.2.2.1, X.2.2.2.2.1, va_up X.r W.length v) := by
    refine R.arr (a := 33) (by omega) _ _ rfl rfl ?_ ?_ (zup_s _ _ _) (fun k => R.xt) (fun k hk => ?_)
    · rw [zup_o _ _ (by omega)]; exact R.th
    · rw [zup_o _ _ (by omega)]; exact R.tx
    · have hk : k < W.length := hk
      show va_up X.r W.length v k = _
      unfold va_up
      rw [if_neg (by omega)]
      exact R.wr hk
  have R2 := R1.fld (S' := S.s_w (W ++ [v])) (X' := (X.1, X.2.1, X.2.2.1, X.2.2.2.1, X.2.2.2.2.1, va_up X.r W.length v)) rfl rfl rfl rfl (fun k => R.xt) (fun k hk => by
    have hk : k < (W ++ [v]).length := hk
    rw [List.length_append, List.length_singleton] at hk
    show va_up X.r W.length v k = (W ++ [v]).getD k 0
    unfold va_up
    by_cases e : k = W.length
    · rw [if_pos e, e, List.getD_eq_getElem?_getD, List.getElem?_append_right (Nat.le_refl _), Nat.sub_self]; rfl
    · rw [if_neg e, show X.r k = W.getD k 0 from R.wr (show k < (S.s_w W).w.length by rw [hl]; omega), List.getD_eq_getElem?_getD, List.getD_eq_getElem?_getD, List.getElem?_append_left (by omega)])
  have p2 := dP_w R1 (W ++ [v]) (n := W.length + 1) (by rw [List.length_append]; rfl)
  have g1 := dG R
  have g2 := dG R1
  rw [hl] at g1 g2
  refine ⟨_, _, ?_, R2, ?_⟩
  · simp (disch := omega) only [eX1_notes, uX1_notes, zKK, zB, zBl, zBb, zlg, zA, zA3, zL3, km31, km63, klshr, kishr, k2p, kl1shl, klmask, kland1, kiand1, k_l2i, zrt_b, zrt_0, zrt_1, zdv_n, zdv_l, g1, hs, g2, p2]
    rfl
  · exact ((hF_up w (a := D + 33) (by omega) _).up (fun q _ z => show dE D q by unfold dE; omega) (Nat.le_refl _) (Nat.le_refl _)).tr1 ((hD_F R1 _ _).up (fun q _ z => show dE D q by unfold dE; omega) (Nat.le_refl _) (Nat.le_refl _))
theorem d_notes_loop {b n : Nat} {g : Nat → Value} {W : List Int64} (hWn : W.length = n) (h6 : n ≤ 6) (hg : ∀ i, i < n → g i = .long (W.getD i 0)) (k : Nat) : ∀ (i : Nat) (h : zH) (X : dX) (u : Value), i + k = n → D + 34 ≤ b → h.1 b = some (true, .inl (2, n, g)) → dR h D B al (S.s_w (W.take i)) X → ∃ h' X', zs PG mX1_notesRow 13 [.ref D, .ref b, .ref b, .int (nI n), .int (nI i), u, zJ] [] h = some (.inl none, h') ∧ dR h' D B al (S.s_w W) X' ∧ hF (dE D) 0 0 h h' := by
  induction k with
  | zero =>
    intro i h X u hi hb hc R
    have hi : i = n := hi
    rw [hi, ← hWn, List.take_length] at R
    refine ⟨h, X, ?_, R, hF.rf R.w _⟩
    rw [uX1_notesRow_at13, hi]
    simp (disch := omega) only [uX1_notesRow, zKK, zB, zBl, zBb, zlg, zA, zA3, zL3, km31, km63, klshr, kishr, k2p, kl1shl, klmask, kland1, kiand1, k_l2i, zrt_b, zrt_0, zrt_1, zdv_n, zdv_l]
  | succ k ih =>
    intro i h X u hi hb hc R
    have hl : (W.take i).length = i := by rw [List.length_take]; omega
    obtain ⟨h1, X1, p1, R1, F1⟩ := d_notes R (by omega) (W.getD i 0)
    have et : W.take (i + 1) = W.take i ++ [W.getD i 0] := by
      rw [List.take_succ, List.getD_eq_getElem?_getD, List.getElem?_eq_getElem (by omega)]
      rfl
    rw [← et] at R1
    obtain ⟨h', X', r1, R2, F2⟩ := ih (i + 1) h1 X1 (.long (W.getD i 0)) (by omega) hb (F1.at R.w hc (fun z => by unfold dE at z; omega)) R1
    refine ⟨h', X', ?_, R2, F1.tr1 F2⟩
    have e1 := zald_k hc (i := i) (by omega) (by omega)
    rw [hg i (by omega)] at e1
    rw [← r1, uX1_notesRow_at13]
    simp (disch := omega) only [uX1_notesRow, zKK, zB, zBl, zBb, zlg, zA, zA3, zL3, km31, km63, klshr, kishr, k2p, kl1shl, klmask, kland1, kiand1, k_l2i, zrt_b, zrt_0, zrt_1, zdv_n, zdv_l, e1, dG R, p1]
/-- the row is told anew -/
theorem d_notesRow (R : dR h D B al S X) {n : Nat} {g : Nat → Value} (W : List Int64) (hWn : W.length = n) (h6 : n ≤ 6) (hg : ∀ i, i < n → g i = .long (W.getD i 0)) : ∃ h' X', zc PG mX1_notesRow [.ref D, .ref h.2.1] (zpush h (.inl (2, n, g)) n) = some (.inl none, h') ∧ dR h' D B al (S.s_w W) X' ∧ hF (dE D) 1 n h h' := by
  have f0 := hF_push R.w (.inl (2, n, g)) n
  have R0 := R.nw f0
  have p1 := dP_w R0 [] (n := 0) rfl
  have R1 := R0.fld (S' := S.s_w []) (X' := X) rfl rfl rfl rfl (fun k => R.xt) (fun k hk => absurd hk (Nat.not_lt_zero _))
  have F1 := hD_F R0 (S.s_w []) X
  have hlt := R.lt
  obtain ⟨h', X', r1, R2, F2⟩ := d_notes_loop (b := h.2.1) hWn h6 hg n 0 _ X zJ (Nat.zero_add _) hlt (F1.at R0.w (zpush_s _ _ _) (by omega)) R1
  refine ⟨h', X', ?_, R2, ?_⟩
  · have el : zlen (hD (zpush h (.inl (2, n, g)) n) D (S.s_w []) X) h.2.1 = some (.int (nI n)) := by
      unfold zlen
      rw [F1.at R0.w (zpush_s _ _ _) (by omega)]
    rw [← r1]
    simp (disch := omega) only [eX1_notesRow, uX1_notesRow, zKK, zB, zBl, zBb, zlg, zA, zA3, zL3, km31, km63, klshr, kishr, k2p, kl1shl, klmask, kland1, kiand1, k_l2i, zrt_b, zrt_0, zrt_1, zdv_n, zdv_l, p1, el]
  · exact (f0.new.tr1 (F1.up (fun q _ z => show dE D q by unfold dE; omega) (Nat.le_refl _) (Nat.le_refl _))).tr1 F2
end DR
theorem zg1 (v : Int64) : ∀ i, i < 1 → zfu (fun _ => zdef 2) 0 (.long v) i = .long ([v].getD i 0) := by
  intro i hi
  have : i = 0 := by omega
  subst this
  rfl
theorem zg2 (u v : Int64) : ∀ i, i < 2 → zfu (zfu (fun _ => zdef 2) 0 (.long u)) 1 (.long v) i = .long ([u, v].getD i 0) := by
  intro i hi
  match i, hi with
  | 0, _ => rfl
  | 1, _ => rfl
theorem zg3 (u v w : Int64) : ∀ i, i < 3 → zfu (zfu (zfu (fun _ => zdef 2) 0 (.long u)) 1 (.long v)) 2 (.long w) i = .long ([u, v, w].getD i 0) := by
  intro i hi
  match i, hi with
  | 0, _ => rfl
  | 1, _ => rfl
  | 2, _ => rfl
section DR
variable {h h1 : zH} {D B : Nat} {al : Nat → Nat} {S : kS} {X : dX}
theorem d_row1 (R : dR h D B al S X) (v : Int64) : ∃ h' X', zc PG mX1_notesRow [.ref D, .ref h.2.1] (zpush h (.inl (2, 1, zfu (fun _ => zdef 2) 0 (.long v))) 1) = some (.inl none, h') ∧ dR h' D B al (S.s_w [v]) X' ∧ hF (dE D) 1 1 h h' := d_notesRow R (n := 1) [v] rfl (by omega) (zg1 v)
theorem d_row2 (R : dR h D B al S X) (u v : Int64) : ∃ h' X', zc PG mX1_notesRow [.ref D, .ref h.2.1] (zpush h (.inl (2, 2, zfu (zfu (fun _ => zdef 2) 0 (.long u)) 1 (.long v))) 2) = some (.inl none, h') ∧ dR h' D B al (S.s_w [u, v]) X' ∧ hF (dE D) 1 2 h h' := d_notesRow R (n := 2) [u, v] rfl (by omega) (zg2 u v)
theorem d_row3 (R : dR h D B al S X) (u v w : Int64) : ∃ h' X', zc PG mX1_notesRow [.ref D, .ref h.2.1] (zpush h (.inl (2, 3, zfu (zfu (zfu (fun _ => zdef 2) 0 (.long u)) 1 (.long v)) 2 (.long w))) 3) = some (.inl none, h') ∧ dR h' D B al (S.s_w [u, v, w]) X' ∧ hF (dE D) 1 3 h h' := d_notesRow R (n := 3) [u, v, w] rfl (by omega) (zg3 u v w)
/-- what is read behind one more cell -/
theorem dGp (R : dR h D B al S X) (e : zE) (n : Nat) : zget (zpush h e n) D 1 2 = some (.int S.a) ∧ zget (zpush h e n) D 1 3 = some (.int S.b) ∧ zget (zpush h e n) D 1 4 = some (.ref (D + 12)) ∧ zis (zpush h e n) D 1 = true ∧ (∀ c, c < 6 → zald (zpush h e n) (D + 12) 3 (nI c) = some (.ref (al c))) := by
  have g := dG (R.nw (hF_push R.w e n))
  exact ⟨g.1, g.2.1, g.2.2.1, g.2.2.2.2.2.2.2.2.2.2.2.1, g.2.2.2.2.2.2.2.2.2.2.2.2.1⟩
theorem nGp {a : Nat} {C : kC} (w : hW h) (c : cN h D a C) (e : zE) (n : Nat) : zget (zpush h e n) a 2 0 = some (.int (nI C.p)) ∧ zget (zpush h e n) a 2 1 = some (.int (nI C.l)) ∧ zget (zpush h e n) a 2 3 = some (.ref (a + 2)) ∧ zget (zpush h e n) a 2 5 = some (.int (zb C.d)) ∧ zis (zpush h e n) a 2 = true ∧ (∀ x, x < 256 → zald (zpush h e n) (a + 2) 4 (nI x) = some (.int (nI (C.r x)))) ∧ zc PG mX2_m [.ref a] (zpush h e n) = some (.inl (some (.int (nI (2 ^ C.p)))), zpush h e n) ∧ zc PG mX2_empty [.ref a] (zpush h e n) = some (.inl (some (.int (nI (kz C)))), zpush h e n) := by
  have c1 := c.nw w (hF_push w e n)
  have g := nG c1
  exact ⟨g.1, g.2.1, g.2.2.2.1, g.2.2.2.2.1, g.2.2.2.2.2.2.1, g.2.2.2.2.2.2.2, n_m c1, n_empty c1⟩
theorem nTp {a : Nat} {C : kC} (w : hW h) (c : cN h D a C) (t : dT h D) (e : zE) (n : Nat) : zc PG mX2_how [.ref a] (zpush h e n) = some (.inl (some (.int (nI (khow C.p (kz C))))), zpush h e n) ∧ zc PG mX2_guess [.ref a] (zpush h e n) = some (.inl (some (.int (nI (kguess C)))), zpush h e n) := by
  have f := hF_push w e n
  exact ⟨n_how (c.nw w f) (t.nw w f), n_guess (c.nw w f) (t.nw w f)⟩
end DR
