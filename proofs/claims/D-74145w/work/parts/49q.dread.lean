/-! THE COMPONENT: marks and ranks read, reads -/
theorem eX1_marksTold (a0 a1 : Nat) (h : zH) : zc PG mX1_marksTold [.ref a0, .ref a1] h = zs PG mX1_marksTold 0 [.ref a0, .ref a1, zJ, zJ] [] h := zc_eq (q := (4, pX1_marksTold)) rfl rfl (Nat.le_of_ble_eq_true rfl)
theorem kor16 {v d : Nat} (hd : d < 16) : nI v <<< nI 4 ||| nI d = nI (16 * v + d) := by
  have h1 := Nat.two_pow_add_eq_or_of_lt (i := 4) (b := d) hd v
  rw [kishl' v (by omega), nx_or, show v * 2 ^ 4 = 2 ^ 4 * v by omega, ← h1]
/-- D's own cells, and all from a on -/
def dEa (D a : Nat) : Nat → Prop := fun q => dE D q ∨ a ≤ q
section DR
variable {h h1 : zH} {D B : Nat} {al : Nat → Nat} {S : kS} {X : dX}
theorem hF.ea {n s a : Nat} (F : hF (dE D) n s h h1) : hF (dEa D a) n s h h1 := F.up (fun _ _ z => Or.inl z) (Nat.le_refl _) (Nat.le_refl _)
theorem hF.eaC {n s a : Nat} (F : hF (cA a) n s h h1) : hF (dEa D a) n s h h1 := F.up (fun _ _ z => Or.inr (cA_ge z)) (Nat.le_refl _) (Nat.le_refl _)
/-- a counter apart has changed -/
theorem dR_frC (R : dR h D B al S X) {n s a : Nat} (F : hF (cA a) n s h h1) (ha : D + 34 ≤ a) (hal : ∀ c, c < 6 → al c + 2 < a) : dR h1 D B al S X := R.fr F (fun q hq z => by have := cA_ge z; omega) (fun q _ hq z => by have := cA_ge z; omega) (fun c hc q hq z => by
  have := hal c hc
  have := cA_ge z
  rcases hq with rfl | rfl | rfl <;> omega)
theorem cN.atC {a : Nat} {C : kC} (e : cN h D a C) (w : hW h) {n s : Nat} (F : hF (dE D) n s h h1) (ha : D + 34 ≤ a) : cN h1 D a C := e.fr w F (fun q hq z => by have := cA_ge hq; unfold dE at z; omega)
theorem d_hex_loop {T : List Nat} (a : Nat) (n : Nat) : ∀ (k i v : Nat) (h : zH) (X : dX), k + n = 8 → dR h D B al S X → dTx T X → X.i = nI i → i ≤ T.length → ∃ h', ((∃ m, (khx T n i v).1 = some m ∧ zs PG mX1_marksTold 35 [.ref D, .ref a, .int (nI v), .int (nI k)] [] h = zs PG mX1_marksTold 58 [.ref D, .ref a, .int (nI m), .int (nI 8)] [] h' ∧ hF (dE D) 0 0 h h') ∨ ((khx T n i v).1 = none ∧ zs PG mX1_marksTold 35 [.ref D, .ref a, .int (nI v), .int (nI k)] [] h = some (.inr 4, h') ∧ hF (dE D) 1 6 h h')) ∧ dR h' D B al S (nI (khx T n i v).2, X.2) := by
  induction n with
  | zero =>
    intro k i v h X hk R hT hi hl
    have hk : k = 8 := by omega
    subst hk
    refine ⟨h, Or.inl ⟨v, rfl, ?_, hF.rf R.w _⟩, by show dR h D B al S (nI i, X.2); rw [← hi]; exact R⟩
    rw [uX1_marksTold_at35]
    simp (disch := omega) only [uX1_marksTold_at36, uX1_marksTold_at38, zKK, zB]
  | succ n ih =>
    intro k i v h X hk R hT hi hl
    have g := dG R
    unfold khx
    cases e : ksv T i 16 with
    | none =>
      obtain ⟨h', s1, F1⟩ := d_signTold0 R hT hi hl (b := 15) (by omega) e
      refine ⟨h', Or.inr ⟨rfl, ?_, F1.new⟩, by show dR h' D B al S (nI i, X.2); rw [← hi]; exact R.nw F1⟩
      rw [uX1_marksTold_at35]
      simp (disch := omega) only [uX1_marksTold, zKK, zB, zBl, zBb, zlg, zA, zA3, zL3, km31, km63, klshr, kishr, k2p, kl1shl, klmask, kland1, kiand1, k_l2i, zrt_b, zrt_0, zrt_1, zdv_n, zdv_l, g, s1]
    | some d =>
      obtain ⟨e1, e2⟩ := ksv_lt e
      have s1 := d_signTold1 R hT hi (b := 15) (by omega) e
      obtain ⟨-, R1, F1⟩ := R.at (nI (i + 1))
      obtain ⟨h', r1, r2⟩ := ih (k + 1) (i + 1) (16 * v + d) _ _ (by omega) R1 hT rfl (by omega)
      have st : zs PG mX1_marksTold 35 [.ref D, .ref a, .int (nI v), .int (nI k)] [] h = zs PG mX1_marksTold 35 [.ref D, .ref a, .int (nI (16 * v + d)), .int (nI (k + 1))] [] (hD h D S (nI (i + 1), X.2)) := by
        rw [uX1_marksTold_at35]
        simp (disch := omega) only [uX1_marksTold, zKK, zB, g, km31, s1, kor16, zA]
      rw [st]
      refine ⟨h', ?_, r2⟩
      rcases r1 with ⟨m, q1, q2, q3⟩ | ⟨q1, q2, q3⟩
      · exact Or.inl ⟨m, q1, q2, F1.tr1 q3⟩
      · exact Or.inr ⟨q1, q2, F1.tr1 q3⟩
theorem kspr_comes {p l m : Nat} {L : List Nat} (hm : m ∉ L) (hl : L.length < l) : kcomes (kspr p l L) m = kspr p l (kins m L) := by
  have e1 : kspr p l L = kst p l L := (kst_s (by omega)).symm
  have e2 : kspr p l (kins m L) = kst p l (kins m L) := (kst_s (by rw [kins_len]; omega)).symm
  rw [e1, e2, kst_comes, if_neg hm]
theorem d_throw (R : dR h D B al S X) : ∃ h', zc PG mX4_init [.ref h.2.1] (zpush h (.inr (4, [.null, .null, .null, .null, .null, .int 0])) 6) = some (.inl none, h') ∧ zthr h' h.2.1 = some 4 ∧ hF hN 1 6 h h' := by
  obtain ⟨x, y, i1, i2, -⟩ := R.k.2.2.2
  refine ⟨zpush h (.inr (4, [.null, .null, .null, .null, .null, .int 0])) 6, ?_, ?_, hF_push R.w _ _⟩
  · have ee : ∀ e n, (zpush h e n).2.2.2 = h.2.2.2 := fun _ _ => rfl
    have q : ∀ (k ty : Nat) (v : Value) (fs gs : List Value), k < fs.length → zkind ty v = true → fs.set k v = gs → zput (zpush h (.inr (4, fs)) 6) h.2.1 4 k ty v = some (zpush h (.inr (4, gs)) 6) := by
      intro k ty v fs gs h1 h2 h3
      rw [zput_u (zpush_s _ _ _) h1 h2, zup_ps, h3]
    have q1 := q 0 3 (.ref h.2.1) [.null, .null, .null, .null, .null, .int 0] _ (Nat.le_of_ble_eq_true rfl) rfl rfl
    have q2 := q 1 3 (.ref x) [.ref h.2.1, .null, .null, .null, .null, .int 0] _ (Nat.le_of_ble_eq_true rfl) rfl rfl
    have q3 := q 2 3 (.ref y) [.ref h.2.1, .ref x, .null, .null, .null, .int 0] _ (Nat.le_of_ble_eq_true rfl) rfl rfl
    have q4 := q 1 3 .null [.ref h.2.1, .ref x, .ref y, .null, .null, .int 0] _ (Nat.le_of_ble_eq_true rfl) rfl rfl
    have q5 := q 3 3 .null [.ref h.2.1, .null, .ref y, .null, .null, .int 0] _ (Nat.le_of_ble_eq_true rfl) rfl rfl
    have q6 := q 0 3 .null [.ref h.2.1, .null, .ref y, .null, .null, .int 0] _ (Nat.le_of_ble_eq_true rfl) rfl rfl
    have q7 := q 2 3 .null [.null, .null, .ref y, .null, .null, .int 0] _ (Nat.le_of_ble_eq_true rfl) rfl rfl
    simp only [List.set] at q1 q2 q3 q4 q5 q6 q7
    simp (disch := omega) only [zKK, zB, eX4_init, uX4_init, eJ3_init, uJ3_init, eJ2_init_2, uJ2_init_2, q1, ee, i1, q2, i2, q3, q4, q5, q6, q7]
  · unfold zthr
    rw [zpush_s]
    rfl
theorem kcu_gt {a b : Nat} : (nI 0 < kcu a b) ↔ b < a := by
  unfold kcu
  by_cases e : a < b
  · rw [if_pos e]; exact ⟨fun q => absurd q (by decide), fun q => by omega⟩
  · rw [if_neg e]
    by_cases e2 : a = b
    · rw [if_pos e2]; exact ⟨fun q => absurd q (by decide), fun q => by omega⟩
    · rw [if_neg e2]; exact ⟨fun _ => by omega, fun _ => by decide⟩
theorem d_marks_loop {T : List Nat} {a p l : Nat} (ha : D + 34 ≤ a) (hal : ∀ c, c < 6 → al c + 2 < a) (f : Nat) : ∀ (i : Nat) (L : List Nat) (u v : Value) (h : zH) (X : dX), dR h D B al S X → dTx T X → X.i = nI i → i ≤ T.length → T.length + 1 ≤ f + i → cN h D a (kspr p l L) → ∃ h', ((∃ M, (kmks T l f i L).1 = some M ∧ zs PG mX1_marksTold 0 [.ref D, .ref a, u, v] [] h = some (.inl none, h') ∧ cN h' D a (kspr p l M) ∧ T.length ≤ (kmks T l f i L).2 ∧ (kmks T l f i L).2 ≤ T.length) ∨ ((kmks T l f i L).1 = none ∧ zs PG mX1_marksTold 0 [.ref D, .ref a, u, v] [] h = some (.inr 4, h'))) ∧ dR h' D B al S (nI (kmks T l f i L).2, X.2) ∧ hF (dEa D a) 1 6 h h' := by
  induction f with
  | zero => intro i L u v h X R hT hi hl hf; omega
  | succ f ih =>
    intro i L u v h X R hT hi hl hf e
    have g := dG R
    rw [hi, hT.1] at g
    have gn := nM e rfl
    have ge := nG e
    have h600 := hT.2.2.1
    have iL := e.I
    have hs : ksrt L := iL.2.2.2.2.2.2.2.2.1
    have hm32 : ∀ m ∈ L, m < 2 ^ 32 := iL.2.2.2.2.2.2.2.1
    have hll : L.length ≤ l := iL.2.2.2.2.2.2.2.2.2.1
    have hl48 : l ≤ 48 := iL.2.2.2.1
    have el : (kspr p l L).l = l := rfl
    have em : (kspr p l L).m = L := rfl
    rw [el] at ge
    rw [em] at gn
    unfold kmks
    by_cases e0 : i < T.length
    · rw [if_pos e0]
      by_cases e1 : L.length = l
      · rw [if_pos e1]
        obtain ⟨h', m1, F1⟩ := d_must0 R
        refine ⟨h', Or.inr ⟨rfl, ?_⟩, by show dR h' D B al S (nI i, X.2); rw [← hi]; exact R.nw F1, F1.new⟩
        rw [uX1_marksTold_at0]
        simp (disch := omega) only [uX1_marksTold, zKK, zB, zBl, zBb, zlg, zA, zA3, zL3, km31, km63, klshr, kishr, k2p, kl1shl, klmask, kland1, kiand1, k_l2i, zrt_b, zrt_0, zrt_1, zdv_n, zdv_l, g, gn.1, ge, m1]
      · rw [if_neg e1]
        obtain ⟨h2, r1, R2⟩ := d_hex_loop (T := T) a 8 0 i 0 h X rfl R hT hi hl
        obtain ⟨g1, g2, g3⟩ := khx_ok T 8 i 0 hl
        have st : zs PG mX1_marksTold 0 [.ref D, .ref a, u, v] [] h = zs PG mX1_marksTold 35 [.ref D, .ref a, .int (nI 0), .int (nI 0)] [] h := by
          rw [uX1_marksTold_at0]
          simp (disch := omega) only [uX1_marksTold, zKK, zB, zBl, zBb, zlg, zA, zA3, zL3, km31, km63, klshr, kishr, k2p, kl1shl, klmask, kland1, kiand1, k_l2i, zrt_b, zrt_0, zrt_1, zdv_n, zdv_l, g, gn.1, ge, d_must1]
        rw [st]
        cases ek : khx T 8 i 0 with
        | mk o q =>
          rw [ek] at r1 R2 g1 g2 g3
          have g1 : i ≤ q := g1
          have g2 : q ≤ T.length := g2
          have R2 : dR h2 D B al S (nI q, X.2) := R2
          cases o with
          | none =>
            rcases r1 with ⟨m, q1, -⟩ | ⟨-, q2, q3⟩
            · cases q1
            · exact ⟨h2, Or.inr ⟨rfl, q2⟩, R2, q3.ea⟩
          | some m =>
            rcases r1 with ⟨m', q1, q2, q3⟩ | ⟨q1, -⟩
            rotate_left
            · cases q1
            cases q1
            obtain ⟨g4, g5⟩ := g3 m rfl
            have g4 : q = i + 8 := g4
            have hm1 : m < 4294967296 := g5 (by decide) (Nat.le_refl _)
            have e2 := e.atC R.w q3 ha
            have gn2 := nM e2 rfl
            rw [em] at gn2
            have ge2 := nG e2
            have gd2 := dG R2
            dsimp only
            rw [q2]
            by_cases e3 : 0 < L.length ∧ m ≤ L.getD (L.length - 1) 0
            · rw [if_pos e3]
              have hlb : L.getD (L.length - 1) 0 < 2 ^ 32 := hm32 _ (kget_mem (by omega))
              have ec := j_cmpU (nI m) (nI (L.getD (L.length - 1) 0)) h2
              rw [kun_of hm1, kun_of hlb] at ec
              have ecn : (nI 0 < kcu m (L.getD (L.length - 1) 0)) = False := eq_false (fun z => by have := kcu_gt.mp z; omega)
              obtain ⟨pa, R3, F3⟩ := R2.at (nI (q - 1))
              obtain ⟨h4, t1, t2, F4⟩ := d_throw R3
              have gi2 : zget h2 D 1 7 = some (.int (nI q)) := gd2.2.2.2.2.2.1
              refine ⟨h4, Or.inr ⟨rfl, ?_⟩, R3.nw F4, ((q3.tr1 F3).tr1 F4.new).ea⟩
              simp (disch := omega) only [uX1_marksTold, zKK, zB, zBl, zBb, zlg, zA, zA3, zL3, km31, km63, klshr, kishr, k2p, kl1shl, klmask, kland1, kiand1, k_l2i, zrt_b, zrt_0, zrt_1, zdv_n, zdv_l, gn2, ge2, ec, ecn, gi2, pa, t1, t2, zth]
            · rw [if_neg e3]
              have hnm : m ∉ L := fun q5 => e3 ⟨List.length_pos_of_mem q5, ksrt_last hs q5⟩
              obtain ⟨h3, a1, a2, a3⟩ := n_adds R2.w e2 hm1
              rw [kspr_comes hnm (by omega)] at a2
              have R3 := dR_frC R2 a3 ha hal
              obtain ⟨h', w1, w2, w3⟩ := ih q (kins m L) (.int (nI m)) (.int (nI 8)) h3 _ R3 hT rfl g2 (by omega) a2
              have st2 : zs PG mX1_marksTold 58 [.ref D, .ref a, .int (nI m), .int (nI 8)] [] h2 = zs PG mX1_marksTold 0 [.ref D, .ref a, .int (nI m), .int (nI 8)] [] h3 := by
                by_cases e4 : 0 < L.length
                · have hlt : L.getD (L.length - 1) 0 < m := Nat.lt_of_not_le (fun q5 => e3 ⟨e4, q5⟩)
                  have hlb : L.getD (L.length - 1) 0 < 2 ^ 32 := hm32 _ (kget_mem (by omega))
                  have ec := j_cmpU (nI m) (nI (L.getD (L.length - 1) 0)) h2
                  rw [kun_of hm1, kun_of hlb] at ec
                  have ecn : (nI 0 < kcu m (L.getD (L.length - 1) 0)) = True := eq_true (kcu_gt.mpr hlt)
                  simp (disch := omega) only [uX1_marksTold, zKK, zB, zBl, zBb, zlg, zA, zA3, zL3, km31, km63, klshr, kishr, k2p, kl1shl, klmask, kland1, kiand1, k_l2i, zrt_b, zrt_0, zrt_1, zdv_n, zdv_l, gn2, ge2, ec, ecn, a1]
                · simp (disch := omega) only [uX1_marksTold, zKK, zB, zBl, zBb, zlg, zA, zA3, zL3, km31, km63, klshr, kishr, k2p, kl1shl, klmask, kland1, kiand1, k_l2i, zrt_b, zrt_0, zrt_1, zdv_n, zdv_l, gn2, ge2, a1]
              rw [st2]
              exact ⟨h', w1, w2, (q3.ea.tr1 a3.eaC).tr1 w3⟩
    · rw [if_neg e0]
      refine ⟨h, Or.inl ⟨L, rfl, ?_, e, by show T.length ≤ i; omega, hl⟩, by show dR h D B al S (nI i, X.2); rw [← hi]; exact R, (hF.rf R.w _).up (fun _ _ z => z) (by omega) (by omega)⟩
      rw [uX1_marksTold_at0]
      simp (disch := omega) only [uX1_marksTold, zKK, zB, zBl, zBb, zlg, zA, zA3, zL3, km31, km63, klshr, kishr, k2p, kl1shl, klmask, kland1, kiand1, k_l2i, zrt_b, zrt_0, zrt_1, zdv_n, zdv_l, g]
/-! reads -/
/-- what reads leaves -/
def dRd (D B : Nat) (S : kS) (c : Int32) (h0 : zH) (r : Option zR) (o : Option kC × Nat) : Prop := ∃ h', r = some (.inl (some (.int (match o with | (none, q) => (-2000) - nI q | (some C, _) => if kbd c 0 5 then nI (kguess C) else -1))), h') ∧ dW D B (match o with | (none, _) => S | (some C, _) => if kbd c 0 5 then S.s_c (kN c) C else S) h' ∧ hF (dA D B) 20 400 h0 h'
theorem rd_h (D : Nat) (c : Int32) (a b d : Value) (n : Nat) (st : List Value) (h : zH) : zbk PG (some (.inr 4, h)) (some (188, 2, 4)) mX1_reads n [.ref D, .int c, a, b, d] st = zs PG mX1_reads 188 [.ref D, .int c, zJ, b, d] [] h := zbk_h rfl
theorem rd_fail (R : dR h D B al S X) {q n s : Nat} (hi : X.i = nI q) (c : Int32) (b d : Value) {h0 : zH} (F : hF (dA D B) n s h0 h) (hn : n ≤ 20) (hs : s ≤ 400) : dRd D B S c h0 (zs PG mX1_reads 188 [.ref D, .int c, zJ, b, d] [] h) (none, q) := by
  have wr := d_wrong R hi
  refine ⟨h, ?_, ⟨al, X, R⟩, F.up (fun _ _ z => z) hn hs⟩
  simp (disch := omega) only [uX1_reads_p0, uX1_reads_p1, zKK, zB, zBl, zBb, zlg, zA, zA3, zL3, km31, km63, klshr, kishr, k2p, kl1shl, klmask, kland1, kiand1, k_l2i, zrt_b, zrt_0, zrt_1, zdv_n, zdv_l, dG R, wr]
theorem rd_end {T : List Nat} (R : dR h D B al S X) (hT : dTx T X) {i n s a : Nat} {C : kC} (hi : X.i = nI i) (hl : i ≤ T.length) (e : cN h D a C) (ha : B ≤ a) (hal : ∀ k, k < 6 → al k + 2 < a) (c x : Int32) (u : Value) {h0 : zH} (F : hF (dA D B) n s h0 h) (hn : n ≤ 10) (hs : s ≤ 390) : dRd D B S c h0 (zs PG mX1_reads 143 [.ref D, .int c, .int x, .ref a, u] [] h) (if i = T.length then (some C, i) else (none, i)) := by
  have g := dG R
  rw [hi, hT.1] at g
  have h600 := hT.2.2.1
  by_cases e1 : i = T.length
  · rw [if_pos e1]
    rw [e1] at g
    have f1 := hv1_F R.w c
    have R1 := R.nw f1
    have c1 := e.nw R.w f1
    unfold dRd
    dsimp only
    rcases kbd_cases c 0 5 with ek | ⟨k, -, hk, rfl⟩
    · rw [ek]
      refine ⟨hv1 h c, ?_, ⟨al, X, R1⟩, (F.tr1 f1.A).up (fun _ _ z => z) (by omega) (by omega)⟩
      simp (disch := omega) only [uX1_reads_p0, uX1_reads_p1, zKK, zB, zBl, zBb, zlg, zA, zA3, zL3, km31, km63, klshr, kishr, k2p, kl1shl, klmask, kland1, kiand1, k_l2i, zrt_b, zrt_0, zrt_1, zdv_n, zdv_l, g, d_must1, znew_k, zast_p0, d_are1, ek, Bool.false_eq_true, if_false]
    · have ek := kbd_nI (Nat.zero_le k) hk (by omega)
      rw [ek, kN_nI (by omega)]
      obtain ⟨s1, R2, F2⟩ := d_becomes' R1 (k := k) (by omega) c1 ha (fun d hd z => by have := hal d hd; omega)
      refine ⟨_, ?_, ⟨_, _, R2⟩, ((F.tr1 f1.A).tr1 (F2.dD (fun q z => Or.inl (by omega)))).up (fun _ _ z => z) (by omega) (by omega)⟩
      simp (disch := omega) only [uX1_reads_p0, uX1_reads_p1, zKK, zB, zBl, zBb, zlg, zA, zA3, zL3, km31, km63, klshr, kishr, k2p, kl1shl, klmask, kland1, kiand1, k_l2i, zrt_b, zrt_0, zrt_1, zdv_n, zdv_l, g, d_must1, znew_k, zast_p0, d_are1, ek, dG R1, s1, if_true]
  · rw [if_neg e1]
    obtain ⟨h', m1, F1⟩ := d_must0 R
    have st : zs PG mX1_reads 143 [.ref D, .int c, .int x, .ref a, u] [] h = zs PG mX1_reads 188 [.ref D, .int c, zJ, .ref a, u] [] h' := by
      simp (disch := omega) only [uX1_reads_p0, uX1_reads_p1, zKK, zB, zBl, zBb, zlg, zA, zA3, zL3, km31, km63, klshr, kishr, k2p, kl1shl, klmask, kland1, kiand1, k_l2i, zrt_b, zrt_0, zrt_1, zdv_n, zdv_l, g, m1, rd_h]
    rw [st]
    exact rd_fail (R.nw F1) hi c _ _ (F.tr1 F1.A) (by omega) (by omega)
theorem krks_end (T : List Nat) (b n : Nat) : ∀ i x r, (∀ r', (krks T b n i x r).1 = some r' → (krks T b n i x r).2 = T.length) := by
  induction n with
  | zero =>
    intro i x r r' q
    unfold krks at q ⊢
    by_cases e : i = T.length
    · rw [if_pos e]; exact e
    · rw [if_neg e] at q; cases q
  | succ n ih =>
    intro i x r r' q
    unfold krks at q ⊢
    cases e : ksv T i b with
    | none => rw [e] at q; cases q
    | some v => rw [e] at q; exact ih _ _ _ r' q
theorem rd_ranks {T : List Nat} {p l a : Nat} (ha0 : D + 34 ≤ a) (ha : B ≤ a) (hal : ∀ k, k < 6 → al k + 2 < a) (c : Int32) {h0 : zH} (n : Nat) : ∀ (x i N M : Nat) (r : Nat → Nat) (h : zH) (X : dX), x + n = 2 ^ p → dR h D B al S X → dTx T X → X.i = nI i → i ≤ T.length → cN h D a (p, l, true, [], r) → hF (dA D B) N M h0 h → N ≤ 10 → M ≤ 390 → dRd D B S c h0 (zs PG mX1_reads 112 [.ref D, .int c, .int (nI p), .ref a, .int (nI x)] [] h) ((krks T (34 - p) n i x r).1.map (fun r => (p, l, true, [], r)), (krks T (34 - p) n i x r).2) := by
  induction n with
  | zero =>
    intro x i N M r h X hx R hT hi hl e F hN hM
    have hx : x = 2 ^ p := hx
    have h2 : 2 ^ p ≤ 256 := k2p_le e.I.2.1
    have hm := n_m e
    rw [show kC.p (p, l, true, [], r) = p from rfl] at hm
    have st : zs PG mX1_reads 112 [.ref D, .int c, .int (nI p), .ref a, .int (nI x)] [] h = zs PG mX1_reads 143 [.ref D, .int c, .int (nI p), .ref a, .int (nI x)] [] h := by
      rw [uX1_reads_at112, hx]
      simp (disch := omega) only [uX1_reads_at114, uX1_reads_at115, uX1_reads_at118, zKK, zB, nG e, hm]
    rw [st]
    have := rd_end R hT hi hl e ha hal c (nI p) (.int (nI x)) F hN hM
    unfold krks
    by_cases e1 : i = T.length
    · rw [if_pos e1] at this ⊢; exact this
    · rw [if_neg e1] at this ⊢; exact this
  | succ n ih =>
    intro x i N M r h X hx R hT hi hl e F hN hM
    have h2 : 2 ^ p ≤ 256 := k2p_le e.I.2.1
    have i4 : 4 ≤ p := e.I.1
    have i8 : p ≤ 8 := e.I.2.1
    have hm := n_m e
    rw [show kC.p (p, l, true, [], r) = p from rfl] at hm
    have g := dG R
    have ge := nG e
    have h600 := hT.2.2.1
    unfold krks
    cases ek : ksv T i (34 - p) with
    | none =>
      obtain ⟨h', s1, F1⟩ := d_signTold0 R hT hi hl (b := 33 - p) (by omega) (by rw [show 33 - p + 1 = 34 - p by omega]; exact ek)
      have st : zs PG mX1_reads 112 [.ref D, .int c, .int (nI p), .ref a, .int (nI x)] [] h = zs PG mX1_reads 188 [.ref D, .int c, zJ, .ref a, .int (nI x)] [] h' := by
        rw [uX1_reads_at112]
        simp (disch := omega) only [uX1_reads_p0, uX1_reads_p1, zKK, zB, zBl, zBb, zlg, zA, zA3, zL3, km31, km63, klshr, kishr, k2p, kl1shl, klmask, kland1, kiand1, k_l2i, zrt_b, zrt_0, zrt_1, zdv_n, zdv_l, ge, hm, g, s1, rd_h]
      rw [st]
      exact rd_fail (R.nw F1) hi c _ _ (F.tr1 F1.A) (by omega) (by omega)
    | some v =>
      obtain ⟨e1, e2⟩ := ksv_lt ek
      have s1 := d_signTold1 R hT hi (b := 33 - p) (v := v) (by omega) (by rw [show 33 - p + 1 = 34 - p by omega]; exact ek)
      obtain ⟨-, R1, F1⟩ := R.at (nI (i + 1))
      have c1 := e.atC R.w F1 ha0
      have c10 := c1
      obtain ⟨m, f, o1, o2, iC⟩ := c1
      obtain ⟨h3, p1, q1, k1⟩ := cw_r o1 (x := x) (r := v) (by omega) (by omega)
      have hI : kI (p, l, true, [], va_up r x v) := by
        refine ⟨iC.1, iC.2.1, iC.2.2.1, iC.2.2.2.1, fun y => ?_, fun y hy => ?_, fun _ => rfl, (fun m q => absurd q List.not_mem_nil), List.Pairwise.nil, Nat.zero_le _, fun q => by cases q⟩
        · show va_up r x v y ≤ 33 - p
          unfold va_up
          split
          · omega
          · exact iC.2.2.2.2.1 y
        · have hy : 2 ^ p ≤ y := hy
          show va_up r x v y = 0
          unfold va_up
          rw [if_neg (by omega)]
          exact iC.2.2.2.2.2.1 y hy
      have c3 : cN h3 D a (p, l, true, [], va_up r x v) := ⟨m, f, q1, ⟨o2.1, fun z => by cases z⟩, hI⟩
      have F3 := (k1.mono (B := cA a) (fun q z => Or.inr (Or.inr z))).f R1.w (c10.ltA R1.w)
      have R3 := dR_frC R1 F3 ha0 hal
      have st : zs PG mX1_reads 112 [.ref D, .int c, .int (nI p), .ref a, .int (nI x)] [] h = zs PG mX1_reads 112 [.ref D, .int c, .int (nI p), .ref a, .int (nI (x + 1))] [] h3 := by
        rw [uX1_reads_at112]
        simp (disch := omega) only [uX1_reads_p0, uX1_reads_p1, zKK, zB, zBl, zBb, zlg, zA, zA3, zL3, km31, km63, klshr, kishr, k2p, kl1shl, klmask, kland1, kiand1, k_l2i, zrt_b, zrt_0, zrt_1, zdv_n, zdv_l, ge, hm, g, s1, kby8, p1]
      rw [st]
      exact ih (x + 1) (i + 1) N M (va_up r x v) h3 _ (by omega) R3 hT rfl (by omega) c3 ((F.tr1 F1.E).tr1 (F3.dD (fun q z => Or.inr (by have := cA_ge z; omega)))) hN hM
/-- what comes behind P and limit -/
theorem rd_rest {T : List Nat} {p l a i N M : Nat} (ha0 : D + 34 ≤ a) (ha : B ≤ a) (hal : ∀ k, k < 6 → al k + 2 < a) (c : Int32) {h0 : zH} (R : dR h D B al S X) (hT : dTx T X) (hi : X.i = nI i) (hl : i ≤ T.length) (e : cN h D a (kopen p l)) (F : hF (dA D B) N M h0 h) (hN : N ≤ 8) (hM : M ≤ 350) : dRd D B S c h0 (zs PG mX1_reads 59 [.ref D, .int c, .int (nI p), .ref a, zJ] [] h) (krt T p l i) := by
  have g := dG R
  have i4 : 4 ≤ p := e.I.1
  have i8 : p ≤ 8 := e.I.2.1
  have h600 := hT.2.2.1
  have tk := d_takesC R hT hi hl (c := 100) (by omega)
  obtain ⟨-, R1, F1⟩ := R.at (nI (if kchr T i 100 = true then i + 1 else i))
  have e1 := e.atC R.w F1 ha0
  obtain ⟨h2, s2, e2, F2⟩ := n_setd R1.w e1 (kchr T i 100)
  have R2 := dR_frC R1 F2 ha0 hal
  have g2 := dG R2
  have ge2 := nG e2
  have Fd : ∀ {n s : Nat} {x y : zH}, hF (cA a) n s x y → hF (dA D B) n s x y := fun G => G.dD (fun q z => Or.inr (by have := cA_ge z; omega))
  have F12 := (F.tr1 F1.E).tr1 (Fd F2)
  have e100 : (kchr T i 100 = true) ↔ (i < T.length ∧ T.getD i 0 = 100) := decide_eq_true_iff
  unfold krt
  cases ek : kchr T i 100 with
  | true =>
    have e3 := e100.mp ek
    rw [ek] at tk s2 e2 ge2
    simp only [if_true] at tk
    rw [ek] at R2
    simp only [if_true] at R2 s2
    have ge3 : zget h2 a 2 5 = some (.int (zb true)) := ge2.2.2.2.2.1
    rw [if_neg (fun q => by have := q.2; omega), if_pos e3]
    have st : zs PG mX1_reads 59 [.ref D, .int c, .int (nI p), .ref a, zJ] [] h = zs PG mX1_reads 112 [.ref D, .int c, .int (nI p), .ref a, .int (nI 0)] [] h2 := by
      simp (disch := omega) only [uX1_reads_p0, uX1_reads_p1, zKK, zB, zBl, zBb, zlg, zA, zA3, zL3, km31, km63, klshr, kishr, k2p, kl1shl, klmask, kland1, kiand1, k_l2i, zrt_b, zrt_0, zrt_1, zdv_n, zdv_l, g, tk, s2, g2, ge3, d_must1]
    rw [st]
    exact rd_ranks ha0 ha hal c (2 ^ p) 0 (i + 1) _ _ (fun _ => 0) h2 _ (Nat.zero_add _) R2 hT rfl (by omega) e2 F12 (by omega) (by omega)
  | false =>
    have e3 : ¬ (i < T.length ∧ T.getD i 0 = 100) := fun q => by have := e100.mpr q; rw [ek] at this; cases this
    rw [ek] at tk s2 e2 ge2
    simp only [Bool.false_eq_true, if_false] at tk
    rw [ek] at R2
    simp only [Bool.false_eq_true, if_false] at R2 s2
    have ge3 : zget h2 a 2 5 = some (.int (zb false)) := ge2.2.2.2.2.1
    have tk2 := d_takesC R2 (T := T) hT rfl hl (c := 115) (by omega)
    obtain ⟨-, R3, F3⟩ := R2.at (nI (if kchr T i 115 = true then i + 1 else i))
    have e4 := e2.atC R2.w F3 ha0
    have g3 := dG R3
    have ge4 : zget (hD h2 D S (nI (if kchr T i 115 = true then i + 1 else i), X.2)) a 2 5 = some (.int (zb false)) := (nG e4).2.2.2.2.1
    have F13 := F12.tr1 F3.E
    have e115 : (kchr T i 115 = true) ↔ (i < T.length ∧ T.getD i 0 = 115) := decide_eq_true_iff
    cases ek2 : kchr T i 115 with
    | true =>
      have e5 := e115.mp ek2
      rw [ek2] at tk2 R3 e4 ge4 F13
      simp only [if_true] at tk2 R3 e4 ge4 F13
      rw [if_pos e5]
      have e4' : cN (hD h2 D S (nI (i + 1), X.2)) D a (kspr p l []) := e4
      obtain ⟨h5, w1, R5, F5⟩ := d_marks_loop (T := T) ha0 hal (T.length + 1) (i + 1) [] zJ zJ _ _ R3 hT rfl (by omega) (by omega) e4'
      have F15 : hF (dA D B) _ _ h0 h5 := F13.tr1 (F5.dD (fun q z => by rcases z with z | z; exact Or.inl z; exact Or.inr (by omega)))
      have g3' := (dG R3).2.2.2.2.2.2.2.2.2.2.2.1
      rcases w1 with ⟨M', q1, q2, q3, q4, q5⟩ | ⟨q1, q2⟩
      · have st : zs PG mX1_reads 59 [.ref D, .int c, .int (nI p), .ref a, zJ] [] h = zs PG mX1_reads 143 [.ref D, .int c, .int (nI p), .ref a, zJ] [] h5 := by
          simp (disch := omega) only [uX1_reads_p0, uX1_reads_p1, zKK, zB, zBl, zBb, zlg, zA, zA3, zL3, km31, km63, klshr, kishr, k2p, kl1shl, klmask, kland1, kiand1, k_l2i, zrt_b, zrt_0, zrt_1, zdv_n, zdv_l, g, tk, s2, g2, ge3, tk2, g3', d_must1, ge4, eX1_marksTold, q2]
        rw [st, q1]
        have hq : (kmks T l (T.length + 1) (i + 1) []).2 = T.length := by omega
        have := rd_end R5 (T := T) hT rfl (by rw [hq]; exact Nat.le_refl _) q3 ha hal c (nI p) zJ F15 (by omega) (by omega)
        rw [if_pos hq] at this
        exact this
      · have st : zs PG mX1_reads 59 [.ref D, .int c, .int (nI p), .ref a, zJ] [] h = zs PG mX1_reads 188 [.ref D, .int c, zJ, .ref a, zJ] [] h5 := by
          simp (disch := omega) only [uX1_reads_p0, uX1_reads_p1, zKK, zB, zBl, zBb, zlg, zA, zA3, zL3, km31, km63, klshr, kishr, k2p, kl1shl, klmask, kland1, kiand1, k_l2i, zrt_b, zrt_0, zrt_1, zdv_n, zdv_l, g, tk, s2, g2, ge3, tk2, g3', d_must1, ge4, eX1_marksTold, q2, rd_h]
        rw [st, q1]
        exact rd_fail R5 rfl c _ _ F15 (by omega) (by omega)
    | false =>
      have e5 : ¬ (i < T.length ∧ T.getD i 0 = 115) := fun q => by have := e115.mpr q; rw [ek2] at this; cases this
      rw [ek2] at tk2 R3 F13
      simp only [Bool.false_eq_true, if_false] at tk2 R3 F13
      rw [if_neg e5, if_neg e3]
      obtain ⟨h6, m6, F6⟩ := d_must0 R3
      have g3' := (dG R3).2.2.2.2.2.2.2.2.2.2.2.1
      have st : zs PG mX1_reads 59 [.ref D, .int c, .int (nI p), .ref a, zJ] [] h = zs PG mX1_reads 188 [.ref D, .int c, zJ, .ref a, zJ] [] h6 := by
        simp (disch := omega) only [uX1_reads_p0, uX1_reads_p1, zKK, zB, zBl, zBb, zlg, zA, zA3, zL3, km31, km63, klshr, kishr, k2p, kl1shl, klmask, kland1, kiand1, k_l2i, zrt_b, zrt_0, zrt_1, zdv_n, zdv_l, g, tk, s2, g2, ge3, tk2, g3', m6, rd_h]
      rw [st]
      exact rd_fail (R3.nw F6) rfl c _ _ (F13.tr1 F6.A) (by omega) (by omega)
end DR
