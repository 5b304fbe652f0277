/-! THE MODEL's PUBLIC METHODS: lessers, trials, counts -/
def klss (A B : kC) : kC := (min A.p B.p, min A.l B.l, true, [], fun y => min (kfr A B y) (kfs A B y))
theorem kI_lss {A B : kC} (iA : kI A) (iB : kI B) : kI (klss A B) := by
  have a1 := iA.1
  have a2 := iA.2.1
  have b1 := iB.1
  have l1 := iA.2.2.1
  have l2 := iA.2.2.2.1
  have l3 := iB.2.2.1
  refine ⟨by show 4 ≤ min A.p B.p; omega, by show min A.p B.p ≤ 8; omega, by show 1 ≤ min A.l B.l; omega, by show min A.l B.l ≤ 48; omega, fun x => ?_, fun x hx => ?_, fun _ => rfl, (fun _ q => by cases q), List.Pairwise.nil, Nat.zero_le _, (fun q => by cases q)⟩
  · have := kfold_bound (q := min A.p B.p) (Nat.min_le_left _ _) (by omega) iA.2.2.2.2.1 x
    show min (kfr A B x) (kfs A B x) ≤ 33 - min A.p B.p
    unfold kfr
    omega
  · show min (kfr A B x) (kfs A B x) = 0
    unfold kfr
    rw [kfold_zero (Nat.min_le_left _ _) _ hx]
    exact Nat.zero_min _
theorem t_lessers_loop {α : Nat → Nat} (hα : mD α) (σ : mS) (h : zH) {q : Nat} (h8 : q ≤ 8) {r1 r2 : Nat → Nat} (g1 : ∀ x, x < 256 → σ.ra (1792 + x) = r1 x) (g2 : ∀ x, x < 256 → σ.ra (2048 + x) = r2 x) (g3 : ∀ x, r1 x ≤ 29) (g4 : ∀ x, r2 x ≤ 29) (a1 a2 a3 a4 : Int32) (k : Nat) : ∀ x, x + k = 2 ^ q → zs PG mX3_lessers 56 [.ref (α 0), .int a1, .int a2, .int a3, .int a4, .int (nI (2 ^ q)), .int (nI x)] [] (mH α (σ.s_ra (mblk σ.ra 7 (kpf (fun y => min (r1 y) (r2 y)) r1 x))) h) = zs PG mX3_lessers 108 [.ref (α 0), .int a1, .int a2, .int a3, .int a4, .int (nI (2 ^ q)), .int (nI (2 ^ q))] [] (mH α (σ.s_ra (mblk σ.ra 7 (kpf (fun y => min (r1 y) (r2 y)) r1 (2 ^ q)))) h) := by
  have h2 := k2p_le h8
  induction k with
  | zero =>
    intro x hx
    have hx : x = 2 ^ q := hx
    subst hx
    rw [uX3_lessers_at56]
    simp (disch := omega) only [uX3_lessers_at58, uX3_lessers_at60, zKK, zB]
  | succ k ih =>
    intro x hx
    have c1 := g3 x
    have c2 := g4 x
    have e1 : mblk σ.ra 7 (kpf (fun y => min (r1 y) (r2 y)) r1 x) (1792 + x) = r1 x := by
      have := mblk_s (a := σ.ra) (r := kpf (fun y => min (r1 y) (r2 y)) r1 x) (c := 7) (x := x) (by omega)
      rw [show 256 * 7 + x = 1792 + x by omega] at this
      rw [this]
      unfold kpf
      rw [if_neg (by omega)]
    have e2 : mblk σ.ra 7 (kpf (fun y => min (r1 y) (r2 y)) r1 x) (2048 + x) = r2 x := by
      have := mblk_o (a := σ.ra) (r := kpf (fun y => min (r1 y) (r2 y)) r1 x) (c := 7) (d := 8) (x := x) (by omega) (by omega)
      rw [show 256 * 8 + x = 2048 + x by omega] at this
      rw [this]
      exact g2 x (by omega)
    have e3 : ∀ v, va_up (mblk σ.ra 7 (kpf (fun y => min (r1 y) (r2 y)) r1 x)) (1792 + x) v = mblk σ.ra 7 (va_up (kpf (fun y => min (r1 y) (r2 y)) r1 x) x v) := by
      intro v
      have := mblk_up (a := σ.ra) (r := kpf (fun y => min (r1 y) (r2 y)) r1 x) (c := 7) (x := x) (v := v) (by omega)
      rw [show 256 * 7 + x = 1792 + x by omega] at this
      exact this
    rw [uX3_lessers_at56, ← ih (x + 1) (by omega), ← kpf_up]
    simp (disch := omega) only [uX3_lessers_p0, uX3_lessers_p1, mG, mP hα, mR hα, mW hα, mgs, zKK, zB, zBl, zBb, zlg, zA, zA3, zL3, km31, km63, klshr, kishr, k2p, kl1shl, klmask, kland1, kiand1, k_l2i, zrt_b, zrt_0, zrt_1, zdv_n, zdv_l, t_at, e1, e2, j_minI, e3, mss]
def q_lessers (S : kS) (a b k : Int32) : Int32 × kS := if kbd a 0 5 && kbd b 0 5 && kbd k 0 5 then (nI (kguess (klss (S.c (kN a)) (S.c (kN b)))), S.s_c (kN k) (klss (S.c (kN a)) (S.c (kN b)))) else (-1, S)
theorem M_lessers {α : Nat → Nat} (hα : mD α) (σ : mS) (h : zH) {S : kS} (hR : mR6 S σ) (hI : kSI S) (a b k : Int32) : ∃ σ', zc PG mX3_lessers [.ref (α 0), .int a, .int b, .int k] (mH α σ h) = some (.inl (some (.int (q_lessers S a b k).1)), mH α σ' h) ∧ mR6 (q_lessers S a b k).2 σ' := by
  unfold q_lessers
  rcases kbd_cases a 0 5 with e1 | ⟨a, -, ha, rfl⟩
  · simp only [e1, Bool.false_and, Bool.false_eq_true, if_false]
    refine ⟨_, ?_, hR.th 0⟩
    simp (disch := omega) only [eX3_lessers, uX3_lessers_p0, uX3_lessers_p1, mG, mP hα, mR hα, mW hα, mgs, zKK, zB, zBl, zBb, zlg, zA, zA3, zL3, km31, km63, klshr, kishr, k2p, kl1shl, klmask, kland1, kiand1, k_l2i, zrt_b, zrt_0, zrt_1, zdv_n, zdv_l, t_isCounter, e1]
  · have e1 := kbd_nI (Nat.zero_le a) ha (by omega)
    rcases kbd_cases b 0 5 with e2 | ⟨b, -, hb, rfl⟩
    · simp only [e1, e2, Bool.and_false, Bool.false_and, Bool.false_eq_true, if_false]
      refine ⟨_, ?_, hR.th 0⟩
      simp (disch := omega) only [eX3_lessers, uX3_lessers_p0, uX3_lessers_p1, mG, mP hα, mR hα, mW hα, mgs, zKK, zB, zBl, zBb, zlg, zA, zA3, zL3, km31, km63, klshr, kishr, k2p, kl1shl, klmask, kland1, kiand1, k_l2i, zrt_b, zrt_0, zrt_1, zdv_n, zdv_l, t_isCounter, e1, e2]
    · have e2 := kbd_nI (Nat.zero_le b) hb (by omega)
      rcases kbd_cases k 0 5 with e3 | ⟨k, -, hk, rfl⟩
      · simp only [e1, e2, e3, Bool.and_false, Bool.false_eq_true, if_false]
        refine ⟨_, ?_, hR.th 0⟩
        simp (disch := omega) only [eX3_lessers, uX3_lessers_p0, uX3_lessers_p1, mG, mP hα, mR hα, mW hα, mgs, zKK, zB, zBl, zBb, zlg, zA, zA3, zL3, km31, km63, klshr, kishr, k2p, kl1shl, klmask, kland1, kiand1, k_l2i, zrt_b, zrt_0, zrt_1, zdv_n, zdv_l, t_isCounter, e1, e2, e3]
      · have e3 := kbd_nI (Nat.zero_le k) hk (by omega)
        simp only [e1, e2, e3, Bool.and_self, if_true]
        rw [kN_nI (by omega), kN_nI (by omega), kN_nI (by omega)]
        have iA := hI.1 a (by omega)
        have iB := hI.1 b (by omega)
        have hR0 := hR.th 0
        have lA : σ.li a = (S.c a).l := (hR0.1 a (by omega)).eq.2.1
        have lB : σ.li b = (S.c b).l := (hR0.1 b (by omega)).eq.2.1
        have c5 := iA.2.2.2.1
        have c6 := iB.2.2.2.1
        obtain ⟨σ1, q1, s7, s8, f1⟩ := t_foldsBoth hα (σ.s_th 0) h (a := a) (b := b) (by omega) (by omega) (hR0.1 a (by omega)) (hR0.1 b (by omega)) iA iB
        obtain ⟨m1, m2, m3, m4, m5⟩ := m78_of s7 s8 iA iB
        have el := t_lessers_loop hα σ1 h m1 m2 m3 m4 m5 (nI a) (nI b) (nI k) (nI (min (S.c a).l (S.c b).l)) (2 ^ min (S.c a).p (S.c b).p) 0 (by omega)
        have y1 : mblk σ1.ra 7 (kpf (fun y => min (kfold (S.c a).p (min (S.c a).p (S.c b).p) (S.c a).r y) (kfold (S.c b).p (min (S.c a).p (S.c b).p) (S.c b).r y)) (kfold (S.c a).p (min (S.c a).p (S.c b).p) (S.c a).r) 0) = σ1.ra := by
          rw [kpf_0]
          conv => rhs; rw [← mblk_self σ1.ra 7]
          exact mblk_ext fun x hx => (m2 x hx).symm
        have y2 : mblk σ1.ra 7 (kpf (fun y => min (kfold (S.c a).p (min (S.c a).p (S.c b).p) (S.c a).r y) (kfold (S.c b).p (min (S.c a).p (S.c b).p) (S.c b).r y)) (kfold (S.c a).p (min (S.c a).p (S.c b).p) (S.c a).r) (2 ^ min (S.c a).p (S.c b).p)) = mblk σ1.ra 7 (fun y => min (kfr (S.c a) (S.c b) y) (kfs (S.c a) (S.c b) y)) := by
          refine mblk_ext fun x hx => ?_
          unfold kpf kfr kfs
          by_cases g : x < 2 ^ min (S.c a).p (S.c b).p
          · rw [if_pos g]
          · rw [if_neg g, kfold_zero (Nat.min_le_left _ _) _ (by omega)]
            exact (Nat.zero_min _).symm
        rw [y1, y2] at el
        simp only [msi] at el
        have s9 := mSl_ra s7 (fun y => min (kfr (S.c a) (S.c b) y) (kfs (S.c a) (S.c b) y))
        have f9 := mFr_ra σ1 7 (fun y => min (kfr (S.c a) (S.c b) y) (kfs (S.c a) (S.c b) y))
        generalize σ1.s_ra (mblk σ1.ra 7 (fun y => min (kfr (S.c a) (S.c b) y) (kfs (S.c a) (S.c b) y))) = σ2 at el s9 f9
        have s10 : mSl (σ2.s_li (va_up σ2.li 7 (min (S.c a).l (S.c b).l))) 7 (min (S.c a).p (S.c b).p, min (S.c a).l (S.c b).l, (S.c a).d, (S.c a).m, fun y => min (kfr (S.c a) (S.c b) y) (kfs (S.c a) (S.c b) y)) := by
          obtain ⟨x1, x2, x3, x4, x5, x6, x7⟩ := s9
          unfold mSl
          simp only [mgs, va_up_self]
          exact ⟨x1, rfl, x3, x4, x5, x6, x7⟩
        have f10 := mFr_li σ2 7 (min (S.c a).l (S.c b).l)
        have s11 := mSl_dense s10
        have f11 := mFr_dense (σ2.s_li (va_up σ2.li 7 (min (S.c a).l (S.c b).l))) 7
        have ed := t_becomesDense hα (σ2.s_li (va_up σ2.li 7 (min (S.c a).l (S.c b).l))) h (c := 7) (by decide)
        generalize ((σ2.s_li (va_up σ2.li 7 (min (S.c a).l (S.c b).l))).s_de (va_up (σ2.s_li (va_up σ2.li 7 (min (S.c a).l (S.c b).l))).de 7 true)).s_mm (va_up (σ2.s_li (va_up σ2.li 7 (min (S.c a).l (S.c b).l))).mm 7 0) = σ3 at s11 f11 ed
        have s11' : mSl σ3 7 (klss (S.c a) (S.c b)) := s11
        obtain ⟨σ4, q4, s4, f4⟩ := t_copiesSlot hα σ3 h (f := 7) (t := k) (by omega) (by omega) (by omega) s11'
        obtain ⟨x, qg⟩ := t_guessX hα σ4 h s4 (kI_lss iA iB) (by omega)
        have F : mFr mHi (σ.s_th 0) σ3 := ((f1.trans (f9.mono (fun d q => by show 6 ≤ d; omega))).trans (f10.mono (fun d q => by show 6 ≤ d; omega))).trans (f11.mono (fun d q => by show 6 ≤ d; omega))
        refine ⟨_, ?_, ((hR0.fr F).one f4 s4).hw x⟩
        simp (disch := omega) only [eX3_lessers, uX3_lessers_p0, uX3_lessers_p1, mG, mP hα, mR hα, mW hα, mgs, zKK, zB, zBl, zBb, zlg, zA, zA3, zL3, km31, km63, klshr, kishr, k2p, kl1shl, klmask, kland1, kiand1, k_l2i, zrt_b, zrt_0, zrt_1, zdv_n, zdv_l, t_isCounter, e1, e2, e3, lA, lB, j_minI, q1, el, ed, q4, qg]
theorem t_tellY {α : Nat → Nat} (hα : mD α) (σ : mS) (h : zH) {S : kS} {w : List Int64} (hR : mR6 (S.s_w w) σ) (hw : w.length < 16) (v : Int64) : ∃ σ', zc PG mX3_tell [.ref (α 0), .long v] (mH α σ h) = some (.inl none, mH α σ' h) ∧ mR6 (S.s_w (w ++ [v])) σ' ∧ ∀ c C, mSl σ c C → mSl σ' c C := by
  have hrm : σ.rm = w.length := hR.2.2.2.2.2.1
  have e : σ.s_rm w.length = σ := by rw [← hrm]; rfl
  have q := t_tell_s hα σ h v hw
  have r := mR6.tell (S := S) (σ := σ) (n := w.length) (w := w) (by rw [e]; exact hR) v
  rw [e] at q r
  exact ⟨_, q, r, fun c C hC => hC.eqs (by simp only [mgs]) (by simp only [mgs]) (by simp only [mgs]) (by simp only [mgs]) (by simp only [mgs]) (by simp only [mgs])⟩
/-! trials -/
def ktr (p : Nat) : kC := (p, 1, true, [], fun _ => 0)
theorem kI_tr {p : Nat} (h4 : 4 ≤ p) (h8 : p ≤ 8) : kI (ktr p) := kI_dense (kI_open h4 h8 (by decide) (by decide))
theorem t_opensTrial {α : Nat → Nat} (hα : mD α) (σ : mS) (h : zH) {p : Nat} : ∃ σ', zc PG mX3_opensTrial [.ref (α 0), .int (nI p)] (mH α σ h) = some (.inl none, mH α σ' h) ∧ mSl σ' 8 (ktr p) ∧ mFr mHi σ σ' := by
  obtain ⟨σ1, q1, q2, q3⟩ := t_opensSlot hα σ h 8 (by decide) p 1
  refine ⟨_, ?_, mSl_dense q2, (q3.mono (fun d q => by show 6 ≤ d; omega)).trans ((mFr_dense σ1 8).mono (fun d q => by show 6 ≤ d; omega))⟩
  simp (disch := omega) only [eX3_opensTrial, uX3_opensTrial, mG, mP hα, mR hα, mW hα, mgs, zKK, zB, zBl, zBb, zlg, zA, zA3, zL3, km31, km63, klshr, kishr, k2p, kl1shl, klmask, kland1, kiand1, k_l2i, zrt_b, zrt_0, zrt_1, zdv_n, zdv_l, q1, t_becomesDense hα]
def krun (n s : Int32) : Bool := kbd n 1 1000 && decide (¬ s = nI 0)
theorem t_isRun (n s : Int32) (h : zH) : zc PG mX3_isRun [.int n, .int s] h = some (.inl (some (.int (zb (krun n s)))), h) := by
  unfold krun
  cases e1 : kbd n 1 1000 with
  | false => simp (disch := omega) only [eX3_isRun, uX3_isRun, zKK, zB, zBl, zBb, zlg, zA, zA3, zL3, km31, km63, klshr, kishr, k2p, kl1shl, klmask, kland1, kiand1, k_l2i, zrt_b, zrt_0, zrt_1, zdv_n, zdv_l, t_ini, e1, Bool.false_and, zb_f]
  | true =>
    by_cases e2 : s = nI 0
    · simp (disch := omega) only [eX3_isRun, uX3_isRun, zKK, zB, zBl, zBb, zlg, zA, zA3, zL3, km31, km63, klshr, kishr, k2p, kl1shl, klmask, kland1, kiand1, k_l2i, zrt_b, zrt_0, zrt_1, zdv_n, zdv_l, t_ini, e1, e2, not_true_eq_false, decide_false, Bool.and_false, zb_f]
    · simp (disch := omega) only [eX3_isRun, uX3_isRun, zKK, zB, zBl, zBb, zlg, zA, zA3, zL3, km31, km63, klshr, kishr, k2p, kl1shl, klmask, kland1, kiand1, k_l2i, zrt_b, zrt_0, zrt_1, zdv_n, zdv_l, t_ini, e1, e2, not_false_eq_true, decide_true, Bool.and_self, zb_t]
theorem krun_of {n s : Int32} (h : krun n s = true) : ∃ k, 1 ≤ k ∧ k ≤ 1000 ∧ n = nI k := by
  unfold krun at h
  rw [Bool.and_eq_true] at h
  rcases kbd_cases n 1 1000 with e | ⟨k, h1, h2, h3⟩
  · rw [h.1] at e; cases e
  · exact ⟨k, h1, h2, h3⟩
/-- how far the guess is off behind k things -/
def kof (S : kS) (p : Nat) (a s : Int32) (k : Nat) : Int32 := kabs (nI (kguess (krn (kms S.a S.b a s) (ktr p) k).1) - nI k)
def ker (g : Nat → Int32) : Nat → Int32 × Nat
  | 0 => (-1, 0)
  | k + 1 => if (ker g k).1 < g (k + 1) then (g (k + 1), k + 1) else ker g k
theorem ker_le (g : Nat → Int32) (n : Nat) : (ker g n).2 ≤ n := by
  induction n with
  | zero => exact Nat.le_refl _
  | succ n ih =>
    unfold ker
    split
    · exact Nat.le_refl _
    · omega
theorem t_errs_loop {α : Nat → Nat} (hα : mD α) (h : zH) {S : kS} {w : List Int64} (hI : kSI S) {p : Nat} (h4 : 4 ≤ p) (h8 : p ≤ 8) (a s : Int32) {n : Nat} (hn : n ≤ 1000) (j : Nat) : ∀ (k : Nat) (σ : mS) (u : Value), k + j = n → mR6 (S.s_w w) σ → mSl σ 8 (krn (kms S.a S.b a s) (ktr p) k).1 → ∃ (σ' : mS) (t' : Int32) (u' : Value), zs PG mX3_errs 47 [.ref (α 0), .int (nI p), .int a, .int (nI n), .int s, .int (ker (kof S p a s) k).1, .int (nI (ker (kof S p a s) k).2), .int (a + nI k * s), .int (nI (k + 1)), u] [] (mH α σ h) = zs PG mX3_errs 111 [.ref (α 0), .int (nI p), .int a, .int (nI n), .int s, .int (ker (kof S p a s) n).1, .int (nI (ker (kof S p a s) n).2), .int t', .int (nI (n + 1)), u'] [] (mH α σ' h) ∧ mR6 (S.s_w w) σ' ∧ mSl σ' 8 (krn (kms S.a S.b a s) (ktr p) n).1 := by
  induction j with
  | zero =>
    intro k σ u hk hR h8'
    have hk : k = n := by omega
    subst hk
    refine ⟨σ, a + nI k * s, u, ?_, hR, h8'⟩
    rw [uX3_errs_at47]
    simp (disch := omega) only [uX3_errs_at49, uX3_errs_at50, zKK, zB]
  | succ j ih =>
    intro k σ u hk hR s8
    have iC := kI_rn (kms_lt S.a S.b a s) (kI_tr h4 h8) k
    have iC1 := kI_rn (kms_lt S.a S.b a s) (kI_tr h4 h8) (k + 1)
    have hm : mmk σ (a + nI k * s) = kms S.a S.b a s k := by
      have := mmk_S hR (a + nI k * s)
      exact this
    obtain ⟨σ1, q1, q2, q3⟩ := t_comes hα σ h (c := 8) (by decide) (kms_lt S.a S.b a s k) s8 iC
    have R1 := hR.fr (q3.mono (fun d q => by show 6 ≤ d; omega))
    have q2' : mSl σ1 8 (krn (kms S.a S.b a s) (ktr p) (k + 1)).1 := q2
    obtain ⟨x, qg⟩ := t_guessX hα σ1 h q2' iC1 (by decide)
    obtain ⟨σ', t', u', r1, r2, r3⟩ := ih (k + 1) (σ1.s_hw x) (.int (kof S p a s (k + 1))) (by omega) (R1.hw x) (q2'.eqs (by simp only [mgs]) (by simp only [mgs]) (by simp only [mgs]) (by simp only [mgs]) (by simp only [mgs]) (by simp only [mgs]))
    refine ⟨σ', t', u', ?_, r2, r3⟩
    have ea : kabs (nI (kguess (krn (kms S.a S.b a s) (ktr p) (k + 1)).1) - nI (k + 1)) = kof S p a s (k + 1) := rfl
    rw [← r1, uX3_errs_at47, ker, ← kstep]
    by_cases e : (ker (kof S p a s) k).1 < kof S p a s (k + 1)
    · rw [if_pos e]
      simp (disch := omega) only [uX3_errs_p0, uX3_errs_p1, mG, mR hα, mgs, zKK, zB, zA, t_markOf hα, hm, q1, qg, j_abs, ea, e]
    · rw [if_neg e]
      simp (disch := omega) only [uX3_errs_p0, uX3_errs_p1, mG, mR hα, mgs, zKK, zB, zA, t_markOf hα, hm, q1, qg, j_abs, ea, e]
def q_errs (S : kS) (p a n s : Int32) : Int32 × kS := if kbd p 4 8 && krun n s then ((ker (kof S (kN p) a s) (kN n)).1, S.s_w [lN (ker (kof S (kN p) a s) (kN n)).2, lN (kguess (krn (kms S.a S.b a s) (ktr (kN p)) (kN n)).1)]) else (-1, S)
theorem M_errs {α : Nat → Nat} (hα : mD α) (σ : mS) (h : zH) {S : kS} (hR : mR6 S σ) (hI : kSI S) (p a n s : Int32) : ∃ σ', zc PG mX3_errs [.ref (α 0), .int p, .int a, .int n, .int s] (mH α σ h) = some (.inl (some (.int (q_errs S p a n s).1)), mH α σ' h) ∧ mR6 (q_errs S p a n s).2 σ' := by
  unfold q_errs
  rcases kbd_cases p 4 8 with e1 | ⟨p, h4, h8, rfl⟩
  · simp only [e1, Bool.false_and, Bool.false_eq_true, if_false]
    refine ⟨_, ?_, hR.th 0⟩
    simp (disch := omega) only [eX3_errs, uX3_errs_p0, uX3_errs_p1, mG, mP hα, mR hα, mW hα, mgs, zKK, zB, zBl, zBb, zlg, zA, zA3, zL3, km31, km63, klshr, kishr, k2p, kl1shl, klmask, kland1, kiand1, k_l2i, zrt_b, zrt_0, zrt_1, zdv_n, zdv_l, t_ini, e1]
  · have e1 := kbd_nI h4 h8 (by omega)
    cases e2 : krun n s with
    | false =>
      simp only [e1, Bool.and_false, Bool.false_eq_true, if_false]
      refine ⟨_, ?_, hR.th 0⟩
      simp (disch := omega) only [eX3_errs, uX3_errs_p0, uX3_errs_p1, mG, mP hα, mR hα, mW hα, mgs, zKK, zB, zBl, zBb, zlg, zA, zA3, zL3, km31, km63, klshr, kishr, k2p, kl1shl, klmask, kland1, kiand1, k_l2i, zrt_b, zrt_0, zrt_1, zdv_n, zdv_l, t_inN, e1, t_isRun, e2]
    | true =>
      obtain ⟨n, n1, n2, rfl⟩ := krun_of e2
      simp only [e1, Bool.and_self, if_true]
      rw [kN_nI (by omega), kN_nI (by omega)]
      have hR0 := hR.th 0
      obtain ⟨σ1, q1, s1, f1⟩ := t_opensTrial hα (σ.s_th 0) h (p := p)
      obtain ⟨σ2, t', u', r1, R2, s2⟩ := t_errs_loop hα h (S := S) (w := S.w) hI h4 h8 a s n2 n 0 σ1 zJ (by omega) (hR0.fr f1) s1
      rw [kstep0, show (ker (kof S p a s) 0).1 = -1 from rfl, show (ker (kof S p a s) 0).2 = 0 from rfl, Nat.zero_add] at r1
      have iC := kI_rn (kms_lt S.a S.b a s) (kI_tr h4 h8) n
      have hl := ker_le (kof S p a s) n
      have R3 : mR6 (S.s_w []) (σ2.s_rm 0) := R2.rm0
      obtain ⟨σ3, t3, R4, k4⟩ := t_tellY hα (σ2.s_rm 0) h R3 (by simp) (lN (ker (kof S p a s) n).2)
      have s3 : mSl (σ2.s_rm 0) 8 (krn (kms S.a S.b a s) (ktr p) n).1 := s2.eqs (by simp only [mgs]) (by simp only [mgs]) (by simp only [mgs]) (by simp only [mgs]) (by simp only [mgs]) (by simp only [mgs])
      obtain ⟨x, qg⟩ := t_guessX hα σ3 h (k4 8 _ s3) iC (by decide)
      obtain ⟨σ4, t4, R5, -⟩ := t_tellY hα (σ3.s_hw x) h (R4.hw x) (by simp) (lN (kguess (krn (kms S.a S.b a s) (ktr p) n).1))
      have g := kguess_le iC
      refine ⟨σ4, ?_, R5⟩
      simp (disch := omega) only [eX3_errs, uX3_errs_p0, uX3_errs_p1, mG, mP hα, mR hα, mW hα, mgs, zKK, zB, zBl, zBb, zlg, zA, zA3, zL3, km31, km63, klshr, kishr, k2p, kl1shl, klmask, kland1, kiand1, k_l2i, zrt_b, zrt_0, zrt_1, zdv_n, zdv_l, t_inN, e1, t_isRun, e2, q1, r1, t3, qg, t4]
def kofN (S : kS) (a s : Int32) (n p : Nat) : Int32 := kabs (nI (kguess (krn (kms S.a S.b a s) (ktr p) n).1) - nI n)
def q_least (S : kS) (a n s e : Int32) : Int32 × kS := if krun n s && decide (¬ e < nI 0) then (match kfi (fun p => decide (¬ e < kofN S a s (kN n) p)) 5 4 with | some p => (nI p, S.s_w [(kofN S a s (kN n) p).toInt64]) | none => (-2, S)) else (-1, S)
theorem t_least_loop {α : Nat → Nat} (hα : mD α) (h : zH) {S : kS} (hI : kSI S) (a s e : Int32) {n : Nat} (hn : n ≤ 1000) (j : Nat) : ∀ (p : Nat) (σ : mS) (u : Value), 4 ≤ p → p + j = 9 → mR6 S σ → ∃ σ', zs PG mX3_least 23 [.ref (α 0), .int a, .int (nI n), .int s, .int e, .int (nI p), u] [] (mH α σ h) = some (.inl (some (.int ((match kfi (fun p => decide (¬ e < kofN S a s n p)) j p with | some p => (nI p, S.s_w [(kofN S a s n p).toInt64]) | none => (-2, S)) : Int32 × kS).1)), mH α σ' h) ∧ mR6 ((match kfi (fun p => decide (¬ e < kofN S a s n p)) j p with | some p => (nI p, S.s_w [(kofN S a s n p).toInt64]) | none => (-2, S)) : Int32 × kS).2 σ' := by
  induction j with
  | zero =>
    intro p σ u h4 hp hR
    refine ⟨σ, ?_, hR⟩
    rw [uX3_least_at23]
    simp (disch := omega) only [uX3_least, mG, mP hα, mR hα, mW hα, mgs, zKK, zB, zBl, zBb, zlg, zA, zA3, zL3, km31, km63, klshr, kishr, k2p, kl1shl, klmask, kland1, kiand1, k_l2i, zrt_b, zrt_0, zrt_1, zdv_n, zdv_l, kfi]
  | succ j ih =>
    intro p σ u h4 hp hR
    have h8 : p ≤ 8 := by omega
    obtain ⟨σ1, q1, s1, f1⟩ := t_opensTrial hα σ h (p := p)
    have R1 := hR.fr f1
    obtain ⟨σ2, q2, s2, f2⟩ := t_runsInto hα σ1 h (c := 8) (by decide) a s hn s1 (kI_tr h4 h8)
    rw [R1.2.1, R1.2.2.1] at q2 s2
    have R2 := R1.fr (f2.mono (fun d q => by show 6 ≤ d; omega))
    have iC := kI_rn (kms_lt S.a S.b a s) (kI_tr h4 h8) n
    obtain ⟨x, qg⟩ := t_guessX hα σ2 h s2 iC (by decide)
    have ea : kabs (nI (kguess (krn (kms S.a S.b a s) (ktr p) n).1) - nI n) = kofN S a s n p := rfl
    unfold kfi
    by_cases eo : e < kofN S a s n p
    · rw [decide_eq_false (fun q => q eo)]
      simp only [Bool.false_eq_true, if_false]
      obtain ⟨σ', r1, r2⟩ := ih (p + 1) (σ2.s_hw x) (.int (kofN S a s n p)) (by omega) (by omega) (R2.hw x)
      refine ⟨σ', ?_, r2⟩
      rw [uX3_least_at23, ← r1]
      simp (disch := omega) only [uX3_least, mG, mP hα, mR hα, mgs, zKK, zB, zA, q1, q2, qg, j_abs, ea, eo]
    · rw [decide_eq_true eo]
      simp only [if_true]
      refine ⟨_, ?_, (R2.hw x).rm0.tell (kofN S a s n p).toInt64⟩
      rw [uX3_least_at23]
      simp (disch := omega) only [uX3_least, mG, mP hα, mR hα, mgs, zKK, zB, zA, q1, q2, qg, j_abs, ea, eo, t_tell_s hα]
theorem M_least {α : Nat → Nat} (hα : mD α) (σ : mS) (h : zH) {S : kS} (hR : mR6 S σ) (hI : kSI S) (a n s e : Int32) : ∃ σ', zc PG mX3_least [.ref (α 0), .int a, .int n, .int s, .int e] (mH α σ h) = some (.inl (some (.int (q_least S a n s e).1)), mH α σ' h) ∧ mR6 (q_least S a n s e).2 σ' := by
  unfold q_least
  cases e2 : krun n s with
  | false =>
    simp only [Bool.false_and, Bool.false_eq_true, if_false]
    refine ⟨_, ?_, hR.th 0⟩
    simp (disch := omega) only [eX3_least, uX3_least, mG, mP hα, mR hα, mW hα, mgs, zKK, zB, zBl, zBb, zlg, zA, zA3, zL3, km31, km63, klshr, kishr, k2p, kl1shl, klmask, kland1, kiand1, k_l2i, zrt_b, zrt_0, zrt_1, zdv_n, zdv_l, t_isRun, e2]
  | true =>
    obtain ⟨n, n1, n2, rfl⟩ := krun_of e2
    by_cases e3 : e < nI 0
    · rw [decide_eq_false (fun q => q e3)]
      simp only [Bool.and_false, Bool.false_eq_true, if_false]
      refine ⟨_, ?_, hR.th 0⟩
      simp (disch := omega) only [eX3_least, uX3_least, mG, mP hα, mR hα, mW hα, mgs, zKK, zB, zBl, zBb, zlg, zA, zA3, zL3, km31, km63, klshr, kishr, k2p, kl1shl, klmask, kland1, kiand1, k_l2i, zrt_b, zrt_0, zrt_1, zdv_n, zdv_l, t_isRun, e2, e3]
    · rw [decide_eq_true e3]
      simp only [Bool.and_self, if_true]
      rw [kN_nI (by omega)]
      obtain ⟨σ', r1, r2⟩ := t_least_loop hα h hI a s e n2 5 4 (σ.s_th 0) zJ (by decide) (by decide) (hR.th 0)
      refine ⟨σ', ?_, r2⟩
      simp (disch := omega) only [eX3_least, uX3_least, mG, mP hα, mR hα, mW hα, mgs, zKK, zB, zBl, zBb, zlg, zA, zA3, zL3, km31, km63, klshr, kishr, k2p, kl1shl, klmask, kland1, kiand1, k_l2i, zrt_b, zrt_0, zrt_1, zdv_n, zdv_l, t_isRun, e2, e3, r1]
/-- places still empty, in thousandths -/
def kex (m : Nat) : Nat → Nat
  | 0 => 1000 * m
  | k + 1 => kex m k - kex m k / m
theorem kex_le (m k : Nat) : kex m k ≤ 1000 * m := by
  induction k with
  | zero => exact Nat.le_refl _
  | succ k ih => exact Nat.le_trans (Nat.sub_le _ _) ih
def q_expects (p n : Int32) : Int32 := if kbd p 4 8 && kbd n 0 100000 then nI (kex (2 ^ kN p) (kN n)) else -1
theorem t_expects_loop (H : zH) (a0 : Nat) {p : Nat} (h8 : p ≤ 8) {n : Nat} (hn : n ≤ 100000) (j : Nat) : ∀ k, k + j = n → zs PG mX3_expects 47 [.ref a0, .int (nI p), .int (nI n), .int (nI (2 ^ p)), .int (nI (kex (2 ^ p) k)), .int (nI k)] [] H = some (.inl (some (.int (nI (kex (2 ^ p) n)))), H) := by
  have h2 := k2p_le h8
  have h1 : 0 < 2 ^ p := Nat.pow_pos (by decide)
  induction j with
  | zero =>
    intro k hk
    have hk : k = n := by omega
    subst hk
    rw [uX3_expects_at47]
    simp (disch := omega) only [uX3_expects, zKK, zB, zBl, zBb, zlg, zA, zA3, zL3, km31, km63, klshr, kishr, k2p, kl1shl, klmask, kland1, kiand1, k_l2i, zrt_b, zrt_0, zrt_1, zdv_n, zdv_l]
  | succ j ih =>
    intro k hk
    have hl := kex_le (2 ^ p) k
    have hd : kex (2 ^ p) k / 2 ^ p ≤ kex (2 ^ p) k := Nat.div_le_self _ _
    rw [uX3_expects_at47, ← ih (k + 1) (by omega), kex]
    simp (disch := omega) only [uX3_expects, zKK, zB, zBl, zBb, zlg, zA, zA3, zL3, km31, km63, klshr, kishr, k2p, kl1shl, klmask, kland1, kiand1, k_l2i, zrt_b, zrt_0, zrt_1, zdv_n, zdv_l]
theorem M_expects {α : Nat → Nat} (hα : mD α) (σ : mS) (h : zH) {S : kS} (hR : mR6 S σ) (p n : Int32) : ∃ σ', zc PG mX3_expects [.ref (α 0), .int p, .int n] (mH α σ h) = some (.inl (some (.int (q_expects p n))), mH α σ' h) ∧ mR6 S σ' := by
  unfold q_expects
  refine ⟨_, ?_, hR.th 0⟩
  rcases kbd_cases p 4 8 with e1 | ⟨p, h4, h8, rfl⟩
  · simp only [e1, Bool.false_and, Bool.false_eq_true, if_false]
    simp (disch := omega) only [eX3_expects, uX3_expects, mG, mP hα, mR hα, mW hα, mgs, zKK, zB, zBl, zBb, zlg, zA, zA3, zL3, km31, km63, klshr, kishr, k2p, kl1shl, klmask, kland1, kiand1, k_l2i, zrt_b, zrt_0, zrt_1, zdv_n, zdv_l, t_ini, e1]
  · have e1 := kbd_nI h4 h8 (by omega)
    rcases kbd_cases n 0 100000 with e2 | ⟨n, -, hn, rfl⟩
    · simp only [e1, e2, Bool.and_false, Bool.false_eq_true, if_false]
      simp (disch := omega) only [eX3_expects, uX3_expects, mG, mP hα, mR hα, mW hα, mgs, zKK, zB, zBl, zBb, zlg, zA, zA3, zL3, km31, km63, klshr, kishr, k2p, kl1shl, klmask, kland1, kiand1, k_l2i, zrt_b, zrt_0, zrt_1, zdv_n, zdv_l, t_ini, t_inN, e1, e2]
    · have e2 := kbd_nI (Nat.zero_le n) hn (by omega)
      simp only [e1, e2, Bool.and_self, if_true]
      rw [kN_nI (by omega), kN_nI (by omega)]
      have r := t_expects_loop (mH α (σ.s_th 0) h) (α 0) h8 hn n 0 (by omega)
      rw [show kex (2 ^ p) 0 = 1000 * 2 ^ p from rfl] at r
      simp (disch := omega) only [eX3_expects, uX3_expects, mG, mP hα, mR hα, mW hα, mgs, zKK, zB, zBl, zBb, zlg, zA, zA3, zL3, km31, km63, klshr, kishr, k2p, kl1shl, klmask, kland1, kiand1, k_l2i, zrt_b, zrt_0, zrt_1, zdv_n, zdv_l, t_inN, e1, e2, r]
def q_things (p e : Int32) : Int32 := if kbd p 4 8 && decide (¬ e < nI 0) then ((kfi (fun k => decide (¬ e < nI (kex (2 ^ kN p) k))) 100001 0).elim (-2) nI) else -1
theorem t_things_loop (H : zH) (a0 : Nat) {p : Nat} (h8 : p ≤ 8) (e : Int32) (j : Nat) : ∀ k, k + j = 100001 → zs PG mX3_things 39 [.ref a0, .int (nI p), .int e, .int (nI (2 ^ p)), .int (nI (kex (2 ^ p) k)), .int (nI k)] [] H = some (.inl (some (.int ((kfi (fun k => decide (¬ e < nI (kex (2 ^ p) k))) j k).elim (-2) nI))), H) := by
  have h2 := k2p_le h8
  have h1 : 0 < 2 ^ p := Nat.pow_pos (by decide)
  induction j with
  | zero =>
    intro k hk
    rw [uX3_things_at39]
    simp (disch := omega) only [uX3_things, zKK, zB, zBl, zBb, zlg, zA, zA3, zL3, km31, km63, klshr, kishr, k2p, kl1shl, klmask, kland1, kiand1, k_l2i, zrt_b, zrt_0, zrt_1, zdv_n, zdv_l, kfi, Option.elim]
  | succ j ih =>
    intro k hk
    have hl := kex_le (2 ^ p) k
    have hd : kex (2 ^ p) k / 2 ^ p ≤ kex (2 ^ p) k := Nat.div_le_self _ _
    rw [uX3_things_at39]
    unfold kfi
    by_cases eo : e < nI (kex (2 ^ p) k)
    · rw [decide_eq_false (fun q => q eo)]
      simp only [Bool.false_eq_true, if_false]
      rw [← ih (k + 1) (by omega), kex]
      simp (disch := omega) only [uX3_things, zKK, zB, zBl, zBb, zlg, zA, zA3, zL3, km31, km63, klshr, kishr, k2p, kl1shl, klmask, kland1, kiand1, k_l2i, zrt_b, zrt_0, zrt_1, zdv_n, zdv_l, eo]
    · rw [decide_eq_true eo]
      simp only [if_true]
      simp (disch := omega) only [uX3_things, zKK, zB, zBl, zBb, zlg, zA, zA3, zL3, km31, km63, klshr, kishr, k2p, kl1shl, klmask, kland1, kiand1, k_l2i, zrt_b, zrt_0, zrt_1, zdv_n, zdv_l, eo, Option.elim]
theorem M_things {α : Nat → Nat} (hα : mD α) (σ : mS) (h : zH) {S : kS} (hR : mR6 S σ) (p e : Int32) : ∃ σ', zc PG mX3_things [.ref (α 0), .int p, .int e] (mH α σ h) = some (.inl (some (.int (q_things p e))), mH α σ' h) ∧ mR6 S σ' := by
  unfold q_things
  refine ⟨_, ?_, hR.th 0⟩
  rcases kbd_cases p 4 8 with e1 | ⟨p, h4, h8, rfl⟩
  · simp only [e1, Bool.false_and, Bool.false_eq_true, if_false]
    simp (disch := omega) only [eX3_things, uX3_things, mG, mP hα, mR hα, mW hα, mgs, zKK, zB, zBl, zBb, zlg, zA, zA3, zL3, km31, km63, klshr, kishr, k2p, kl1shl, klmask, kland1, kiand1, k_l2i, zrt_b, zrt_0, zrt_1, zdv_n, zdv_l, t_ini, e1]
  · have e1 := kbd_nI h4 h8 (by omega)
    by_cases e3 : e < nI 0
    · rw [decide_eq_false (fun q => q e3)]
      simp only [e1, Bool.and_false, Bool.false_eq_true, if_false]
      simp (disch := omega) only [eX3_things, uX3_things, mG, mP hα, mR hα, mW hα, mgs, zKK, zB, zBl, zBb, zlg, zA, zA3, zL3, km31, km63, klshr, kishr, k2p, kl1shl, klmask, kland1, kiand1, k_l2i, zrt_b, zrt_0, zrt_1, zdv_n, zdv_l, t_inN, e1, e3]
    · rw [decide_eq_true e3]
      simp only [e1, Bool.and_self, if_true]
      rw [kN_nI (by omega)]
      have r := t_things_loop (mH α (σ.s_th 0) h) (α 0) h8 e 100001 0 (by omega)
      rw [show kex (2 ^ p) 0 = 1000 * 2 ^ p from rfl] at r
      simp (disch := omega) only [eX3_things, uX3_things, mG, mP hα, mR hα, mW hα, mgs, zKK, zB, zBl, zBb, zlg, zA, zA3, zL3, km31, km63, klshr, kishr, k2p, kl1shl, klmask, kland1, kiand1, k_l2i, zrt_b, zrt_0, zrt_1, zdv_n, zdv_l, t_inN, e1, e3, r]
def q_would (S : kS) (c a n s : Int32) : Int32 × kS := if kbd c 0 5 && kbd n 0 1000 then (nI (kguess (krn (kms S.a S.b a s) (S.c (kN c)) (kN n)).1), S.s_w [lN (krn (kms S.a S.b a s) (S.c (kN c)) (kN n)).2, lN (if (krn (kms S.a S.b a s) (S.c (kN c)) (kN n)).1.d then 1 else 0)]) else (-1, S)
theorem krn_le (f : Nat → Nat) (C : kC) (n : Nat) : (krn f C n).2 ≤ n := by
  induction n with
  | zero => exact Nat.le_refl _
  | succ n ih =>
    unfold krn
    dsimp only
    split <;> omega
theorem M_would {α : Nat → Nat} (hα : mD α) (σ : mS) (h : zH) {S : kS} (hR : mR6 S σ) (hI : kSI S) (c a n s : Int32) : ∃ σ', zc PG mX3_would [.ref (α 0), .int c, .int a, .int n, .int s] (mH α σ h) = some (.inl (some (.int (q_would S c a n s).1)), mH α σ' h) ∧ mR6 (q_would S c a n s).2 σ' := by
  unfold q_would
  rcases kbd_cases c 0 5 with e1 | ⟨c, -, hc, rfl⟩
  · simp only [e1, Bool.false_and, Bool.false_eq_true, if_false]
    refine ⟨_, ?_, hR.th 0⟩
    simp (disch := omega) only [eX3_would, uX3_would, mG, mP hα, mR hα, mW hα, mgs, zKK, zB, zBl, zBb, zlg, zA, zA3, zL3, km31, km63, klshr, kishr, k2p, kl1shl, klmask, kland1, kiand1, k_l2i, zrt_b, zrt_0, zrt_1, zdv_n, zdv_l, t_isCounter, e1]
  · have e1 := kbd_nI (Nat.zero_le c) hc (by omega)
    rcases kbd_cases n 0 1000 with e2 | ⟨n, -, hn, rfl⟩
    · simp only [e1, e2, Bool.and_false, Bool.false_eq_true, if_false]
      refine ⟨_, ?_, hR.th 0⟩
      simp (disch := omega) only [eX3_would, uX3_would, mG, mP hα, mR hα, mW hα, mgs, zKK, zB, zBl, zBb, zlg, zA, zA3, zL3, km31, km63, klshr, kishr, k2p, kl1shl, klmask, kland1, kiand1, k_l2i, zrt_b, zrt_0, zrt_1, zdv_n, zdv_l, t_isCounter, t_ini, e1, e2]
    · have e2 := kbd_nI (Nat.zero_le n) hn (by omega)
      simp only [e1, e2, Bool.and_self, if_true]
      rw [kN_nI (by omega), kN_nI (by omega)]
      have hR0 := hR.th 0
      have iC := hI.1 c (by omega)
      obtain ⟨σ1, q1, s1, f1⟩ := t_copiesSlot hα (σ.s_th 0) h (f := c) (t := 8) (by omega) (by omega) (by omega) (hR0.1 c (by omega))
      have R1 := hR0.fr (f1.mono (fun d q => by show 6 ≤ d; omega))
      obtain ⟨σ2, q2, s2, f2⟩ := t_runsInto hα σ1 h (c := 8) (by decide) a s hn s1 iC
      rw [R1.2.1, R1.2.2.1] at q2 s2
      have R2 : mR6 (S.s_w []) (σ2.s_rm 0) := (R1.fr (f2.mono (fun d q => by show 6 ≤ d; omega))).rm0
      have i2 := kI_rn (kms_lt S.a S.b a s) iC n
      have hl := krn_le (kms S.a S.b a s) (S.c c) n
      obtain ⟨σ3, t3, R3, k3⟩ := t_tellY hα (σ2.s_rm 0) h R2 (by simp) (lN (krn (kms S.a S.b a s) (S.c c) n).2)
      have s3 := k3 8 _ (s2.eqs (σ' := σ2.s_rm 0) (by simp only [mgs]) (by simp only [mgs]) (by simp only [mgs]) (by simp only [mgs]) (by simp only [mgs]) (by simp only [mgs]))
      obtain ⟨σ4, t4, R4, k4⟩ := t_tellY hα σ3 h R3 (by simp) (lN (if (krn (kms S.a S.b a s) (S.c c) n).1.d then 1 else 0))
      obtain ⟨x, qg⟩ := t_guessX hα σ4 h (k4 8 _ s3) i2 (by decide)
      have d3 : σ3.de 8 = (krn (kms S.a S.b a s) (S.c c) n).1.d := s3.2.2.1
      refine ⟨_, ?_, R4.hw x⟩
      cases hd : (krn (kms S.a S.b a s) (S.c c) n).1.d with
      | true =>
        rw [hd] at d3 t4
        simp only [if_true] at t4
        simp (disch := omega) only [eX3_would, uX3_would, mG, mP hα, mR hα, mW hα, mgs, zKK, zB, zBl, zBb, zlg, zA, zA3, zL3, km31, km63, klshr, kishr, k2p, kl1shl, klmask, kland1, kiand1, k_l2i, zrt_b, zrt_0, zrt_1, zdv_n, zdv_l, t_isCounter, t_inN, e1, e2, q1, q2, t3, d3, t4, qg]
      | false =>
        rw [hd] at d3 t4
        simp only [Bool.false_eq_true, if_false] at t4
        simp (disch := omega) only [eX3_would, uX3_would, mG, mP hα, mR hα, mW hα, mgs, zKK, zB, zBl, zBb, zlg, zA, zA3, zL3, km31, km63, klshr, kishr, k2p, kl1shl, klmask, kland1, kiand1, k_l2i, zrt_b, zrt_0, zrt_1, zdv_n, zdv_l, t_isCounter, t_inN, e1, e2, q1, q2, t3, d3, t4, qg]
