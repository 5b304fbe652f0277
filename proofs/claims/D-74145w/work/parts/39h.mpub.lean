/-! THE MODEL's PUBLIC METHODS: two folded, trials, counts -/
theorem t_foldsBoth {α : Nat → Nat} (hα : mD α) (σ : mS) (h : zH) {a b : Nat} (ha : a < 6) (hb : b < 6) {A B : kC} (sA : mSl σ a A) (sB : mSl σ b B) (iA : kI A) (iB : kI B) : ∃ σ', zc PG mX3_foldsBoth [.ref (α 0), .int (nI a), .int (nI b)] (mH α σ h) = some (.inl (some (.int (nI (2 ^ min A.p B.p)))), mH α σ' h) ∧ mSl σ' 7 (kfoldC A (min A.p B.p)) ∧ mSl σ' 8 (kfoldC B (min A.p B.p)) ∧ mFr mHi σ σ' := by
  have a1 := iA.1
  have a2 := iA.2.1
  have b1 := iB.1
  have b2 := iB.2.1
  have pA : σ.bi a = A.p := sA.1
  have pB : σ.bi b = B.p := sB.1
  obtain ⟨σ1, q1, s1, f1⟩ := t_copiesSlot hα σ h (f := a) (t := 7) (by omega) (by omega) (by omega) sA
  have sB1 := sB.keep f1 (by omega)
  obtain ⟨σ2, q2, s2, f2⟩ := t_copiesSlot hα σ1 h (f := b) (t := 8) (by omega) (by omega) (by omega) sB1
  have s1' := s1.keep f2 (by omega)
  obtain ⟨σ3, q3, s3, f3⟩ := t_foldsSlot hα σ2 h (c := 7) (q := min A.p B.p) (by decide) s1' iA.J (by omega) (Nat.min_le_left _ _)
  have s2' := s2.keep f3 (by omega)
  obtain ⟨σ4, q4, s4, f4⟩ := t_foldsSlot hα σ3 h (c := 8) (q := min A.p B.p) (by decide) s2' iB.J (by omega) (Nat.min_le_right _ _)
  refine ⟨σ4, ?_, s3.keep f4 (by omega), s4, (((f1.mono (fun d q => by show 6 ≤ d; omega)).trans (f2.mono (fun d q => by show 6 ≤ d; omega))).trans (f3.mono (fun d q => by show 6 ≤ d; omega))).trans (f4.mono (fun d q => by show 6 ≤ d; omega))⟩
  simp (disch := omega) only [eX3_foldsBoth, uX3_foldsBoth, mG, mP hα, mR hα, mW hα, mgs, zKK, zB, zBl, zBb, zlg, zA, zA3, zL3, km31, km63, klshr, kishr, k2p, kl1shl, klmask, kland1, kiand1, k_l2i, zrt_b, zrt_0, zrt_1, zdv_n, zdv_l, pA, pB, j_minI, q1, q2, q3, q4]
/-- the ranks in the slots 7 and 8 -/
def m78 (σ : mS) (q : Nat) (r1 r2 : Nat → Nat) : Prop := q ≤ 8 ∧ (∀ x, x < 256 → σ.ra (1792 + x) = r1 x) ∧ (∀ x, x < 256 → σ.ra (2048 + x) = r2 x) ∧ (∀ x, r1 x ≤ 29) ∧ (∀ x, r2 x ≤ 29)
theorem m78_of {σ : mS} {A B : kC} (s7 : mSl σ 7 (kfoldC A (min A.p B.p))) (s8 : mSl σ 8 (kfoldC B (min A.p B.p))) (iA : kI A) (iB : kI B) : m78 σ (min A.p B.p) (kfold A.p (min A.p B.p) A.r) (kfold B.p (min A.p B.p) B.r) := by
  have a1 := iA.1
  have a2 := iA.2.1
  have b1 := iB.1
  have b2 := iB.2.1
  refine ⟨by omega, s7.2.2.2.2.2.1, s8.2.2.2.2.2.1, fun x => ?_, fun x => ?_⟩
  · have := kfold_bound (q := min A.p B.p) (Nat.min_le_left _ _) (by omega) iA.2.2.2.2.1 x
    omega
  · have := kfold_bound (q := min A.p B.p) (Nat.min_le_right _ _) (by omega) iB.2.2.2.2.1 x
    omega
/-- places where the first is the greater -/
def kgt (r1 r2 : Nat → Nat) : Nat → Nat
  | 0 => 0
  | n + 1 => kgt r1 r2 n + if r2 n < r1 n then 1 else 0
theorem kgt_le (r1 r2 : Nat → Nat) (n : Nat) : kgt r1 r2 n ≤ n := by
  induction n with
  | zero => exact Nat.le_refl _
  | succ n ih => unfold kgt; split <;> omega
theorem t_unlike_loop {α : Nat → Nat} (hα : mD α) (σ : mS) (h : zH) {q : Nat} {r1 r2 : Nat → Nat} (h78 : m78 σ q r1 r2) (a1 a2 : Int32) (k : Nat) : ∀ x, x + k = 2 ^ q → zs PG mX3_unlike 37 [.ref (α 0), .int a1, .int a2, .int (nI (2 ^ q)), .int (nI (kgt r1 r2 x)), .int (nI (kgt r2 r1 x)), .int (nI x)] [] (mH α σ h) = zs PG mX3_unlike 123 [.ref (α 0), .int a1, .int a2, .int (nI (2 ^ q)), .int (nI (kgt r1 r2 (2 ^ q))), .int (nI (kgt r2 r1 (2 ^ q))), .int (nI (2 ^ q))] [] (mH α σ h) := by
  obtain ⟨h8, g1, g2, g3, g4⟩ := h78
  have h2 := k2p_le h8
  induction k with
  | zero =>
    intro x hx
    have hx : x = 2 ^ q := hx
    subst hx
    rw [uX3_unlike_at37]
    simp (disch := omega) only [uX3_unlike_at39, uX3_unlike_at40, zKK, zB]
  | succ k ih =>
    intro x hx
    have f1 := g1 x (by omega)
    have f2 := g2 x (by omega)
    have f3 := g3 x
    have f4 := g4 x
    rw [← ih (x + 1) (by omega), uX3_unlike_at37, kgt, kgt]
    by_cases e1 : r2 x < r1 x
    · have e2 : ¬ r1 x < r2 x := by omega
      simp (disch := omega) only [uX3_unlike_p0, uX3_unlike_p1, mG, mP hα, mR hα, mW hα, mgs, zKK, zB, zBl, zBb, zlg, zA, zA3, zL3, km31, km63, klshr, kishr, k2p, kl1shl, klmask, kland1, kiand1, k_l2i, zrt_b, zrt_0, zrt_1, zdv_n, zdv_l, t_at, f1, f2, if_pos e1, if_neg e2]
    · by_cases e2 : r1 x < r2 x
      · simp (disch := omega) only [uX3_unlike_p0, uX3_unlike_p1, mG, mP hα, mR hα, mW hα, mgs, zKK, zB, zBl, zBb, zlg, zA, zA3, zL3, km31, km63, klshr, kishr, k2p, kl1shl, klmask, kland1, kiand1, k_l2i, zrt_b, zrt_0, zrt_1, zdv_n, zdv_l, t_at, f1, f2, if_neg e1, if_pos e2]
      · simp (disch := omega) only [uX3_unlike_p0, uX3_unlike_p1, mG, mP hα, mR hα, mW hα, mgs, zKK, zB, zBl, zBb, zlg, zA, zA3, zL3, km31, km63, klshr, kishr, k2p, kl1shl, klmask, kland1, kiand1, k_l2i, zrt_b, zrt_0, zrt_1, zdv_n, zdv_l, t_at, f1, f2, if_neg e1, if_neg e2]
def kfr (A B : kC) : Nat → Nat := kfold A.p (min A.p B.p) A.r
def kfs (A B : kC) : Nat → Nat := kfold B.p (min A.p B.p) B.r
def q_unlike (S : kS) (a b : Int32) : Int32 × kS := if kbd a 0 5 && kbd b 0 5 then (nI (kgt (kfr (S.c (kN a)) (S.c (kN b))) (kfs (S.c (kN a)) (S.c (kN b))) (2 ^ min (S.c (kN a)).p (S.c (kN b)).p) + kgt (kfs (S.c (kN a)) (S.c (kN b))) (kfr (S.c (kN a)) (S.c (kN b))) (2 ^ min (S.c (kN a)).p (S.c (kN b)).p)), S.s_w [lN (kgt (kfr (S.c (kN a)) (S.c (kN b))) (kfs (S.c (kN a)) (S.c (kN b))) (2 ^ min (S.c (kN a)).p (S.c (kN b)).p)), lN (kgt (kfs (S.c (kN a)) (S.c (kN b))) (kfr (S.c (kN a)) (S.c (kN b))) (2 ^ min (S.c (kN a)).p (S.c (kN b)).p))]) else (-1, S)
theorem M_unlike {α : Nat → Nat} (hα : mD α) (σ : mS) (h : zH) {S : kS} (hR : mR6 S σ) (hI : kSI S) (a b : Int32) : ∃ σ', zc PG mX3_unlike [.ref (α 0), .int a, .int b] (mH α σ h) = some (.inl (some (.int (q_unlike S a b).1)), mH α σ' h) ∧ mR6 (q_unlike S a b).2 σ' := by
  unfold q_unlike
  rcases kbd_cases a 0 5 with e1 | ⟨a, -, ha, rfl⟩
  · simp only [e1, Bool.false_and, Bool.false_eq_true, if_false]
    refine ⟨_, ?_, hR.th 0⟩
    simp (disch := omega) only [eX3_unlike, uX3_unlike_p0, uX3_unlike_p1, mG, mP hα, mR hα, mW hα, mgs, zKK, zB, zBl, zBb, zlg, zA, zA3, zL3, km31, km63, klshr, kishr, k2p, kl1shl, klmask, kland1, kiand1, k_l2i, zrt_b, zrt_0, zrt_1, zdv_n, zdv_l, t_isCounter, e1]
  · have e1 := kbd_nI (Nat.zero_le a) ha (by omega)
    rcases kbd_cases b 0 5 with e2 | ⟨b, -, hb, rfl⟩
    · simp only [e1, e2, Bool.and_false, Bool.false_eq_true, if_false]
      refine ⟨_, ?_, hR.th 0⟩
      simp (disch := omega) only [eX3_unlike, uX3_unlike_p0, uX3_unlike_p1, mG, mP hα, mR hα, mW hα, mgs, zKK, zB, zBl, zBb, zlg, zA, zA3, zL3, km31, km63, klshr, kishr, k2p, kl1shl, klmask, kland1, kiand1, k_l2i, zrt_b, zrt_0, zrt_1, zdv_n, zdv_l, t_isCounter, e1, e2]
    · have e2 := kbd_nI (Nat.zero_le b) hb (by omega)
      simp only [e1, e2, Bool.and_self, if_true]
      rw [kN_nI (by omega), kN_nI (by omega)]
      have iA := hI.1 a (by omega)
      have iB := hI.1 b (by omega)
      have hR0 := hR.th 0
      obtain ⟨σ1, q1, s7, s8, f1⟩ := t_foldsBoth hα (σ.s_th 0) h (a := a) (b := b) (by omega) (by omega) (hR0.1 a (by omega)) (hR0.1 b (by omega)) iA iB
      have m := m78_of s7 s8 iA iB
      have h2 := k2p_le m.1
      have el := t_unlike_loop hα σ1 h m (nI a) (nI b) (2 ^ min (S.c a).p (S.c b).p) 0 (by omega)
      rw [show kgt (kfold (S.c a).p (min (S.c a).p (S.c b).p) (S.c a).r) (kfold (S.c b).p (min (S.c a).p (S.c b).p) (S.c b).r) 0 = 0 from rfl, show kgt (kfold (S.c b).p (min (S.c a).p (S.c b).p) (S.c b).r) (kfold (S.c a).p (min (S.c a).p (S.c b).p) (S.c a).r) 0 = 0 from rfl] at el
      have l1 := kgt_le (kfr (S.c a) (S.c b)) (kfs (S.c a) (S.c b)) (2 ^ min (S.c a).p (S.c b).p)
      have l2 := kgt_le (kfs (S.c a) (S.c b)) (kfr (S.c a) (S.c b)) (2 ^ min (S.c a).p (S.c b).p)
      have R1 := (hR0.fr f1).rm0
      refine ⟨_, ?_, (R1.tell (lN (kgt (kfr (S.c a) (S.c b)) (kfs (S.c a) (S.c b)) (2 ^ min (S.c a).p (S.c b).p)))).tell (lN (kgt (kfs (S.c a) (S.c b)) (kfr (S.c a) (S.c b)) (2 ^ min (S.c a).p (S.c b).p)))⟩
      unfold kfr kfs at l1 l2 ⊢
      simp (disch := omega) only [eX3_unlike, uX3_unlike_p0, uX3_unlike_p1, mG, mP hα, mR hα, mW hα, mgs, zKK, zB, zBl, zBb, zlg, zA, zA3, zL3, km31, km63, klshr, kishr, k2p, kl1shl, klmask, kland1, kiand1, k_l2i, zrt_b, zrt_0, zrt_1, zdv_n, zdv_l, t_isCounter, e1, e2, q1, el, t_tell_s hα]
def koff (r1 r2 : Nat → Nat) (x : Nat) : Nat := r1 x - r2 x + (r2 x - r1 x)
theorem kabs_sub {a b : Nat} (ha : a < 1000000) (hb : b < 1000000) : kabs (nI a - nI b) = nI (a - b + (b - a)) := by
  unfold kabs
  have ht := pk_sub_toInt (a := a) (b := b) (by omega) (by omega)
  by_cases e : a < b
  · have h1 : nI a - nI b < nI 0 := by
      rw [Int32.lt_iff_toInt_lt, ht, nI_toInt (by decide)]
      omega
    rw [if_pos h1, show a - b + (b - a) = b - a by omega, ← pk_sub (by omega), Int32.neg_sub]
  · have h1 : ¬ nI a - nI b < nI 0 := by
      rw [Int32.lt_iff_toInt_lt, ht, nI_toInt (by decide)]
      omega
    rw [if_neg h1, show a - b + (b - a) = a - b by omega, pk_sub (by omega)]
def kap (r1 r2 : Nat → Nat) : Nat → Nat × Nat × Nat
  | 0 => (0, 0, 0)
  | n + 1 => ((kap r1 r2 n).1 + koff r1 r2 n, if (kap r1 r2 n).2.1 < koff r1 r2 n then koff r1 r2 n else (kap r1 r2 n).2.1, if (kap r1 r2 n).2.1 < koff r1 r2 n then n else (kap r1 r2 n).2.2)
theorem kap_le {r1 r2 : Nat → Nat} (h1 : ∀ x, r1 x ≤ 29) (h2 : ∀ x, r2 x ≤ 29) (n : Nat) : (kap r1 r2 n).1 ≤ 58 * n ∧ (kap r1 r2 n).2.1 ≤ 58 ∧ (kap r1 r2 n).2.2 ≤ n := by
  induction n with
  | zero => exact ⟨Nat.le_refl _, Nat.zero_le _, Nat.le_refl _⟩
  | succ n ih =>
    have := h1 n
    have := h2 n
    have ho : koff r1 r2 n ≤ 58 := by unfold koff; omega
    unfold kap
    dsimp only
    refine ⟨by omega, by split <;> omega, by split <;> omega⟩
theorem t_apart_loop {α : Nat → Nat} (hα : mD α) (σ : mS) (h : zH) {q : Nat} {r1 r2 : Nat → Nat} (h78 : m78 σ q r1 r2) (a1 a2 : Int32) (k : Nat) : ∀ (x : Nat) (u : Value), x + k = 2 ^ q → ∃ u', zs PG mX3_apart 40 [.ref (α 0), .int a1, .int a2, .int (nI (2 ^ q)), .int (nI (kap r1 r2 x).1), .int (nI (kap r1 r2 x).2.1), .int (nI (kap r1 r2 x).2.2), .int (nI x), u] [] (mH α σ h) = zs PG mX3_apart 107 [.ref (α 0), .int a1, .int a2, .int (nI (2 ^ q)), .int (nI (kap r1 r2 (2 ^ q)).1), .int (nI (kap r1 r2 (2 ^ q)).2.1), .int (nI (kap r1 r2 (2 ^ q)).2.2), .int (nI (2 ^ q)), u'] [] (mH α σ h) := by
  obtain ⟨h8, g1, g2, g3, g4⟩ := h78
  have h2 := k2p_le h8
  induction k with
  | zero =>
    intro x u hx
    have hx : x = 2 ^ q := hx
    subst hx
    refine ⟨u, ?_⟩
    rw [uX3_apart_at40]
    simp (disch := omega) only [uX3_apart_at42, uX3_apart_at43, zKK, zB]
  | succ k ih =>
    intro x u hx
    have f1 := g1 x (by omega)
    have f2 := g2 x (by omega)
    have f3 := g3 x
    have f4 := g4 x
    obtain ⟨l1, l2, l3⟩ := kap_le g3 g4 x
    have ho : koff r1 r2 x ≤ 58 := by unfold koff; omega
    have ea : kabs (nI (r1 x) - nI (r2 x)) = nI (koff r1 r2 x) := kabs_sub (by omega) (by omega)
    obtain ⟨u', r⟩ := ih (x + 1) (.int (nI (koff r1 r2 x))) (by omega)
    refine ⟨u', ?_⟩
    rw [← r, uX3_apart_at40, kap]
    dsimp only
    by_cases e1 : (kap r1 r2 x).2.1 < koff r1 r2 x
    · simp (disch := omega) only [uX3_apart_p0, uX3_apart_p1, mG, mR hα, mgs, zKK, zB, zA, t_at, f1, f2, j_abs, ea, if_pos e1]
    · simp (disch := omega) only [uX3_apart_p0, uX3_apart_p1, mG, mR hα, mgs, zKK, zB, zA, t_at, f1, f2, j_abs, ea, if_neg e1]
def q_apart (S : kS) (a b : Int32) : Int32 × kS := if kbd a 0 5 && kbd b 0 5 then (nI (kap (kfr (S.c (kN a)) (S.c (kN b))) (kfs (S.c (kN a)) (S.c (kN b))) (2 ^ min (S.c (kN a)).p (S.c (kN b)).p)).1, S.s_w [lN (kap (kfr (S.c (kN a)) (S.c (kN b))) (kfs (S.c (kN a)) (S.c (kN b))) (2 ^ min (S.c (kN a)).p (S.c (kN b)).p)).2.1, lN (kap (kfr (S.c (kN a)) (S.c (kN b))) (kfs (S.c (kN a)) (S.c (kN b))) (2 ^ min (S.c (kN a)).p (S.c (kN b)).p)).2.2]) else (-1, S)
theorem M_apart {α : Nat → Nat} (hα : mD α) (σ : mS) (h : zH) {S : kS} (hR : mR6 S σ) (hI : kSI S) (a b : Int32) : ∃ σ', zc PG mX3_apart [.ref (α 0), .int a, .int b] (mH α σ h) = some (.inl (some (.int (q_apart S a b).1)), mH α σ' h) ∧ mR6 (q_apart S a b).2 σ' := by
  unfold q_apart
  rcases kbd_cases a 0 5 with e1 | ⟨a, -, ha, rfl⟩
  · simp only [e1, Bool.false_and, Bool.false_eq_true, if_false]
    refine ⟨_, ?_, hR.th 0⟩
    simp (disch := omega) only [eX3_apart, uX3_apart_p0, uX3_apart_p1, mG, mP hα, mR hα, mW hα, mgs, zKK, zB, zBl, zBb, zlg, zA, zA3, zL3, km31, km63, klshr, kishr, k2p, kl1shl, klmask, kland1, kiand1, k_l2i, zrt_b, zrt_0, zrt_1, zdv_n, zdv_l, t_isCounter, e1]
  · have e1 := kbd_nI (Nat.zero_le a) ha (by omega)
    rcases kbd_cases b 0 5 with e2 | ⟨b, -, hb, rfl⟩
    · simp only [e1, e2, Bool.and_false, Bool.false_eq_true, if_false]
      refine ⟨_, ?_, hR.th 0⟩
      simp (disch := omega) only [eX3_apart, uX3_apart_p0, uX3_apart_p1, mG, mP hα, mR hα, mW hα, mgs, zKK, zB, zBl, zBb, zlg, zA, zA3, zL3, km31, km63, klshr, kishr, k2p, kl1shl, klmask, kland1, kiand1, k_l2i, zrt_b, zrt_0, zrt_1, zdv_n, zdv_l, t_isCounter, e1, e2]
    · have e2 := kbd_nI (Nat.zero_le b) hb (by omega)
      simp only [e1, e2, Bool.and_self, if_true]
      rw [kN_nI (by omega), kN_nI (by omega)]
      have iA := hI.1 a (by omega)
      have iB := hI.1 b (by omega)
      have hR0 := hR.th 0
      obtain ⟨σ1, q1, s7, s8, f1⟩ := t_foldsBoth hα (σ.s_th 0) h (a := a) (b := b) (by omega) (by omega) (hR0.1 a (by omega)) (hR0.1 b (by omega)) iA iB
      have m := m78_of s7 s8 iA iB
      have h2 := k2p_le m.1
      obtain ⟨u, el⟩ := t_apart_loop hα σ1 h m (nI a) (nI b) (2 ^ min (S.c a).p (S.c b).p) 0 zJ (by omega)
      rw [show kap (kfold (S.c a).p (min (S.c a).p (S.c b).p) (S.c a).r) (kfold (S.c b).p (min (S.c a).p (S.c b).p) (S.c b).r) 0 = (0, 0, 0) from rfl] at el
      dsimp only at el
      obtain ⟨l1, l2, l3⟩ := kap_le m.2.2.2.1 m.2.2.2.2 (2 ^ min (S.c a).p (S.c b).p)
      have R1 := (hR0.fr f1).rm0
      refine ⟨_, ?_, (R1.tell (lN (kap (kfr (S.c a) (S.c b)) (kfs (S.c a) (S.c b)) (2 ^ min (S.c a).p (S.c b).p)).2.1)).tell (lN (kap (kfr (S.c a) (S.c b)) (kfs (S.c a) (S.c b)) (2 ^ min (S.c a).p (S.c b).p)).2.2)⟩
      unfold kfr kfs
      simp (disch := omega) only [eX3_apart, uX3_apart_p0, uX3_apart_p1, mG, mP hα, mR hα, mW hα, mgs, zKK, zB, zBl, zBb, zlg, zA, zA3, zL3, km31, km63, klshr, kishr, k2p, kl1shl, klmask, kland1, kiand1, k_l2i, zrt_b, zrt_0, zrt_1, zdv_n, zdv_l, t_isCounter, e1, e2, q1, el, t_tell_s hα]
/-- the second nowhere greater -/
def kwi (b : Bool) (r1 r2 : Nat → Nat) : Nat → Bool
  | 0 => b
  | n + 1 => kwi b r1 r2 n && decide (r2 n ≤ r1 n)
theorem t_within_loop {α : Nat → Nat} (hα : mD α) (σ : mS) (h : zH) {q : Nat} {r1 r2 : Nat → Nat} (h78 : m78 σ q r1 r2) (b : Bool) (a1 a2 a3 : Int32) (k : Nat) : ∀ x, x + k = 2 ^ q → zs PG mX3_within 56 [.ref (α 0), .int a1, .int a2, .int a3, .int (nI (2 ^ q)), .int (zb (kwi b r1 r2 x)), .int (nI x)] [] (mH α σ h) = some (.inl (some (.int (zb (kwi b r1 r2 (2 ^ q))))), mH α σ h) := by
  obtain ⟨h8, g1, g2, g3, g4⟩ := h78
  have h2 := k2p_le h8
  induction k with
  | zero =>
    intro x hx
    have hx : x = 2 ^ q := hx
    subst hx
    rw [uX3_within_at56]
    cases e : kwi b r1 r2 (2 ^ q) with
    | true => simp (disch := omega) only [uX3_within_p0, uX3_within_p1, mG, mP hα, mR hα, mW hα, mgs, zKK, zB, zBl, zBb, zlg, zA, zA3, zL3, km31, km63, klshr, kishr, k2p, kl1shl, klmask, kland1, kiand1, k_l2i, zrt_b, zrt_0, zrt_1, zdv_n, zdv_l, zb_t]
    | false => simp (disch := omega) only [uX3_within_p0, uX3_within_p1, mG, mP hα, mR hα, mW hα, mgs, zKK, zB, zBl, zBb, zlg, zA, zA3, zL3, km31, km63, klshr, kishr, k2p, kl1shl, klmask, kland1, kiand1, k_l2i, zrt_b, zrt_0, zrt_1, zdv_n, zdv_l, zb_f]
  | succ k ih =>
    intro x hx
    have f1 := g1 x (by omega)
    have f2 := g2 x (by omega)
    have f3 := g3 x
    have f4 := g4 x
    rw [← ih (x + 1) (by omega), uX3_within_at56, kwi]
    cases e : kwi b r1 r2 x with
    | false =>
      rw [Bool.false_and]
      simp (disch := omega) only [uX3_within_p0, uX3_within_p1, mG, mP hα, mR hα, mW hα, mgs, zKK, zB, zBl, zBb, zlg, zA, zA3, zL3, km31, km63, klshr, kishr, k2p, kl1shl, klmask, kland1, kiand1, k_l2i, zrt_b, zrt_0, zrt_1, zdv_n, zdv_l, zb_f]
    | true =>
      rw [Bool.true_and]
      by_cases e2 : r2 x ≤ r1 x
      · rw [decide_eq_true e2]
        simp (disch := omega) only [uX3_within_p0, uX3_within_p1, mG, mP hα, mR hα, mW hα, mgs, zKK, zB, zBl, zBb, zlg, zA, zA3, zL3, km31, km63, klshr, kishr, k2p, kl1shl, klmask, kland1, kiand1, k_l2i, zrt_b, zrt_0, zrt_1, zdv_n, zdv_l, t_at, f1, f2, zb_t]
      · rw [decide_eq_false e2]
        simp (disch := omega) only [uX3_within_p0, uX3_within_p1, mG, mP hα, mR hα, mW hα, mgs, zKK, zB, zBl, zBb, zlg, zA, zA3, zL3, km31, km63, klshr, kishr, k2p, kl1shl, klmask, kland1, kiand1, k_l2i, zrt_b, zrt_0, zrt_1, zdv_n, zdv_l, t_at, f1, f2, zb_f, zb_t]
def q_within (S : kS) (a b : Int32) : Int32 := if kbd a 0 5 && kbd b 0 5 then zb (kwi (decide (kgg S (kN a) (kN b) = kguess (kfoldC (S.c (kN a)) (min (S.c (kN a)).p (S.c (kN b)).p)))) (kfr (S.c (kN a)) (S.c (kN b))) (kfs (S.c (kN a)) (S.c (kN b))) (2 ^ min (S.c (kN a)).p (S.c (kN b)).p)) else -1
theorem M_within {α : Nat → Nat} (hα : mD α) (σ : mS) (h : zH) {S : kS} (hR : mR6 S σ) (hI : kSI S) (a b : Int32) : ∃ σ', zc PG mX3_within [.ref (α 0), .int a, .int b] (mH α σ h) = some (.inl (some (.int (q_within S a b))), mH α σ' h) ∧ mR6 S σ' := by
  unfold q_within
  rcases kbd_cases a 0 5 with e1 | ⟨a, -, ha, rfl⟩
  · simp only [e1, Bool.false_and, Bool.false_eq_true, if_false]
    refine ⟨_, ?_, hR.th 0⟩
    simp (disch := omega) only [eX3_within, uX3_within_p0, uX3_within_p1, mG, mP hα, mR hα, mW hα, mgs, zKK, zB, zBl, zBb, zlg, zA, zA3, zL3, km31, km63, klshr, kishr, k2p, kl1shl, klmask, kland1, kiand1, k_l2i, zrt_b, zrt_0, zrt_1, zdv_n, zdv_l, t_isCounter, e1]
  · have e1 := kbd_nI (Nat.zero_le a) ha (by omega)
    rcases kbd_cases b 0 5 with e2 | ⟨b, -, hb, rfl⟩
    · simp only [e1, e2, Bool.and_false, Bool.false_eq_true, if_false]
      refine ⟨_, ?_, hR.th 0⟩
      simp (disch := omega) only [eX3_within, uX3_within_p0, uX3_within_p1, mG, mP hα, mR hα, mW hα, mgs, zKK, zB, zBl, zBb, zlg, zA, zA3, zL3, km31, km63, klshr, kishr, k2p, kl1shl, klmask, kland1, kiand1, k_l2i, zrt_b, zrt_0, zrt_1, zdv_n, zdv_l, t_isCounter, e1, e2]
    · have e2 := kbd_nI (Nat.zero_le b) hb (by omega)
      simp only [e1, e2, Bool.and_self, if_true]
      rw [kN_nI (by omega), kN_nI (by omega)]
      have iA := hI.1 a (by omega)
      have iB := hI.1 b (by omega)
      have hR0 := hR.th 0
      have a1 := iA.1
      have b1 := iB.1
      obtain ⟨σ0, q0, f0⟩ := t_bothGuess hα (σ.s_th 0) h (a := a) (b := b) (by omega) (by omega) (hR0.1 a (by omega)) (hR0.1 b (by omega)) iA iB
      have hR1 := hR0.fr f0
      obtain ⟨σ1, q1, s7, s8, f1⟩ := t_foldsBoth hα σ0 h (a := a) (b := b) (by omega) (by omega) (hR1.1 a (by omega)) (hR1.1 b (by omega)) iA iB
      have m := m78_of s7 s8 iA iB
      have iF := kI_fold iA (q := min (S.c a).p (S.c b).p) (by omega) (Nat.min_le_left _ _)
      obtain ⟨x, qg⟩ := t_guessX hα σ1 h s7 iF (by decide)
      have g1 := kguess_le iF
      have g2 := kguess_le (kI_two iA iB)
      have m' : m78 (σ1.s_hw x) (min (S.c a).p (S.c b).p) (kfold (S.c a).p (min (S.c a).p (S.c b).p) (S.c a).r) (kfold (S.c b).p (min (S.c a).p (S.c b).p) (S.c b).r) := by
        unfold m78
        simp only [mgs]
        exact m
      have h2 := k2p_le m.1
      have el := fun bb => t_within_loop hα (σ1.s_hw x) h m' bb (nI a) (nI b) (nI (kguess (kjoin [S.c a, S.c b]))) (2 ^ min (S.c a).p (S.c b).p) 0 (by omega)
      refine ⟨_, ?_, (hR1.fr f1).hw x⟩
      unfold kfr kfs kgg
      by_cases e3 : kguess (kjoin [S.c a, S.c b]) = kguess (kfoldC (S.c a) (min (S.c a).p (S.c b).p))
      · have el := el true
        rw [show zb (kwi true (kfold (S.c a).p (min (S.c a).p (S.c b).p) (S.c a).r) (kfold (S.c b).p (min (S.c a).p (S.c b).p) (S.c b).r) 0) = nI 1 from rfl] at el
        rw [decide_eq_true e3]
        simp (disch := omega) only [eX3_within, uX3_within_p0, uX3_within_p1, mG, mP hα, mR hα, mW hα, mgs, zKK, zB, zBl, zBb, zlg, zA, zA3, zL3, km31, km63, klshr, kishr, k2p, kl1shl, klmask, kland1, kiand1, k_l2i, zrt_b, zrt_0, zrt_1, zdv_n, zdv_l, t_isCounter, e1, e2, q0, q1, qg, el]
      · have el := el false
        rw [show zb (kwi false (kfold (S.c a).p (min (S.c a).p (S.c b).p) (S.c a).r) (kfold (S.c b).p (min (S.c a).p (S.c b).p) (S.c b).r) 0) = nI 0 from rfl] at el
        rw [decide_eq_false e3]
        simp (disch := omega) only [eX3_within, uX3_within_p0, uX3_within_p1, mG, mP hα, mR hα, mW hα, mgs, zKK, zB, zBl, zBb, zlg, zA, zA3, zL3, km31, km63, klshr, kishr, k2p, kl1shl, klmask, kland1, kiand1, k_l2i, zrt_b, zrt_0, zrt_1, zdv_n, zdv_l, t_isCounter, e1, e2, q0, q1, qg, el]
