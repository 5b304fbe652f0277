/-! THE MODEL IS MADE -/
/-- a heap with an object of class 3 at a and cells pushed behind -/
def zKh (h : zH) (a : Nat) (fs : List Value) (L : List (zE × Nat)) : zH := (fun q => if q = a then some (true, .inr (3, fs)) else if h.2.1 ≤ q ∧ q < h.2.1 + L.length then some (true, (L.getD (q - h.2.1) (.inr (0, []), 0)).1) else h.1 q, h.2.1 + L.length, h.2.2.1 + (L.map (fun x => x.2)).sum, h.2.2.2)
theorem zKh_n (h : zH) (a : Nat) (fs : List Value) (L : List (zE × Nat)) : (zKh h a fs L).2.1 = h.2.1 + L.length := rfl
theorem zKh_new {h : zH} {a : Nat} {fs : List Value} {L : List (zE × Nat)} {t n : Nat} (ha : a < h.2.1) (hn : n < 60000000) : znew (zKh h a fs L) t (nI n) = some (zKh h a fs (L ++ [(.inl (t, n, fun _ => zdef t), n)])) := by
  have e0 : (nI n).toNatClampNeg = n := by
    show (nI n).toInt.toNat = n
    rw [nI_toInt (by omega)]
    rfl
  have e1 : ¬ (nI n < 0 ∨ 60000000 ≤ (nI n).toNatClampNeg) := by
    rw [e0]
    intro q
    rcases q with q | q
    · have := Int32.lt_iff_toInt_lt.mp q
      rw [nI_toInt (by omega)] at this
      have h0 : (0 : Int32).toInt = 0 := by decide
      omega
    · omega
  unfold znew
  rw [if_neg e1, e0]
  congr 1
  unfold zpush zKh
  dsimp only
  refine Prod.ext ?_ (Prod.ext ?_ (Prod.ext ?_ rfl))
  · funext q
    dsimp only
    rw [List.length_append, List.length_singleton]
    by_cases e2 : q = h.2.1 + L.length
    · rw [if_pos e2, if_neg (by omega), if_pos (by omega), e2, Nat.add_sub_cancel_left, List.getD_eq_getElem?_getD, List.getElem?_append_right (Nat.le_refl _), Nat.sub_self]
      rfl
    · rw [if_neg e2]
      by_cases e3 : q = a
      · rw [if_pos e3, if_pos e3]
      · rw [if_neg e3, if_neg e3]
        by_cases e4 : h.2.1 ≤ q ∧ q < h.2.1 + L.length
        · rw [if_pos e4, if_pos (by omega), List.getD_eq_getElem?_getD, List.getD_eq_getElem?_getD, List.getElem?_append_left (by omega)]
        · rw [if_neg e4, if_neg (by omega)]
  · show h.2.1 + L.length + 1 = h.2.1 + (L ++ [_]).length
    rw [List.length_append, List.length_singleton]
    omega
  · show h.2.2.1 + (L.map (fun x => x.2)).sum + n = h.2.2.1 + ((L ++ [((.inl (t, n, fun _ => zdef t) : zE), n)]).map (fun x => x.2)).sum
    rw [List.map_append, List.sum_append]
    simp only [List.map_cons, List.map_nil, List.sum_cons, List.sum_nil]
    omega
theorem zKh_put {h : zH} {a : Nat} {fs : List Value} {L : List (zE × Nat)} {k ty : Nat} {v : Value} (hk : (Nat.blt k fs.length && zkind ty v) = true) : zput (zKh h a fs L) a 3 k ty v = some (zKh h a (fs.set k v) L) := by
  have h1 : k < fs.length := Nat.le_of_ble_eq_true (Bool.and_eq_true_iff.mp hk).1
  have h2 := (Bool.and_eq_true_iff.mp hk).2
  have e : (zKh h a fs L).1 a = some (true, .inr (3, fs)) := if_pos rfl
  unfold zput
  rw [e]
  dsimp only
  rw [if_pos ⟨rfl, h1, h2⟩]
  congr 1
  unfold zup zKh
  refine Prod.ext ?_ rfl
  funext q
  dsimp only
  by_cases e2 : q = a
  · rw [if_pos e2, if_pos e2]
  · rw [if_neg e2, if_neg e2, if_neg e2]
theorem zKh_r {h : zH} {a : Nat} {fs : List Value} {L : List (zE × Nat)} {k x : Nat} (hk : k < fs.length) : zput (zKh h a fs L) a 3 k 3 (.ref x) = some (zKh h a (fs.set k (.ref x)) L) := zKh_put (Bool.and_eq_true_iff.mpr ⟨Nat.ble_eq_true_of_le hk, rfl⟩)
theorem zKh_i {h : zH} {a : Nat} {fs : List Value} {L : List (zE × Nat)} {k : Nat} {x : Int32} (hk : k < fs.length) : zput (zKh h a fs L) a 3 k 0 (.int x) = some (zKh h a (fs.set k (.int x)) L) := zKh_put (Bool.and_eq_true_iff.mpr ⟨Nat.ble_eq_true_of_le hk, rfl⟩)
theorem zKh_self {h : zH} {a : Nat} {fs : List Value} (e : h.1 a = some (true, .inr (3, fs))) : h = zKh h a fs [] := by
  unfold zKh
  refine Prod.ext ?_ rfl
  funext q
  dsimp only
  by_cases e2 : q = a
  · rw [if_pos e2, e2]; exact e
  · rw [if_neg e2, if_neg (by intro q2; have := q2.2; simp only [List.length_nil] at this; omega)]
def mal (a N : Nat) (j : Nat) : Nat := if j = 0 then a else N + (j - 1)
theorem mal_D {a N : Nat} (h : a < N) : mD (mal a N) := by
  intro i j hi hj e
  unfold mal at e
  by_cases e1 : i = 0
  · by_cases e2 : j = 0
    · omega
    · rw [if_pos e1, if_neg e2] at e; omega
  · by_cases e2 : j = 0
    · rw [if_neg e1, if_pos e2] at e; omega
    · rw [if_neg e1, if_neg e2] at e; omega
/-- the model's words before its slots are opened -/
def mS0 : mS := (fun _ => 0, fun _ => 0, fun _ => false, fun _ => 0, fun _ => 0, fun _ => 0, nI 1, 0, fun _ => 0, 0, fun _ => 0, 0, 0, fun _ => 0, 0, 0, 0, fun _ => 0, 0)
def mF0 (N : Nat) : List Value := [.ref N, .ref (N + 1), .ref (N + 2), .ref (N + 3), .ref (N + 4), .ref (N + 5), .int (nI 1), .int 0, .ref (N + 6), .int 0, .ref (N + 7), .int 0, .int 0, .ref (N + 8), .int 0, .int 0, .int 0, .ref (N + 9), .int 0]
def mL0 : List (zE × Nat) := [(.inl (0, 10, fun _ => zdef 0), 10), (.inl (0, 10, fun _ => zdef 0), 10), (.inl (1, 10, fun _ => zdef 1), 10), (.inl (2, 640, fun _ => zdef 2), 640), (.inl (0, 10, fun _ => zdef 0), 10), (.inl (0, 2560, fun _ => zdef 0), 2560), (.inl (4, 600, fun _ => zdef 4), 600), (.inl (2, 16, fun _ => zdef 2), 16), (.inl (0, 600, fun _ => zdef 0), 600), (.inl (0, 256, fun _ => zdef 0), 256)]
theorem mK_eq (h : zH) {a : Nat} (ha : a < h.2.1) : zKh h a (mF0 h.2.1) mL0 = mH (mal a h.2.1) mS0 (h.1, h.2.1 + 10, h.2.2.1 + 4712, h.2.2.2) := by
  unfold zKh mH
  refine Prod.ext ?_ rfl
  funext q
  dsimp only
  by_cases e : q = a
  · rw [if_pos e, if_pos (show q = mal a h.2.1 0 from e)]
    rfl
  · rw [if_neg e, if_neg (show ¬ q = mal a h.2.1 0 from e)]
    by_cases e1 : h.2.1 ≤ q ∧ q < h.2.1 + mL0.length
    · rw [if_pos e1]
      obtain ⟨i, rfl⟩ : ∃ i, q = h.2.1 + i := ⟨q - h.2.1, by omega⟩
      have hi : i < 10 := by have := e1.2; have : mL0.length = 10 := rfl; omega
      have hm : ∀ j, 1 ≤ j → (h.2.1 + i = mal a h.2.1 j) = (i = j - 1) := fun j hj => by
        unfold mal
        rw [if_neg (by omega)]
        exact propext ⟨fun q => by omega, fun q => by omega⟩
      rw [Nat.add_sub_cancel_left]
      simp (disch := decide) only [hm]
      match i, hi with
      | 0, _ => rfl
      | 1, _ => rfl
      | 2, _ => rfl
      | 3, _ => rfl
      | 4, _ => rfl
      | 5, _ => rfl
      | 6, _ => rfl
      | 7, _ => rfl
      | 8, _ => rfl
      | 9, _ => rfl
    · rw [if_neg e1]
      have hl : mL0.length = 10 := rfl
      have hm : ∀ j, 1 ≤ j → j ≤ 10 → ¬ q = mal a h.2.1 j := fun j hj hj2 q2 => by
        unfold mal at q2
        rw [if_neg (by omega)] at q2
        omega
      simp (disch := decide) only [hm, if_false]
theorem t_init_loop {α : Nat → Nat} (hα : mD α) (h : zH) (n : Nat) : ∀ (k : Nat) (σ : mS), k + n = 10 → (∀ c, c < k → mSl σ c (kopen 4 12)) → ∃ σ', zs PG mX3_init 96 [.ref (α 0), .int (nI k)] [] (mH α σ h) = some (.inl none, mH α σ' h) ∧ (∀ c, c < 10 → mSl σ' c (kopen 4 12)) ∧ mSc σ σ' := by
  induction n with
  | zero =>
    intro k σ hk hs
    have hk : k = 10 := by omega
    subst hk
    refine ⟨σ, ?_, hs, mSc.rf σ⟩
    rw [uX3_init_at96]
    simp (disch := omega) only [uX3_init, mG, mP hα, mR hα, mW hα, mgs, zKK, zB, zBl, zBb, zlg, zA, zA3, zL3, km31, km63, klshr, kishr, k2p, kl1shl, klmask, kland1, kiand1, k_l2i, zrt_b, zrt_0, zrt_1, zdv_n, zdv_l]
  | succ n ih =>
    intro k σ hk hs
    obtain ⟨σ1, q1, q2, q3⟩ := t_opensSlot hα σ h k (by omega) 4 12
    obtain ⟨σ2, r1, r2, r3⟩ := ih (k + 1) σ1 (by omega) (fun c hc => by
      by_cases e : c = k
      · rw [e]; exact q2
      · exact (hs c (by omega)).keep q3 e)
    refine ⟨σ2, ?_, r2, q3.1.trans r3⟩
    rw [uX3_init_at96, ← r1]
    simp (disch := omega) only [uX3_init, mG, mP hα, mR hα, mW hα, mgs, zKK, zB, zBl, zBb, zlg, zA, zA3, zL3, km31, km63, klshr, kishr, k2p, kl1shl, klmask, kland1, kiand1, k_l2i, zrt_b, zrt_0, zrt_1, zdv_n, zdv_l, q1]
def kS0 : kS := (fun _ => kopen 4 12, nI 1, 0, [], [])
def mF : List Value := [.null, .null, .null, .null, .null, .null, .int 0, .int 0, .null, .int 0, .null, .int 0, .int 0, .null, .int 0, .int 0, .int 0, .null, .int 0]
theorem M_init {h : zH} {a : Nat} (ha : a < h.2.1) (e : h.1 a = some (true, .inr (3, mF))) : ∃ σ', zc PG mX3_init [.ref a] h = some (.inl none, mH (mal a h.2.1) σ' (h.1, h.2.1 + 10, h.2.2.1 + 4712, h.2.2.2)) ∧ mR6 kS0 σ' := by
  obtain ⟨σ', r1, r2, r3⟩ := t_init_loop (mal_D ha) (h.1, h.2.1 + 10, h.2.2.1 + 4712, h.2.2.2) 10 0 mS0 rfl (fun c hc => absurd hc (Nat.not_lt_zero _))
  rw [← mK_eq h ha] at r1
  rw [show mal a h.2.1 0 = a from rfl] at r1
  refine ⟨σ', ?_, ?_⟩
  · rw [← r1, eX3_init]
    have e2 := zKh_self e
    generalize hN : zKh h a mF [] = H0 at e2
    rw [show zs PG mX3_init 0 [.ref a, zJ] [] h = zs PG mX3_init 0 [.ref a, zJ] [] H0 by rw [← e2], ← hN]
    unfold mF
    simp (disch := first | omega | (simp only [List.length_cons, List.length_nil]; omega)) only [uX3_init, zKK, zKh_new, zKh_r, zKh_i, zKh_n, List.set_cons_zero, List.set_cons_succ, List.nil_append, List.cons_append, List.length_cons, List.length_nil, Nat.add_zero, Nat.zero_add, Nat.reduceAdd]
    rfl
  · obtain ⟨g1, g2, g3, g4, g5, g6, g7, g8, g9, g10, g11⟩ := r3
    exact ⟨fun c hc => r2 c (by omega), g1, g2, g4, (fun k hk => absurd hk (Nat.not_lt_zero _)), g6, (fun k hk => absurd hk (Nat.not_lt_zero _))⟩
theorem kSI0 : kSI kS0 := ⟨fun c _ => kI_open (by decide) (by decide) (by decide) (by decide), Nat.zero_le _, (fun x hx => absurd hx List.not_mem_nil), Nat.zero_le _⟩
