/-! THE MODEL's SLOTS: copies, marks, ranks -/
theorem t_copiesSlot_loop1 {α : Nat → Nat} (hα : mD α) (σ : mS) (h : zH) (f t : Nat) (hf : f < 10) (ht : t < 10) (hft : f ≠ t) (n : Nat) : ∀ k, k + n = 64 → zs PG mX3_copiesSlot 50 [.ref (α 0), .int (nI f), .int (nI t), .int (nI k)] [] (mH α (σ.s_ma (mmb σ.ma t (kpf (fun y => σ.ma (64 * f + y)) (fun y => σ.ma (64 * t + y)) k))) h) = zs PG mX3_copiesSlot 86 [.ref (α 0), .int (nI f), .int (nI t), .int (nI 0)] [] (mH α (σ.s_ma (mmb σ.ma t (fun y => σ.ma (64 * f + y)))) h) := by
  induction n with
  | zero =>
    intro k hk
    have hk : k = 64 := by omega
    subst hk
    rw [uX3_copiesSlot_at50]
    simp (disch := omega) only [uX3_copiesSlot_p0, uX3_copiesSlot_p1, mG, mP hα, mR hα, mW hα, mgs, zKK, zB, zBl, zBb, zlg, zA, zA3, zL3, km31, km63, klshr, kishr, k2p, kl1shl, klmask, kland1, kiand1, k_l2i, zrt_b, zrt_0, zrt_1, zdv_n, zdv_l, mmb_pf]
  | succ n ih =>
    intro k hk
    rw [uX3_copiesSlot_at50, ← ih (k + 1) (by omega), ← kpf_up]
    simp (disch := omega) only [uX3_copiesSlot_p0, uX3_copiesSlot_p1, mG, mP hα, mR hα, mW hα, mgs, zKK, zB, zBl, zBb, zlg, zA, zA3, zL3, km31, km63, klshr, kishr, k2p, kl1shl, klmask, kland1, kiand1, k_l2i, zrt_b, zrt_0, zrt_1, zdv_n, zdv_l, mmb_o, mmb_up, mss]
theorem t_copiesSlot_loop2 {α : Nat → Nat} (hα : mD α) (σ : mS) (h : zH) (f t : Nat) (hf : f < 10) (ht : t < 10) (hft : f ≠ t) (n : Nat) : ∀ k, k + n = 256 → zs PG mX3_copiesSlot 86 [.ref (α 0), .int (nI f), .int (nI t), .int (nI k)] [] (mH α (σ.s_ra (mblk σ.ra t (kpf (fun y => σ.ra (256 * f + y)) (fun y => σ.ra (256 * t + y)) k))) h) = some (.inl none, mH α (σ.s_ra (mblk σ.ra t (fun y => σ.ra (256 * f + y)))) h) := by
  induction n with
  | zero =>
    intro k hk
    have hk : k = 256 := by omega
    subst hk
    rw [uX3_copiesSlot_at86]
    simp (disch := omega) only [uX3_copiesSlot_p0, uX3_copiesSlot_p1, mG, mP hα, mR hα, mW hα, mgs, zKK, zB, zBl, zBb, zlg, zA, zA3, zL3, km31, km63, klshr, kishr, k2p, kl1shl, klmask, kland1, kiand1, k_l2i, zrt_b, zrt_0, zrt_1, zdv_n, zdv_l, mblk_pf]
  | succ n ih =>
    intro k hk
    rw [uX3_copiesSlot_at86, ← ih (k + 1) (by omega), ← kpf_up]
    simp (disch := omega) only [uX3_copiesSlot_p0, uX3_copiesSlot_p1, mG, mP hα, mR hα, mW hα, mgs, zKK, zB, zBl, zBb, zlg, zA, zA3, zL3, km31, km63, klshr, kishr, k2p, kl1shl, klmask, kland1, kiand1, k_l2i, zrt_b, zrt_0, zrt_1, zdv_n, zdv_l, t_at, mblk_o, mblk_up, mss]
theorem t_copiesSlot_l {α : Nat → Nat} (hα : mD α) (σ : mS) (h : zH) (f t : Nat) (hf : f < 10) (ht : t < 10) (hft : f ≠ t) : zs PG mX3_copiesSlot 50 [.ref (α 0), .int (nI f), .int (nI t), .int (nI 0)] [] (mH α σ h) = some (.inl none, mH α ((σ.s_ma (mmb σ.ma t (fun y => σ.ma (64 * f + y)))).s_ra (mblk σ.ra t (fun y => σ.ra (256 * f + y)))) h) := by
  have e1 := t_copiesSlot_loop1 hα σ h f t hf ht hft 64 0 rfl
  rw [kpf_0, mmb_self] at e1
  have e2 := t_copiesSlot_loop2 hα (σ.s_ma (mmb σ.ma t (fun y => σ.ma (64 * f + y)))) h f t hf ht hft 256 0 rfl
  rw [kpf_0, mblk_self] at e2
  exact e1.trans e2
theorem t_copiesSlot {α : Nat → Nat} (hα : mD α) (σ : mS) (h : zH) {f t : Nat} (hf : f < 10) (ht : t < 10) (hft : f ≠ t) {C : kC} (hC : mSl σ f C) : ∃ σ', zc PG mX3_copiesSlot [.ref (α 0), .int (nI f), .int (nI t)] (mH α σ h) = some (.inl none, mH α σ' h) ∧ mSl σ' t C ∧ mFr (fun d => d = t) σ σ' := by
  refine ⟨(((((σ.s_bi (va_up σ.bi t (σ.bi f))).s_li (va_up σ.li t (σ.li f))).s_de (va_up σ.de t (σ.de f))).s_mm (va_up σ.mm t (σ.mm f))).s_ma (mmb σ.ma t (fun y => σ.ma (64 * f + y)))).s_ra (mblk σ.ra t (fun y => σ.ra (256 * f + y))), ?_, ?_, ?_⟩
  · simp (disch := omega) only [eX3_copiesSlot, uX3_copiesSlot_p0, uX3_copiesSlot_p1, mG, mP hα, mR hα, mW hα, mgs, zKK, zB, zBl, zBb, zlg, zA, zA3, zL3, km31, km63, klshr, kishr, k2p, kl1shl, klmask, kland1, kiand1, k_l2i, zrt_b, zrt_0, zrt_1, zdv_n, zdv_l, t_copiesSlot_l hα]
  · obtain ⟨h1, h2, h3, h4, h5, h6, h7⟩ := hC
    unfold mSl
    simp only [mgs, va_up_self]
    refine ⟨h1, h2, h3, h4, fun k hk => ?_, fun x hx => ?_, h7⟩
    · rw [mmb_s (by omega)]; exact h5 k hk
    · rw [mblk_s hx]; exact h6 x hx
  · have e := (((((mFr_bi σ t (σ.bi f)).trans (mFr_li _ t (σ.li f))).trans (mFr_de _ t (σ.de f))).trans (mFr_mm _ t (σ.mm f))).trans (mFr_ma _ t (fun y => σ.ma (64 * f + y)))).trans (mFr_ra _ t (fun y => σ.ra (256 * f + y)))
    simp only [mgs] at e
    exact e
theorem kpl_256 {m p : Nat} (hm : m < 4294967296) (h8 : p ≤ 8) : kpl m p < 256 := Nat.lt_of_lt_of_le (kpl_lt hm (by omega)) (k2p_le h8)
theorem t_raises {α : Nat → Nat} (hα : mD α) (σ : mS) (h : zH) {c m : Nat} (hc : c < 10) (h4 : 4 ≤ σ.bi c) (h8 : σ.bi c ≤ 8) (hm : m < 4294967296) (hr : σ.ra (256 * c + kpl m (σ.bi c)) < 2147483648) : zc PG mX3_raises [.ref (α 0), .int (nI c), .long (lN m)] (mH α σ h) = some (.inl (some (.int (zb (decide (σ.ra (256 * c + kpl m (σ.bi c)) < krk m (σ.bi c)))))), mH α (σ.s_ra (krs σ.ra (256 * c + kpl m (σ.bi c)) (krk m (σ.bi c)))) h) := by
  have hk := kpl_256 hm h8
  have hb := (krk_bounds m (p := σ.bi c) (by omega)).2
  by_cases e : σ.ra (256 * c + kpl m (σ.bi c)) < krk m (σ.bi c)
  · rw [krs_up e, decide_eq_true e]
    simp (disch := omega) only [eX3_raises, uX3_raises, mG, mP hα, mR hα, mW hα, mgs, zKK, zB, zBl, zBb, zlg, zA, zA3, zL3, km31, km63, klshr, kishr, k2p, kl1shl, klmask, kland1, kiand1, k_l2i, zrt_b, zrt_0, zrt_1, zdv_n, zdv_l, t_placeOf, t_rankOf, t_at, zb_t]
  · rw [krs_same (by omega), decide_eq_false e]
    simp (disch := omega) only [eX3_raises, uX3_raises, mG, mP hα, mR hα, mW hα, mgs, zKK, zB, zBl, zBb, zlg, zA, zA3, zL3, km31, km63, klshr, kishr, k2p, kl1shl, klmask, kland1, kiand1, k_l2i, zrt_b, zrt_0, zrt_1, zdv_n, zdv_l, t_placeOf, t_rankOf, t_at, zb_f, msi]
theorem mblk_rs {a r : Nat → Nat} {c x v : Nat} (h : x < 256) : krs (mblk a c r) (256 * c + x) v = mblk a c (krs r x v) := by
  by_cases e : r x < v
  · rw [krs_up e, krs_up (by rw [mblk_s h]; exact e), mblk_up h]
  · rw [krs_same (r := r) (by omega), krs_same (r := mblk a c r) (by rw [mblk_s h]; omega)]
theorem krs_b {r : Nat → Nat} {x v b : Nat} (h : ∀ y, r y ≤ b) (hv : v ≤ b) : ∀ y, krs r x v y ≤ b := fun y => (krs_le r x v y b).mpr ⟨h y, fun _ => hv⟩
theorem t_laysRanks_loop1 {α : Nat → Nat} (hα : mD α) (σ : mS) (h : zH) (c : Nat) (hc : c < 10) (n : Nat) : ∀ x, x + n = 256 → zs PG mX3_laysRanks 2 [.ref (α 0), .int (nI c), .int (nI x)] [] (mH α (σ.s_ra (mblk σ.ra c (kpf (fun _ => 0) (fun y => σ.ra (256 * c + y)) x))) h) = zs PG mX3_laysRanks 28 [.ref (α 0), .int (nI c), .int (nI 0)] [] (mH α (σ.s_ra (mblk σ.ra c (fun _ => 0))) h) := by
  induction n with
  | zero =>
    intro k hk
    have hk : k = 256 := by omega
    subst hk
    rw [uX3_laysRanks_at2]
    simp (disch := omega) only [uX3_laysRanks, mG, mP hα, mR hα, mW hα, mgs, zKK, zB, zBl, zBb, zlg, zA, zA3, zL3, km31, km63, klshr, kishr, k2p, kl1shl, klmask, kland1, kiand1, k_l2i, zrt_b, zrt_0, zrt_1, zdv_n, zdv_l, mblk_pf]
  | succ n ih =>
    intro k hk
    rw [uX3_laysRanks_at2, ← ih (k + 1) (by omega), ← kpf_up]
    simp (disch := omega) only [uX3_laysRanks, mG, mP hα, mR hα, mW hα, mgs, zKK, zB, zBl, zBb, zlg, zA, zA3, zL3, km31, km63, klshr, kishr, k2p, kl1shl, klmask, kland1, kiand1, k_l2i, zrt_b, zrt_0, zrt_1, zdv_n, zdv_l, t_at, mblk_up, mss]
theorem t_laysRanks_loop2 {α : Nat → Nat} (hα : mD α) (σ : mS) (h : zH) (c : Nat) (hc : c < 10) (h4 : 4 ≤ σ.bi c) (h8 : σ.bi c ≤ 8) (L : List Nat) (hn : σ.mm c = L.length) (hl : L.length ≤ 64) (hL : ∀ k, k < L.length → σ.ma (64 * c + k) = L.getD k 0) (hm : ∀ m ∈ L, m < 2 ^ 32) (B : List Nat) : ∀ (A : List Nat) (r : Nat → Nat), L = A ++ B → (∀ x, r x ≤ 33) → zs PG mX3_laysRanks 28 [.ref (α 0), .int (nI c), .int (nI A.length)] [] (mH α (σ.s_ra (mblk σ.ra c r)) h) = some (.inl none, mH α (σ.s_ra (mblk σ.ra c (klay (σ.bi c) r B))) h) := by
  induction B with
  | nil =>
    intro A r hA hr
    have hA : A.length = L.length := by rw [hA]; simp
    rw [uX3_laysRanks_at28]
    simp (disch := omega) only [uX3_laysRanks, mG, mP hα, mR hα, mW hα, mgs, zKK, zB, zBl, zBb, zlg, zA, zA3, zL3, km31, km63, klshr, kishr, k2p, kl1shl, klmask, kland1, kiand1, k_l2i, zrt_b, zrt_0, zrt_1, zdv_n, zdv_l, klay_nil]
  | cons m B ih =>
    intro A r hA hr
    have hA1 : A.length + 1 + B.length = L.length := by rw [hA]; simp; omega
    have hx := hL A.length (by omega)
    rw [hA, kapp_get] at hx
    have hm1 : m < 4294967296 := hm m (by rw [hA]; simp)
    have hk := kpl_256 hm1 h8
    have hb := (krk_bounds m (p := σ.bi c) (by omega)).2
    have hr1 := hr (kpl m (σ.bi c))
    have e := t_raises hα (σ.s_ra (mblk σ.ra c r)) h (c := c) (m := m) hc h4 h8 hm1 (by simp only [mgs]; rw [mblk_s hk]; omega)
    simp only [mgs] at e
    rw [mblk_s hk, mblk_rs hk] at e
    have ih := ih (A ++ [m]) (krs r (kpl m (σ.bi c)) (krk m (σ.bi c))) (by rw [hA]; simp) (krs_b hr (by omega))
    rw [List.length_append, List.length_singleton] at ih
    rw [klay_cons, ← ih, uX3_laysRanks_at28]
    simp (disch := omega) only [uX3_laysRanks, mG, mP hα, mR hα, mW hα, mgs, zKK, zB, zBl, zBb, zlg, zA, zA3, zL3, km31, km63, klshr, kishr, k2p, kl1shl, klmask, kland1, kiand1, k_l2i, zrt_b, zrt_0, zrt_1, zdv_n, zdv_l, hx, e, mss]
theorem t_laysRanks {α : Nat → Nat} (hα : mD α) (σ : mS) (h : zH) {c : Nat} (hc : c < 10) (h4 : 4 ≤ σ.bi c) (h8 : σ.bi c ≤ 8) {L : List Nat} (hn : σ.mm c = L.length) (hl : L.length ≤ 64) (hL : ∀ k, k < L.length → σ.ma (64 * c + k) = L.getD k 0) (hm : ∀ m ∈ L, m < 2 ^ 32) : zc PG mX3_laysRanks [.ref (α 0), .int (nI c)] (mH α σ h) = some (.inl none, mH α (σ.s_ra (mblk σ.ra c (klay (σ.bi c) (fun _ => 0) L))) h) := by
  have e1 := t_laysRanks_loop1 hα σ h c hc 256 0 rfl
  rw [kpf_0, mblk_self] at e1
  have e2 := t_laysRanks_loop2 hα σ h c hc h4 h8 L hn hl hL hm L [] (fun _ => 0) rfl (fun _ => Nat.zero_le _)
  simp only [eX3_laysRanks, uX3_laysRanks]
  exact e1.trans e2
theorem t_hasMark_loop {α : Nat → Nat} (hα : mD α) (σ : mS) (h : zH) (c : Nat) (hc : c < 10) (m : Nat) (hm1 : m < 4294967296) (L : List Nat) (hn : σ.mm c = L.length) (hl : L.length ≤ 64) (hL : ∀ k, k < L.length → σ.ma (64 * c + k) = L.getD k 0) (hm : ∀ m ∈ L, m < 2 ^ 32) (B : List Nat) : ∀ (A : List Nat), L = A ++ B → zs PG mX3_hasMark 3 [.ref (α 0), .int (nI c), .long (lN m), zJ, .int (nI A.length)] [] (mH α σ h) = some (.inl (some (.int (zb (decide (m ∈ B))))), mH α σ h) := by
  induction B with
  | nil =>
    intro A hA
    have hA : A.length = L.length := by rw [hA]; simp
    rw [uX3_hasMark_at3, show decide (m ∈ ([] : List Nat)) = false by simp]
    simp (disch := omega) only [uX3_hasMark, mG, mP hα, mR hα, mW hα, mgs, zKK, zB, zBl, zBb, zlg, zA, zA3, zL3, km31, km63, klshr, kishr, k2p, kl1shl, klmask, kland1, kiand1, k_l2i, zrt_b, zrt_0, zrt_1, zdv_n, zdv_l, zb_f]
  | cons b B ih =>
    intro A hA
    have hA1 : A.length + 1 + B.length = L.length := by rw [hA]; simp; omega
    have hx := hL A.length (by omega)
    rw [hA, kapp_get] at hx
    have hm2 : b < 4294967296 := hm b (by rw [hA]; simp)
    rw [uX3_hasMark_at3]
    by_cases e : b = m
    · rw [show decide (m ∈ b :: B) = true by simp [e]]
      simp (disch := omega) only [uX3_hasMark, mG, mP hα, mR hα, mW hα, mgs, zKK, zB, zBl, zBb, zlg, zA, zA3, zL3, km31, km63, klshr, kishr, k2p, kl1shl, klmask, kland1, kiand1, k_l2i, zrt_b, zrt_0, zrt_1, zdv_n, zdv_l, hx, e, zb_t]
    · have ih := ih (A ++ [b]) (by rw [hA]; simp)
      rw [List.length_append, List.length_singleton] at ih
      rw [show decide (m ∈ b :: B) = decide (m ∈ B) by simp [show ¬ m = b from fun q => e q.symm], ← ih]
      simp (disch := omega) only [uX3_hasMark, mG, mP hα, mR hα, mW hα, mgs, zKK, zB, zBl, zBb, zlg, zA, zA3, zL3, km31, km63, klshr, kishr, k2p, kl1shl, klmask, kland1, kiand1, k_l2i, zrt_b, zrt_0, zrt_1, zdv_n, zdv_l, hx]
theorem t_hasMark {α : Nat → Nat} (hα : mD α) (σ : mS) (h : zH) {c m : Nat} (hc : c < 10) (hm1 : m < 4294967296) {L : List Nat} (hn : σ.mm c = L.length) (hl : L.length ≤ 64) (hL : ∀ k, k < L.length → σ.ma (64 * c + k) = L.getD k 0) (hm : ∀ m ∈ L, m < 2 ^ 32) : zc PG mX3_hasMark [.ref (α 0), .int (nI c), .long (lN m)] (mH α σ h) = some (.inl (some (.int (zb (decide (m ∈ L))))), mH α σ h) := by
  simp only [eX3_hasMark, uX3_hasMark]
  exact t_hasMark_loop hα σ h c hc m hm1 L hn hl hL hm L [] rfl
theorem t_becomesDense {α : Nat → Nat} (hα : mD α) (σ : mS) (h : zH) {c : Nat} (hc : c < 10) : zc PG mX3_becomesDense [.ref (α 0), .int (nI c)] (mH α σ h) = some (.inl none, mH α ((σ.s_de (va_up σ.de c true)).s_mm (va_up σ.mm c 0)) h) := by
  simp (disch := omega) only [eX3_becomesDense, uX3_becomesDense, mG, mP hα, mR hα, mW hα, mgs, zKK, zB, zBl, zBb, zlg, zA, zA3, zL3, km31, km63, klshr, kishr, k2p, kl1shl, klmask, kland1, kiand1, k_l2i, zrt_b, zrt_0, zrt_1, zdv_n, zdv_l, mWb hα]
theorem mFr_dense (σ : mS) (c : Nat) : mFr (fun d => d = c) σ ((σ.s_de (va_up σ.de c true)).s_mm (va_up σ.mm c 0)) := by
  have e := (mFr_de σ c true).trans (mFr_mm _ c 0)
  simp only [mgs] at e
  exact e
theorem mSl_dense {σ : mS} {c : Nat} {C : kC} (hC : mSl σ c C) : mSl ((σ.s_de (va_up σ.de c true)).s_mm (va_up σ.mm c 0)) c (kdense C) := by
  obtain ⟨h1, h2, h3, h4, h5, h6, h7⟩ := hC
  unfold mSl
  simp only [mgs, va_up_self]
  exact ⟨h1, h2, rfl, rfl, fun k hk => absurd hk (Nat.not_lt_zero _), h6, Nat.zero_le _⟩
/-- the marks behind position k moved up by one -/
def kmv (f : Nat → Nat) (k n : Nat) : Nat → Nat := fun j => if k < j ∧ j ≤ n then f (j - 1) else f j
theorem kmv_end (f : Nat → Nat) (n : Nat) : kmv f n n = f := by
  funext j
  unfold kmv
  rw [if_neg (by omega)]
theorem kmv_up (f : Nat → Nat) {k n : Nat} (h : k < n) : va_up (kmv f (k + 1) n) (k + 1) (f k) = kmv f k n := by
  funext j
  unfold kmv va_up
  by_cases e : j = k + 1
  · rw [if_pos e, if_pos (by omega), e]
    rfl
  · rw [if_neg e]
    dsimp only
    by_cases e2 : k + 1 < j ∧ j ≤ n
    · rw [if_pos e2, if_pos (by omega)]
    · rw [if_neg e2, if_neg (by omega)]
theorem t_insert_loop {α : Nat → Nat} (hα : mD α) (σ : mS) (h : zH) (c : Nat) (hc : c < 10) (m : Nat) (hm1 : m < 4294967296) (L : List Nat) (hl : L.length < 64) (hs : ksrt L) (hmL : m ∉ L) (hL : ∀ k, k < L.length → σ.ma (64 * c + k) = L.getD k 0) (hm : ∀ m ∈ L, m < 2 ^ 32) (hn : σ.mm c = L.length) (d : Nat) : kpos m L + d ≤ L.length → zs PG mX3_insert 8 [.ref (α 0), .int (nI c), .long (lN m), zJ, .int (nI (kpos m L + d))] [] (mH α (σ.s_ma (mmb σ.ma c (kmv (fun y => σ.ma (64 * c + y)) (kpos m L + d) L.length))) h) = some (.inl none, mH α ((σ.s_ma (mmb σ.ma c (va_up (kmv (fun y => σ.ma (64 * c + y)) (kpos m L) L.length) (kpos m L) m))).s_mm (va_up σ.mm c (L.length + 1))) h) := by
  induction d with
  | zero =>
    intro hd
    rw [uX3_insert_at8, Nat.add_zero]
    by_cases e : kpos m L = 0
    · simp (disch := omega) only [uX3_insert, mG, mP hα, mR hα, mW hα, mgs, zKK, zB, zBl, zBb, zlg, zA, zA3, zL3, km31, km63, klshr, kishr, k2p, kl1shl, klmask, kland1, kiand1, k_l2i, zrt_b, zrt_0, zrt_1, zdv_n, zdv_l, e, hn, mmb_up, mss]
    · have h1 := kpos_lt m L (kpos m L - 1) (by omega)
      have h2 := hL (kpos m L - 1) (by omega)
      have e2 : 64 * c + kpos m L - 1 = 64 * c + (kpos m L - 1) := by omega
      have e3 : kmv (fun y => σ.ma (64 * c + y)) (kpos m L) L.length (kpos m L - 1) = L.getD (kpos m L - 1) 0 := by
        unfold kmv
        rw [if_neg (by omega)]
        exact h2
      have h3 : L.getD (kpos m L - 1) 0 < 4294967296 := hm _ (kget_mem (by omega))
      simp (disch := omega) only [uX3_insert, mG, mP hα, mR hα, mW hα, mgs, zKK, zB, zBl, zBb, zlg, zA, zA3, zL3, km31, km63, klshr, kishr, k2p, kl1shl, klmask, kland1, kiand1, k_l2i, zrt_b, zrt_0, zrt_1, zdv_n, zdv_l, e2, mmb_s, e3, hn, mmb_up, mss]
  | succ d ih =>
    intro hd
    have h1 := kpos_ge (m := m) hs (kpos m L + d) (by omega) (by omega)
    have h2 := hL (kpos m L + d) (by omega)
    have h3 : L.getD (kpos m L + d) 0 ∈ L := kget_mem (by omega)
    have h4 : L.getD (kpos m L + d) 0 ≠ m := fun q => hmL (by rw [← q]; exact h3)
    have h5 : L.getD (kpos m L + d) 0 < 4294967296 := hm _ h3
    have e2 : 64 * c + (kpos m L + (d + 1)) - 1 = 64 * c + (kpos m L + d) := by omega
    have e3 : kmv (fun y => σ.ma (64 * c + y)) (kpos m L + (d + 1)) L.length (kpos m L + d) = L.getD (kpos m L + d) 0 := by
      unfold kmv
      rw [if_neg (by omega)]
      exact h2
    have e4 : kpos m L + (d + 1) - 1 = kpos m L + d := by omega
    have e5 := kmv_up (fun y => σ.ma (64 * c + y)) (k := kpos m L + d) (n := L.length) (by omega)
    rw [h2] at e5
    rw [uX3_insert_at8, ← ih (by omega), ← e5]
    simp (disch := omega) only [uX3_insert, mG, mP hα, mR hα, mW hα, mgs, zKK, zB, zBl, zBb, zlg, zA, zA3, zL3, km31, km63, klshr, kishr, k2p, kl1shl, klmask, kland1, kiand1, k_l2i, zrt_b, zrt_0, zrt_1, zdv_n, zdv_l, e2, e4, mmb_s, e3, mmb_up, mss]
    rfl
theorem t_insert {α : Nat → Nat} (hα : mD α) (σ : mS) (h : zH) {c m : Nat} (hc : c < 10) (hm1 : m < 4294967296) {C : kC} (hC : mSl σ c C) (hl : C.m.length < 64) (hs : ksrt C.m) (hmL : m ∉ C.m) (hm : ∀ m ∈ C.m, m < 2 ^ 32) : ∃ σ', zc PG mX3_insert [.ref (α 0), .int (nI c), .long (lN m)] (mH α σ h) = some (.inl none, mH α σ' h) ∧ mSl σ' c (C.p, C.l, C.d, kins m C.m, C.r) ∧ mFr (fun d => d = c) σ σ' := by
  obtain ⟨h1, h2, h3, h4, h5, h6, h7⟩ := hC
  have hp := kpos_le m C.m
  have e := t_insert_loop hα σ h c hc m hm1 C.m hl hs hmL h5 hm h4 (C.m.length - kpos m C.m) (by omega)
  rw [show kpos m C.m + (C.m.length - kpos m C.m) = C.m.length by omega, kmv_end, mmb_self, ← h4] at e
  refine ⟨(σ.s_ma (mmb σ.ma c (va_up (kmv (fun y => σ.ma (64 * c + y)) (kpos m C.m) (σ.mm c)) (kpos m C.m) m))).s_mm (va_up σ.mm c (σ.mm c + 1)), ?_, ?_, ?_⟩
  · simp (disch := omega) only [eX3_insert, uX3_insert, mG, mP hα, mR hα, mW hα, mgs, zKK, zB, zBl, zBb, zlg, zA, zA3, zL3, km31, km63, klshr, kishr, k2p, kl1shl, klmask, kland1, kiand1, k_l2i, zrt_b, zrt_0, zrt_1, zdv_n, zdv_l]
    exact e
  · unfold mSl
    simp only [mgs, va_up_self]
    refine ⟨h1, h2, h3, (congrArg (fun z => z + 1) h4).trans (kins_len m C.m).symm, fun k hk => ?_, h6, ?_⟩
    · have hk : k < C.m.length + 1 := by rw [← kins_len m C.m]; exact hk
      rw [mmb_s (by omega)]
      show _ = (kins m C.m).getD k 0
      rw [kins_get]
      unfold va_up kmv
      by_cases e1 : k = kpos m C.m
      · rw [if_pos e1, if_neg (by omega), if_pos e1]
      · rw [if_neg e1]
        dsimp only
        by_cases e2 : k < kpos m C.m
        · rw [if_pos e2, if_neg (by omega), h5 k (by omega)]
        · rw [if_neg e2, if_neg e1, if_pos (by omega), h5 (k - 1) (by omega)]
    · show (kins m C.m).length ≤ 64
      rw [kins_len]
      omega
  · have e := (mFr_ma σ c (va_up (kmv (fun y => σ.ma (64 * c + y)) (kpos m C.m) (σ.mm c)) (kpos m C.m) m)).trans (mFr_mm _ c (σ.mm c + 1))
    simp only [mgs] at e
    exact e
