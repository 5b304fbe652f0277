/-! THE MODEL's PUBLIC METHODS, against what is computed -/
def kN (x : Int32) : Nat := x.toNatClampNeg
theorem kN_nI {k : Nat} (h : k < 2147483648) : kN (nI k) = k := nI_clamp h
/-- the model's state holds S -/
def mR6 (S : kS) (σ : mS) : Prop := (∀ c, c < 6 → mSl σ c (S.c c)) ∧ σ.tm = S.a ∧ σ.mo = S.b ∧ σ.ty = S.t.length ∧ (∀ k, k < S.t.length → σ.tx k = S.t.getD k 0) ∧ σ.rm = S.w.length ∧ (∀ k, k < S.w.length → σ.ro k = S.w.getD k 0)
theorem mR6.fr {S : kS} {σ σ' : mS} (h : mR6 S σ) (f : mFr mHi σ σ') : mR6 S σ' := by
  obtain ⟨h1, h2, h3, h4, h5, h6, h7⟩ := h
  obtain ⟨g1, g2, g3, g4, g5, g6, g7, g8, g9, g10, g11⟩ := f.1
  refine ⟨fun c hc => (h1 c hc).keep f (by show ¬ 6 ≤ c; omega), g1.trans h2, g2.trans h3, g4.trans h4, fun k hk => ?_, g6.trans h6, fun k hk => ?_⟩
  · rw [g3]; exact h5 k hk
  · rw [g5]; exact h7 k hk
theorem mSl.eqs {σ σ' : mS} {c : Nat} {C : kC} (h : mSl σ c C) (e1 : σ'.bi = σ.bi) (e2 : σ'.li = σ.li) (e3 : σ'.de = σ.de) (e4 : σ'.mm = σ.mm) (e5 : σ'.ma = σ.ma) (e6 : σ'.ra = σ.ra) : mSl σ' c C := by
  unfold mSl at h ⊢
  rw [e1, e2, e3, e4, e5, e6]
  exact h
theorem t_inN {k lo hi : Nat} (hk : k < 2147483648) (h1 : lo < 2147483648) (h2 : hi < 2147483648) (h : zH) : zc PG mX3_in [.long (lN k), .long (lN lo), .long (lN hi)] h = some (.inl (some (.int (zb (kbd (nI k) lo hi)))), h) := by
  rw [← nI_l hk, t_ini _ h1 h2]
/-- one of the six has changed -/
theorem mR6.one {S : kS} {σ σ' : mS} {k : Nat} {C : kC} (h : mR6 S σ) (f : mFr (fun d => d = k) σ σ') (hC : mSl σ' k C) : mR6 (S.s_c k C) σ' := by
  obtain ⟨h1, h2, h3, h4, h5, h6, h7⟩ := h
  obtain ⟨g1, g2, g3, g4, g5, g6, g7, g8, g9, g10, g11⟩ := f.1
  refine ⟨fun c hc => ?_, g1.trans h2, g2.trans h3, g4.trans h4, fun j hj => ?_, g6.trans h6, fun j hj => ?_⟩
  · show mSl σ' c (if c = k then C else S.c c)
    by_cases e : c = k
    · rw [if_pos e, e]; exact hC
    · rw [if_neg e]; exact (h1 c hc).keep f e
  · rw [g3]; exact h5 j hj
  · rw [g5]; exact h7 j hj
theorem mR6.th {S : kS} {σ : mS} (h : mR6 S σ) (x : Nat) : mR6 S (σ.s_th x) := by
  unfold mR6 at h ⊢
  simp only [mgs]
  exact ⟨fun c hc => (h.1 c hc).eqs (by simp only [mgs]) (by simp only [mgs]) (by simp only [mgs]) (by simp only [mgs]) (by simp only [mgs]) (by simp only [mgs]), h.2⟩
theorem mR6.hw {S : kS} {σ : mS} (h : mR6 S σ) (x : Nat) : mR6 S (σ.s_hw x) := by
  unfold mR6 at h ⊢
  simp only [mgs]
  exact ⟨fun c hc => (h.1 c hc).eqs (by simp only [mgs]) (by simp only [mgs]) (by simp only [mgs]) (by simp only [mgs]) (by simp only [mgs]) (by simp only [mgs]), h.2⟩
theorem mR6.rm0 {S : kS} {σ : mS} (h : mR6 S σ) : mR6 (S.s_w []) (σ.s_rm 0) := by
  unfold mR6 at h ⊢
  simp only [mgs]
  exact ⟨fun c hc => (h.1 c hc).eqs (by simp only [mgs]) (by simp only [mgs]) (by simp only [mgs]) (by simp only [mgs]) (by simp only [mgs]) (by simp only [mgs]), h.2.1, h.2.2.1, h.2.2.2.1, h.2.2.2.2.1, rfl, fun k hk => absurd hk (Nat.not_lt_zero _)⟩
theorem t_tell_s {α : Nat → Nat} (hα : mD α) (σ : mS) (h : zH) (v : Int64) {n : Nat} (hr : n < 16) : zc PG mX3_tell [.ref (α 0), .long v] (mH α (σ.s_rm n) h) = some (.inl none, mH α (((σ.s_rm n).s_ro (va_up σ.ro n v)).s_rm (n + 1)) h) := by
  have e := t_tell hα (σ.s_rm n) h v (by simp only [mgs]; exact hr)
  simp only [mgs] at e
  exact e
theorem mR6.tell {S : kS} {σ : mS} {n : Nat} {w : List Int64} (h : mR6 (S.s_w w) (σ.s_rm n)) (v : Int64) : mR6 (S.s_w (w ++ [v])) (((σ.s_rm n).s_ro (va_up σ.ro n v)).s_rm (n + 1)) := by
  unfold mR6 at h ⊢
  simp only [mgs] at h ⊢
  obtain ⟨h1, h2, h3, h4, h5, h6, h7⟩ := h
  have h6 : n = w.length := h6
  refine ⟨fun c hc => (h1 c hc).eqs (by simp only [mgs]) (by simp only [mgs]) (by simp only [mgs]) (by simp only [mgs]) (by simp only [mgs]) (by simp only [mgs]), h2, h3, h4, h5, ?_, fun k hk => ?_⟩
  · show n + 1 = (w ++ [v]).length
    rw [List.length_append, h6]
    rfl
  · have hk : k < (w ++ [v]).length := hk
    rw [List.length_append, List.length_singleton] at hk
    show va_up σ.ro n v k = (w ++ [v]).getD k 0
    have h7 : ∀ k, k < w.length → σ.ro k = w.getD k 0 := h7
    unfold va_up
    by_cases e : k = n
    · rw [if_pos e, e, h6, List.getD_eq_getElem?_getD, List.getElem?_append_right (Nat.le_refl _), Nat.sub_self]
      rfl
    · rw [if_neg e, h7 k (by omega), List.getD_eq_getElem?_getD, List.getD_eq_getElem?_getD, List.getElem?_append_left (by omega)]
/-! marks -/
def q_mixes (S : kS) (a b : Int32) : Bool × kS := if a - a / nI 2 * nI 2 = nI 0 then (false, S) else (true, (S.c, a, b, S.t, S.w))
theorem M_mixes {α : Nat → Nat} (hα : mD α) (σ : mS) (h : zH) {S : kS} (hR : mR6 S σ) (a b : Int32) : ∃ σ', zc PG mX3_mixes [.ref (α 0), .int a, .int b] (mH α σ h) = some (.inl (some (.int (zb (q_mixes S a b).1))), mH α σ' h) ∧ mR6 (q_mixes S a b).2 σ' := by
  unfold q_mixes
  by_cases e : a - a / nI 2 * nI 2 = nI 0
  · refine ⟨σ.s_th 0, ?_, ?_⟩
    · simp (disch := omega) only [eX3_mixes, uX3_mixes, mG, mP hα, zKK, zdv_n, e, zrt_0, if_true, zb_f]
    · rw [if_pos e]; exact hR.th 0
  · refine ⟨((σ.s_th 0).s_tm a).s_mo b, ?_, ?_⟩
    · simp (disch := omega) only [eX3_mixes, uX3_mixes, mG, mP hα, zKK, zdv_n, e, zrt_1, if_false, zb_t]
    · rw [if_neg e]
      obtain ⟨h1, h2, h3, h4, h5, h6, h7⟩ := hR
      unfold mR6
      simp only [mgs]
      exact ⟨fun c hc => (h1 c hc).eqs (by simp only [mgs]) (by simp only [mgs]) (by simp only [mgs]) (by simp only [mgs]) (by simp only [mgs]) (by simp only [mgs]), rfl, rfl, h4, h5, h6, h7⟩
theorem M_mark {α : Nat → Nat} (hα : mD α) (σ : mS) (h : zH) {S : kS} (hR : mR6 S σ) (t : Int32) : ∃ σ', zc PG mX3_mark [.ref (α 0), .int t] (mH α σ h) = some (.inl (some (.int (S.a * t + S.b))), mH α σ' h) ∧ mR6 S σ' :=
  ⟨σ.s_th 0, by rw [t_mark hα, hR.2.1, hR.2.2.1], hR.th 0⟩
def q_place (S : kS) (p t : Int32) : Int32 × kS := if kbd p 4 8 then (nI (kpl (kmk S t) (kN p)), S.s_w [lN (krk (kmk S t) (kN p))]) else (-1, S)
theorem mmk_S {S : kS} {σ : mS} (hR : mR6 S σ) (t : Int32) : mmk σ t = kmk S t := by unfold mmk kmk; rw [hR.2.1, hR.2.2.1]
theorem kbd_cases (x : Int32) (lo hi : Nat) : kbd x lo hi = false ∨ ∃ k, lo ≤ k ∧ k ≤ hi ∧ x = nI k := by
  by_cases h : kbt x lo hi
  · exact Or.inr (kbt_of h)
  · exact Or.inl (kbd_f h)
theorem M_place {α : Nat → Nat} (hα : mD α) (σ : mS) (h : zH) {S : kS} (hR : mR6 S σ) (p t : Int32) : ∃ σ', zc PG mX3_place [.ref (α 0), .int p, .int t] (mH α σ h) = some (.inl (some (.int (q_place S p t).1)), mH α σ' h) ∧ mR6 (q_place S p t).2 σ' := by
  unfold q_place
  rcases kbd_cases p 4 8 with e | ⟨k, h4, h8, rfl⟩
  · refine ⟨σ.s_th 0, ?_, ?_⟩
    · simp (disch := omega) only [eX3_place, uX3_place, mG, mP hα, mR hα, mW hα, mgs, zKK, zB, zBl, zBb, zlg, zA, zA3, zL3, km31, km63, klshr, kishr, k2p, kl1shl, klmask, kland1, kiand1, k_l2i, zrt_b, zrt_0, zrt_1, zdv_n, zdv_l, t_ini, e, Bool.false_eq_true, if_false]
    · rw [e]; exact hR.th 0
  · have e := kbd_nI h4 h8 (by omega)
    have hm := kmk_lt S t
    have hb := krk_bounds (kmk S t) (p := k) (by omega)
    have hmk : ∀ τ : mS, τ.tm = σ.tm → τ.mo = σ.mo → mmk τ t = kmk S t := fun τ q1 q2 => by rw [← mmk_S hR]; unfold mmk; rw [q1, q2]
    have ek : kN (nI k) = k := kN_nI (by omega)
    have i1 := hmk ((σ.s_th 0).s_rm 0) (by simp only [mgs]) (by simp only [mgs])
    have i2 := hmk ((((σ.s_th 0).s_rm 0).s_ro (va_up σ.ro 0 (lN (krk (kmk S t) k)))).s_rm 1) (by simp only [mgs]) (by simp only [mgs])
    rw [e, ek]
    refine ⟨_, ?_, (mR6.rm0 (hR.th 0)).tell _⟩
    simp (disch := omega) only [eX3_place, uX3_place, mG, mP hα, mR hα, mW hα, mgs, zKK, zB, zBl, zBb, zlg, zA, zA3, zL3, km31, km63, klshr, kishr, k2p, kl1shl, klmask, kland1, kiand1, k_l2i, zrt_b, zrt_0, zrt_1, zdv_n, zdv_l, t_inN, e, t_markOf hα, i1, i2, t_rankOf, t_placeOf, t_tell_s hα, if_true]
