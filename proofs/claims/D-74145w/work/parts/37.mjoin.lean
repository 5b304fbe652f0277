/-! THE MODEL's FOLDS AND JOINS -/
theorem kiandm {n k : Nat} (hn : n < 2 ^ 31) (hk : k < 31) : nI n &&& (nI (2 ^ k) - nI 1) = nI (n % 2 ^ k) := by
  have h1 : 1 ≤ 2 ^ k := Nat.pow_pos (by decide)
  have h2 : 2 ^ k < 2 ^ 31 := Nat.pow_lt_pow_right (by decide) hk
  rw [pk_sub h1]
  exact pk_andN (by omega) k (by rw [pk_tn (by omega)])
theorem kpf_s {F g : Nat → Nat} {y : Nat} (h : y < 256) : kpf F g 256 y = F y := if_pos h
theorem kpf_rs {F g : Nat → Nat} {y v : Nat} (h : y < 256) : va_up (kpf F g 256) y (max (F y) v) = kpf (krs F y v) g 256 := by
  funext j
  unfold va_up kpf krs
  by_cases e : j = y
  · rw [if_pos e, if_pos (by omega), if_pos e, e]
  · rw [if_neg e, if_neg e]
theorem t_fold_zeros (H : zH) (a0 : Nat) (a1 a2 a4 a5 : Int32) {d : Nat} (hd : d ≤ 8) (low : Nat) (j : Nat) : j ≤ d → low < 2 ^ j → zs PG mX3_foldsSlot 108 [.ref a0, .int a1, .int a2, .int (nI d), .int a4, .int a5, .int (nI low), .int (nI (d - j)), .int (nI j + (-1))] [] H = zs PG mX3_foldsSlot 132 [.ref a0, .int a1, .int a2, .int (nI d), .int a4, .int a5, .int (nI low), .int (nI (d - kbl low)), .int (nI (kbl low) + (-1))] [] H := by
  induction j with
  | zero =>
    intro _ hr
    have : low = 0 := by omega
    subst this
    have e : (nI 0 + (-1) < nI 0) = True := eq_true (by decide)
    rw [uX3_foldsSlot_at108]
    simp only [uX3_foldsSlot_p0, uX3_foldsSlot_p1, zKK, e, kbl_0]
  | succ j ih =>
    intro hj hr
    have h32 : 2 ^ j ≤ 2 ^ 8 := Nat.pow_le_pow_right (by decide) (by omega)
    rw [uX3_foldsSlot_at108]
    rw [show nI (j + 1) + (-1) = nI j from pk_m1 j]
    have hr2 : low < 2 ^ j * 2 := by rw [← Nat.pow_succ]; exact hr
    have hdiv : low / 2 ^ j < 2 := by rw [Nat.div_lt_iff_lt_mul (Nat.pow_pos (by decide))]; omega
    by_cases hb : low < 2 ^ j
    · have hd : low / 2 ^ j = 0 := Nat.div_eq_of_lt hb
      rw [← ih (by omega) hb, show d - j = d - (j + 1) + 1 by omega, ← nI_add]
      simp (disch := omega) only [uX3_foldsSlot_p0, uX3_foldsSlot_p1, zKK, zB, km31, kishr, hd, kiand1]
    · have hd : low / 2 ^ j = 1 := by
        have : 0 < low / 2 ^ j := Nat.div_pos (by omega) (Nat.pow_pos (by decide))
        omega
      have hk : kbl low = j + 1 := kbl_eq (by omega) hr
      rw [hk, show nI (j + 1) + (-1) = nI j from pk_m1 j]
      simp (disch := omega) only [uX3_foldsSlot_p0, uX3_foldsSlot_p1, zKK, zB, km31, kishr, hd, kiand1]
theorem t_fold_last {α : Nat → Nat} (hα : mD α) (σ : mS) (h : zH) {c : Nat} (hc : c < 10) (q : Nat) (a3 : Int32) (u5 u6 u7 u8 : Value) (F : Nat → Nat) (n : Nat) : ∀ x, x + n = 256 → (∀ y, y < 256 → σ.fo y = F y) → zs PG mX3_foldsSlot 189 [.ref (α 0), .int (nI c), .int (nI q), .int a3, .int (nI x), u5, u6, u7, u8] [] (mH α (σ.s_ra (mblk σ.ra c (kpf F (fun y => σ.ra (256 * c + y)) x))) h) = some (.inl none, mH α (σ.s_ra (mblk σ.ra c F)) h) := by
  induction n with
  | zero =>
    intro k hk hF
    have hk : k = 256 := by omega
    subst hk
    rw [uX3_foldsSlot_at189]
    simp (disch := omega) only [uX3_foldsSlot_p0, uX3_foldsSlot_p1, mG, mP hα, mR hα, mW hα, mgs, zKK, zB, zBl, zBb, zlg, zA, zA3, zL3, km31, km63, klshr, kishr, k2p, kl1shl, klmask, kland1, kiand1, k_l2i, zrt_b, zrt_0, zrt_1, zdv_n, zdv_l, mblk_pf]
  | succ n ih =>
    intro k hk hF
    have h1 := hF k (by omega)
    rw [uX3_foldsSlot_at189, ← ih (k + 1) (by omega) hF, ← kpf_up]
    simp (disch := omega) only [uX3_foldsSlot_p0, uX3_foldsSlot_p1, mG, mP hα, mR hα, mW hα, mgs, zKK, zB, zBl, zBb, zlg, zA, zA3, zL3, km31, km63, klshr, kishr, k2p, kl1shl, klmask, kland1, kiand1, k_l2i, zrt_b, zrt_0, zrt_1, zdv_n, zdv_l, t_at, h1, mblk_up, mss]
theorem kfv_eq {d x r : Nat} : (if x % 2 ^ d = 0 then d + r else d - kbl (x % 2 ^ d) + 1) = kfv d x r := by
  have h := (kbl_le (x % 2 ^ d) d).mpr (Nat.mod_lt _ (Nat.pow_pos (by decide)))
  unfold kfv
  split <;> omega
theorem t_fold_mid {α : Nat → Nat} (hα : mD α) (σ : mS) (h : zH) {c q : Nat} {C : kC} (hR : mRd σ c C) (hq : q ≤ C.p) (h4 : 4 ≤ q) (g : Nat → Nat) (n : Nat) : ∀ (x : Nat) (u5 u6 u7 u8 : Value), x + n = 2 ^ C.p → zs PG mX3_foldsSlot 59 [.ref (α 0), .int (nI c), .int (nI q), .int (nI (C.p - q)), .int (nI x), u5, u6, u7, u8] [] (mH α (σ.s_fo (kpf (kfo (C.p - q) C.r (fun _ => 0) x) g 256)) h) = some (.inl none, mH α (((σ.s_fo (kpf (kfold C.p q C.r) g 256)).s_bi (va_up σ.bi c q)).s_ra (mblk σ.ra c (kfold C.p q C.r))) h) := by
  have hR0 := hR
  obtain ⟨hc, hb, h8, h4', hr, hr2⟩ := hR
  have h2 := k2p_le h8
  have hp : ∀ v, zc PG mX3_places [.ref (α 0), .int (nI c)] (mH α (σ.s_fo v) h) = some (.inl (some (.int (nI (2 ^ C.p)))), mH α (σ.s_fo v) h) := by
    intro v
    have e := t_places hα (σ.s_fo v) h hc (by simp only [mgs]; omega)
    simp only [mgs] at e
    rw [hb] at e
    exact e
  induction n with
  | zero =>
    intro x u5 u6 u7 u8 hx
    have hx : x = 2 ^ C.p := by omega
    subst hx
    have e := t_fold_last hα ((σ.s_fo (kpf (kfold C.p q C.r) g 256)).s_bi (va_up σ.bi c q)) h hc q (nI (C.p - q)) u5 u6 u7 u8 (kfold C.p q C.r) 256 0 rfl (fun y hy => kpf_s hy)
    rw [kpf_0, mblk_self] at e
    simp only [mgs] at e
    rw [uX3_foldsSlot_at59]
    simp (disch := omega) only [uX3_foldsSlot_p0, uX3_foldsSlot_p1, mG, mP hα, mR hα, mW hα, mgs, zKK, zB, zBl, zBb, zlg, zA, zA3, zL3, km31, km63, klshr, kishr, k2p, kl1shl, klmask, kland1, kiand1, k_l2i, zrt_b, zrt_0, zrt_1, zdv_n, zdv_l, hp]
    exact e
  | succ n ih =>
    intro x u5 u6 u7 u8 hx
    have hr1 := hr x (by omega)
    have hr3 := hr2 x
    rw [uX3_foldsSlot_at59]
    by_cases e0 : C.r x = 0
    · have ih := ih (x + 1) (.int (nI (C.r x))) u6 u7 u8 (by omega)
      rw [kfo, if_pos e0] at ih
      rw [← ih]
      simp (disch := omega) only [uX3_foldsSlot_p0, uX3_foldsSlot_p1, mG, mP hα, mR hα, mW hα, mgs, zKK, zB, zBl, zBb, zlg, zA, zA3, zL3, km31, km63, klshr, kishr, k2p, kl1shl, klmask, kland1, kiand1, k_l2i, zrt_b, zrt_0, zrt_1, zdv_n, zdv_l, hp, t_at, hr1]
    · have hmod : x % 2 ^ (C.p - q) < 2 ^ (C.p - q) := Nat.mod_lt _ (Nat.pow_pos (by decide))
      have hdl : 2 ^ (C.p - q) ≤ 2 ^ 8 := Nat.pow_le_pow_right (by decide) (by omega)
      have hxd : x / 2 ^ (C.p - q) ≤ x := Nat.div_le_self _ _
      have hkb := (kbl_le (x % 2 ^ (C.p - q)) (C.p - q)).mpr hmod
      have hFb : ∀ y, kfo (C.p - q) C.r (fun _ => 0) x y ≤ 64 := by
        intro y
        rw [kfo_le]
        refine ⟨Nat.zero_le _, fun x' _ _ _ => ?_⟩
        have := hr2 x'
        unfold kfv
        split <;> omega
      have hF1 := hFb (x / 2 ^ (C.p - q))
      have e1 := fun H => t_fold_zeros H (α 0) (nI c) (nI q) (nI x) (nI (C.r x)) (d := C.p - q) (by omega) (x % 2 ^ (C.p - q)) (C.p - q) (Nat.le_refl _) hmod
      rw [Nat.sub_self] at e1
      have e2 : nI (C.p - q) - nI 1 = nI (C.p - q) + (-1) := by
        rw [show (-1 : Int32) = -(nI 1) from rfl, ← Int32.sub_eq_add_neg]
      have ih := ih (x + 1) (.int (nI (C.r x))) (.int (nI (x % 2 ^ (C.p - q)))) (.int (nI (C.p - q - kbl (x % 2 ^ (C.p - q))))) (.int (nI (kfv (C.p - q) x (C.r x)))) (by omega)
      rw [kfo, if_neg e0, ← kpf_rs (by omega)] at ih
      rw [← ih]
      by_cases e3 : x % 2 ^ (C.p - q) = 0
      · have e4 : kfv (C.p - q) x (C.r x) = C.p - q + C.r x := by rw [← kfv_eq, if_pos e3]
        simp (disch := omega) only [uX3_foldsSlot_p0, uX3_foldsSlot_p1, zKK, mG, mR hα, mW hα, mgs, zB, km31, kishr, k2p, kiandm, hp, t_at, hr1, e2, e1]
        simp (disch := omega) only [uX3_foldsSlot_p0, uX3_foldsSlot_p1, mG, mP hα, mR hα, mW hα, mgs, zKK, zB, zBl, zBb, zlg, zA, zA3, zL3, km31, km63, klshr, kishr, k2p, kl1shl, klmask, kland1, kiand1, k_l2i, zrt_b, zrt_0, zrt_1, zdv_n, zdv_l, e3, e4, kpf_s, j_maxI, mss]
      · have e4 : kfv (C.p - q) x (C.r x) = C.p - q - kbl (x % 2 ^ (C.p - q)) + 1 := by rw [← kfv_eq, if_neg e3]
        simp (disch := omega) only [uX3_foldsSlot_p0, uX3_foldsSlot_p1, zKK, mG, mR hα, mW hα, mgs, zB, km31, kishr, k2p, kiandm, hp, t_at, hr1, e2, e1]
        simp (disch := omega) only [uX3_foldsSlot_p0, uX3_foldsSlot_p1, mG, mP hα, mR hα, mW hα, mgs, zKK, zB, zBl, zBb, zlg, zA, zA3, zL3, km31, km63, klshr, kishr, k2p, kl1shl, klmask, kland1, kiand1, k_l2i, zrt_b, zrt_0, zrt_1, zdv_n, zdv_l, e4, kpf_s, j_maxI, mss]
theorem t_fold_first {α : Nat → Nat} (hα : mD α) (σ : mS) (h : zH) {c : Nat} (a2 a3 : Int32) (n : Nat) : ∀ x, x + n = 256 → zs PG mX3_foldsSlot 34 [.ref (α 0), .int (nI c), .int a2, .int a3, .int (nI x), zJ, zJ, zJ, zJ] [] (mH α (σ.s_fo (kpf (fun _ => 0) σ.fo x)) h) = zs PG mX3_foldsSlot 59 [.ref (α 0), .int (nI c), .int a2, .int a3, .int (nI 0), zJ, zJ, zJ, zJ] [] (mH α (σ.s_fo (kpf (fun _ => 0) σ.fo 256)) h) := by
  induction n with
  | zero =>
    intro x hx
    have hx : x = 256 := by omega
    subst hx
    rw [uX3_foldsSlot_at34]
    simp (disch := omega) only [uX3_foldsSlot_p0, uX3_foldsSlot_p1, mG, mP hα, mR hα, mW hα, mgs, zKK, zB, zBl, zBb, zlg, zA, zA3, zL3, km31, km63, klshr, kishr, k2p, kl1shl, klmask, kland1, kiand1, k_l2i, zrt_b, zrt_0, zrt_1, zdv_n, zdv_l]
  | succ n ih =>
    intro x hx
    rw [uX3_foldsSlot_at34, ← ih (x + 1) (by omega), ← kpf_up]
    simp (disch := omega) only [uX3_foldsSlot_p0, uX3_foldsSlot_p1, mG, mP hα, mR hα, mW hα, mgs, zKK, zB, zBl, zBb, zlg, zA, zA3, zL3, km31, km63, klshr, kishr, k2p, kl1shl, klmask, kland1, kiand1, k_l2i, zrt_b, zrt_0, zrt_1, zdv_n, zdv_l, mss]
/-- as kI, but with up to 64 marks -/
def kJ (C : kC) : Prop := 4 ≤ C.p ∧ C.p ≤ 8 ∧ 1 ≤ C.l ∧ C.l ≤ 48 ∧ (∀ x, C.r x ≤ 33 - C.p) ∧ (∀ x, 2 ^ C.p ≤ x → C.r x = 0) ∧ (C.d = true → C.m = []) ∧ (∀ m ∈ C.m, m < 2 ^ 32) ∧ ksrt C.m ∧ C.m.length ≤ 64 ∧ (C.d = false → C.r = klay C.p (fun _ => 0) C.m)
theorem kI.J {C : kC} (h : kI C) : kJ C := by
  obtain ⟨a1, a2, a3, a4, a5, a6, a7, a8, a9, a10, a11⟩ := h
  exact ⟨a1, a2, a3, a4, a5, a6, a7, a8, a9, by omega, a11⟩
theorem kJ_fold {C : kC} {q : Nat} (h : kJ C) (h4 : 4 ≤ q) (hq : q ≤ C.p) : kJ (kfoldC C q) := by
  obtain ⟨a1, a2, a3, a4, a5, a6, a7, a8, a9, a10, a11⟩ := h
  refine ⟨h4, Nat.le_trans hq a2, a3, a4, fun y => kfold_bound hq (by omega) a5 y, fun y hy => kfold_zero hq _ hy, a7, a8, a9, a10, fun hd => ?_⟩
  show kfold C.p q C.r = klay q (fun _ => 0) C.m
  rw [a11 hd, kfold_lay (by omega) hq a8]
theorem t_foldsSlot {α : Nat → Nat} (hα : mD α) (σ : mS) (h : zH) {c q : Nat} (hc : c < 10) {C : kC} (hC : mSl σ c C) (hJ : kJ C) (h4 : 4 ≤ q) (hq : q ≤ C.p) : ∃ σ', zc PG mX3_foldsSlot [.ref (α 0), .int (nI c), .int (nI q)] (mH α σ h) = some (.inl none, mH α σ' h) ∧ mSl σ' c (kfoldC C q) ∧ mFr (fun d => d = c) σ σ' := by
  have hC0 := hC
  obtain ⟨h1, h2, h3, h4', h5, h6, h7⟩ := hC
  obtain ⟨a1, a2, a3, a4, a5, a6, a7, a8, a9, a10, a11⟩ := hJ
  have f1 := (mFr_bi σ c q)
  have s1 : mSl (σ.s_bi (va_up σ.bi c q)) c (q, C.l, C.d, C.m, C.r) := by
    unfold mSl
    simp only [mgs, va_up_self]
    exact ⟨rfl, h2, h3, h4', h5, h6, h7⟩
  have hR : mRd σ c C := ⟨hc, h1, a2, a1, h6, fun x => by have := a5 x; omega⟩
  cases hd : C.d with
  | false =>
    rw [hd] at h3
    have e := t_laysRanks hα (σ.s_bi (va_up σ.bi c q)) h (c := c) hc (by simp only [mgs, va_up_self]; exact h4) (by simp only [mgs, va_up_self]; omega) (L := C.m) h4' a10 h5 a8
    simp only [mgs, va_up_self] at e
    rw [show klay q (fun _ => 0) C.m = kfold C.p q C.r by rw [a11 hd, kfold_lay (by omega) hq a8]] at e
    refine ⟨(σ.s_bi (va_up σ.bi c q)).s_ra (mblk σ.ra c (kfold C.p q C.r)), ?_, mSl_ra s1 _, f1.trans (mFr_ra _ c _)⟩
    simp (disch := omega) only [eX3_foldsSlot, uX3_foldsSlot_p0, uX3_foldsSlot_p1, mG, mP hα, mR hα, mW hα, mgs, zKK, zB, zBl, zBb, zlg, zA, zA3, zL3, km31, km63, klshr, kishr, k2p, kl1shl, klmask, kland1, kiand1, k_l2i, zrt_b, zrt_0, zrt_1, zdv_n, zdv_l, h1, h3, e]
  | true =>
    rw [hd] at h3
    have e1 := t_fold_first hα σ h (c := c) (nI q) (nI (C.p - q)) 256 0 rfl
    rw [kpf_0] at e1
    have e2 := t_fold_mid hα σ h hR hq h4 σ.fo (2 ^ C.p) 0 zJ zJ zJ zJ (by omega)
    have e3 := e1.trans e2
    simp only [msi] at e3
    refine ⟨((σ.s_fo (kpf (kfold C.p q C.r) σ.fo 256)).s_bi (va_up σ.bi c q)).s_ra (mblk σ.ra c (kfold C.p q C.r)), ?_, ?_, ?_⟩
    · simp (disch := omega) only [eX3_foldsSlot, uX3_foldsSlot_p0, uX3_foldsSlot_p1, mG, mP hα, mR hα, mW hα, mgs, zKK, zB, zBl, zBb, zlg, zA, zA3, zL3, km31, km63, klshr, kishr, k2p, kl1shl, klmask, kland1, kiand1, k_l2i, zrt_b, zrt_0, zrt_1, zdv_n, zdv_l, h1, h3, e3]
    · unfold mSl
      simp only [mgs, va_up_self]
      exact ⟨rfl, h2, h3.trans hd.symm, h4', h5, fun x hx => mblk_s hx, h7⟩
    · have f := ((mFr_fo (fun d => d = c) σ (kpf (kfold C.p q C.r) σ.fo 256)).trans (mFr_bi _ c q)).trans (mFr_ra _ c (kfold C.p q C.r))
      simp only [mgs] at f
      exact f
