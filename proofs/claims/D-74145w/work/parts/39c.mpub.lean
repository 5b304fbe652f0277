/-! THE MODEL's PUBLIC METHODS: signs, marks taken, kept, split -/
theorem kbyte (x : Int32) : x.toInt8.toInt32 = sb_b (kun x % 256) := by
  unfold sb_b
  apply congrArg Int8.toInt32
  apply Int8.toBitVec_inj.mp
  apply BitVec.eq_of_toNat_eq
  have h : ∀ y : Int32, y.toInt8.toBitVec.toNat = y.toBitVec.toNat % 256 := by
    intro y
    show (y.toBitVec.signExtend 8).toNat = _
    rw [BitVec.signExtend_eq_setWidth_of_le _ (by decide), BitVec.toNat_setWidth]
  rw [h, h]
  show kun x % 256 = kun (nI (kun x % 256)) % 256
  rw [nI_kun (by omega), Nat.mod_mod]
theorem sb_bb (x : Nat) : znar 4 (.int (sb_b x)) = some (.int (sb_b x)) := by
  show some (Value.int (sb_b x).toInt8.toInt32) = _
  unfold sb_b
  simp
theorem mA_tx (σ : mS) (v : Nat → Nat) (i : Nat) (h3 : i ≠ 7) : mA (σ.s_tx v) i = mA σ i := by
  by_cases h : 1 ≤ i ∧ i ≤ 10
  · have : i = 1 ∨ i = 2 ∨ i = 3 ∨ i = 4 ∨ i = 5 ∨ i = 6 ∨ i = 8 ∨ i = 9 ∨ i = 10 := by omega
    rcases this with rfl | rfl | rfl | rfl | rfl | rfl | rfl | rfl | rfl <;> simp only [mA, mgs]
  · unfold mA
    split <;> first | omega | simp only [mgs]
theorem mWt {α : Nat → Nat} (hα : mD α) (σ : mS) (h : zH) (k : Nat) (x : Nat) (hk : k < 600) : zast (mH α σ h) (α 7) 4 (nI k) (.int (sb_b x)) = some (mH α (σ.s_tx (va_up σ.tx k x)) h) := by
  have e : mA σ 7 = .inl (4, 600, fun k => .int (sb_b (σ.tx k))) := rfl
  have eo : mO α (σ.s_tx (va_up σ.tx k x)) = mO α σ := rfl
  have ec : mA (σ.s_tx (va_up σ.tx k x)) 7 = .inl (4, 600, zfu (fun k => .int (sb_b (σ.tx k))) k (.int (sb_b x))) := by
    rw [mfu_tx]
    rfl
  exact mast hα 7 (by decide) (by decide) e (by decide) hk (by decide) (sb_bb x) eo ec (fun i _ _ h3 => mA_tx σ _ i h3)
def q_sign (S : kS) (v : Int32) : Int32 × kS := if 596 < S.t.length then (-1, S) else (nI (S.t.length + 4), S.s_t (S.t ++ [kun (v >>> nI 24) % 256, kun (v >>> nI 16) % 256, kun (v >>> nI 8) % 256, kun (v >>> nI 0) % 256]))
theorem mR6.sign {S : kS} {σ : mS} {t : List Nat} (h : mR6 (S.s_t t) σ) {τ : mS} (x : Nat) (e1 : τ = (σ.s_ty (σ.ty + 1)).s_tx (va_up σ.tx σ.ty x)) : mR6 (S.s_t (t ++ [x])) τ := by
  subst e1
  unfold mR6 at h ⊢
  simp only [mgs]
  obtain ⟨h1, h2, h3, h4, h5, h6, h7⟩ := h
  have h4 : σ.ty = t.length := h4
  have h5 : ∀ k, k < t.length → σ.tx k = t.getD k 0 := h5
  refine ⟨fun c hc => (h1 c hc).eqs (by simp only [mgs]) (by simp only [mgs]) (by simp only [mgs]) (by simp only [mgs]) (by simp only [mgs]) (by simp only [mgs]), h2, h3, ?_, fun k hk => ?_, h6, h7⟩
  · show σ.ty + 1 = (t ++ [x]).length
    rw [List.length_append, h4]
    rfl
  · have hk : k < (t ++ [x]).length := hk
    rw [List.length_append, List.length_singleton] at hk
    show va_up σ.tx σ.ty x k = (t ++ [x]).getD k 0
    unfold va_up
    by_cases e : k = σ.ty
    · rw [if_pos e, e, h4, List.getD_eq_getElem?_getD, List.getElem?_append_right (Nat.le_refl _), Nat.sub_self]
      rfl
    · rw [if_neg e, h5 k (by omega), List.getD_eq_getElem?_getD, List.getD_eq_getElem?_getD, List.getElem?_append_left (by omega)]
theorem M_sign {α : Nat → Nat} (hα : mD α) (σ : mS) (h : zH) {S : kS} (hR : mR6 S σ) (hI : kSI S) (v : Int32) : ∃ σ', zc PG mX3_sign [.ref (α 0), .int v] (mH α σ h) = some (.inl (some (.int (q_sign S v).1)), mH α σ' h) ∧ mR6 (q_sign S v).2 σ' := by
  unfold q_sign
  have hl := hI.2.1
  have hty := hR.2.2.2.1
  by_cases e : 596 < S.t.length
  · rw [if_pos e]
    refine ⟨_, ?_, hR.th 0⟩
    simp (disch := omega) only [eX3_sign, uX3_sign, mG, mP hα, mR hα, mW hα, mgs, zKK, zB, zBl, zBb, zlg, zA, zA3, zL3, km31, km63, klshr, kishr, k2p, kl1shl, klmask, kland1, kiand1, k_l2i, zrt_b, zrt_0, zrt_1, zdv_n, zdv_l, hty]
  · rw [if_neg e]
    have en : (nI 0 + (-1) < nI 0) = True := eq_true (by decide)
    have R1 := mR6.sign (S := S) (t := S.t) (hR.th 0) (kun (v >>> nI 24) % 256) rfl
    simp only [mgs, hty] at R1
    have R2 := mR6.sign R1 (kun (v >>> nI 16) % 256) rfl
    simp only [mgs] at R2
    have R3 := mR6.sign R2 (kun (v >>> nI 8) % 256) rfl
    simp only [mgs] at R3
    have R4 := mR6.sign R3 (kun (v >>> nI 0) % 256) rfl
    simp only [mgs] at R4
    rw [List.append_assoc, List.append_assoc, List.append_assoc] at R4
    refine ⟨_, ?_, R4⟩
    simp (disch := omega) only [eX3_sign, uX3_sign, uX3_sign_at21, mG, mP hα, mR hα, mW hα, mgs, zKK, zB, zBl, zBb, zlg, zA, zA3, zL3, km31, km63, klshr, kishr, k2p, kl1shl, klmask, kland1, kiand1, k_l2i, zrt_b, zrt_0, zrt_1, zdv_n, zdv_l, hty, kbyte, mWt hα, en]
theorem kct (p l : Nat) (d : Bool) (m : List Nat) (r : Nat → Nat) : kC.p (p, l, d, m, r) = p ∧ kC.l (p, l, d, m, r) = l ∧ kC.d (p, l, d, m, r) = d ∧ kC.m (p, l, d, m, r) = m ∧ kC.r (p, l, d, m, r) = r := ⟨rfl, rfl, rfl, rfl, rfl⟩
/-- marks but one -/
def kwo (m : Nat) (L : List Nat) : List Nat := L.filter (fun x => x ≠ m)
theorem kwo_app (m : Nat) (A : List Nat) (x : Nat) : kwo m (A ++ [x]) = kwo m A ++ if x = m then [] else [x] := by
  unfold kwo
  rw [List.filter_append]
  congr 1
  by_cases e : x = m
  · rw [if_pos e]; simp [e]
  · rw [if_neg e]; simp [e]
theorem t_takes_loop {α : Nat → Nat} (hα : mD α) (σ : mS) (h : zH) {c : Nat} (hc : c < 10) (t : Int32) (m : Nat) (hm1 : m < 4294967296) (L : List Nat) (hn : σ.mm c = L.length) (hl : L.length ≤ 64) (hm : ∀ m ∈ L, m < 2 ^ 32) (B : List Nat) : ∀ (A : List Nat) (g : Nat → Nat), L = A ++ B → (∀ j, j < (kwo m A).length → g j = (kwo m A).getD j 0) → (∀ j, A.length ≤ j → j < L.length → g j = L.getD j 0) → ∃ g', zs PG mX3_takes 38 [.ref (α 0), .int (nI c), .int t, .long (lN m), zJ, .int (nI (kwo m A).length), .int (nI A.length)] [] (mH α (σ.s_ma (mmb σ.ma c g)) h) = zs PG mX3_takes 102 [.ref (α 0), .int (nI c), .int t, .long (lN m), zJ, .int (nI (kwo m L).length), .int (nI L.length)] [] (mH α (σ.s_ma (mmb σ.ma c g')) h) ∧ (∀ j, j < (kwo m L).length → g' j = (kwo m L).getD j 0) := by
  induction B with
  | nil =>
    intro A g hA h1 h2
    rw [List.append_nil] at hA
    subst hA
    refine ⟨g, ?_, h1⟩
    rw [uX3_takes_at38]
    simp (disch := omega) only [uX3_takes_p0, uX3_takes_p1, mG, mP hα, mR hα, mW hα, mgs, zKK, zB, zBl, zBb, zlg, zA, zA3, zL3, km31, km63, klshr, kishr, k2p, kl1shl, klmask, kland1, kiand1, k_l2i, zrt_b, zrt_0, zrt_1, zdv_n, zdv_l, hn]
  | cons b B ih =>
    intro A g hA h1 h2
    have hA1 : A.length + 1 + B.length = L.length := by rw [hA]; simp; omega
    have hx := h2 A.length (Nat.le_refl _) (by omega)
    rw [hA, kapp_get] at hx
    have hb : b < 4294967296 := hm b (by rw [hA]; simp)
    have hA2 : L = (A ++ [b]) ++ B := by rw [hA]; simp
    have hle : (kwo m A).length ≤ A.length := List.length_filter_le _ _
    by_cases e : b = m
    · have ek : kwo m (A ++ [b]) = kwo m A := by rw [kwo_app, if_pos e, List.append_nil]
      obtain ⟨g', r1, r2⟩ := ih (A ++ [b]) g hA2 (by rw [ek]; exact h1) (fun j hj hj2 => h2 j (by rw [List.length_append] at hj; omega) hj2)
      refine ⟨g', ?_, r2⟩
      rw [ek, List.length_append, List.length_singleton] at r1
      rw [uX3_takes_at38, ← r1]
      simp (disch := omega) only [uX3_takes_p0, uX3_takes_p1, mG, mP hα, mR hα, mW hα, mgs, zKK, zB, zBl, zBb, zlg, zA, zA3, zL3, km31, km63, klshr, kishr, k2p, kl1shl, klmask, kland1, kiand1, k_l2i, zrt_b, zrt_0, zrt_1, zdv_n, zdv_l, hn, mmb_s, hx]
    · have ek : kwo m (A ++ [b]) = kwo m A ++ [b] := by rw [kwo_app, if_neg e]
      obtain ⟨g', r1, r2⟩ := ih (A ++ [b]) (va_up g (kwo m A).length b) hA2 (fun j hj => by
        rw [ek] at hj ⊢
        rw [List.length_append, List.length_singleton] at hj
        unfold va_up
        by_cases e2 : j = (kwo m A).length
        · rw [if_pos e2, e2, List.getD_eq_getElem?_getD, List.getElem?_append_right (Nat.le_refl _), Nat.sub_self]; rfl
        · rw [if_neg e2, h1 j (by omega), List.getD_eq_getElem?_getD, List.getD_eq_getElem?_getD, List.getElem?_append_left (by omega)]) (fun j hj hj2 => by
        rw [List.length_append, List.length_singleton] at hj
        unfold va_up
        rw [if_neg (by omega)]
        exact h2 j (by omega) hj2)
      refine ⟨g', ?_, r2⟩
      rw [ek, List.length_append, List.length_singleton, List.length_append, List.length_singleton] at r1
      rw [uX3_takes_at38, ← r1]
      simp (disch := omega) only [uX3_takes_p0, uX3_takes_p1, mG, mP hα, mR hα, mW hα, mgs, zKK, zB, zBl, zBb, zlg, zA, zA3, zL3, km31, km63, klshr, kishr, k2p, kl1shl, klmask, kland1, kiand1, k_l2i, zrt_b, zrt_0, zrt_1, zdv_n, zdv_l, hn, mmb_s, hx, mmb_up, mss]
def q_takes (S : kS) (c t : Int32) : Int32 × kS := if kbd c 0 5 then (if (S.c (kN c)).d then (-2, S) else (nI ((S.c (kN c)).m.length - (kwo (kmk S t) (S.c (kN c)).m).length), S.s_c (kN c) (kdrop (S.c (kN c)) (kmk S t)))) else (-1, S)
theorem M_takes {α : Nat → Nat} (hα : mD α) (σ : mS) (h : zH) {S : kS} (hR : mR6 S σ) (hI : kSI S) (c t : Int32) : ∃ σ', zc PG mX3_takes [.ref (α 0), .int c, .int t] (mH α σ h) = some (.inl (some (.int (q_takes S c t).1)), mH α σ' h) ∧ mR6 (q_takes S c t).2 σ' := by
  unfold q_takes
  rcases kbd_cases c 0 5 with e1 | ⟨c, -, hc, rfl⟩
  · simp only [e1, Bool.false_eq_true, if_false]
    refine ⟨_, ?_, hR.th 0⟩
    simp (disch := omega) only [eX3_takes, uX3_takes_p0, uX3_takes_p1, mG, mP hα, mR hα, mW hα, mgs, zKK, zB, zBl, zBb, zlg, zA, zA3, zL3, km31, km63, klshr, kishr, k2p, kl1shl, klmask, kland1, kiand1, k_l2i, zrt_b, zrt_0, zrt_1, zdv_n, zdv_l, t_isCounter, e1]
  · have e1 := kbd_nI (Nat.zero_le c) hc (by omega)
    simp only [e1, if_true]
    rw [kN_nI (by omega)]
    have hR0 := hR.th 0
    obtain ⟨h1, h2, h3, h4, h5, h6, h7⟩ := hR0.1 c (by omega)
    have iC := hI.1 c (by omega)
    obtain ⟨a1, a2, a3, a4, a5, a6, a7, a8, a9, a10, a11⟩ := iC
    cases hd : (S.c c).d with
    | true =>
      simp only [if_true]
      rw [hd] at h3
      simp only [mgs] at h3
      refine ⟨_, ?_, hR0⟩
      simp (disch := omega) only [eX3_takes, uX3_takes_p0, uX3_takes_p1, mG, mP hα, mR hα, mW hα, mgs, zKK, zB, zBl, zBb, zlg, zA, zA3, zL3, km31, km63, klshr, kishr, k2p, kl1shl, klmask, kland1, kiand1, k_l2i, zrt_b, zrt_0, zrt_1, zdv_n, zdv_l, t_isCounter, e1, h3]
    | false =>
      simp only [Bool.false_eq_true, if_false]
      rw [hd] at h3
      simp only [mgs] at h3
      have hm := mmk_S hR0 t
      obtain ⟨g, r1, r2⟩ := t_takes_loop hα (σ.s_th 0) h (c := c) (by omega) t (kmk S t) (kmk_lt S t) (S.c c).m h4 (by omega) a8 (S.c c).m [] (fun y => (σ.s_th 0).ma (64 * c + y)) rfl (fun j hj => absurd hj (Nat.not_lt_zero _)) (fun j _ hj => h5 j hj)
      rw [mmb_self, show (kwo (kmk S t) ([] : List Nat)).length = 0 from rfl, List.length_nil] at r1
      simp only [msi] at r1
      have hle : (kwo (kmk S t) (S.c c).m).length ≤ (S.c c).m.length := List.length_filter_le _ _
      have s2 : mSl (((σ.s_th 0).s_ma (mmb (σ.s_th 0).ma c g)).s_mm (va_up (σ.s_th 0).mm c (kwo (kmk S t) (S.c c).m).length)) c ((S.c c).p, (S.c c).l, false, kwo (kmk S t) (S.c c).m, (S.c c).r) := by
        unfold mSl
        simp only [mgs, va_up_self] at h1 h2 h3 h6 ⊢
        refine ⟨h1, h2, h3, rfl, fun k hk => ?_, h6, by show (kwo (kmk S t) (S.c c).m).length ≤ 64; omega⟩
        have hk : k < (kwo (kmk S t) (S.c c).m).length := hk
        rw [mmb_s (by omega)]
        exact r2 k hk
      have el := t_laysRanks hα _ h (c := c) (by omega) (by rw [s2.1]; exact a1) (by rw [s2.1]; exact a2) (L := kwo (kmk S t) (S.c c).m) s2.2.2.2.1 (by omega) s2.2.2.2.2.1 (fun x hx => a8 x (List.mem_filter.mp hx).1)
      have F := (((mFr_ma (σ.s_th 0) c g).trans (mFr_mm _ c (kwo (kmk S t) (S.c c).m).length)).trans (mFr_ra _ c (klay (S.c c).p (fun _ => 0) (kwo (kmk S t) (S.c c).m))))
      rw [s2.1] at el
      have R := hR0.one (C := kdrop (S.c c) (kmk S t)) F (by
        simp only [mgs] at s2 ⊢
        exact mSl_ra s2 _)
      refine ⟨_, ?_, R⟩
      have h4' := h4
      simp only [mgs] at h4' el r1 ⊢
      simp (disch := omega) only [eX3_takes, uX3_takes_p0, uX3_takes_p1, mG, mP hα, mR hα, mW hα, mgs, zKK, zB, zBl, zBb, zlg, zA, zA3, zL3, km31, km63, klshr, kishr, k2p, kl1shl, klmask, kland1, kiand1, k_l2i, zrt_b, zrt_0, zrt_1, zdv_n, zdv_l, t_isCounter, e1, h3, t_markOf hα, hm, r1, h4', el, kct]
/-! keeps, less, splits -/
theorem zb_inj (a b : Bool) : (zb a = zb b) = (a = b) := by cases a <;> cases b <;> simp [zb]
theorem filter_snoc (p : Nat → Bool) (A : List Nat) (x : Nat) : (A ++ [x]).filter p = A.filter p ++ if p x then [x] else [] := by
  rw [List.filter_append]
  congr 1
  by_cases e : p x = true
  · simp [e]
  · simp [e]
theorem kins_flt {p : Nat → Bool} {A : List Nat} {x : Nat} (h : ksrt (A ++ [x])) : kins x (A.filter p) = A.filter p ++ [x] := kins_last (fun y hy => (List.pairwise_append.mp h).2.2 y (List.mem_filter.mp hy).1 x (List.mem_singleton.mpr rfl))
theorem not_mem_flt {p : Nat → Bool} {A : List Nat} {x : Nat} (h : ksrt (A ++ [x])) : x ∉ A.filter p := fun q => absurd ((List.pairwise_append.mp h).2.2 x (List.mem_filter.mp q).1 x (List.mem_singleton.mpr rfl)) (Nat.lt_irrefl _)
theorem ksrt_pre {A B : List Nat} {x : Nat} (h : ksrt (A ++ x :: B)) : ksrt (A ++ [x]) := by
  have e : A ++ x :: B = (A ++ [x]) ++ B := by simp
  rw [e] at h
  exact (List.pairwise_append.mp h).1
theorem t_sieves_loop {α : Nat → Nat} (hα : mD α) (h : zH) {a b : Nat} (ha : a < 6) (hb : b < 6) (has : Bool) {p l : Nat} {A B : kC} (iA : kI A) (iB : kI B) (Y : List Nat) : ∀ (X : List Nat) (σ : mS), A.m = X ++ Y → mSl σ a A → mSl σ b B → mSl σ 8 (p, l, false, X.filter (fun x => decide (x ∈ B.m) == has), fun _ => 0) → ∃ σ', zs PG mX3_sieves 13 [.ref (α 0), .int (nI a), .int (nI b), .int (zb has), .int (nI p), .int (nI l), .int (nI X.length)] [] (mH α σ h) = zs PG mX3_sieves 69 [.ref (α 0), .int (nI a), .int (nI b), .int (zb has), .int (nI p), .int (nI l), .int (nI A.m.length)] [] (mH α σ' h) ∧ mSl σ' 8 (p, l, false, A.m.filter (fun x => decide (x ∈ B.m) == has), fun _ => 0) ∧ mFr mHi σ σ' := by
  obtain ⟨a1, a2, a3, a4, a5, a6, a7, a8, a9, a10, a11⟩ := iA
  obtain ⟨b1, b2, b3, b4, b5, b6, b7, b8, b9, b10, b11⟩ := iB
  induction Y with
  | nil =>
    intro X σ hX sA sB s8
    rw [List.append_nil] at hX
    rw [← hX] at s8
    have e4 : σ.mm a = A.m.length := sA.2.2.2.1
    refine ⟨σ, ?_, s8, mFr.rf _ _⟩
    have hlX : X.length ≤ 48 := by rw [← hX]; omega
    rw [uX3_sieves_at13, hX]
    rw [hX] at e4
    simp (disch := omega) only [uX3_sieves, mG, mP hα, mR hα, mW hα, mgs, zKK, zB, zBl, zBb, zlg, zA, zA3, zL3, km31, km63, klshr, kishr, k2p, kl1shl, klmask, kland1, kiand1, k_l2i, zrt_b, zrt_0, zrt_1, zdv_n, zdv_l, e4]
  | cons y Y ih =>
    intro X σ hX sA sB s8
    have hX1 : X.length + 1 + Y.length = A.m.length := by rw [hX]; simp; omega
    have e4 : σ.mm a = A.m.length := sA.2.2.2.1
    have hx := sA.2.2.2.2.1 X.length (by omega)
    rw [hX, kapp_get] at hx
    have hy : y < 4294967296 := a8 y (by rw [hX]; simp)
    have hX2 : A.m = (X ++ [y]) ++ Y := by rw [hX]; simp
    have hs : ksrt (X ++ [y]) := by rw [hX] at a9; exact ksrt_pre a9
    have hh := t_hasMark hα σ h (c := b) (by omega) hy sB.2.2.2.1 sB.2.2.2.2.2.2 sB.2.2.2.2.1 b8
    have hf := filter_snoc (fun x => decide (x ∈ B.m) == has) X y
    by_cases e : decide (y ∈ B.m) = has
    · have e' : (decide (y ∈ B.m) == has) = true := by simp [e]
      simp only [e', if_true] at hf
      have l8 : (X.filter (fun x => decide (x ∈ B.m) == has)).length ≤ X.length := List.length_filter_le _ _
      obtain ⟨σ1, q1, q2, q3⟩ := t_insert hα σ h (c := 8) (by decide) hy s8 (show (X.filter (fun x => decide (x ∈ B.m) == has)).length < 64 by omega) (show ksrt (X.filter _) from List.Pairwise.filter _ (List.pairwise_append.mp hs).1) (not_mem_flt hs) (fun m hm => a8 m (by rw [hX]; exact List.mem_append_left _ (List.mem_filter.mp hm).1))
      have q2' : mSl σ1 8 (p, l, false, (X ++ [y]).filter (fun x => decide (x ∈ B.m) == has), fun _ => 0) := by
        rw [hf]
        have e9 : kins y (X.filter (fun x => decide (x ∈ B.m) == has)) = X.filter (fun x => decide (x ∈ B.m) == has) ++ [y] := kins_flt hs
        have q2 : mSl σ1 8 (p, l, false, kins y (X.filter (fun x => decide (x ∈ B.m) == has)), fun _ => 0) := q2
        rw [e9] at q2
        exact q2
      obtain ⟨σ2, r1, r2, r3⟩ := ih (X ++ [y]) σ1 hX2 (sA.keep q3 (by omega)) (sB.keep q3 (by omega)) q2'
      refine ⟨σ2, ?_, r2, (q3.mono (fun d q => by show 6 ≤ d; omega)).trans r3⟩
      rw [List.length_append, List.length_singleton] at r1
      rw [uX3_sieves_at13, ← r1]
      rw [e] at hh
      simp (disch := omega) only [uX3_sieves, mG, mP hα, mR hα, mW hα, mgs, zKK, zB, zBl, zBb, zlg, zA, zA3, zL3, km31, km63, klshr, kishr, k2p, kl1shl, klmask, kland1, kiand1, k_l2i, zrt_b, zrt_0, zrt_1, zdv_n, zdv_l, e4, hx, hh, zb_inj, q1]
    · have e' : (decide (y ∈ B.m) == has) = false := by simp [e]
      simp only [e', Bool.false_eq_true, if_false, List.append_nil] at hf
      obtain ⟨σ2, r1, r2, r3⟩ := ih (X ++ [y]) σ hX2 sA sB (by rw [hf]; exact s8)
      refine ⟨σ2, ?_, r2, r3⟩
      rw [List.length_append, List.length_singleton] at r1
      rw [uX3_sieves_at13, ← r1]
      simp (disch := omega) only [uX3_sieves, mG, mP hα, mR hα, mW hα, mgs, zKK, zB, zBl, zBb, zlg, zA, zA3, zL3, km31, km63, klshr, kishr, k2p, kl1shl, klmask, kland1, kiand1, k_l2i, zrt_b, zrt_0, zrt_1, zdv_n, zdv_l, e4, hx, hh, zb_inj, e]
/-- a sparse counter of marks -/
def kspr (p l : Nat) (L : List Nat) : kC := (p, l, false, L, klay p (fun _ => 0) L)
theorem t_sieves {α : Nat → Nat} (hα : mD α) (σ : mS) (h : zH) {a b : Nat} (ha : a < 6) (hb : b < 6) (has : Bool) {p l : Nat} (h4 : 4 ≤ p) (h8 : p ≤ 8) {A B : kC} (sA : mSl σ a A) (sB : mSl σ b B) (iA : kI A) (iB : kI B) : ∃ σ', zc PG mX3_sieves [.ref (α 0), .int (nI a), .int (nI b), .int (zb has), .int (nI p), .int (nI l)] (mH α σ h) = some (.inl (some (.int (nI (A.m.filter (fun x => decide (x ∈ B.m) == has)).length))), mH α σ' h) ∧ mSl σ' 8 (kspr p l (A.m.filter (fun x => decide (x ∈ B.m) == has))) ∧ mFr mHi σ σ' := by
  obtain ⟨σ1, q1, q2, q3⟩ := t_opensSlot hα σ h 8 (by decide) p l
  obtain ⟨σ2, r1, r2, r3⟩ := t_sieves_loop hα h ha hb has (p := p) (l := l) iA iB A.m [] σ1 rfl (sA.keep q3 (by omega)) (sB.keep q3 (by omega)) q2
  rw [List.length_nil] at r1
  have hm := iA.2.2.2.2.2.2.2.1
  have hl := iA.2.2.2.2.2.2.2.2.2.1
  have hl2 := iA.2.2.2.1
  have hf : (A.m.filter (fun x => decide (x ∈ B.m) == has)).length ≤ A.m.length := List.length_filter_le _ _
  have e3 : σ2.mm 8 = (A.m.filter (fun x => decide (x ∈ B.m) == has)).length := r2.2.2.2.1
  have hbi : σ2.bi 8 = p := r2.1
  have el := t_laysRanks hα σ2 h (c := 8) (by decide) (by omega) (by omega) (L := A.m.filter (fun x => decide (x ∈ B.m) == has)) e3 (by omega) r2.2.2.2.2.1 (fun x hx => hm x (List.mem_filter.mp hx).1)
  rw [hbi] at el
  refine ⟨_, ?_, mSl_ra r2 (klay p (fun _ => 0) (A.m.filter (fun x => decide (x ∈ B.m) == has))), ((q3.mono (fun d q => by show 6 ≤ d; omega)).trans r3).trans ((mFr_ra σ2 8 _).mono (fun d q => by show 6 ≤ d; omega))⟩
  simp (disch := omega) only [eX3_sieves, uX3_sieves, mG, mP hα, mR hα, mW hα, mgs, zKK, zB, zBl, zBb, zlg, zA, zA3, zL3, km31, km63, klshr, kishr, k2p, kl1shl, klmask, kland1, kiand1, k_l2i, zrt_b, zrt_0, zrt_1, zdv_n, zdv_l, q1, r1, el, e3]
def q_keeps (S : kS) (a b k : Int32) : Int32 × kS := if kbd a 0 5 && kbd b 0 5 && kbd k 0 5 then (if (S.c (kN a)).d || (S.c (kN b)).d then (-2, S) else (nI ((S.c (kN a)).m.filter (fun x => decide (x ∈ (S.c (kN b)).m) == true)).length, S.s_c (kN k) (kspr (min (S.c (kN a)).p (S.c (kN b)).p) (min (S.c (kN a)).l (S.c (kN b)).l) ((S.c (kN a)).m.filter (fun x => decide (x ∈ (S.c (kN b)).m) == true))))) else (-1, S)
def q_less (S : kS) (a b k : Int32) : Int32 × kS := if kbd a 0 5 && kbd b 0 5 && kbd k 0 5 then (if (S.c (kN a)).d || (S.c (kN b)).d then (-2, S) else (nI ((S.c (kN a)).m.filter (fun x => decide (x ∈ (S.c (kN b)).m) == false)).length, S.s_c (kN k) (kspr (S.c (kN a)).p (S.c (kN a)).l ((S.c (kN a)).m.filter (fun x => decide (x ∈ (S.c (kN b)).m) == false))))) else (-1, S)
theorem M_keeps {α : Nat → Nat} (hα : mD α) (σ : mS) (h : zH) {S : kS} (hR : mR6 S σ) (hI : kSI S) (a b k : Int32) : ∃ σ', zc PG mX3_keeps [.ref (α 0), .int a, .int b, .int k] (mH α σ h) = some (.inl (some (.int (q_keeps S a b k).1)), mH α σ' h) ∧ mR6 (q_keeps S a b k).2 σ' := by
  unfold q_keeps
  rcases kbd_cases a 0 5 with e1 | ⟨a, -, ha, rfl⟩
  · simp only [e1, Bool.false_and, Bool.false_eq_true, if_false]
    refine ⟨_, ?_, hR.th 0⟩
    simp (disch := omega) only [eX3_keeps, uX3_keeps, mG, mP hα, mR hα, mW hα, mgs, zKK, zB, zBl, zBb, zlg, zA, zA3, zL3, km31, km63, klshr, kishr, k2p, kl1shl, klmask, kland1, kiand1, k_l2i, zrt_b, zrt_0, zrt_1, zdv_n, zdv_l, t_isCounter, e1]
  · have e1 := kbd_nI (Nat.zero_le a) ha (by omega)
    rcases kbd_cases b 0 5 with e2 | ⟨b, -, hb, rfl⟩
    · simp only [e1, e2, Bool.and_false, Bool.false_and, Bool.false_eq_true, if_false]
      refine ⟨_, ?_, hR.th 0⟩
      simp (disch := omega) only [eX3_keeps, uX3_keeps, mG, mP hα, mR hα, mW hα, mgs, zKK, zB, zBl, zBb, zlg, zA, zA3, zL3, km31, km63, klshr, kishr, k2p, kl1shl, klmask, kland1, kiand1, k_l2i, zrt_b, zrt_0, zrt_1, zdv_n, zdv_l, t_isCounter, e1, e2]
    · have e2 := kbd_nI (Nat.zero_le b) hb (by omega)
      rcases kbd_cases k 0 5 with e3 | ⟨k, -, hk, rfl⟩
      · simp only [e1, e2, e3, Bool.and_false, Bool.false_eq_true, if_false]
        refine ⟨_, ?_, hR.th 0⟩
        simp (disch := omega) only [eX3_keeps, uX3_keeps, mG, mP hα, mR hα, mW hα, mgs, zKK, zB, zBl, zBb, zlg, zA, zA3, zL3, km31, km63, klshr, kishr, k2p, kl1shl, klmask, kland1, kiand1, k_l2i, zrt_b, zrt_0, zrt_1, zdv_n, zdv_l, t_isCounter, e1, e2, e3]
      · have e3 := kbd_nI (Nat.zero_le k) hk (by omega)
        simp only [e1, e2, e3, Bool.and_self, if_true]
        rw [kN_nI (by omega), kN_nI (by omega), kN_nI (by omega)]
        have iA := hI.1 a (by omega)
        have iB := hI.1 b (by omega)
        have hR0 := hR.th 0
        have sA := hR0.1 a (by omega)
        have sB := hR0.1 b (by omega)
        have dA : σ.de a = (S.c a).d := by have := sA.2.2.1; simp only [mgs] at this; exact this
        have dB : σ.de b = (S.c b).d := by have := sB.2.2.1; simp only [mgs] at this; exact this
        cases hda : (S.c a).d with
        | true =>
          rw [hda] at dA
          simp only [Bool.true_or, if_true]
          refine ⟨_, ?_, hR0⟩
          simp (disch := omega) only [eX3_keeps, uX3_keeps, mG, mP hα, mR hα, mW hα, mgs, zKK, zB, zBl, zBb, zlg, zA, zA3, zL3, km31, km63, klshr, kishr, k2p, kl1shl, klmask, kland1, kiand1, k_l2i, zrt_b, zrt_0, zrt_1, zdv_n, zdv_l, t_isCounter, e1, e2, e3, dA]
        | false =>
          rw [hda] at dA
          cases hdb : (S.c b).d with
          | true =>
            rw [hdb] at dB
            simp only [Bool.or_true, if_true]
            refine ⟨_, ?_, hR0⟩
            simp (disch := omega) only [eX3_keeps, uX3_keeps, mG, mP hα, mR hα, mW hα, mgs, zKK, zB, zBl, zBb, zlg, zA, zA3, zL3, km31, km63, klshr, kishr, k2p, kl1shl, klmask, kland1, kiand1, k_l2i, zrt_b, zrt_0, zrt_1, zdv_n, zdv_l, t_isCounter, e1, e2, e3, dA, dB]
          | false =>
            rw [hdb] at dB
            simp only [Bool.or_self, Bool.false_eq_true, if_false]
            have pA : σ.bi a = (S.c a).p := by have := sA.1; simp only [mgs] at this; exact this
            have pB : σ.bi b = (S.c b).p := by have := sB.1; simp only [mgs] at this; exact this
            have lA : σ.li a = (S.c a).l := by have := sA.2.1; simp only [mgs] at this; exact this
            have lB : σ.li b = (S.c b).l := by have := sB.2.1; simp only [mgs] at this; exact this
            have c1 := iA.1
            have c2 := iA.2.1
            have c3 := iB.1
            have c4 := iB.2.1
            have c5 := iA.2.2.2.1
            have c6 := iB.2.2.2.1
            obtain ⟨σ1, q1, q2, q3⟩ := t_sieves hα (σ.s_th 0) h (a := a) (b := b) (by omega) (by omega) true (p := min (S.c a).p (S.c b).p) (l := min (S.c a).l (S.c b).l) (by omega) (by omega) sA sB iA iB
            rw [zb_t] at q1
            obtain ⟨σ2, r1, r2, r3⟩ := t_copiesSlot hα σ1 h (f := 8) (t := k) (by omega) (by omega) (by omega) q2
            refine ⟨σ2, ?_, (hR0.fr q3).one r3 r2⟩
            simp (disch := omega) only [eX3_keeps, uX3_keeps, mG, mP hα, mR hα, mW hα, mgs, zKK, zB, zBl, zBb, zlg, zA, zA3, zL3, km31, km63, klshr, kishr, k2p, kl1shl, klmask, kland1, kiand1, k_l2i, zrt_b, zrt_0, zrt_1, zdv_n, zdv_l, t_isCounter, e1, e2, e3, dA, dB, pA, pB, lA, lB, j_minI, q1, r1]
theorem M_less {α : Nat → Nat} (hα : mD α) (σ : mS) (h : zH) {S : kS} (hR : mR6 S σ) (hI : kSI S) (a b k : Int32) : ∃ σ', zc PG mX3_less [.ref (α 0), .int a, .int b, .int k] (mH α σ h) = some (.inl (some (.int (q_less S a b k).1)), mH α σ' h) ∧ mR6 (q_less S a b k).2 σ' := by
  unfold q_less
  rcases kbd_cases a 0 5 with e1 | ⟨a, -, ha, rfl⟩
  · simp only [e1, Bool.false_and, Bool.false_eq_true, if_false]
    refine ⟨_, ?_, hR.th 0⟩
    simp (disch := omega) only [eX3_less, uX3_less, mG, mP hα, mR hα, mW hα, mgs, zKK, zB, zBl, zBb, zlg, zA, zA3, zL3, km31, km63, klshr, kishr, k2p, kl1shl, klmask, kland1, kiand1, k_l2i, zrt_b, zrt_0, zrt_1, zdv_n, zdv_l, t_isCounter, e1]
  · have e1 := kbd_nI (Nat.zero_le a) ha (by omega)
    rcases kbd_cases b 0 5 with e2 | ⟨b, -, hb, rfl⟩
    · simp only [e1, e2, Bool.and_false, Bool.false_and, Bool.false_eq_true, if_false]
      refine ⟨_, ?_, hR.th 0⟩
      simp (disch := omega) only [eX3_less, uX3_less, mG, mP hα, mR hα, mW hα, mgs, zKK, zB, zBl, zBb, zlg, zA, zA3, zL3, km31, km63, klshr, kishr, k2p, kl1shl, klmask, kland1, kiand1, k_l2i, zrt_b, zrt_0, zrt_1, zdv_n, zdv_l, t_isCounter, e1, e2]
    · have e2 := kbd_nI (Nat.zero_le b) hb (by omega)
      rcases kbd_cases k 0 5 with e3 | ⟨k, -, hk, rfl⟩
      · simp only [e1, e2, e3, Bool.and_false, Bool.false_eq_true, if_false]
        refine ⟨_, ?_, hR.th 0⟩
        simp (disch := omega) only [eX3_less, uX3_less, mG, mP hα, mR hα, mW hα, mgs, zKK, zB, zBl, zBb, zlg, zA, zA3, zL3, km31, km63, klshr, kishr, k2p, kl1shl, klmask, kland1, kiand1, k_l2i, zrt_b, zrt_0, zrt_1, zdv_n, zdv_l, t_isCounter, e1, e2, e3]
      · have e3 := kbd_nI (Nat.zero_le k) hk (by omega)
        simp only [e1, e2, e3, Bool.and_self, if_true]
        rw [kN_nI (by omega), kN_nI (by omega), kN_nI (by omega)]
        have iA := hI.1 a (by omega)
        have iB := hI.1 b (by omega)
        have hR0 := hR.th 0
        have sA := hR0.1 a (by omega)
        have sB := hR0.1 b (by omega)
        have dA : σ.de a = (S.c a).d := by have := sA.2.2.1; simp only [mgs] at this; exact this
        have dB : σ.de b = (S.c b).d := by have := sB.2.2.1; simp only [mgs] at this; exact this
        cases hda : (S.c a).d with
        | true =>
          rw [hda] at dA
          simp only [Bool.true_or, if_true]
          refine ⟨_, ?_, hR0⟩
          simp (disch := omega) only [eX3_less, uX3_less, mG, mP hα, mR hα, mW hα, mgs, zKK, zB, zBl, zBb, zlg, zA, zA3, zL3, km31, km63, klshr, kishr, k2p, kl1shl, klmask, kland1, kiand1, k_l2i, zrt_b, zrt_0, zrt_1, zdv_n, zdv_l, t_isCounter, e1, e2, e3, dA]
        | false =>
          rw [hda] at dA
          cases hdb : (S.c b).d with
          | true =>
            rw [hdb] at dB
            simp only [Bool.or_true, if_true]
            refine ⟨_, ?_, hR0⟩
            simp (disch := omega) only [eX3_less, uX3_less, mG, mP hα, mR hα, mW hα, mgs, zKK, zB, zBl, zBb, zlg, zA, zA3, zL3, km31, km63, klshr, kishr, k2p, kl1shl, klmask, kland1, kiand1, k_l2i, zrt_b, zrt_0, zrt_1, zdv_n, zdv_l, t_isCounter, e1, e2, e3, dA, dB]
          | false =>
            rw [hdb] at dB
            simp only [Bool.or_self, Bool.false_eq_true, if_false]
            have pA : σ.bi a = (S.c a).p := by have := sA.1; simp only [mgs] at this; exact this
            have pB : σ.bi b = (S.c b).p := by have := sB.1; simp only [mgs] at this; exact this
            have lA : σ.li a = (S.c a).l := by have := sA.2.1; simp only [mgs] at this; exact this
            have lB : σ.li b = (S.c b).l := by have := sB.2.1; simp only [mgs] at this; exact this
            have c1 := iA.1
            have c2 := iA.2.1
            have c3 := iB.1
            have c4 := iB.2.1
            have c5 := iA.2.2.2.1
            have c6 := iB.2.2.2.1
            obtain ⟨σ1, q1, q2, q3⟩ := t_sieves hα (σ.s_th 0) h (a := a) (b := b) (by omega) (by omega) false (p := (S.c a).p) (l := (S.c a).l) (by omega) (by omega) sA sB iA iB
            rw [zb_f] at q1
            obtain ⟨σ2, r1, r2, r3⟩ := t_copiesSlot hα σ1 h (f := 8) (t := k) (by omega) (by omega) (by omega) q2
            refine ⟨σ2, ?_, (hR0.fr q3).one r3 r2⟩
            simp (disch := omega) only [eX3_less, uX3_less, mG, mP hα, mR hα, mW hα, mgs, zKK, zB, zBl, zBb, zlg, zA, zA3, zL3, km31, km63, klshr, kishr, k2p, kl1shl, klmask, kland1, kiand1, k_l2i, zrt_b, zrt_0, zrt_1, zdv_n, zdv_l, t_isCounter, e1, e2, e3, dA, dB, pA, pB, lA, lB, q1, r1]
/-! splits -/
def klow (x : Nat) : Bool := decide (x < 2147483648)
theorem t_splits_loop {α : Nat → Nat} (hα : mD α) (h : zH) {j k : Nat} (hj : j < 6) (hk : k < 6) (hjk : j ≠ k) (a1' : Int32) {p l : Nat} {C : kC} (iC : kI C) (Y : List Nat) : ∀ (X : List Nat) (σ : mS), C.m = X ++ Y → mSl σ 8 C → mSl σ j (p, l, false, X.filter klow, fun _ => 0) → mSl σ k (p, l, false, X.filter (fun x => !klow x), fun _ => 0) → ∃ σ', zs PG mX3_splits 96 [.ref (α 0), .int a1', .int (nI j), .int (nI k), .int (nI X.length)] [] (mH α σ h) = zs PG mX3_splits 152 [.ref (α 0), .int a1', .int (nI j), .int (nI k), .int (nI C.m.length)] [] (mH α σ' h) ∧ mSl σ' j (p, l, false, C.m.filter klow, fun _ => 0) ∧ mSl σ' k (p, l, false, C.m.filter (fun x => !klow x), fun _ => 0) ∧ mFr (fun d => d = j ∨ d = k) σ σ' := by
  obtain ⟨a1, a2, a3, a4, a5, a6, a7, a8, a9, a10, a11⟩ := iC
  induction Y with
  | nil =>
    intro X σ hX s8 sj sk
    rw [List.append_nil] at hX
    rw [← hX] at sj sk
    have e4 : σ.mm 8 = C.m.length := s8.2.2.2.1
    have hlX : X.length ≤ 48 := by rw [← hX]; omega
    refine ⟨σ, ?_, sj, sk, mFr.rf _ _⟩
    rw [uX3_splits_at96, hX]
    rw [hX] at e4
    simp (disch := omega) only [uX3_splits_p0, uX3_splits_p1, mG, mP hα, mR hα, mW hα, mgs, zKK, zB, zBl, zBb, zlg, zA, zA3, zL3, km31, km63, klshr, kishr, k2p, kl1shl, klmask, kland1, kiand1, k_l2i, zrt_b, zrt_0, zrt_1, zdv_n, zdv_l, e4]
  | cons y Y ih =>
    intro X σ hX s8 sj sk
    have hX1 : X.length + 1 + Y.length = C.m.length := by rw [hX]; simp; omega
    have e4 : σ.mm 8 = C.m.length := s8.2.2.2.1
    have hx : σ.ma (512 + X.length) = y := by
      have := s8.2.2.2.2.1 X.length (by omega)
      rw [hX, kapp_get] at this
      exact this
    have hy : y < 4294967296 := a8 y (by rw [hX]; simp)
    have hX2 : C.m = (X ++ [y]) ++ Y := by rw [hX]; simp
    have hs : ksrt (X ++ [y]) := by rw [hX] at a9; exact ksrt_pre a9
    have lX : X.length ≤ 48 := by omega
    have f1 := filter_snoc klow X y
    have f2 := filter_snoc (fun x => !klow x) X y
    have mem : ∀ (p : Nat → Bool) (m : Nat), m ∈ X.filter p → m < 2 ^ 32 := fun p m hm => a8 m (by rw [hX]; exact List.mem_append_left _ (List.mem_filter.mp hm).1)
    by_cases e : y < 2147483648
    · have e' : klow y = true := decide_eq_true e
      simp only [e', if_true, Bool.not_true, Bool.false_eq_true, if_false, List.append_nil] at f1 f2
      have l8 : (X.filter klow).length ≤ X.length := List.length_filter_le _ _
      obtain ⟨σ1, q1, q2, q3⟩ := t_insert hα σ h (c := j) (by omega) hy sj (show (X.filter klow).length < 64 by omega) (show ksrt (X.filter _) from List.Pairwise.filter _ (List.pairwise_append.mp hs).1) (not_mem_flt hs) (mem klow)
      have q2' : mSl σ1 j (p, l, false, (X ++ [y]).filter klow, fun _ => 0) := by
        rw [f1, ← kins_flt hs]
        exact q2
      obtain ⟨σ2, r1, r2, r3, r4⟩ := ih (X ++ [y]) σ1 hX2 (s8.keep q3 (by omega)) q2' (by rw [f2]; exact sk.keep q3 (fun q => hjk q.symm))
      refine ⟨σ2, ?_, r2, r3, (q3.mono (fun d q => Or.inl q)).trans r4⟩
      rw [List.length_append, List.length_singleton] at r1
      rw [uX3_splits_at96, ← r1]
      simp (disch := omega) only [uX3_splits_p0, uX3_splits_p1, mG, mP hα, mR hα, mW hα, mgs, zKK, zB, zBl, zBb, zlg, zA, zA3, zL3, km31, km63, klshr, kishr, k2p, kl1shl, klmask, kland1, kiand1, k_l2i, zrt_b, zrt_0, zrt_1, zdv_n, zdv_l, e4, hx, q1]
    · have e' : klow y = false := decide_eq_false e
      simp only [e', if_true, Bool.not_false, Bool.false_eq_true, if_false, List.append_nil] at f1 f2
      have l8 : (X.filter (fun x => !klow x)).length ≤ X.length := List.length_filter_le _ _
      obtain ⟨σ1, q1, q2, q3⟩ := t_insert hα σ h (c := k) (by omega) hy sk (show (X.filter (fun x => !klow x)).length < 64 by omega) (show ksrt (X.filter _) from List.Pairwise.filter _ (List.pairwise_append.mp hs).1) (not_mem_flt hs) (mem _)
      have q2' : mSl σ1 k (p, l, false, (X ++ [y]).filter (fun x => !klow x), fun _ => 0) := by
        rw [f2, ← kins_flt hs]
        exact q2
      obtain ⟨σ2, r1, r2, r3, r4⟩ := ih (X ++ [y]) σ1 hX2 (s8.keep q3 (by omega)) (by rw [f1]; exact sj.keep q3 hjk) q2'
      refine ⟨σ2, ?_, r2, r3, (q3.mono (fun d q => Or.inr q)).trans r4⟩
      rw [List.length_append, List.length_singleton] at r1
      rw [uX3_splits_at96, ← r1]
      simp (disch := omega) only [uX3_splits_p0, uX3_splits_p1, mG, mP hα, mR hα, mW hα, mgs, zKK, zB, zBl, zBb, zlg, zA, zA3, zL3, km31, km63, klshr, kishr, k2p, kl1shl, klmask, kland1, kiand1, k_l2i, zrt_b, zrt_0, zrt_1, zdv_n, zdv_l, e4, hx, q1]
def q_splits (S : kS) (c j k : Int32) : Int32 × kS := if kbd c 0 5 && kbd j 0 5 && kbd k 0 5 then (if (S.c (kN c)).d then (-2, S) else if kN j = kN k then (-3, S) else (nI ((S.c (kN c)).m.filter klow).length, (S.s_c (kN j) (kspr (S.c (kN c)).p (S.c (kN c)).l ((S.c (kN c)).m.filter klow))).s_c (kN k) (kspr (S.c (kN c)).p (S.c (kN c)).l ((S.c (kN c)).m.filter (fun x => !klow x))))) else (-1, S)
theorem M_splits {α : Nat → Nat} (hα : mD α) (σ : mS) (h : zH) {S : kS} (hR : mR6 S σ) (hI : kSI S) (c j k : Int32) : ∃ σ', zc PG mX3_splits [.ref (α 0), .int c, .int j, .int k] (mH α σ h) = some (.inl (some (.int (q_splits S c j k).1)), mH α σ' h) ∧ mR6 (q_splits S c j k).2 σ' := by
  unfold q_splits
  rcases kbd_cases c 0 5 with e1 | ⟨c, -, hc, rfl⟩
  · simp only [e1, Bool.false_and, Bool.false_eq_true, if_false]
    refine ⟨_, ?_, hR.th 0⟩
    simp (disch := omega) only [eX3_splits, uX3_splits_p0, uX3_splits_p1, mG, mP hα, mR hα, mW hα, mgs, zKK, zB, zBl, zBb, zlg, zA, zA3, zL3, km31, km63, klshr, kishr, k2p, kl1shl, klmask, kland1, kiand1, k_l2i, zrt_b, zrt_0, zrt_1, zdv_n, zdv_l, t_isCounter, e1]
  · have e1 := kbd_nI (Nat.zero_le c) hc (by omega)
    rcases kbd_cases j 0 5 with e2 | ⟨j, -, hj, rfl⟩
    · simp only [e1, e2, Bool.and_false, Bool.false_and, Bool.false_eq_true, if_false]
      refine ⟨_, ?_, hR.th 0⟩
      simp (disch := omega) only [eX3_splits, uX3_splits_p0, uX3_splits_p1, mG, mP hα, mR hα, mW hα, mgs, zKK, zB, zBl, zBb, zlg, zA, zA3, zL3, km31, km63, klshr, kishr, k2p, kl1shl, klmask, kland1, kiand1, k_l2i, zrt_b, zrt_0, zrt_1, zdv_n, zdv_l, t_isCounter, e1, e2]
    · have e2 := kbd_nI (Nat.zero_le j) hj (by omega)
      rcases kbd_cases k 0 5 with e3 | ⟨k, -, hk, rfl⟩
      · simp only [e1, e2, e3, Bool.and_false, Bool.false_eq_true, if_false]
        refine ⟨_, ?_, hR.th 0⟩
        simp (disch := omega) only [eX3_splits, uX3_splits_p0, uX3_splits_p1, mG, mP hα, mR hα, mW hα, mgs, zKK, zB, zBl, zBb, zlg, zA, zA3, zL3, km31, km63, klshr, kishr, k2p, kl1shl, klmask, kland1, kiand1, k_l2i, zrt_b, zrt_0, zrt_1, zdv_n, zdv_l, t_isCounter, e1, e2, e3]
      · have e3 := kbd_nI (Nat.zero_le k) hk (by omega)
        simp only [e1, e2, e3, Bool.and_self, if_true]
        rw [kN_nI (by omega), kN_nI (by omega), kN_nI (by omega)]
        have iC := hI.1 c (by omega)
        have hR0 := hR.th 0
        have sC := hR0.1 c (by omega)
        have dC : σ.de c = (S.c c).d := by have := sC.2.2.1; simp only [mgs] at this; exact this
        cases hd : (S.c c).d with
        | true =>
          rw [hd] at dC
          simp only [if_true]
          refine ⟨_, ?_, hR0⟩
          simp (disch := omega) only [eX3_splits, uX3_splits_p0, uX3_splits_p1, mG, mP hα, mR hα, mW hα, mgs, zKK, zB, zBl, zBb, zlg, zA, zA3, zL3, km31, km63, klshr, kishr, k2p, kl1shl, klmask, kland1, kiand1, k_l2i, zrt_b, zrt_0, zrt_1, zdv_n, zdv_l, t_isCounter, e1, e2, e3, dC]
        | false =>
          rw [hd] at dC
          simp only [Bool.false_eq_true, if_false]
          by_cases ejk : j = k
          · rw [if_pos ejk]
            refine ⟨_, ?_, hR0⟩
            simp (disch := omega) only [eX3_splits, uX3_splits_p0, uX3_splits_p1, mG, mP hα, mR hα, mW hα, mgs, zKK, zB, zBl, zBb, zlg, zA, zA3, zL3, km31, km63, klshr, kishr, k2p, kl1shl, klmask, kland1, kiand1, k_l2i, zrt_b, zrt_0, zrt_1, zdv_n, zdv_l, t_isCounter, e1, e2, e3, dC]
          · rw [if_neg ejk]
            obtain ⟨σ1, q1, q2, q3⟩ := t_copiesSlot hα (σ.s_th 0) h (f := c) (t := 8) (by omega) (by omega) (by omega) sC
            have R1 := hR0.fr (q3.mono (fun d q => by show 6 ≤ d; omega))
            obtain ⟨σ2, r1, r2, r3⟩ := t_opensSlot hα σ1 h j (by omega) (S.c c).p (S.c c).l
            have s8 := q2.keep r3 (by omega)
            obtain ⟨σ3, v1, v2, v3⟩ := t_opensSlot hα σ2 h k (by omega) (S.c c).p (S.c c).l
            have s8' := s8.keep v3 (by omega)
            have sj := r2.keep v3 ejk
            obtain ⟨σ4, w1, w2, w3, w4⟩ := t_splits_loop hα h (by omega : j < 6) (by omega : k < 6) ejk (nI c) iC (S.c c).m [] σ3 rfl s8' sj v2
            rw [List.length_nil] at w1
            have hm := iC.2.2.2.2.2.2.2.1
            have hl := iC.2.2.2.2.2.2.2.2.2.1
            have hl2 := iC.2.2.2.1
            have c4 := iC.1
            have c8 := iC.2.1
            have n1 : ((S.c c).m.filter klow).length ≤ (S.c c).m.length := List.length_filter_le _ _
            have n2 : ((S.c c).m.filter (fun x => !klow x)).length ≤ (S.c c).m.length := List.length_filter_le _ _
            have b4 : σ4.bi j = (S.c c).p := w2.1
            have el := t_laysRanks hα σ4 h (c := j) (by omega) (by omega) (by omega) (L := (S.c c).m.filter klow) w2.2.2.2.1 (by omega) w2.2.2.2.2.1 (fun x hx => hm x (List.mem_filter.mp hx).1)
            rw [b4] at el
            have s5 := mSl_ra w2 (klay (S.c c).p (fun _ => 0) ((S.c c).m.filter klow))
            have f5 := mFr_ra σ4 j (klay (S.c c).p (fun _ => 0) ((S.c c).m.filter klow))
            have s5k := w3.keep f5 (fun q => ejk q.symm)
            generalize σ4.s_ra (mblk σ4.ra j (klay (S.c c).p (fun _ => 0) ((S.c c).m.filter klow))) = σ5 at el s5 f5 s5k
            have b5 : σ5.bi k = (S.c c).p := s5k.1
            have el2 := t_laysRanks hα σ5 h (c := k) (by omega) (by omega) (by omega) (L := (S.c c).m.filter (fun x => !klow x)) s5k.2.2.2.1 (by omega) s5k.2.2.2.2.1 (fun x hx => hm x (List.mem_filter.mp hx).1)
            rw [b5] at el2
            have s6 := mSl_ra s5k (klay (S.c c).p (fun _ => 0) ((S.c c).m.filter (fun x => !klow x)))
            have f6 := mFr_ra σ5 k (klay (S.c c).p (fun _ => 0) ((S.c c).m.filter (fun x => !klow x)))
            have s6j := s5.keep f6 ejk
            generalize σ5.s_ra (mblk σ5.ra k (klay (S.c c).p (fun _ => 0) ((S.c c).m.filter (fun x => !klow x)))) = σ6 at el2 s6 f6 s6j
            have m6 : σ6.mm j = ((S.c c).m.filter klow).length := s6j.2.2.2.1
            have g1 : σ1.bi 8 = (S.c c).p := q2.1
            have g2 : σ1.li 8 = (S.c c).l := q2.2.1
            have g3 : σ2.bi 8 = (S.c c).p := s8.1
            have g4 : σ2.li 8 = (S.c c).l := s8.2.1
            have F : mFr (fun d => d = j ∨ d = k) σ1 σ6 := ((((r3.mono (fun d q => Or.inl q)).trans (v3.mono (fun d q => Or.inr q))).trans w4).trans (f5.mono (fun d q => Or.inl q))).trans (f6.mono (fun d q => Or.inr q))
            refine ⟨σ6, ?_, ?_⟩
            · simp (disch := omega) only [eX3_splits, uX3_splits_p0, uX3_splits_p1, mG, mP hα, mR hα, mW hα, mgs, zKK, zB, zBl, zBb, zlg, zA, zA3, zL3, km31, km63, klshr, kishr, k2p, kl1shl, klmask, kland1, kiand1, k_l2i, zrt_b, zrt_0, zrt_1, zdv_n, zdv_l, t_isCounter, e1, e2, e3, dC, q1, g1, g2, r1, g3, g4, v1, w1, el, el2, m6]
            · obtain ⟨u1, u2, u3, u4, u5, u6, u7⟩ := R1
              obtain ⟨z1, z2, z3, z4, z5, z6, z7, z8, z9, z10, z11⟩ := F.1
              refine ⟨fun d hd => ?_, z1.trans u2, z2.trans u3, z4.trans u4, fun i hi => by rw [z3]; exact u5 i hi, z6.trans u6, fun i hi => by rw [z5]; exact u7 i hi⟩
              show mSl σ6 d (if d = k then _ else if d = j then _ else S.c d)
              by_cases x1 : d = k
              · rw [if_pos x1, x1]; exact s6
              · rw [if_neg x1]
                by_cases x2 : d = j
                · rw [if_pos x2, x2]; exact s6j
                · rw [if_neg x2]; exact (u1 d hd).keep F (fun q => q.elim x2 x1)
