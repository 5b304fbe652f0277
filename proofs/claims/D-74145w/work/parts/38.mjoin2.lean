/-! THE MODEL's JOINS -/
theorem t_join_ranks {α : Nat → Nat} (hα : mD α) (σ : mS) (h : zH) {t p : Nat} (ht : t < 10) (ht7 : t ≠ 7) (h8 : p ≤ 8) (a2 : Int32) {r1 r2 : Nat → Nat} (h1 : ∀ x, x < 256 → σ.ra (256 * t + x) = r1 x) (h2 : ∀ x, x < 256 → σ.ra (1792 + x) = r2 x) (b1 : ∀ x, r1 x ≤ 33) (b2 : ∀ x, r2 x ≤ 33) (n : Nat) : ∀ x, x + n = 2 ^ p → zs PG mX3_joinsInto 86 [.ref (α 0), .int (nI t), .int a2, .int (nI p), .int (nI x), zJ, zJ] [] (mH α (σ.s_ra (mblk σ.ra t (kpf (fun y => max (r1 y) (r2 y)) r1 x))) h) = zs PG mX3_joinsInto 140 [.ref (α 0), .int (nI t), .int a2, .int (nI p), .int (nI 0), zJ, zJ] [] (mH α (σ.s_ra (mblk σ.ra t (kpf (fun y => max (r1 y) (r2 y)) r1 (2 ^ p)))) h) := by
  have hp := k2p_le h8
  induction n with
  | zero =>
    intro x hx
    have hx : x = 2 ^ p := by omega
    subst hx
    rw [uX3_joinsInto_at86]
    simp (disch := omega) only [uX3_joinsInto_p0, uX3_joinsInto_p1, mG, mP hα, mR hα, mW hα, mgs, zKK, zB, zBl, zBb, zlg, zA, zA3, zL3, km31, km63, klshr, kishr, k2p, kl1shl, klmask, kland1, kiand1, k_l2i, zrt_b, zrt_0, zrt_1, zdv_n, zdv_l]
  | succ n ih =>
    intro x hx
    have c1 := b1 x
    have c2 := b2 x
    have e1 : mblk σ.ra t (kpf (fun y => max (r1 y) (r2 y)) r1 x) (256 * t + x) = r1 x := by
      rw [mblk_s (by omega)]
      unfold kpf
      rw [if_neg (by omega)]
    have e2 : mblk σ.ra t (kpf (fun y => max (r1 y) (r2 y)) r1 x) (1792 + x) = r2 x := by
      have := mblk_o (a := σ.ra) (r := kpf (fun y => max (r1 y) (r2 y)) r1 x) (c := t) (d := 7) (x := x) (by omega) (by omega)
      rw [show 256 * 7 + x = 1792 + x by omega] at this
      rw [this]
      exact h2 x (by omega)
    rw [uX3_joinsInto_at86, ← ih (x + 1) (by omega), ← kpf_up]
    simp (disch := omega) only [uX3_joinsInto_p0, uX3_joinsInto_p1, mG, mP hα, mR hα, mW hα, mgs, zKK, zB, zBl, zBb, zlg, zA, zA3, zL3, km31, km63, klshr, kishr, k2p, kl1shl, klmask, kland1, kiand1, k_l2i, zrt_b, zrt_0, zrt_1, zdv_n, zdv_l, t_at, e1, e2, j_maxI, mblk_up, mss]
theorem t_join_dense {α : Nat → Nat} (hα : mD α) (σ : mS) (h : zH) {t : Nat} (ht : t < 10) (a2 a3 : Int32) (k : Nat) (u : Value) (hd : σ.de t = true) (hk : k < 2147483648) (h7 : σ.mm 7 < 2147483648) : zs PG mX3_joinsInto 140 [.ref (α 0), .int (nI t), .int a2, .int a3, .int (nI k), u, zJ] [] (mH α σ h) = some (.inl none, mH α σ h) := by
  rw [uX3_joinsInto_at140]
  by_cases e : k < σ.mm 7
  · simp (disch := omega) only [uX3_joinsInto_p0, uX3_joinsInto_p1, mG, mP hα, mR hα, mW hα, mgs, zKK, zB, zBl, zBb, zlg, zA, zA3, zL3, km31, km63, klshr, kishr, k2p, kl1shl, klmask, kland1, kiand1, k_l2i, zrt_b, zrt_0, zrt_1, zdv_n, zdv_l, hd]
  · simp (disch := omega) only [uX3_joinsInto_p0, uX3_joinsInto_p1, mG, mP hα, mR hα, mW hα, mgs, zKK, zB, zBl, zBb, zlg, zA, zA3, zL3, km31, km63, klshr, kishr, k2p, kl1shl, klmask, kland1, kiand1, k_l2i, zrt_b, zrt_0, zrt_1, zdv_n, zdv_l, hd]
theorem t_join_marks {α : Nat → Nat} (hα : mD α) (h : zH) {t : Nat} (ht : t < 10) (ht7 : t ≠ 7) (a2 a3 : Int32) (p l : Nat) (r : Nat → Nat) (M : List Nat) (hM : M.length ≤ 64) (hM2 : ∀ m ∈ M, m < 2 ^ 32) (B : List Nat) : ∀ (A L : List Nat) (u : Value) (σ : mS), M = A ++ B → σ.mm 7 = M.length → (∀ k, k < M.length → σ.ma (448 + k) = M.getD k 0) → mSl σ t (p, l, false, L, r) → ksrt L → (∀ m ∈ L, m < 2 ^ 32) → ∃ σ', zs PG mX3_joinsInto 140 [.ref (α 0), .int (nI t), .int a2, .int a3, .int (nI A.length), u, zJ] [] (mH α σ h) = some (.inl none, mH α σ' h) ∧ mSl σ' t (if 64 < (kunion L B).length then (p, l, true, [], r) else (p, l, false, kunion L B, r)) ∧ mFr (fun d => d = t) σ σ' := by
  induction B with
  | nil =>
    intro A L u σ hA hn hm hs hL hL2
    have hA : A.length = M.length := by rw [hA]; simp
    refine ⟨σ, ?_, ?_, mFr.rf _ _⟩
    · rw [uX3_joinsInto_at140]
      simp (disch := omega) only [uX3_joinsInto_p0, uX3_joinsInto_p1, mG, mP hα, mR hα, mW hα, mgs, zKK, zB, zBl, zBb, zlg, zA, zA3, zL3, km31, km63, klshr, kishr, k2p, kl1shl, klmask, kland1, kiand1, k_l2i, zrt_b, zrt_0, zrt_1, zdv_n, zdv_l]
    · have : ¬ 64 < (kunion L []).length := by have := hs.2.2.2.2.2.2; show ¬ 64 < L.length; exact Nat.not_lt.mpr this
      rw [if_neg this]
      exact hs
  | cons b B ih =>
    intro A L u σ hA hn hm hs hL hL2
    have hA1 : A.length + 1 + B.length = M.length := by rw [hA]; simp; omega
    have hx := hm A.length (by omega)
    rw [hA, kapp_get] at hx
    have hb : b < 4294967296 := hM2 b (by rw [hA]; simp)
    have hA2 : M = (A ++ [b]) ++ B := by rw [hA]; simp
    obtain ⟨g1, g2, g3, g4, g5, g6, g7⟩ := hs
    have g3' : σ.de t = false := g3
    have g4' : σ.mm t = L.length := g4
    have g7' : L.length ≤ 64 := g7
    have hh := t_hasMark hα σ h ht hb (L := L) g4 g7 g5 hL2
    by_cases e : b ∈ L
    · rw [decide_eq_true e] at hh
      obtain ⟨σ2, e2, s2, f2⟩ := ih (A ++ [b]) L (.long (lN b)) σ hA2 hn hm ⟨g1, g2, g3, g4, g5, g6, g7⟩ hL hL2
      rw [List.length_append, List.length_singleton] at e2
      have ek : kunion L (b :: B) = kunion L B := by show kunion (if b ∈ L then L else kins b L) B = _; rw [if_pos e]
      rw [ek]
      refine ⟨σ2, ?_, s2, f2⟩
      rw [uX3_joinsInto_at140, ← e2]
      simp (disch := omega) only [uX3_joinsInto_p0, uX3_joinsInto_p1, mG, mP hα, mR hα, mW hα, mgs, zKK, zB, zBl, zBb, zlg, zA, zA3, zL3, km31, km63, klshr, kishr, k2p, kl1shl, klmask, kland1, kiand1, k_l2i, zrt_b, zrt_0, zrt_1, zdv_n, zdv_l, g3', hx, hh, zb_t]
    · rw [decide_eq_false e] at hh
      have ek : kunion L (b :: B) = kunion (kins b L) B := by show kunion (if b ∈ L then L else kins b L) B = _; rw [if_neg e]
      rw [ek]
      by_cases e64 : L.length = 64
      · have hl : 64 < (kunion (kins b L) B).length := by have := kunion_len B (kins b L); rw [kins_len] at this; omega
        rw [if_pos hl]
        have ed := t_join_dense hα ((σ.s_de (va_up σ.de t true)).s_mm (va_up σ.mm t 0)) h ht a2 a3 (A.length + 1) (.long (lN b)) (by simp only [mgs, va_up_self]) (by omega) (by simp only [mgs]; rw [va_up_ne _ _ (fun q => ht7 q.symm)]; omega)
        refine ⟨(σ.s_de (va_up σ.de t true)).s_mm (va_up σ.mm t 0), ?_, mSl_dense (C := (p, l, false, L, r)) ⟨g1, g2, g3, g4, g5, g6, g7⟩, mFr_dense σ t⟩
        rw [uX3_joinsInto_at140, ← ed]
        simp (disch := omega) only [uX3_joinsInto_p0, uX3_joinsInto_p1, mG, mP hα, mR hα, mW hα, mgs, zKK, zB, zBl, zBb, zlg, zA, zA3, zL3, km31, km63, klshr, kishr, k2p, kl1shl, klmask, kland1, kiand1, k_l2i, zrt_b, zrt_0, zrt_1, zdv_n, zdv_l, g3', g4', hx, hh, zb_f, t_becomesDense hα]
      · obtain ⟨σ1, e1, s1, f1⟩ := t_insert hα σ h ht hb (C := (p, l, false, L, r)) ⟨g1, g2, g3, g4, g5, g6, g7⟩ (show L.length < 64 by omega) hL e hL2
        obtain ⟨-, -, -, q4, q5, -⟩ := f1.2 7 (fun q => ht7 q.symm)
        obtain ⟨σ2, e2, s2, f2⟩ := ih (A ++ [b]) (kins b L) (.long (lN b)) σ1 hA2 (q4.trans hn) (fun k hk => (q5 k (by omega)).trans (hm k hk)) s1 (kins_srt hL e) (fun m hm => by
          rcases (kins_mem b m L).mp hm with rfl | hm
          · exact hb
          · exact hL2 m hm)
        rw [List.length_append, List.length_singleton] at e2
        refine ⟨σ2, ?_, s2, f1.trans f2⟩
        rw [uX3_joinsInto_at140, ← e2]
        simp (disch := omega) only [uX3_joinsInto_p0, uX3_joinsInto_p1, mG, mP hα, mR hα, mW hα, mgs, zKK, zB, zBl, zBb, zlg, zA, zA3, zL3, km31, km63, klshr, kishr, k2p, kl1shl, klmask, kland1, kiand1, k_l2i, zrt_b, zrt_0, zrt_1, zdv_n, zdv_l, g3', g4', hx, hh, zb_f, e1]
theorem t_joinsInto {α : Nat → Nat} (hα : mD α) (σ : mS) (h : zH) {t c : Nat} (ht : t < 10) (hc : c < 10) (ht7 : t ≠ 7) (hc7 : c ≠ 7) (htc : t ≠ c) {A B : kC} (sA : mSl σ t A) (sB : mSl σ c B) (jA : kJ A) (jB : kJ B) : ∃ σ', zc PG mX3_joinsInto [.ref (α 0), .int (nI t), .int (nI c)] (mH α σ h) = some (.inl none, mH α σ' h) ∧ mSl σ' t (kji A B) ∧ mFr (fun d => d = t ∨ d = 7) σ σ' := by
  have jA0 := jA
  have jB0 := jB
  obtain ⟨a1, a2, a3, a4, a5, a6, a7, a8, a9, a10, a11⟩ := jA
  obtain ⟨b1, b2, b3, b4, b5, b6, b7, b8, b9, b10, b11⟩ := jB
  obtain ⟨σ1, e1, s1, f1⟩ := t_copiesSlot hα σ h hc (by decide : 7 < 10) hc7 sB
  have sA1 := sA.keep f1 ht7
  obtain ⟨x1, x2, x3, x4, x5, x6, x7⟩ := sA1
  obtain ⟨y1, y2, y3, y4, y5, y6, y7⟩ := s1
  have hpA : min A.p B.p ≤ A.p := Nat.min_le_left _ _
  have hpB : min A.p B.p ≤ B.p := Nat.min_le_right _ _
  have hp4 : 4 ≤ min A.p B.p := by omega
  -- the limit
  have sA2 : mSl (σ1.s_li (va_up σ1.li t (min A.l B.l))) t (A.p, min A.l B.l, A.d, A.m, A.r) := by
    unfold mSl
    simp only [mgs, va_up_self]
    exact ⟨x1, rfl, x3, x4, x5, x6, x7⟩
  have f2 := mFr_li σ1 t (min A.l B.l)
  have sB2 : mSl (σ1.s_li (va_up σ1.li t (min A.l B.l))) 7 B := mSl.keep ⟨y1, y2, y3, y4, y5, y6, y7⟩ f2 (fun q => ht7 q.symm)
  have jA2 : kJ (A.p, min A.l B.l, A.d, A.m, A.r) := ⟨a1, a2, by show 1 ≤ min A.l B.l; omega, by show min A.l B.l ≤ 48; omega, a5, a6, a7, a8, a9, a10, a11⟩
  obtain ⟨σ3, e3, s3, f3⟩ := t_foldsSlot hα _ h (q := min A.p B.p) ht sA2 jA2 hp4 hpA
  have sB3 := sB2.keep f3 (fun q => ht7 q.symm)
  obtain ⟨σ4, e4, s4, f4⟩ := t_foldsSlot hα _ h (q := min A.p B.p) (by decide : 7 < 10) sB3 jB0 hp4 hpB
  have sA4 := s3.keep f4 ht7
  obtain ⟨u1, u2, u3, u4, u5, u6, u7⟩ := sA4
  obtain ⟨v1, v2, v3, v4, v5, v6, v7⟩ := s4
  have u3' : σ4.de t = A.d := u3
  have v3' : σ4.de 7 = B.d := v3
  have u6' : ∀ x, x < 256 → σ4.ra (256 * t + x) = kfold A.p (min A.p B.p) A.r x := u6
  have v6' : ∀ x, x < 256 → σ4.ra (1792 + x) = kfold B.p (min A.p B.p) B.r x := v6
  have F : mFr (fun d => d = t ∨ d = 7) σ σ4 := (((f1.mono (fun d q => Or.inr q)).trans (f2.mono (fun d q => Or.inl q))).trans (f3.mono (fun d q => Or.inl q))).trans (f4.mono (fun d q => Or.inr q))
  have z1 : ∀ y, 2 ^ (min A.p B.p) ≤ y → kfold A.p (min A.p B.p) A.r y = 0 := fun y hy => kfold_zero hpA _ hy
  have z2 : ∀ y, 2 ^ (min A.p B.p) ≤ y → kfold B.p (min A.p B.p) B.r y = 0 := fun y hy => kfold_zero hpB _ hy
  have k1 : ∀ y, kfold A.p (min A.p B.p) A.r y ≤ 33 := fun y => Nat.le_trans (kfold_bound hpA (by omega) a5 y) (by omega)
  have k2 : ∀ y, kfold B.p (min A.p B.p) B.r y ≤ 33 := fun y => Nat.le_trans (kfold_bound hpB (by omega) b5 y) (by omega)
  -- the ranks, for any state that has these
  have ranks : ∀ (τ : mS), (∀ x, x < 256 → τ.ra (256 * t + x) = kfold A.p (min A.p B.p) A.r x) → (∀ x, x < 256 → τ.ra (1792 + x) = kfold B.p (min A.p B.p) B.r x) → zs PG mX3_joinsInto 86 [.ref (α 0), .int (nI t), .int (nI c), .int (nI (min A.p B.p)), .int (nI 0), zJ, zJ] [] (mH α τ h) = zs PG mX3_joinsInto 140 [.ref (α 0), .int (nI t), .int (nI c), .int (nI (min A.p B.p)), .int (nI 0), zJ, zJ] [] (mH α (τ.s_ra (mblk τ.ra t (fun y => max (kfold A.p (min A.p B.p) A.r y) (kfold B.p (min A.p B.p) B.r y)))) h) := by
    intro τ w1 w2
    have e := t_join_ranks hα τ h (p := min A.p B.p) ht ht7 (by omega) (nI c) w1 w2 k1 k2 (2 ^ min A.p B.p) 0 (by omega)
    have q1 : mblk τ.ra t (kpf (fun y => max (kfold A.p (min A.p B.p) A.r y) (kfold B.p (min A.p B.p) B.r y)) (kfold A.p (min A.p B.p) A.r) 0) = τ.ra := by
      rw [kpf_0, ← mblk_self τ.ra t, mblk_twice]
      exact mblk_ext fun x hx => (w1 x hx).symm
    have q2 : mblk τ.ra t (kpf (fun y => max (kfold A.p (min A.p B.p) A.r y) (kfold B.p (min A.p B.p) B.r y)) (kfold A.p (min A.p B.p) A.r) (2 ^ min A.p B.p)) = mblk τ.ra t (fun y => max (kfold A.p (min A.p B.p) A.r y) (kfold B.p (min A.p B.p) B.r y)) := by
      refine mblk_ext fun x hx => ?_
      unfold kpf
      by_cases g : x < 2 ^ min A.p B.p
      · rw [if_pos g]
      · rw [if_neg g, z1 x (by omega), z2 x (by omega)]; rfl
    rw [q1, q2] at e
    exact e
  have hl1 : σ1.li t = A.l := x2
  have hl7 : σ1.li 7 = B.l := y2
  have hb1 : σ1.bi t = A.p := x1
  have hb7 : σ1.bi 7 = B.p := y1
  by_cases hd : (A.d || B.d) = true
  · -- dense
    have kd : kji A B = (min A.p B.p, min A.l B.l, true, [], fun y => max (kfold A.p (min A.p B.p) A.r y) (kfold B.p (min A.p B.p) B.r y)) := by
      unfold kji
      rw [hd]
      simp
    have s5 := mSl_dense (σ := σ4) (c := t) ⟨u1, u2, u3, u4, u5, u6, u7⟩
    have er := ranks ((σ4.s_de (va_up σ4.de t true)).s_mm (va_up σ4.mm t 0)) u6' v6'
    have s6 := mSl_ra s5 (fun y => max (kfold A.p (min A.p B.p) A.r y) (kfold B.p (min A.p B.p) B.r y))
    have ed := t_join_dense hα (((σ4.s_de (va_up σ4.de t true)).s_mm (va_up σ4.mm t 0)).s_ra (mblk σ4.ra t (fun y => max (kfold A.p (min A.p B.p) A.r y) (kfold B.p (min A.p B.p) B.r y)))) h ht (nI c) (nI (min A.p B.p)) 0 zJ (by simp only [mgs, va_up_self]) (by decide) (by
      simp only [mgs]
      rw [va_up_ne _ _ (fun q => ht7 q.symm)]
      have : σ4.mm 7 = B.m.length := v4
      omega)
    have fin := er.trans ed
    refine ⟨_, ?_, by rw [kd]; exact s6, (F.trans ((mFr_dense σ4 t).mono (fun d q => Or.inl q))).trans ((mFr_ra _ t _).mono (fun d q => Or.inl q))⟩
    cases hda : A.d with
    | true =>
      rw [hda] at u3'
      simp (disch := omega) only [eX3_joinsInto, uX3_joinsInto_p0, uX3_joinsInto_p1, mG, mP hα, mR hα, mW hα, mgs, zKK, zB, zBl, zBb, zlg, zA, zA3, zL3, km31, km63, klshr, kishr, k2p, kl1shl, klmask, kland1, kiand1, k_l2i, zrt_b, zrt_0, zrt_1, zdv_n, zdv_l, e1, hb1, hb7, hl1, hl7, j_minI, e3, e4, u3', v3', t_becomesDense hα, fin]
    | false =>
      rw [hda] at u3' hd
      have hdb : B.d = true := by simpa using hd
      rw [hdb] at v3'
      simp (disch := omega) only [eX3_joinsInto, uX3_joinsInto_p0, uX3_joinsInto_p1, mG, mP hα, mR hα, mW hα, mgs, zKK, zB, zBl, zBb, zlg, zA, zA3, zL3, km31, km63, klshr, kishr, k2p, kl1shl, klmask, kland1, kiand1, k_l2i, zrt_b, zrt_0, zrt_1, zdv_n, zdv_l, e1, hb1, hb7, hl1, hl7, j_minI, e3, e4, u3', v3', t_becomesDense hα, fin]
  · have hda : A.d = false := by cases q : A.d <;> simp [q] at hd ⊢
    have hdb : B.d = false := by cases q : B.d <;> simp [q] at hd ⊢
    rw [hda] at u3'
    rw [hdb] at v3'
    have er := ranks σ4 u6' v6'
    have s6 := mSl_ra (σ := σ4) (c := t) ⟨u1, u2, u3, u4, u5, u6, u7⟩ (fun y => max (kfold A.p (min A.p B.p) A.r y) (kfold B.p (min A.p B.p) B.r y))
    have s6' : mSl (σ4.s_ra (mblk σ4.ra t (fun y => max (kfold A.p (min A.p B.p) A.r y) (kfold B.p (min A.p B.p) B.r y)))) t (min A.p B.p, min A.l B.l, false, A.m, fun y => max (kfold A.p (min A.p B.p) A.r y) (kfold B.p (min A.p B.p) B.r y)) := by
      rw [← hda]; exact s6
    obtain ⟨σ7, e7, s7, f7⟩ := t_join_marks hα h ht ht7 (nI c) (nI (min A.p B.p)) (min A.p B.p) (min A.l B.l) (fun y => max (kfold A.p (min A.p B.p) A.r y) (kfold B.p (min A.p B.p) B.r y)) B.m b10 b8 B.m [] A.m zJ (σ4.s_ra (mblk σ4.ra t (fun y => max (kfold A.p (min A.p B.p) A.r y) (kfold B.p (min A.p B.p) B.r y)))) rfl v4 v5 s6' a9 a8
    have fin := er.trans e7
    refine ⟨σ7, ?_, ?_, (F.trans ((mFr_ra _ t _).mono (fun d q => Or.inl q))).trans (f7.mono (fun d q => Or.inl q))⟩
    · simp (disch := omega) only [eX3_joinsInto, uX3_joinsInto_p0, uX3_joinsInto_p1, mG, mP hα, mR hα, mW hα, mgs, zKK, zB, zBl, zBb, zlg, zA, zA3, zL3, km31, km63, klshr, kishr, k2p, kl1shl, klmask, kland1, kiand1, k_l2i, zrt_b, zrt_0, zrt_1, zdv_n, zdv_l, e1, hb1, hb7, hl1, hl7, j_minI, e3, e4, u3', v3', fin]
    · unfold kji
      rw [hda, hdb]
      simp only [Bool.false_or]
      by_cases g : 64 < (kunion A.m B.m).length
      · rw [if_pos g] at s7
        simp only [g, decide_true, if_true]
        exact s7
      · rw [if_neg g] at s7
        simp only [g, decide_false, Bool.false_eq_true, if_false]
        exact s7
/-- the slots above 5 alone -/
abbrev mHi : Nat → Prop := fun d => 6 ≤ d
theorem t_cap {α : Nat → Nat} (hα : mD α) (σ : mS) (h : zH) {t n : Nat} (ht : t < 10) {C : kC} (s : mSl σ t C) : ∃ σ', mSl σ' t (kcap n C) ∧ mFr (fun d => d = t) σ σ' ∧ ((C.d = false ∧ n < C.m.length) → σ' = (σ.s_de (va_up σ.de t true)).s_mm (va_up σ.mm t 0)) ∧ (¬ (C.d = false ∧ n < C.m.length) → σ' = σ) := by
  by_cases e : C.d = false ∧ n < C.m.length
  · refine ⟨(σ.s_de (va_up σ.de t true)).s_mm (va_up σ.mm t 0), ?_, mFr_dense σ t, fun _ => rfl, fun q => absurd e q⟩
    unfold kcap
    simp only [e.1, e.2, Bool.not_false, decide_true, Bool.and_self, if_true]
    exact mSl_dense s
  · refine ⟨σ, ?_, mFr.rf _ _, fun q => absurd q e, fun _ => rfl⟩
    unfold kcap
    have : (!C.d && decide (n < C.m.length)) = false := by
      cases hd : C.d with
      | true => rfl
      | false =>
        have : ¬ n < C.m.length := fun q => e ⟨hd, q⟩
        simp [this]
    simp only [this, Bool.false_eq_true, if_false]
    exact s
theorem t_joinsTwo {α : Nat → Nat} (hα : mD α) (σ : mS) (h : zH) {a b : Nat} (ha : a < 6) (hb : b < 6) {A B : kC} (sA : mSl σ a A) (sB : mSl σ b B) (iA : kI A) (iB : kI B) : ∃ σ', zc PG mX3_joinsTwo [.ref (α 0), .int (nI a), .int (nI b)] (mH α σ h) = some (.inl none, mH α σ' h) ∧ mSl σ' 6 (kjoin [A, B]) ∧ mFr mHi σ σ' := by
  obtain ⟨σ1, e1, s1, f1⟩ := t_copiesSlot hα σ h (by omega : a < 10) (by decide : 6 < 10) (by omega : a ≠ 6) sA
  have sB1 := sB.keep f1 (by omega)
  obtain ⟨σ2, e2, s2, f2⟩ := t_joinsInto hα σ1 h (by decide : 6 < 10) (by omega : b < 10) (by decide) (by omega) (by omega) s1 sB1 iA.J iB.J
  have hl : (kji A B).l = min A.l B.l := by unfold kji; split <;> rfl
  have hk : kcap (kji A B).l (kji A B) = kjoin [A, B] := by
    have q1 : kjl [A, B] = min A.l B.l := by
      have := iA.2.2.2.1
      unfold kjl
      simp
      omega
    have q2 := kac_one (n := min A.l B.l) iA iA.2.2.2.1
    have q3 := kac_step (n := min A.l B.l) (by have := iA.2.2.2.1; omega) (Cs := [A]) iB
    rw [hl, ← kac_join, q1]
    rw [show ([A, B] : List kC) = [A] ++ [B] from rfl, ← q3, q2]
    have a10 := iA.2.2.2.2.2.2.2.2.2.1
    have ad := iA.2.2.2.2.2.2.1
    -- the cap of the first one shows at the end
    unfold kcap
    by_cases e : (!A.d && decide (min A.l B.l < A.m.length)) = true
    · rw [if_pos e]
      simp only [Bool.and_eq_true, Bool.not_eq_true', decide_eq_true_eq] at e
      have hlen := kunion_len B.m A.m
      have hlt : min A.l B.l < (kunion A.m B.m).length := by omega
      have hd' : A.2.2.1 = false := e.1
      have hlt' : min A.2.1 B.2.1 < (kunion A.2.2.2.1 B.2.2.2.1).length := hlt
      cases hdb : B.d with
      | true =>
        have hdb' : B.2.2.1 = true := hdb
        simp only [kji, kdense, kC.d, kC.p, kC.l, kC.r, kC.m, hd', hdb', Bool.false_or, Bool.true_or, if_true, Bool.not_true, Bool.false_and, Bool.false_eq_true, if_false]
      | false =>
        have hdb' : B.2.2.1 = false := hdb
        by_cases g : 64 < (kunion A.m B.m).length
        · have g' : 64 < (kunion A.2.2.2.1 B.2.2.2.1).length := g
          simp only [kji, kdense, kC.d, kC.p, kC.l, kC.r, kC.m, hd', hdb', g', decide_true, Bool.false_or, Bool.true_or, if_true, Bool.not_true, Bool.false_and, Bool.false_eq_true, if_false]
        · have g' : ¬ 64 < (kunion A.2.2.2.1 B.2.2.2.1).length := g
          simp only [kji, kdense, kC.d, kC.p, kC.l, kC.r, kC.m, hd', hdb', g', hlt', decide_true, decide_false, Bool.false_or, Bool.true_or, if_true, Bool.not_true, Bool.not_false, Bool.true_and, Bool.false_and, Bool.false_eq_true, if_false]
    · rw [if_neg e]
  obtain ⟨σ3, s3, f3, c1, c2⟩ := t_cap hα σ2 h (n := (kji A B).l) (by decide : 6 < 10) s2
  rw [hk] at s3
  have hm : (kji A B).m.length ≤ 64 := s2.2.2.2.2.2.2
  have hl2 : (kji A B).l ≤ 48 := (kji_J iA.J iB.J).2.2.2.1
  refine ⟨σ3, ?_, s3, ((f1.mono (fun d q => by show 6 ≤ d; omega)).trans (f2.mono (fun d q => by show 6 ≤ d; omega))).trans (f3.mono (fun d q => by show 6 ≤ d; omega))⟩
  obtain ⟨u1, u2, u3, u4, u5, u6, u7⟩ := s2
  cases hd : (kji A B).d with
  | true =>
    rw [hd] at u3
    rw [c2 (fun q => by rw [hd] at q; cases q.1)]
    simp (disch := omega) only [eX3_joinsTwo, uX3_joinsTwo, mG, mP hα, mR hα, mW hα, mgs, zKK, zB, zBl, zBb, zlg, zA, zA3, zL3, km31, km63, klshr, kishr, k2p, kl1shl, klmask, kland1, kiand1, k_l2i, zrt_b, zrt_0, zrt_1, zdv_n, zdv_l, e1, e2, u3]
  | false =>
    rw [hd] at u3
    by_cases g : (kji A B).l < (kji A B).m.length
    · rw [c1 ⟨hd, g⟩]
      simp (disch := omega) only [eX3_joinsTwo, uX3_joinsTwo, mG, mP hα, mR hα, mW hα, mgs, zKK, zB, zBl, zBb, zlg, zA, zA3, zL3, km31, km63, klshr, kishr, k2p, kl1shl, klmask, kland1, kiand1, k_l2i, zrt_b, zrt_0, zrt_1, zdv_n, zdv_l, e1, e2, u3, u4, u2, t_becomesDense hα]
    · rw [c2 (fun q => g q.2)]
      simp (disch := omega) only [eX3_joinsTwo, uX3_joinsTwo, mG, mP hα, mR hα, mW hα, mgs, zKK, zB, zBl, zBb, zlg, zA, zA3, zL3, km31, km63, klshr, kishr, k2p, kl1shl, klmask, kland1, kiand1, k_l2i, zrt_b, zrt_0, zrt_1, zdv_n, zdv_l, e1, e2, u3, u4, u2]
theorem kbits {s : Nat} (hs : s < 64) (c : Nat) : s / 2 ^ c % 2 = 1 ↔ s.testBit c = true := by
  rw [Nat.testBit_eq_decide_div_mod_eq, decide_eq_true_eq]
theorem t_joinsSet_least {α : Nat → Nat} (hα : mD α) (σ : mS) (h : zH) {s : Nat} (hs : s < 64) (S : Nat → kC) (hS : ∀ c, c < 6 → σ.li c = (S c).l ∧ (S c).l ≤ 48) (n : Nat) : ∀ c, c + n = 6 → zs PG mX3_joinsSet 8 [.ref (α 0), .int (nI s), .int (nI 1), .int (nI (kjl (kls S s c))), .int (nI c)] [] (mH α σ h) = zs PG mX3_joinsSet 46 [.ref (α 0), .int (nI s), .int (nI 1), .int (nI (kjl (kls S s 6))), .int (nI 0)] [] (mH α σ h) := by
  induction n with
  | zero =>
    intro c hc
    have hc : c = 6 := by omega
    subst hc
    rw [uX3_joinsSet_at8]
    simp (disch := omega) only [uX3_joinsSet_p0, uX3_joinsSet_p1, mG, mP hα, mR hα, mW hα, mgs, zKK, zB, zBl, zBb, zlg, zA, zA3, zL3, km31, km63, klshr, kishr, k2p, kl1shl, klmask, kland1, kiand1, k_l2i, zrt_b, zrt_0, zrt_1, zdv_n, zdv_l]
  | succ n ih =>
    intro c hc
    obtain ⟨h1, h2⟩ := hS c (by omega)
    have h3 := (kjl_le (kls S s c)).1
    have hm : s / 2 ^ c % 2 < 2 := Nat.mod_lt _ (by decide)
    have hd : s / 2 ^ c ≤ s := Nat.div_le_self _ _
    rw [uX3_joinsSet_at8, ← ih (c + 1) (by omega)]
    by_cases e : s.testBit c = true
    · have e1 := (kbits hs c).mpr e
      have e2 : kjl (kls S s (c + 1)) = min (kjl (kls S s c)) (S c).l := by
        show kjl (kls S s c ++ _) = _
        rw [if_pos e, kjl_app]
      rw [e2]
      simp (disch := omega) only [uX3_joinsSet_p0, uX3_joinsSet_p1, mG, mP hα, mR hα, mW hα, mgs, zKK, zB, zBl, zBb, zlg, zA, zA3, zL3, km31, km63, klshr, kishr, k2p, kl1shl, klmask, kland1, kiand1, k_l2i, zrt_b, zrt_0, zrt_1, zdv_n, zdv_l, e1, h1, j_minI]
    · have e1 : s / 2 ^ c % 2 = 0 := by
        have : ¬ s / 2 ^ c % 2 = 1 := fun q => e ((kbits hs c).mp q)
        omega
      have e2 : kls S s (c + 1) = kls S s c := by show kls S s c ++ _ = _; rw [if_neg e, List.append_nil]
      rw [e2]
      simp (disch := omega) only [uX3_joinsSet_p0, uX3_joinsSet_p1, mG, mP hα, mR hα, mW hα, mgs, zKK, zB, zBl, zBb, zlg, zA, zA3, zL3, km31, km63, klshr, kishr, k2p, kl1shl, klmask, kland1, kiand1, k_l2i, zrt_b, zrt_0, zrt_1, zdv_n, zdv_l, e1]
theorem kone_b : ((List.range 64).all fun s => !decide (s &&& (s - 1) = 0) || (List.range 6).all fun c => !s.testBit c || (List.range 6).all fun d => !s.testBit d || decide (d = c)) = true := by decide +kernel
theorem kone (s : Nat) (hs : s < 64) (h0 : s &&& (s - 1) = 0) (c : Nat) (hc : c < 6) (d : Nat) (hd : d < 6) (h1 : s.testBit c = true) (h2 : s.testBit d = true) : d = c := by
  have a := List.all_eq_true.mp kone_b s (List.mem_range.mpr hs)
  simp only [h0, decide_true, Bool.not_true, Bool.false_or] at a
  have b := List.all_eq_true.mp a c (List.mem_range.mpr hc)
  simp only [h1, Bool.not_true, Bool.false_or] at b
  have e := List.all_eq_true.mp b d (List.mem_range.mpr hd)
  simp only [h2, Bool.not_true, Bool.false_or, decide_eq_true_eq] at e
  exact e
theorem kJ_ac {n : Nat} (hn : n ≤ 48) {S : Nat → kC} (hI : ∀ c, c < 6 → kI (S c)) (s : Nat) : ∀ c, c ≤ 6 → kls S s c ≠ [] → kJ (kac n (kls S s c)) := by
  intro c
  induction c with
  | zero => intro _ h; exact absurd rfl h
  | succ c ih =>
    intro hc h
    by_cases e : s.testBit c = true
    · have e2 : kls S s (c + 1) = kls S s c ++ [S c] := by show kls S s c ++ _ = _; rw [if_pos e]
      rw [e2]
      have hC := hI c (by omega)
      by_cases g : kls S s c = []
      · rw [g, show ([] : List kC) ++ [S c] = [S c] from rfl, kac_one hC hC.2.2.2.1]
        exact kcap_J hC.J
      · rw [← kac_step hn hC]
        exact kcap_J (kji_J (ih (by omega) g) hC.J)
    · have e2 : kls S s (c + 1) = kls S s c := by show kls S s c ++ _ = _; rw [if_neg e, List.append_nil]
      rw [e2] at h ⊢
      exact ih (by omega) h
theorem kls_one {S : Nat → kC} {s c : Nat} (hs : s < 64) (h0 : s &&& (s - 1) = 0) (hc : c < 6) (hb : s.testBit c = true) : ∀ n, n ≤ 6 → kls S s n = if c < n then [S c] else [] := by
  intro n
  induction n with
  | zero => intro _; rw [if_neg (by omega)]; rfl
  | succ n ih =>
    intro hn
    unfold kls
    rw [ih (by omega)]
    by_cases e : s.testBit n = true
    · have := kone s hs h0 c hc n (by omega) hb e
      subst this
      rw [if_pos e, if_neg (by omega), if_pos (by omega)]
      rfl
    · rw [if_neg e, List.append_nil]
      by_cases g : c < n
      · rw [if_pos g, if_pos (by omega)]
      · have : c ≠ n := fun q => e (q ▸ hb)
        rw [if_neg g, if_neg (by omega)]
theorem t_joinsSet_loop {α : Nat → Nat} (hα : mD α) (h : zH) {s : Nat} (hs : s < 64) (h1 : 1 ≤ s) (S : Nat → kC) (hI : ∀ c, c < 6 → kI (S c)) (n : Nat) : ∀ (c : Nat) (σ : mS), c + n = 6 → (∀ c, c < 6 → mSl σ c (S c)) → (kls S s c ≠ [] → mSl σ 6 (kac (kjl (kls S s 6)) (kls S s c))) → ∃ σ', zs PG mX3_joinsSet 46 [.ref (α 0), .int (nI s), .int (nI (if kls S s c = [] then 1 else 0)), .int (nI (kjl (kls S s 6))), .int (nI c)] [] (mH α σ h) = some (.inl none, mH α σ' h) ∧ (kls S s 6 ≠ [] → mSl σ' 6 (kac (kjl (kls S s 6)) (kls S s 6))) ∧ mFr mHi σ σ' := by
  have hL := (kjl_le (kls S s 6)).1
  have hand : s &&& (s - 1) ≤ s := Nat.and_le_left
  induction n with
  | zero =>
    intro c σ hc hS hJ
    have hc : c = 6 := by omega
    subst hc
    refine ⟨σ, ?_, hJ, mFr.rf _ _⟩
    rw [uX3_joinsSet_at46]
    simp (disch := omega) only [uX3_joinsSet_p0, uX3_joinsSet_p1, mG, mP hα, mR hα, mW hα, mgs, zKK, zB, zBl, zBb, zlg, zA, zA3, zL3, km31, km63, klshr, kishr, k2p, kl1shl, klmask, kland1, kiand1, k_l2i, zrt_b, zrt_0, zrt_1, zdv_n, zdv_l]
  | succ n ih =>
    intro c σ hc hS hJ
    have hm : s / 2 ^ c % 2 < 2 := Nat.mod_lt _ (by decide)
    have hd : s / 2 ^ c ≤ s := Nat.div_le_self _ _
    by_cases e : s.testBit c = true
    · have e1 := (kbits hs c).mpr e
      have e2 : kls S s (c + 1) = kls S s c ++ [S c] := by show kls S s c ++ _ = _; rw [if_pos e]
      have e3 : kls S s (c + 1) ≠ [] := by rw [e2]; simp
      -- what is joined, before the cap
      have step : ∃ (σ1 : mS) (C1 : kC), (zs PG mX3_joinsSet 65 [.ref (α 0), .int (nI s), .int (nI (if kls S s c = [] then 1 else 0)), .int (nI (kjl (kls S s 6))), .int (nI c)] [] (mH α σ h) = zs PG mX3_joinsSet 88 [.ref (α 0), .int (nI s), .int (nI (if kls S s c = [] then 1 else 0)), .int (nI (kjl (kls S s 6))), .int (nI c)] [] (mH α σ1 h)) ∧ mSl σ1 6 C1 ∧ kJ C1 ∧ kcap (kjl (kls S s 6)) C1 = kac (kjl (kls S s 6)) (kls S s (c + 1)) ∧ mFr mHi σ σ1 ∧ (s &&& (s - 1) = 0 → kcap (kjl (kls S s 6)) C1 = C1) := by
        by_cases g : kls S s c = []
        · have hC := hI c (by omega)
          obtain ⟨σ1, q1, q2, q3⟩ := t_copiesSlot hα σ h (by omega : c < 10) (by decide : 6 < 10) (by omega : c ≠ 6) (hS c (by omega))
          refine ⟨σ1, S c, ?_, q2, hC.J, ?_, q3.mono (fun d q => by show 6 ≤ d; omega), fun h0 => ?_⟩
          · rw [g]
            simp (disch := omega) only [uX3_joinsSet_p0, uX3_joinsSet_p1, mG, mP hα, mR hα, mW hα, mgs, zKK, zB, zBl, zBb, zlg, zA, zA3, zL3, km31, km63, klshr, kishr, k2p, kl1shl, klmask, kland1, kiand1, k_l2i, zrt_b, zrt_0, zrt_1, zdv_n, zdv_l, if_true, q1]
          · rw [e2, g]
            exact (kac_one hC hC.2.2.2.1).symm
          · rw [kls_one hs h0 (by omega) e 6 (by omega), if_pos (by omega)]
            have l1 := hC.2.2.2.2.2.2.2.2.2.1
            have l2 := hC.2.2.2.1
            have : kjl [S c] = (S c).l := by unfold kjl; simp; omega
            rw [this]
            unfold kcap
            have : (!(S c).d && decide ((S c).l < (S c).m.length)) = false := by
              rw [decide_eq_false (by omega)]
              simp
            rw [this]
            rfl
        · obtain ⟨σ1, q1, q2, q3⟩ := t_joinsInto hα σ h (by decide : 6 < 10) (by omega : c < 10) (by decide) (by omega) (by omega) (hJ g) (hS c (by omega)) (kJ_ac hL hI s c (by omega) g) (hI c (by omega)).J
          refine ⟨σ1, _, ?_, q2, kji_J (kJ_ac hL hI s c (by omega) g) (hI c (by omega)).J, ?_, q3.mono (fun d q => by show 6 ≤ d; omega), fun h0 => ?_⟩
          · simp (disch := omega) only [uX3_joinsSet_p0, uX3_joinsSet_p1, mG, mP hα, mR hα, mW hα, mgs, zKK, zB, zBl, zBb, zlg, zA, zA3, zL3, km31, km63, klshr, kishr, k2p, kl1shl, klmask, kland1, kiand1, k_l2i, zrt_b, zrt_0, zrt_1, zdv_n, zdv_l, if_neg g, q1]
          · rw [e2, kac_step hL (hI c (by omega))]
          · have := kls_one (S := S) hs h0 (by omega) e c (by omega)
            rw [if_neg (by omega)] at this
            exact absurd this g
      obtain ⟨σ1, C1, q1, q2, q3, q4, q5, q6⟩ := step
      have hm64 : C1.m.length ≤ 64 := q3.2.2.2.2.2.2.2.2.2.1
      have nx : ∀ σ2, mSl σ2 6 (kac (kjl (kls S s 6)) (kls S s (c + 1))) → mFr mHi σ σ2 → (zs PG mX3_joinsSet 88 [.ref (α 0), .int (nI s), .int (nI (if kls S s c = [] then 1 else 0)), .int (nI (kjl (kls S s 6))), .int (nI c)] [] (mH α σ1 h) = zs PG mX3_joinsSet 46 [.ref (α 0), .int (nI s), .int (nI 0), .int (nI (kjl (kls S s 6))), .int (nI (c + 1))] [] (mH α σ2 h)) → ∃ σ', zs PG mX3_joinsSet 46 [.ref (α 0), .int (nI s), .int (nI (if kls S s c = [] then 1 else 0)), .int (nI (kjl (kls S s 6))), .int (nI c)] [] (mH α σ h) = some (.inl none, mH α σ' h) ∧ (kls S s 6 ≠ [] → mSl σ' 6 (kac (kjl (kls S s 6)) (kls S s 6))) ∧ mFr mHi σ σ' := by
        intro σ2 k1 k2 k3
        obtain ⟨σ', r1, r2, r3⟩ := ih (c + 1) σ2 (by omega) (fun d hd => (hS d hd).keep k2 (by show ¬ 6 ≤ d; omega)) (fun _ => k1)
        refine ⟨σ', ?_, r2, k2.trans r3⟩
        rw [if_neg e3] at r1
        rw [← r1, ← k3, ← q1, uX3_joinsSet_at46]
        simp (disch := omega) only [uX3_joinsSet_at48, uX3_joinsSet_at50, uX3_joinsSet_at53, uX3_joinsSet_at54, uX3_joinsSet_at56, uX3_joinsSet_at57, uX3_joinsSet_at58, uX3_joinsSet_at59, zKK, zB, km31, kishr, kiand1, e1]
      by_cases h0 : s &&& (s - 1) = 0
      · refine nx σ1 (by rw [← q4, q6 h0]; exact q2) q5 ?_
        simp (disch := omega) only [uX3_joinsSet_p0, uX3_joinsSet_p1, mG, mP hα, mR hα, mW hα, mgs, zKK, zB, zBl, zBb, zlg, zA, zA3, zL3, km31, km63, klshr, kishr, k2p, kl1shl, klmask, kland1, kiand1, k_l2i, zrt_b, zrt_0, zrt_1, zdv_n, zdv_l, nx_and, h0]
      · obtain ⟨σ2, k1, k2, c1, c2⟩ := t_cap hα σ1 h (n := kjl (kls S s 6)) (by decide : 6 < 10) q2
        rw [q4] at k1
        refine nx σ2 k1 (q5.trans (k2.mono (fun d q => by show 6 ≤ d; omega))) ?_
        obtain ⟨u1, u2, u3, u4, u5, u6, u7⟩ := q2
        cases hd2 : C1.d with
        | true =>
          rw [hd2] at u3
          rw [c2 (fun q => by rw [hd2] at q; cases q.1)]
          simp (disch := omega) only [uX3_joinsSet_p0, uX3_joinsSet_p1, mG, mP hα, mR hα, mW hα, mgs, zKK, zB, zBl, zBb, zlg, zA, zA3, zL3, km31, km63, klshr, kishr, k2p, kl1shl, klmask, kland1, kiand1, k_l2i, zrt_b, zrt_0, zrt_1, zdv_n, zdv_l, nx_and, u3]
        | false =>
          rw [hd2] at u3
          by_cases g : kjl (kls S s 6) < C1.m.length
          · rw [c1 ⟨hd2, g⟩]
            simp (disch := omega) only [uX3_joinsSet_p0, uX3_joinsSet_p1, mG, mP hα, mR hα, mW hα, mgs, zKK, zB, zBl, zBb, zlg, zA, zA3, zL3, km31, km63, klshr, kishr, k2p, kl1shl, klmask, kland1, kiand1, k_l2i, zrt_b, zrt_0, zrt_1, zdv_n, zdv_l, nx_and, u3, u4, t_becomesDense hα]
          · rw [c2 (fun q => g q.2)]
            simp (disch := omega) only [uX3_joinsSet_p0, uX3_joinsSet_p1, mG, mP hα, mR hα, mW hα, mgs, zKK, zB, zBl, zBb, zlg, zA, zA3, zL3, km31, km63, klshr, kishr, k2p, kl1shl, klmask, kland1, kiand1, k_l2i, zrt_b, zrt_0, zrt_1, zdv_n, zdv_l, nx_and, u3, u4]
    · have e1 : s / 2 ^ c % 2 = 0 := by
        have : ¬ s / 2 ^ c % 2 = 1 := fun q => e ((kbits hs c).mp q)
        omega
      have e2 : kls S s (c + 1) = kls S s c := by show kls S s c ++ _ = _; rw [if_neg e, List.append_nil]
      obtain ⟨σ2, r1, r2, r3⟩ := ih (c + 1) σ (by omega) hS (by rw [e2]; exact hJ)
      refine ⟨σ2, ?_, r2, r3⟩
      rw [uX3_joinsSet_at46, ← r1, e2]
      simp (disch := omega) only [uX3_joinsSet_p0, uX3_joinsSet_p1, mG, mP hα, mR hα, mW hα, mgs, zKK, zB, zBl, zBb, zlg, zA, zA3, zL3, km31, km63, klshr, kishr, k2p, kl1shl, klmask, kland1, kiand1, k_l2i, zrt_b, zrt_0, zrt_1, zdv_n, zdv_l, e1]
theorem kls_ne {S : Nat → kC} {s : Nat} (hs : s < 64) (h1 : 1 ≤ s) : kls S s 6 ≠ [] := by
  intro h
  have key : ∀ n, kls S s n = [] → ∀ c, c < n → s.testBit c = false := by
    intro n
    induction n with
    | zero => intro _ c hc; omega
    | succ n ih =>
      intro hn c hc
      have hn : kls S s n ++ (if s.testBit n then [S n] else []) = [] := hn
      obtain ⟨a, b⟩ := List.append_eq_nil_iff.mp hn
      by_cases e : c = n
      · subst e
        cases g : s.testBit c with
        | false => rfl
        | true => rw [g] at b; simp at b
      · exact ih a c (by omega)
  have h6 := key 6 h
  have : s = 0 := by
    apply Nat.eq_of_testBit_eq
    intro i
    rw [Nat.zero_testBit]
    by_cases hi : i < 6
    · exact h6 i hi
    · exact Nat.testBit_lt_two_pow (Nat.lt_of_lt_of_le hs (Nat.pow_le_pow_right (n := 2) (by decide) (by omega : 6 ≤ i)))
  omega
theorem t_joinsSet {α : Nat → Nat} (hα : mD α) (σ : mS) (h : zH) {s : Nat} (hs : s < 64) (h1 : 1 ≤ s) {S : Nat → kC} (hS : ∀ c, c < 6 → mSl σ c (S c)) (hI : ∀ c, c < 6 → kI (S c)) : ∃ σ', zc PG mX3_joinsSet [.ref (α 0), .int (nI s)] (mH α σ h) = some (.inl none, mH α σ' h) ∧ mSl σ' 6 (kjoin (kls S s 6)) ∧ mFr mHi σ σ' := by
  have e1 := t_joinsSet_least hα σ h hs S (fun c hc => ⟨(hS c hc).2.1, (hI c hc).2.2.2.1⟩) 6 0 rfl
  obtain ⟨σ', e2, s2, f2⟩ := t_joinsSet_loop hα h hs h1 S hI 6 0 σ rfl hS (fun q => absurd rfl q)
  have e3 := e1.trans e2
  rw [show kjl (kls S s 0) = 48 from rfl] at e3
  refine ⟨σ', ?_, ?_, f2⟩
  · simp only [eX3_joinsSet, uX3_joinsSet_p0, uX3_joinsSet_p1]
    exact e3
  · have := s2 (kls_ne hs h1)
    rw [kac_join] at this
    exact this
theorem t_jointGuess {α : Nat → Nat} (hα : mD α) (σ : mS) (h : zH) {s : Nat} (hs : s < 64) (h1 : 1 ≤ s) {S : Nat → kC} (hS : ∀ c, c < 6 → mSl σ c (S c)) (hI : ∀ c, c < 6 → kI (S c)) : ∃ σ', zc PG mX3_jointGuess [.ref (α 0), .int (nI s)] (mH α σ h) = some (.inl (some (.int (nI (kguess (kjoin (kls S s 6)))))), mH α σ' h) ∧ mFr mHi σ σ' := by
  obtain ⟨σ1, e1, s1, f1⟩ := t_joinsSet hα σ h hs h1 hS hI
  have e2 := t_guessOf hα σ1 h s1 (kI_join (kI_ls hI)) (by decide)
  refine ⟨_, ?_, f1.trans (mFr_hw mHi σ1 (if (kjoin (kls S s 6)).d then khow (kjoin (kls S s 6)).p (kz (kjoin (kls S s 6))) else 0))⟩
  simp (disch := omega) only [eX3_jointGuess, uX3_jointGuess, mG, mP hα, mR hα, mW hα, mgs, zKK, zB, zBl, zBb, zlg, zA, zA3, zL3, km31, km63, klshr, kishr, k2p, kl1shl, klmask, kland1, kiand1, k_l2i, zrt_b, zrt_0, zrt_1, zdv_n, zdv_l, e1, e2]
theorem t_bothGuess {α : Nat → Nat} (hα : mD α) (σ : mS) (h : zH) {a b : Nat} (ha : a < 6) (hb : b < 6) {A B : kC} (sA : mSl σ a A) (sB : mSl σ b B) (iA : kI A) (iB : kI B) : ∃ σ', zc PG mX3_bothGuess [.ref (α 0), .int (nI a), .int (nI b)] (mH α σ h) = some (.inl (some (.int (nI (kguess (kjoin [A, B]))))), mH α σ' h) ∧ mFr mHi σ σ' := by
  obtain ⟨σ1, e1, s1, f1⟩ := t_joinsTwo hα σ h ha hb sA sB iA iB
  have e2 := t_guessOf hα σ1 h s1 (kI_join (fun C hC => by
    rcases List.mem_cons.mp hC with rfl | hC
    · exact iA
    · rw [List.mem_singleton.mp hC]; exact iB)) (by decide)
  refine ⟨_, ?_, f1.trans (mFr_hw mHi σ1 (if (kjoin [A, B]).d then khow (kjoin [A, B]).p (kz (kjoin [A, B])) else 0))⟩
  simp (disch := omega) only [eX3_bothGuess, uX3_bothGuess, mG, mP hα, mR hα, mW hα, mgs, zKK, zB, zBl, zBb, zlg, zA, zA3, zL3, km31, km63, klshr, kishr, k2p, kl1shl, klmask, kland1, kiand1, k_l2i, zrt_b, zrt_0, zrt_1, zdv_n, zdv_l, e1, e2]
