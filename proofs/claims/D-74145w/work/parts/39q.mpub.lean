/-! ranks that are read, and a whole counter -/
theorem mSl_ra1 {σ : mS} {c x v p l : Nat} {d : Bool} {L : List Nat} {r : Nat → Nat} (h : mSl σ c (p, l, d, L, r)) : mSl (σ.s_ra (va_up σ.ra (256 * c + x) v)) c (p, l, d, L, va_up r x v) := by
  obtain ⟨h1, h2, h3, h4, h5, h6, h7⟩ := h
  refine ⟨h1, h2, h3, h4, h5, fun y hy => ?_, h7⟩
  show va_up σ.ra (256 * c + x) v (256 * c + y) = va_up r x v y
  have := h6 y hy
  unfold va_up
  by_cases e : y = x
  · rw [if_pos (by omega), if_pos e]
  · rw [if_neg (by omega), if_neg e]; exact this
theorem mFr_ra1 (σ : mS) (c v : Nat) {x : Nat} (hx : x < 256) : mFr (fun d => d = c) σ (σ.s_ra (va_up σ.ra (256 * c + x) v)) :=
  ⟨⟨rfl, rfl, rfl, rfl, rfl, rfl, rfl, rfl, rfl, rfl, rfl⟩, fun d hd => ⟨rfl, rfl, rfl, rfl, fun _ _ => rfl, fun y hy => va_up_ne _ _ (by
    have hd : ¬ d = c := hd
    omega)⟩⟩
def krks (T : List Nat) (b : Nat) : Nat → Nat → Nat → (Nat → Nat) → Option (Nat → Nat) × Nat
  | 0, i, _, r => if i = T.length then (some r, i) else (none, i)
  | n + 1, i, x, r => match ksv T i b with
    | none => (none, i)
    | some v => krks T b n (i + 1) (x + 1) (va_up r x v)
theorem t_rks_loop {α : Nat → Nat} (hα : mD α) (h : zH) {S : kS} {T : List Nat} {p l : Nat} (h4 : 4 ≤ p) (h8 : p ≤ 8) (hl1 : 1 ≤ l) (hl : l ≤ 48) (n : Nat) : ∀ (x i : Nat) (r : Nat → Nat) (u : Value) (σ : mS), x + n = 2 ^ p → mRe S T σ → σ.hr = i → i ≤ T.length → mSl σ 9 (p, l, true, [], r) → (∀ y, r y ≤ 33 - p) → (∀ y, 2 ^ p ≤ y → r y = 0) → ∃ τ, zs PG mX3_readsRanks 8 [.ref (α 0), .int (nI x), u] [] (mH α σ h) = some (.inl (some (.int (zb (krks T (34 - p) n i x r).1.isSome))), mH α τ h) ∧ mRe S T τ ∧ τ.hr = (krks T (34 - p) n i x r).2 ∧ (∀ r', (krks T (34 - p) n i x r).1 = some r' → mSl τ 9 (p, l, true, [], r') ∧ kI (p, l, true, [], r')) := by
  have h2 := k2p_le h8
  induction n with
  | zero =>
    intro x i r u σ hx hR hh hi hC hb hz
    have hx : x = 2 ^ p := by omega
    have h600 := hR.2.2.2.1
    have hsz : σ.sz = T.length := hR.2.1
    have hp := t_places hα σ h (c := 9) (by decide) (by rw [hC.1]; exact h8)
    rw [show σ.bi 9 = p from hC.1] at hp
    unfold krks
    rw [uX3_readsRanks_at8]
    by_cases e : i = T.length
    · rw [if_pos e]
      refine ⟨σ, ?_, hR, hh, fun r' q => by cases q; exact ⟨hC, h4, h8, hl1, hl, hb, hz, fun _ => rfl, (fun m q => absurd q List.not_mem_nil), List.Pairwise.nil, Nat.zero_le _, fun q => by cases q⟩⟩
      simp (disch := omega) only [uX3_readsRanks, mG, mP hα, mR hα, mW hα, mgs, zKK, zB, zBl, zBb, zlg, zA, zA3, zL3, km31, km63, klshr, kishr, k2p, kl1shl, klmask, kland1, kiand1, k_l2i, zrt_b, zrt_0, zrt_1, zdv_n, zdv_l, hp, hh, hsz, Option.isSome_some, zb_t]
    · rw [if_neg e]
      refine ⟨σ, ?_, hR, hh, (fun M q => by cases q)⟩
      simp (disch := omega) only [uX3_readsRanks, mG, mP hα, mR hα, mW hα, mgs, zKK, zB, zBl, zBb, zlg, zA, zA3, zL3, km31, km63, klshr, kishr, k2p, kl1shl, klmask, kland1, kiand1, k_l2i, zrt_b, zrt_0, zrt_1, zdv_n, zdv_l, hp, hh, hsz, Option.isSome_none, zb_f]
  | succ n ih =>
    intro x i r u σ hx hR hh hi hC hb hz
    have hbi : σ.bi 9 = p := hC.1
    have hp := t_places hα σ h (c := 9) (by decide) (by rw [hC.1]; exact h8)
    rw [hbi] at hp
    have es := t_readsSign hα σ h hR.2 hh hi (b := 34 - p) (by omega)
    unfold krks
    rw [uX3_readsRanks_at8]
    cases e : ksv T i (34 - p) with
    | none =>
      rw [e] at es
      dsimp only at es
      refine ⟨σ, ?_, hR, hh, (fun M q => by cases q)⟩
      dsimp only
      simp (disch := omega) only [uX3_readsRanks, mG, mP hα, mR hα, mW hα, mgs, zKK, zB, zBl, zBb, zlg, zA, zA3, zL3, km31, km63, klshr, kishr, k2p, kl1shl, klmask, kland1, kiand1, k_l2i, zrt_b, zrt_0, zrt_1, zdv_n, zdv_l, hp, hbi, es, Option.isSome_none, zb_f]
    | some v =>
      rw [e] at es
      dsimp only at es
      obtain ⟨e1, e2⟩ := ksv_lt e
      have R1 := hR.pe (mPe_hr σ (i + 1))
      have C1 := hC.pe (mPe_hr σ (i + 1))
      have F2 := mFr_ra1 (σ.s_hr (i + 1)) 9 v (x := x) (by omega)
      have C2 := mSl_ra1 (x := x) (v := v) C1
      have R2 := R1.f9 F2
      obtain ⟨τ, r1, r2, r3, r4⟩ := ih (x + 1) (i + 1) (va_up r x v) (.int (nI v)) _ (by omega) R2 (by simp only [mgs]) (by omega) C2 (fun y => by
        unfold va_up
        by_cases e5 : y = x
        · rw [if_pos e5]; omega
        · rw [if_neg e5]; exact hb y) (fun y hy => by
        unfold va_up
        rw [if_neg (by omega)]; exact hz y hy)
      refine ⟨τ, ?_, r2, r3, r4⟩
      dsimp only
      rw [← r1]
      have en : (nI v = (-1 : Int32)) = False := eq_false (fun q => by
        have := congrArg Int32.toInt q
        rw [nI_toInt (by omega)] at this
        have h1 : ((-1 : Int32)).toInt = -1 := by decide
        omega)
      simp (disch := omega) only [uX3_readsRanks_at9, uX3_readsRanks_at10, uX3_readsRanks_at12, uX3_readsRanks_at15, uX3_readsRanks_at18, uX3_readsRanks_at19, uX3_readsRanks_at21, uX3_readsRanks_at22, uX3_readsRanks_at25, uX3_readsRanks_at27, uX3_readsRanks_at28, uX3_readsRanks_at29, uX3_readsRanks_at32, uX3_readsRanks_at33, uX3_readsRanks_at34, uX3_readsRanks_at35, uX3_readsRanks_at40, uX3_readsRanks_at41, uX3_readsRanks_at44, uX3_readsRanks_at46, uX3_readsRanks_at47, uX3_readsRanks_at50, uX3_readsRanks_at51, uX3_readsRanks_at52, uX3_readsRanks_at55, mG, mP hα, mR hα, mW hα, mgs, zKK, zB, zBl, zBb, zlg, zA, zA3, zL3, km31, km63, klshr, kishr, k2p, kl1shl, klmask, kland1, kiand1, k_l2i, zrt_b, zrt_0, zrt_1, zdv_n, zdv_l, hp, hbi, es, en, t_at]
theorem eX3_readsMarks (a0 : Nat) (h : zH) : zc PG mX3_readsMarks [.ref a0] h = zs PG mX3_readsMarks 0 [.ref a0, zJ, zJ, zJ, zJ] [] h := zc_eq (q := (5, pX3_readsMarks)) rfl rfl (Nat.le_of_ble_eq_true rfl)
def krt (T : List Nat) (p l i : Nat) : Option kC × Nat := if i < T.length ∧ T.getD i 0 = 115 then ((kmks T l (T.length + 1) (i + 1) []).1.map (kspr p l), (kmks T l (T.length + 1) (i + 1) []).2) else if i < T.length ∧ T.getD i 0 = 100 then ((krks T (34 - p) (2 ^ p) (i + 1) 0 (fun _ => 0)).1.map (fun r => (p, l, true, [], r)), (krks T (34 - p) (2 ^ p) (i + 1) 0 (fun _ => 0)).2) else (none, i)
theorem t_rest {α : Nat → Nat} (hα : mD α) (h : zH) {S : kS} {T : List Nat} {p l : Nat} (h4 : 4 ≤ p) (h8 : p ≤ 8) (hl1 : 1 ≤ l) (hl : l ≤ 48) (σ : mS) {i : Nat} (hR : mRe S T σ) (hh : σ.hr = i) (hi : i ≤ T.length) : ∃ τ, zs PG mX3_readsCounter 122 [.ref (α 0), .int (nI p), .int (nI l), zJ] [] (mH α σ h) = some (.inl (some (.int (zb (krt T p l i).1.isSome))), mH α τ h) ∧ mRe S T τ ∧ τ.hr = (krt T p l i).2 ∧ (∀ C, (krt T p l i).1 = some C → mSl τ 9 C ∧ kI C) := by
  obtain ⟨σ1, q1, q2, q3⟩ := t_opensSlot hα σ h 9 (by decide) p l
  have R1 := hR.f9 q3
  have hh1 : σ1.hr = i := q3.1.2.2.2.2.2.2.2.2.2.2.trans hh
  have es := t_sees hα σ1 h R1.2 (by rw [hh1]; exact hi)
  rw [hh1] at es
  have h600 := hR.2.2.2.1
  have ks := ksee_neg T i R1.2.2.2.2 115 (by decide)
  have kd := ksee_neg T i R1.2.2.2.2 100 (by decide)
  have R2 := R1.pe (mPe_hr σ1 (i + 1))
  have C2 := q2.pe (mPe_hr σ1 (i + 1))
  unfold krt
  by_cases e1 : i < T.length ∧ T.getD i 0 = 115
  · rw [if_pos e1]
    rw [eq_true e1] at ks
    obtain ⟨τ, r1, r2, r3, r4⟩ := t_marks_loop hα h (S := S) (T := T) h4 h8 hl1 hl (T.length + 1) (i + 1) [] zJ zJ zJ (σ1.s_hr (i + 1)) R2 (by simp only [mgs]) (by omega) (by omega) C2 (Nat.zero_le _) List.Pairwise.nil (fun m q => absurd q List.not_mem_nil)
    have r0 : zc PG mX3_readsMarks [.ref (α 0)] (mH α (σ1.s_hr (i + 1)) h) = some (.inl (some (.int (zb (kmks T l (T.length + 1) (i + 1) []).1.isSome))), mH α τ h) := by
      rw [eX3_readsMarks]; exact r1
    refine ⟨τ, ?_, r2, r3, fun C q => ?_⟩
    · dsimp only
      rw [Option.isSome_map]
      simp (disch := omega) only [uX3_readsCounter_p0, uX3_readsCounter_p1, mG, mP hα, mR hα, mW hα, mgs, zKK, zB, zBl, zBb, zlg, zA, zA3, zL3, km31, km63, klshr, kishr, k2p, kl1shl, klmask, kland1, kiand1, k_l2i, zrt_b, zrt_0, zrt_1, zdv_n, zdv_l, q1, es, ks, hh1, r0]
    · dsimp only at q
      cases ek : (kmks T l (T.length + 1) (i + 1) []).1 with
      | none => rw [ek] at q; cases q
      | some M => rw [ek] at q; cases q; exact r4 M ek
  · rw [if_neg e1]
    rw [eq_false e1] at ks
    by_cases e2 : i < T.length ∧ T.getD i 0 = 100
    · rw [if_pos e2]
      rw [eq_true e2] at kd
      have R3 := R2.f9 (mFr_dense (σ1.s_hr (i + 1)) 9)
      have C3 := mSl_dense C2
      have hbd := t_becomesDense hα (σ1.s_hr (i + 1)) h (c := 9) (by decide)
      obtain ⟨τ, r1, r2, r3, r4⟩ := t_rks_loop hα h (S := S) (T := T) h4 h8 hl1 hl (2 ^ p) 0 (i + 1) (fun _ => 0) zJ _ (by omega) R3 (by simp only [mgs]) (by omega) C3 (fun _ => Nat.zero_le _) (fun _ _ => rfl)
      have r0 : zc PG mX3_readsRanks [.ref (α 0)] (mH α (σ1.s_hr (i + 1)) h) = some (.inl (some (.int (zb (krks T (34 - p) (2 ^ p) (i + 1) 0 (fun _ => 0)).1.isSome))), mH α τ h) := by
        rw [← r1, eX3_readsRanks]
        simp (disch := omega) only [uX3_readsRanks_at0, uX3_readsRanks_at1, uX3_readsRanks_at3, uX3_readsRanks_at6, uX3_readsRanks_at7, mG, mP hα, mR hα, mW hα, zKK, hbd]
      refine ⟨τ, ?_, r2, r3, fun C q => ?_⟩
      · dsimp only
        rw [Option.isSome_map]
        simp (disch := omega) only [uX3_readsCounter_p0, uX3_readsCounter_p1, mG, mP hα, mR hα, mW hα, mgs, zKK, zB, zBl, zBb, zlg, zA, zA3, zL3, km31, km63, klshr, kishr, k2p, kl1shl, klmask, kland1, kiand1, k_l2i, zrt_b, zrt_0, zrt_1, zdv_n, zdv_l, q1, es, ks, kd, hh1, r0]
      · dsimp only at q
        cases ek : (krks T (34 - p) (2 ^ p) (i + 1) 0 (fun _ => 0)).1 with
        | none => rw [ek] at q; cases q
        | some M => rw [ek] at q; cases q; exact r4 M ek
    · rw [if_neg e2]
      rw [eq_false e2] at kd
      refine ⟨σ1, ?_, R1, hh1, (fun M q => by cases q)⟩
      simp (disch := omega) only [uX3_readsCounter_p0, uX3_readsCounter_p1, mG, mP hα, mR hα, mW hα, mgs, zKK, zB, zBl, zBb, zlg, zA, zA3, zL3, km31, km63, klshr, kishr, k2p, kl1shl, klmask, kland1, kiand1, k_l2i, zrt_b, zrt_0, zrt_1, zdv_n, zdv_l, q1, es, ks, kd, Option.isSome_none, zb_f]
