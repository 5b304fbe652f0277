/-! marks and ranks that are read -/
def mRe (S : kS) (T : List Nat) (σ : mS) : Prop := mR6 S σ ∧ mTx T σ
theorem mRe.pe {S : kS} {T : List Nat} {σ τ : mS} (h : mRe S T σ) (e : mPe σ τ) : mRe S T τ := ⟨h.1.pe e, h.2.pe e⟩
theorem mRe.f9 {S : kS} {T : List Nat} {σ τ : mS} (h : mRe S T σ) (e : mFr (fun d => d = 9) σ τ) : mRe S T τ := by
  refine ⟨h.1.fr (e.mono (fun d q => by show 6 ≤ d; omega)), ?_⟩
  obtain ⟨h1, h2, h3, h4⟩ := h.2
  obtain ⟨g1, g2, g3, g4, g5, g6, g7, g8, g9, g10, g11⟩ := e.1
  exact ⟨g10.trans h1, fun k hk => by rw [g3]; exact h2 k hk, h3, h4⟩
theorem mSl.pe {σ τ : mS} {c : Nat} {C : kC} (h : mSl σ c C) (e : mPe σ τ) : mSl τ c C := by
  obtain ⟨g1, g2, g3, g4, g5, g6, g7, g8, g9, g10, g11, g12, g13⟩ := e
  exact h.eqs g1 g2 g3 g5 g4 g6
theorem ksrt_last {L : List Nat} (hs : ksrt L) {m : Nat} (hm : m ∈ L) : m ≤ L.getD (L.length - 1) 0 := by
  obtain ⟨j, hj, rfl⟩ := kmem_get hm
  by_cases e : j = L.length - 1
  · rw [e]; exact Nat.le_refl _
  · exact Nat.le_of_lt (ksrt_lt hs (by omega) (by omega))
def kmks (T : List Nat) (l : Nat) : Nat → Nat → List Nat → Option (List Nat) × Nat
  | 0, i, _ => (none, i)
  | f + 1, i, L => if i < T.length then (if L.length = l then (none, i) else match khx T 8 i 0 with
    | (none, q) => (none, q)
    | (some m, q) => if 0 < L.length ∧ m ≤ L.getD (L.length - 1) 0 then (none, q - 1) else kmks T l f q (kins m L)) else (some L, i)
theorem t_marks_loop {α : Nat → Nat} (hα : mD α) (h : zH) {S : kS} {T : List Nat} {p l : Nat} (h4 : 4 ≤ p) (h8 : p ≤ 8) (hl1 : 1 ≤ l) (hl : l ≤ 48) (f : Nat) : ∀ (i : Nat) (L : List Nat) (a1 a3 a4 : Value) (σ : mS), mRe S T σ → σ.hr = i → i ≤ T.length → T.length + 1 ≤ f + i → mSl σ 9 (p, l, false, L, fun _ => 0) → L.length ≤ l → ksrt L → (∀ m ∈ L, m < 2 ^ 32) → ∃ τ, zs PG mX3_readsMarks 0 [.ref (α 0), a1, zJ, a3, a4] [] (mH α σ h) = some (.inl (some (.int (zb (kmks T l f i L).1.isSome))), mH α τ h) ∧ mRe S T τ ∧ τ.hr = (kmks T l f i L).2 ∧ (∀ M, (kmks T l f i L).1 = some M → mSl τ 9 (kspr p l M) ∧ kI (kspr p l M)) := by
  induction f with
  | zero => intro i L a1 a3 a4 σ _ _ hi hf; omega
  | succ f ih =>
    intro i L a1 a3 a4 σ hR hh hi hf hC hLl hs hm
    have h600 := hR.2.2.2.1
    have hsz : σ.sz = T.length := hR.2.1
    have hmm : σ.mm 9 = L.length := hC.2.2.2.1
    have hli : σ.li 9 = l := hC.2.1
    unfold kmks
    rw [uX3_readsMarks_at0]
    by_cases e : i < T.length
    · rw [if_pos e]
      by_cases e1 : L.length = l
      · rw [if_pos e1]
        refine ⟨σ, ?_, hR, hh, (fun M q => by cases q)⟩
        simp (disch := omega) only [uX3_readsMarks_p0, uX3_readsMarks_p1, mG, mP hα, mR hα, mW hα, mgs, zKK, zB, zBl, zBb, zlg, zA, zA3, zL3, km31, km63, klshr, kishr, k2p, kl1shl, klmask, kland1, kiand1, k_l2i, zrt_b, zrt_0, zrt_1, zdv_n, zdv_l, hh, hsz, hmm, hli, Option.isSome_none, zb_f]
      · rw [if_neg e1]
        obtain ⟨τ, u', r1, r2, r3⟩ := t_hex_loop hα h (T := T) 8 0 i 0 a4 σ rfl hR.2 hh hi
        obtain ⟨g1, g2, g3⟩ := khx_ok T 8 i 0 hi
        have R2 := hR.pe r2
        have C2 := hC.pe r2
        have hmm2 : τ.mm 9 = L.length := C2.2.2.2.1
        have hstart : zs PG mX3_readsMarks 1 [.ref (α 0), a1, zJ, a3, a4] [.ref (α 0)] (mH α σ h) = zs PG mX3_readsMarks 34 [.ref (α 0), .long (lN 0), zJ, .int (nI 0), a4] [] (mH α σ h) := by
          simp (disch := omega) only [uX3_readsMarks_at1, uX3_readsMarks_at4, uX3_readsMarks_at5, uX3_readsMarks_at8, uX3_readsMarks_at11, uX3_readsMarks_at12, uX3_readsMarks_at15, uX3_readsMarks_at17, uX3_readsMarks_at18, uX3_readsMarks_at19, uX3_readsMarks_at22, uX3_readsMarks_at24, uX3_readsMarks_at25, uX3_readsMarks_at30, uX3_readsMarks_at31, uX3_readsMarks_at32, uX3_readsMarks_at33, mG, mP hα, mR hα, mW hα, mgs, zKK, zB, zBl, zBb, zlg, zA, zA3, zL3, km31, km63, klshr, kishr, k2p, kl1shl, klmask, kland1, kiand1, k_l2i, zrt_b, zrt_0, zrt_1, zdv_n, zdv_l, hh, hsz, hmm, hli]
        rw [hstart, r1]
        cases ek : khx T 8 i 0 with
        | mk o q =>
          rw [ek] at r3 g1 g2 g3
          have r3 : τ.hr = q := r3
          have g1 : i ≤ q := g1
          have g2 : q ≤ T.length := g2
          cases o with
          | none => exact ⟨τ, rfl, R2, r3, (fun M q => by cases q)⟩
          | some m =>
            obtain ⟨g4, g5⟩ := g3 m rfl
            have g4 : q = i + 8 := g4
            have hm1 : m < 4294967296 := g5 (by decide) (Nat.le_refl _)
            dsimp only
            by_cases e2 : 0 < L.length ∧ m ≤ L.getD (L.length - 1) 0
            · rw [if_pos e2]
              refine ⟨τ.s_hr (q - 1), ?_, R2.pe (mPe_hr τ _), by simp only [mgs], (fun M q => by cases q)⟩
              have hma : τ.ma (576 + L.length - 1) = L.getD (L.length - 1) 0 := by
                have := C2.2.2.2.2.1 (L.length - 1) (by show L.length - 1 < L.length; omega)
                rw [show 64 * 9 + (L.length - 1) = 576 + L.length - 1 by omega] at this
                exact this
              have hlb : L.getD (L.length - 1) 0 < 2 ^ 32 := hm _ (kget_mem (by omega))
              simp (disch := omega) only [uX3_readsMarks_p0, uX3_readsMarks_p1, mG, mP hα, mR hα, mW hα, mgs, zKK, zB, zBl, zBb, zlg, zA, zA3, zL3, km31, km63, klshr, kishr, k2p, kl1shl, klmask, kland1, kiand1, k_l2i, zrt_b, zrt_0, zrt_1, zdv_n, zdv_l, hmm2, hma, r3, Option.isSome_none, zb_f]
            · rw [if_neg e2]
              have hnm : m ∉ L := fun q2 => e2 ⟨List.length_pos_of_mem q2, ksrt_last hs q2⟩
              obtain ⟨τ2, q1, q2, q3⟩ := t_insert hα τ h (c := 9) (by decide) hm1 C2 (by show L.length < 64; omega) hs hnm hm
              have R3 := R2.f9 q3
              have hr3 : τ2.hr = q := q3.1.2.2.2.2.2.2.2.2.2.2.trans r3
              obtain ⟨τ3, w1, w2, w3, w4⟩ := ih q (kins m L) (.long (lN m)) (.int (nI 8)) u' τ2 R3 hr3 g2 (by omega) q2 (by rw [kins_len]; omega) (kins_srt hs hnm) (fun x hx => by
                rcases (kins_mem m x L).mp hx with q4 | q4
                · rw [q4]; exact hm1
                · exact hm x q4)
              refine ⟨τ3, ?_, w2, w3, w4⟩
              rw [← w1]
              by_cases e3 : 0 < L.length
              · have hlt : L.getD (L.length - 1) 0 < m := Nat.lt_of_not_le (fun q5 => e2 ⟨e3, q5⟩)
                have hma : τ.ma (576 + L.length - 1) = L.getD (L.length - 1) 0 := by
                  have := C2.2.2.2.2.1 (L.length - 1) (by show L.length - 1 < L.length; omega)
                  rw [show 64 * 9 + (L.length - 1) = 576 + L.length - 1 by omega] at this
                  exact this
                simp (disch := omega) only [uX3_readsMarks_at72, uX3_readsMarks_at73, uX3_readsMarks_at76, uX3_readsMarks_at78, uX3_readsMarks_at79, uX3_readsMarks_at82, uX3_readsMarks_at83, uX3_readsMarks_at84, uX3_readsMarks_at87, uX3_readsMarks_at90, uX3_readsMarks_at91, uX3_readsMarks_at94, uX3_readsMarks_at96, uX3_readsMarks_at97, uX3_readsMarks_at98, uX3_readsMarks_at99, uX3_readsMarks_at100, uX3_readsMarks_at101, uX3_readsMarks_at102, uX3_readsMarks_at117, uX3_readsMarks_at118, uX3_readsMarks_at120, uX3_readsMarks_at121, uX3_readsMarks_at124, mG, mP hα, mR hα, mW hα, mgs, zKK, zB, zBl, zBb, zlg, zA, zA3, zL3, km31, km63, klshr, kishr, k2p, kl1shl, klmask, kland1, kiand1, k_l2i, zrt_b, zrt_0, zrt_1, zdv_n, zdv_l, hmm2, hma, q1]
              · simp (disch := omega) only [uX3_readsMarks_at72, uX3_readsMarks_at73, uX3_readsMarks_at76, uX3_readsMarks_at78, uX3_readsMarks_at79, uX3_readsMarks_at117, uX3_readsMarks_at118, uX3_readsMarks_at120, uX3_readsMarks_at121, uX3_readsMarks_at124, mG, mP hα, mR hα, mW hα, mgs, zKK, zB, zBl, zBb, zlg, zA, zA3, zL3, km31, km63, klshr, kishr, k2p, kl1shl, klmask, kland1, kiand1, k_l2i, zrt_b, zrt_0, zrt_1, zdv_n, zdv_l, hmm2, q1]
    · rw [if_neg e]
      have el := t_laysRanks hα σ h (c := 9) (by decide) (by rw [hC.1]; exact h4) (by rw [hC.1]; exact h8) (L := L) hmm (by omega) hC.2.2.2.2.1 hm
      rw [show σ.bi 9 = p from hC.1] at el
      refine ⟨_, ?_, hR.f9 (mFr_ra σ 9 (klay p (fun _ => 0) L)), by simp only [mgs]; exact hh, fun M q => by cases q; exact ⟨mSl_ra hC _, kI_sparse h4 h8 hl1 hl hm hs hLl⟩⟩
      simp (disch := omega) only [uX3_readsMarks_p0, uX3_readsMarks_p1, mG, mP hα, mR hα, mW hα, mgs, zKK, zB, zBl, zBb, zlg, zA, zA3, zL3, km31, km63, klshr, kishr, k2p, kl1shl, klmask, kland1, kiand1, k_l2i, zrt_b, zrt_0, zrt_1, zdv_n, zdv_l, hh, hsz, el, Option.isSome_some, zb_t]
