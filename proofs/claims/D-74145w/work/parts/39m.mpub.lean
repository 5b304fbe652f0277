/-! the things of the text that would change, told as a mask -/
def krp (P : Nat → Bool) : Nat → Nat × Int64
  | 0 => (0, lN 0)
  | k + 1 => if P k then ((krp P k).1 + 1, (krp P k).2 ||| (if k < 60 then lN (2 ^ k) else lN 0)) else krp P k
theorem krp_le (P : Nat → Bool) (k : Nat) : (krp P k).1 ≤ k := by
  induction k with
  | zero => exact Nat.le_refl _
  | succ k ih =>
    unfold krp
    cases P k with
    | true => simp only [if_true]; omega
    | false => simp only [Bool.false_eq_true, if_false]; omega
theorem t_replays_loop {α : Nat → Nat} (hα : mD α) (σ : mS) (h : zH) {S : kS} {w : List Int64} (hR : mR6 (S.s_w w) σ) (hI : kSI S) {c : Nat} (hc : c < 6) (L : List Int32) (hl : L.length ≤ 600) (hG : mTg L σ) (j : Nat) : ∀ (k : Nat), k + j = L.length → ∃ σ', zs PG mX3_replays 41 [.ref (α 0), .int (nI c), .int (nI (krp (fun k => kwould (S.c c) (kun (S.a * L.getD k 0 + S.b))) k).1), .long (krp (fun k => kwould (S.c c) (kun (S.a * L.getD k 0 + S.b))) k).2, zJ, .int (nI k)] [] (mH α σ h) = some (.inl (some (.int (nI (krp (fun k => kwould (S.c c) (kun (S.a * L.getD k 0 + S.b))) L.length).1))), mH α σ' h) ∧ mR6 (S.s_w [(krp (fun k => kwould (S.c c) (kun (S.a * L.getD k 0 + S.b))) L.length).2]) σ' := by
  have hn : σ.tn = L.length := hG.1
  induction j with
  | zero =>
    intro k hk
    have hk : k = L.length := by omega
    subst hk
    refine ⟨_, ?_, hR.rm0.tell (krp (fun k => kwould (S.c c) (kun (S.a * L.getD k 0 + S.b))) L.length).2⟩
    rw [uX3_replays_at41]
    simp (disch := omega) only [uX3_replays, mG, mP hα, mR hα, mW hα, mgs, zKK, zB, zBl, zBb, zlg, zA, zA3, zL3, km31, km63, klshr, kishr, k2p, kl1shl, klmask, kland1, kiand1, k_l2i, zrt_b, zrt_0, zrt_1, zdv_n, zdv_l, hn, t_tell_s hα]
  | succ j ih =>
    intro k hk
    have hg : σ.tg k = L.getD k 0 := hG.2 k (by omega)
    have hmk : mmk σ (L.getD k 0) = kun (S.a * L.getD k 0 + S.b) := by unfold mmk; rw [hR.2.1, hR.2.2.1]; rfl
    have ew := t_wouldChange hα σ h (c := c) (by omega) (kun_lt (S.a * L.getD k 0 + S.b)) (hR.1 c hc) (hI.1 c hc)
    obtain ⟨σ2, e2, r2⟩ := ih (k + 1) (by omega)
    have hle := krp_le (fun k => kwould (S.c c) (kun (S.a * L.getD k 0 + S.b))) k
    refine ⟨σ2, ?_, r2⟩
    rw [uX3_replays_at41, ← e2]
    rw [show krp (fun k => kwould (S.c c) (kun (S.a * L.getD k 0 + S.b))) (k + 1) = if kwould (S.c c) (kun (S.a * L.getD k 0 + S.b)) then ((krp (fun k => kwould (S.c c) (kun (S.a * L.getD k 0 + S.b))) k).1 + 1, (krp (fun k => kwould (S.c c) (kun (S.a * L.getD k 0 + S.b))) k).2 ||| (if k < 60 then lN (2 ^ k) else lN 0)) else krp (fun k => kwould (S.c c) (kun (S.a * L.getD k 0 + S.b))) k from rfl]
    generalize krp (fun k => kwould (S.c c) (kun (S.a * L.getD k 0 + S.b))) k = K at hle ⊢
    have ew : zc PG mX3_wouldChange [.ref (α 0), .int (nI c), .long (lN (kun (S.a * L.getD k 0 + S.b)))] (mH α σ h) = some (.inl (some (.int (zb (kwould (S.c c) (kun (S.a * L.getD k 0 + S.b)))))), mH α σ h) := ew
    cases hw : kwould (S.c c) (kun (S.a * L.getD k 0 + S.b)) with
    | true =>
      rw [hw] at ew
      by_cases e6 : k < 60
      · simp only [if_true, if_pos e6]
        simp (disch := omega) only [uX3_replays, mG, mP hα, mR hα, mW hα, mgs, zKK, zB, zBl, zBb, zlg, zA, zA3, zL3, km31, km63, klshr, kishr, k2p, kl1shl, klmask, kland1, kiand1, k_l2i, zrt_b, zrt_0, zrt_1, zdv_n, zdv_l, hn, hg, t_markOf hα, hmk, ew, kl1shl]
      · simp only [if_true, if_neg e6]
        simp (disch := omega) only [uX3_replays, mG, mP hα, mR hα, mW hα, mgs, zKK, zB, zBl, zBb, zlg, zA, zA3, zL3, km31, km63, klshr, kishr, k2p, kl1shl, klmask, kland1, kiand1, k_l2i, zrt_b, zrt_0, zrt_1, zdv_n, zdv_l, hn, hg, t_markOf hα, hmk, ew]
    | false =>
      rw [hw] at ew
      simp only [Bool.false_eq_true, if_false]
      simp (disch := omega) only [uX3_replays, mG, mP hα, mR hα, mW hα, mgs, zKK, zB, zBl, zBb, zlg, zA, zA3, zL3, km31, km63, klshr, kishr, k2p, kl1shl, klmask, kland1, kiand1, k_l2i, zrt_b, zrt_0, zrt_1, zdv_n, zdv_l, hn, hg, t_markOf hα, hmk, ew]
def q_replays (S : kS) (c : Int32) : Int32 × kS := match kpt S.t with
  | (none, p) => ((-2000) - nI p, S.s_t [])
  | (some L, _) => if kbd c 0 5 then (nI (krp (fun k => kwould (S.c (kN c)) (kun (S.a * L.getD k 0 + S.b))) L.length).1, (S.s_t []).s_w [(krp (fun k => kwould (S.c (kN c)) (kun (S.a * L.getD k 0 + S.b))) L.length).2]) else (-1, S.s_t [])
theorem M_replays {α : Nat → Nat} (hα : mD α) (σ : mS) (h : zH) {S : kS} (hR : mR6 S σ) (hI : kSI S) (c : Int32) : ∃ σ', zc PG mX3_replays [.ref (α 0), .int c] (mH α σ h) = some (.inl (some (.int (q_replays S c).1)), mH α σ' h) ∧ mR6 (q_replays S c).2 σ' := by
  unfold q_replays
  obtain ⟨τ1, q1, R1, T1, hr1⟩ := t_begin hα (σ.s_th 0) h (hR.th 0) hI
  obtain ⟨τ2, q2, e2, hr2, hM⟩ := t_readsThings hα τ1 h T1 hr1
  have R2 := R1.pe e2
  cases ek : kpt S.t with
  | mk o p =>
    rw [ek] at q2 hr2 hM
    cases o with
    | none =>
      have hr2 : τ2.hr = p := hr2
      refine ⟨τ2, ?_, R2⟩
      simp (disch := omega) only [eX3_replays, uX3_replays, mG, mP hα, mR hα, mW hα, mgs, zKK, zB, zBl, zBb, zlg, zA, zA3, zL3, km31, km63, klshr, kishr, k2p, kl1shl, klmask, kland1, kiand1, k_l2i, zrt_b, zrt_0, zrt_1, zdv_n, zdv_l, q1, q2, Option.isSome_none, hr2]
    | some L =>
      obtain ⟨hG, hl⟩ := hM L rfl
      rcases kbd_cases c 0 5 with e1 | ⟨c, -, hc, rfl⟩
      · simp only [e1, Bool.false_eq_true, if_false]
        refine ⟨τ2, ?_, R2⟩
        simp (disch := omega) only [eX3_replays, uX3_replays, mG, mP hα, mR hα, mW hα, mgs, zKK, zB, zBl, zBb, zlg, zA, zA3, zL3, km31, km63, klshr, kishr, k2p, kl1shl, klmask, kland1, kiand1, k_l2i, zrt_b, zrt_0, zrt_1, zdv_n, zdv_l, q1, q2, Option.isSome_some, t_isCounter, e1]
      · have e1 := kbd_nI (Nat.zero_le c) hc (by omega)
        simp only [e1, if_true]
        rw [kN_nI (by omega)]
        have R3 : mR6 ((S.s_t []).s_w S.w) τ2 := R2
        obtain ⟨σ3, r1, r2⟩ := t_replays_loop hα τ2 h (S := S.s_t []) R3 ⟨hI.1, by exact Nat.zero_le _, fun x hx => absurd hx (List.not_mem_nil), hI.2.2.2⟩ (c := c) (by omega) L hl hG L.length 0 (by omega)
        refine ⟨σ3, ?_, r2⟩
        simp (disch := omega) only [eX3_replays, uX3_replays, mG, mP hα, mR hα, mW hα, mgs, zKK, zB, zBl, zBb, zlg, zA, zA3, zL3, km31, km63, klshr, kishr, k2p, kl1shl, klmask, kland1, kiand1, k_l2i, zrt_b, zrt_0, zrt_1, zdv_n, zdv_l, q1, q2, Option.isSome_some, t_isCounter, e1]
        exact r1
