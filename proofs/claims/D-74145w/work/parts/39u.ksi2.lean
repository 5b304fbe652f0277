/-! the invariant is kept: puts, greedy, reads -/
theorem kgo_6 {G : Nat → Nat} {b : Nat} (hG : ∀ t, G t ≤ b) {s : Nat} (hs : s < 64) (n : Nat) : ∀ (so : Nat) (w : List Int64), so < 64 → ksub so s → w.length = kpc so → (kgo G s n so w).length ≤ 6 := by
  induction n with
  | zero => intro so w _ _ hw; rw [kgo, hw]; exact kpc_le so
  | succ n ih =>
    intro so w hso hsub hw
    rw [kgo]
    by_cases e : so = s
    · rw [if_pos e, hw]; exact kpc_le so
    · rw [if_neg e]
      have hex : ∃ c, c < 6 ∧ s.testBit c = true ∧ so.testBit c = false := by
        refine Classical.byContradiction fun hn => e (kb_ext hso hs fun c hc => ?_)
        cases h1 : so.testBit c with
        | true => exact (hsub c hc h1).symm
        | false =>
          cases h2 : s.testBit c with
          | false => rfl
          | true => exact absurd ⟨c, hc, h2, h1⟩ hn
      obtain ⟨b, hb⟩ := kgi_some G s so 6 hex
      obtain ⟨b1, b2, b3⟩ := (kgi_b hG s so 6).2 b hb
      obtain ⟨o1, o2⟩ := kb_set hso b1 b3
      have hsub2 : ksub (so ||| 2 ^ b) s := by
        intro c hc hq
        rw [Nat.testBit_or, Nat.testBit_two_pow] at hq
        by_cases e3 : b = c
        · rw [← e3]; exact b2
        · simp [e3] at hq
          exact hsub c hc hq
      rw [hb]
      exact ih (so ||| 2 ^ b) (w ++ [lN b]) o1 hsub2 (by rw [List.length_append, List.length_singleton]; omega)
theorem i_greedy {S : kS} (h : kSI S) (s : Int32) : kSI (q_greedy S s).2 := by
  unfold q_greedy; split
  · rename_i e
    have g := kbd_kN e (by decide)
    exact h.w' (kgo_6 (kG_le h) (by omega) 7 0 [] (by decide) (fun c _ q => by rw [Nat.zero_testBit] at q; cases q) rfl)
  · exact h
theorem kpk_ok {C : kC} {j : Nat} {w : Int64} (n : Nat) : ∀ x, kpk C j w n x = true → ∀ y, x ≤ y → y < x + n → kr5 w y ≤ kpm C j y := by
  induction n with
  | zero => intro x _ y h1 h2; omega
  | succ n ih =>
    intro x e y h1 h2
    rw [kpk] at e
    by_cases e1 : kpm C j x < kr5 w x
    · rw [if_pos e1] at e; cases e
    · rw [if_neg e1] at e
      by_cases e2 : y = x
      · rw [e2]; omega
      · exact ih (x + 1) e y (by omega) (by omega)
theorem kpo_ok {r : Nat → Nat} {o b : Nat} {w : Int64} (hr : ∀ y, r y ≤ b) (n : Nat) (hw : ∀ y, y < n → kr5 w y ≤ b) : ∀ y, (kpo r o w n).2 y ≤ b := by
  induction n with
  | zero => exact hr
  | succ n ih =>
    intro y
    show va_up (kpo r o w n).2 (o + n) (kr5 w n) y ≤ b
    unfold va_up
    by_cases e : y = o + n
    · rw [if_pos e]; exact hw n (by omega)
    · rw [if_neg e]; exact ih (fun y hy => hw y (by omega)) y
theorem i_puts {S : kS} (h : kSI S) (c j : Int32) (w : Int64) : kSI (q_puts S c j w).2 := by
  unfold q_puts; split
  · rename_i e
    obtain ⟨e1, e2⟩ := kand2 e
    have iC := kbd_c h e1
    have h2 := k2p_le iC.2.1
    have h3 := k2p_ge iC.1
    have g := kbd_kN e2 (by omega)
    split
    · split
      · rename_i e4
        have e5 := (kand2 e4).2
        refine h.c _ ⟨iC.1, iC.2.1, iC.2.2.1, iC.2.2.2.1, kpo_ok iC.2.2.2.2.1 _ (fun y hy => ?_), fun y hy => ?_, fun _ => rfl, (fun m q => absurd q List.not_mem_nil), List.Pairwise.nil, Nat.zero_le _, fun q => by cases q⟩
        · have := kpk_ok 12 0 e5 y (Nat.zero_le _) (by omega)
          unfold kpm at this
          split at this
          · exact this
          · exact Nat.le_trans this (Nat.zero_le _)
        · have hy : 2 ^ (S.c (kN c)).p ≤ y := hy
          show (kpo (S.c (kN c)).r (12 * kN j) w (min 12 (2 ^ (S.c (kN c)).p - 12 * kN j))).2 y = 0
          rw [(kpo_ge _ _ _ _).2 y (by omega)]
          exact iC.2.2.2.2.2.1 y hy
      · exact h
    · exact h
  · exact h
theorem kmks_ok {T : List Nat} {l : Nat} (f : Nat) : ∀ (i : Nat) (L : List Nat), i ≤ T.length → L.length ≤ l → ksrt L → (∀ m ∈ L, m < 2 ^ 32) → ∀ M, (kmks T l f i L).1 = some M → M.length ≤ l ∧ ksrt M ∧ (∀ m ∈ M, m < 2 ^ 32) := by
  induction f with
  | zero => intro i L _ _ _ _ M q; cases q
  | succ f ih =>
    intro i L hi hl hs hm M q
    unfold kmks at q
    by_cases e : i < T.length
    · rw [if_pos e] at q
      by_cases e1 : L.length = l
      · rw [if_pos e1] at q; cases q
      · rw [if_neg e1] at q
        obtain ⟨g1, g2, g3⟩ := khx_ok T 8 i 0 hi
        cases ek : khx T 8 i 0 with
        | mk o p =>
          rw [ek] at q g2 g3
          cases o with
          | none => cases q
          | some m =>
            obtain ⟨g4, g5⟩ := g3 m rfl
            have hm1 : m < 4294967296 := g5 (by decide) (Nat.le_refl _)
            dsimp only at q
            by_cases e2 : 0 < L.length ∧ m ≤ L.getD (L.length - 1) 0
            · rw [if_pos e2] at q; cases q
            · rw [if_neg e2] at q
              have hnm : m ∉ L := fun q2 => e2 ⟨List.length_pos_of_mem q2, ksrt_last hs q2⟩
              exact ih p (kins m L) g2 (by rw [kins_len]; omega) (kins_srt hs hnm) (fun x hx => by
                rcases (kins_mem m x L).mp hx with q4 | q4
                · rw [q4]; exact hm1
                · exact hm x q4) M q
    · rw [if_neg e] at q
      cases q
      exact ⟨hl, hs, hm⟩
theorem krks_ok {T : List Nat} {p : Nat} (h8 : p ≤ 8) (n : Nat) : ∀ (i x : Nat) (r : Nat → Nat), x + n = 2 ^ p → (∀ y, r y ≤ 33 - p) → (∀ y, 2 ^ p ≤ y → r y = 0) → ∀ r', (krks T (34 - p) n i x r).1 = some r' → (∀ y, r' y ≤ 33 - p) ∧ (∀ y, 2 ^ p ≤ y → r' y = 0) := by
  induction n with
  | zero =>
    intro i x r _ hb hz r' q
    unfold krks at q
    by_cases e : i = T.length
    · rw [if_pos e] at q; cases q; exact ⟨hb, hz⟩
    · rw [if_neg e] at q; cases q
  | succ n ih =>
    intro i x r hx hb hz r' q
    unfold krks at q
    cases e : ksv T i (34 - p) with
    | none => rw [e] at q; cases q
    | some v =>
      rw [e] at q
      obtain ⟨e1, e2⟩ := ksv_lt e
      exact ih (i + 1) (x + 1) (va_up r x v) (by omega) (fun y => by
        unfold va_up
        by_cases e5 : y = x
        · rw [if_pos e5]; omega
        · rw [if_neg e5]; exact hb y) (fun y hy => by
        unfold va_up
        rw [if_neg (by omega)]; exact hz y hy) r' q
theorem krt_ok {T : List Nat} {p l i : Nat} (h4 : 4 ≤ p) (h8 : p ≤ 8) (h1 : 1 ≤ l) (h48 : l ≤ 48) {C : kC} (q : (krt T p l i).1 = some C) : kI C := by
  unfold krt at q
  by_cases e1 : i < T.length ∧ T.getD i 0 = 115
  · rw [if_pos e1] at q
    dsimp only at q
    cases ek : (kmks T l (T.length + 1) (i + 1) []).1 with
    | none => rw [ek] at q; cases q
    | some M =>
      rw [ek] at q
      cases q
      obtain ⟨g1, g2, g3⟩ := kmks_ok (T.length + 1) (i + 1) [] (by omega) (Nat.zero_le _) List.Pairwise.nil (fun m q => absurd q List.not_mem_nil) M ek
      exact kI_sparse h4 h8 h1 h48 g3 g2 g1
  · rw [if_neg e1] at q
    by_cases e2 : i < T.length ∧ T.getD i 0 = 100
    · rw [if_pos e2] at q
      dsimp only at q
      cases ek : (krks T (34 - p) (2 ^ p) (i + 1) 0 (fun _ => 0)).1 with
      | none => rw [ek] at q; cases q
      | some r =>
        rw [ek] at q
        cases q
        obtain ⟨g1, g2⟩ := krks_ok h8 (2 ^ p) (i + 1) 0 (fun _ => 0) (by omega) (fun _ => Nat.zero_le _) (fun _ _ => rfl) r ek
        exact ⟨h4, h8, h1, h48, g1, g2, fun _ => rfl, (fun m q => absurd q List.not_mem_nil), List.Pairwise.nil, Nat.zero_le _, fun q => by cases q⟩
    · rw [if_neg e2] at q
      cases q
theorem kctr_ok {T : List Nat} {C : kC} (q : (kctr T).1 = some C) : kI C := by
  unfold kctr at q
  by_cases e0 : 0 < T.length ∧ 52 ≤ T.getD 0 0 ∧ T.getD 0 0 ≤ 56
  · rw [if_pos e0] at q
    by_cases e1 : 1 < T.length ∧ 49 ≤ T.getD 1 0 ∧ T.getD 1 0 ≤ 57
    · rw [if_pos e1] at q
      by_cases e2 : 2 < T.length ∧ 48 ≤ T.getD 2 0 ∧ T.getD 2 0 ≤ 57
      · rw [if_pos e2] at q
        by_cases e3 : 48 < 10 * (T.getD 1 0 - 48) + T.getD 2 0 - 48
        · rw [if_pos e3] at q; cases q
        · rw [if_neg e3] at q
          exact krt_ok (by omega) (by omega) (by omega) (by omega) q
      · rw [if_neg e2] at q
        exact krt_ok (by omega) (by omega) (by omega) (by omega) q
    · rw [if_neg e1] at q; cases q
  · rw [if_neg e0] at q; cases q
theorem i_reads {S : kS} (h : kSI S) (c : Int32) : kSI (q_reads S c).2 := by
  unfold q_reads
  cases ek : kctr S.t with
  | mk o p =>
    cases o with
    | none => exact h.t0
    | some C =>
      dsimp only
      split
      · exact h.t0.c _ (kctr_ok (by rw [ek]))
      · exact h.t0
