/-! COUNTERS IN PLAIN TERMS: what holds of them all along -/
theorem klay_set {p : Nat} {r : Nat → Nat} {L M : List Nat} (h : ∀ x, x ∈ L ↔ x ∈ M) : klay p r L = klay p r M := by
  apply kfn_ext
  intro y b
  rw [klay_le, klay_le]
  exact ⟨fun q => ⟨q.1, fun m hm => q.2 m ((h m).mpr hm)⟩, fun q => ⟨q.1, fun m hm => q.2 m ((h m).mp hm)⟩⟩
theorem klay_bound {p : Nat} (hp : p ≤ 32) (L : List Nat) (y : Nat) : klay p (fun _ => 0) L y ≤ 33 - p := (klay_le p L _ y _).mpr ⟨Nat.zero_le _, fun m _ _ => (krk_bounds m hp).2⟩
theorem klay_zero {p : Nat} (hp : p ≤ 32) {L : List Nat} (hL : ∀ m ∈ L, m < 2 ^ 32) {y : Nat} (hy : 2 ^ p ≤ y) : klay p (fun _ => 0) L y = 0 := by
  have : klay p (fun _ => 0) L y ≤ 0 := (klay_le p L _ y _).mpr ⟨Nat.zero_le _, fun m hm e => by have := kpl_lt (hL m hm) hp; omega⟩
  omega
theorem krs_lay {p m : Nat} {L M : List Nat} (h : ∀ x, x ∈ M ↔ x = m ∨ x ∈ L) : krs (klay p (fun _ => 0) L) (kpl m p) (krk m p) = klay p (fun _ => 0) M := by
  apply kfn_ext
  intro y b
  rw [krs_le, klay_le, klay_le]
  constructor
  · rintro ⟨⟨h1, h2⟩, h3⟩
    refine ⟨h1, fun x hx e => ?_⟩
    rcases (h x).mp hx with rfl | hx
    · exact h3 e.symm
    · exact h2 x hx e
  · rintro ⟨h1, h2⟩
    exact ⟨⟨h1, fun x hx e => h2 x ((h x).mpr (Or.inr hx)) e⟩, fun e => h2 m ((h m).mpr (Or.inl rfl)) e.symm⟩
theorem kI_open {p l : Nat} (h4 : 4 ≤ p) (h8 : p ≤ 8) (h1 : 1 ≤ l) (h48 : l ≤ 48) : kI (kopen p l) := ⟨h4, h8, h1, h48, fun _ => Nat.zero_le _, fun _ _ => rfl, (fun q => by cases q), (fun _ q => by cases q), List.Pairwise.nil, Nat.zero_le _, fun _ => rfl⟩
theorem krs_zero {r : Nat → Nat} {p x v : Nat} (h : ∀ y, 2 ^ p ≤ y → r y = 0) (hx : x < 2 ^ p) : ∀ y, 2 ^ p ≤ y → krs r x v y = 0 := by
  intro y hy
  unfold krs
  rw [if_neg (by omega)]
  exact h y hy
theorem kI_comes {C : kC} {m : Nat} (h : kI C) (hm : m < 2 ^ 32) : kI (kcomes C m) := by
  obtain ⟨a1, a2, a3, a4, a5, a6, a7, a8, a9, a10, a11⟩ := h
  have b1 := krs_b (x := kpl m C.p) a5 (krk_bounds m (p := C.p) (by omega)).2
  have b2 := krs_zero (v := krk m C.p) a6 (kpl_lt hm (by omega))
  unfold kcomes
  cases hd : C.d with
  | true =>
    simp only [if_true]
    have e : kraise C m = (C.p, C.l, true, C.m, krs C.r (kpl m C.p) (krk m C.p)) := by unfold kraise; rw [hd]
    rw [e]
    exact ⟨a1, a2, a3, a4, b1, b2, fun _ => a7 hd, a8, a9, a10, (fun q => by cases q)⟩
  | false =>
    simp only [Bool.false_eq_true, if_false]
    by_cases hin : m ∈ C.m
    · rw [if_pos hin]
      exact ⟨a1, a2, a3, a4, a5, a6, a7, a8, a9, a10, a11⟩
    · rw [if_neg hin]
      by_cases hl : C.l < C.m.length + 1
      · rw [if_pos hl, decide_eq_true hl]
        exact ⟨a1, a2, a3, a4, b1, b2, fun _ => rfl, (fun _ q => by cases q), List.Pairwise.nil, Nat.zero_le _, (fun q => by cases q)⟩
      · rw [if_neg hl, decide_eq_false hl]
        refine ⟨a1, a2, a3, a4, b1, b2, (fun q => by cases q), fun x hx => ?_, kins_srt a9 hin, ?_, fun _ => ?_⟩
        · rcases (kins_mem m x C.m).mp hx with rfl | hx
          · exact hm
          · exact a8 x hx
        · show (kins m C.m).length ≤ C.l
          rw [kins_len]
          omega
        · show krs C.r _ _ = klay C.p _ (kins m C.m)
          rw [a11 hd]
          exact krs_lay (fun x => kins_mem m x C.m)
theorem kI_dense {C : kC} (h : kI C) : kI (kdense C) := by
  obtain ⟨a1, a2, a3, a4, a5, a6, a7, a8, a9, a10, a11⟩ := h
  exact ⟨a1, a2, a3, a4, a5, a6, fun _ => rfl, (fun _ q => by cases q), List.Pairwise.nil, Nat.zero_le _, (fun q => by cases q)⟩
theorem kI_sparse {p l : Nat} {L : List Nat} (h4 : 4 ≤ p) (h8 : p ≤ 8) (h1 : 1 ≤ l) (h48 : l ≤ 48) (hL : ∀ m ∈ L, m < 2 ^ 32) (hs : ksrt L) (hl : L.length ≤ l) : kI (p, l, false, L, klay p (fun _ => 0) L) :=
  ⟨h4, h8, h1, h48, fun y => klay_bound (by omega) L y, fun y hy => klay_zero (show p ≤ 32 by omega) hL hy, (fun q => by cases q), hL, hs, hl, fun _ => rfl⟩
theorem kI_drop {C : kC} (m : Nat) (h : kI C) : kI (kdrop C m) := by
  obtain ⟨a1, a2, a3, a4, a5, a6, a7, a8, a9, a10, a11⟩ := h
  exact kI_sparse a1 a2 a3 a4 (fun x hx => a8 x (List.mem_filter.mp hx).1) (List.Pairwise.filter _ a9) (Nat.le_trans (List.length_filter_le _ _) a10)
theorem kdrop_not {C : kC} {m : Nat} (h : kI C) (hd : C.d = false) (hm : m ∉ C.m) : kdrop C m = C := by
  have e : C.m.filter (fun x => x ≠ m) = C.m := List.filter_eq_self.mpr (fun x hx => by simp; exact fun q => hm (q ▸ hx))
  unfold kdrop
  rw [e, ← h.2.2.2.2.2.2.2.2.2.2 hd, ← hd]
  rfl
theorem kI_fold {C : kC} {q : Nat} (h : kI C) (h4 : 4 ≤ q) (hq : q ≤ C.p) : kI (kfoldC C q) := by
  obtain ⟨a1, a2, a3, a4, a5, a6, a7, a8, a9, a10, a11⟩ := h
  refine ⟨h4, Nat.le_trans hq a2, a3, a4, fun y => kfold_bound hq (by omega) a5 y, fun y hy => kfold_zero hq _ hy, a7, a8, a9, a10, fun hd => ?_⟩
  show kfold C.p q C.r = klay q (fun _ => 0) C.m
  rw [a11 hd, kfold_lay (by omega) hq a8]
theorem kfoldC_id {C : kC} (h : kI C) : kfoldC C C.p = C := by
  unfold kfoldC
  rw [kfold_id h.2.2.2.2.2.1]
  rfl
theorem krd_le (r : Nat → Nat) (n : Nat) : krd r n ≤ n := by
  induction n with
  | zero => exact Nat.le_refl _
  | succ n ih =>
    unfold krd
    split <;> omega
theorem kal_pos (r : Nat → Nat) {n : Nat} (h : 0 < n) : 0 < kal r n := by
  cases n with
  | zero => omega
  | succ n =>
    unfold kal
    have := Nat.pow_pos (n := 29 - r n) (by decide : 0 < 2)
    omega
theorem kal_le (r : Nat → Nat) (n : Nat) : kal r n ≤ n * 2 ^ 29 := by
  induction n with
  | zero => exact Nat.zero_le _
  | succ n ih =>
    unfold kal
    have : 2 ^ (29 - r n) ≤ 2 ^ 29 := Nat.pow_le_pow_right (by decide) (by omega)
    omega
theorem ktbs_first (p z n : Nat) : ktbs p z (n + 1) = 1000 * 2 ^ p / (z + 1) + ktbs p (z + 1) n := by
  induction n with
  | zero => unfold ktbs; unfold ktbs; simp
  | succ n ih =>
    rw [show ktbs p z (n + 1 + 1) = ktbs p z (n + 1) + 1000 * 2 ^ p / (z + 1 + (n + 1)) from rfl, ih, show ktbs p (z + 1) (n + 1) = ktbs p (z + 1) n + 1000 * 2 ^ p / (z + 1 + 1 + n) from rfl, show z + 1 + (n + 1) = z + 1 + 1 + n by omega, Nat.add_assoc]
theorem ktb_step {p z : Nat} (h : z < 2 ^ p) : ktb p z = ktb p (z + 1) + 1000 * 2 ^ p / (z + 1) := by
  unfold ktb
  rw [show 2 ^ p - z = 2 ^ p - (z + 1) + 1 by omega, ktbs_first, Nat.add_comm]
theorem ktb_end (p : Nat) : ktb p (2 ^ p) = 0 := by
  unfold ktb
  rw [Nat.sub_self]
  rfl
theorem ktbs_le (p z n : Nat) : ktbs p z n ≤ n * (1000 * 2 ^ p) := by
  induction n with
  | zero => exact Nat.zero_le _
  | succ n ih =>
    unfold ktbs
    have : 1000 * 2 ^ p / (z + 1 + n) ≤ 1000 * 2 ^ p := Nat.div_le_self _ _
    rw [Nat.succ_mul n (1000 * 2 ^ p)]
    exact Nat.add_le_add ih this
theorem ktb_le {p : Nat} (h : p ≤ 8) (z : Nat) : ktb p z ≤ 65536000 := by
  have h1 := ktbs_le p z (2 ^ p - z)
  have h2 := k2p_le h
  have h3 : (2 ^ p - z) * (1000 * 2 ^ p) ≤ 256 * (1000 * 256) := Nat.mul_le_mul (by omega) (by omega)
  unfold ktb
  omega
theorem kalpha_le (p : Nat) : kalpha p ≤ 718 := by
  unfold kalpha
  split
  · omega
  · split
    · omega
    · split
      · omega
      · split <;> omega
theorem kgb_le {p : Nat} (h : p ≤ 8) (z all : Nat) : kgb p z all ≤ 2000000000 := by
  unfold kgb
  split
  · have := ktb_le h z
    omega
  · omega
theorem kguess_le {C : kC} (h : kI C) : kguess C ≤ 2000000000 := by
  unfold kguess kdg
  split
  · exact kgb_le h.2.1 _ _
  · have := h.2.2.2.2.2.2.2.2.2.1
    have := h.2.2.2.1
    omega
