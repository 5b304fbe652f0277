/-! JOINS IN PLAIN TERMS -/
theorem kunion_mem (B : List Nat) : ∀ (A : List Nat) (x : Nat), x ∈ kunion A B ↔ x ∈ A ∨ x ∈ B := by
  induction B with
  | nil => intro A x; exact ⟨Or.inl, fun h => h.resolve_right (fun q => by cases q)⟩
  | cons m B ih =>
    intro A x
    show x ∈ kunion (if m ∈ A then A else kins m A) B ↔ _
    rw [ih, List.mem_cons]
    by_cases e : m ∈ A
    · rw [if_pos e]
      constructor
      · rintro (q | q)
        · exact Or.inl q
        · exact Or.inr (Or.inr q)
      · rintro (q | q | q)
        · exact Or.inl q
        · exact Or.inl (q ▸ e)
        · exact Or.inr q
    · rw [if_neg e, kins_mem]
      constructor
      · rintro ((q | q) | q)
        · exact Or.inr (Or.inl q)
        · exact Or.inl q
        · exact Or.inr (Or.inr q)
      · rintro (q | q | q)
        · exact Or.inl (Or.inr q)
        · exact Or.inl (Or.inl q)
        · exact Or.inr q
theorem kunion_srt (B : List Nat) : ∀ (A : List Nat), ksrt A → ksrt (kunion A B) := by
  induction B with
  | nil => intro A h; exact h
  | cons m B ih =>
    intro A h
    show ksrt (kunion (if m ∈ A then A else kins m A) B)
    apply ih
    by_cases e : m ∈ A
    · rw [if_pos e]; exact h
    · rw [if_neg e]; exact kins_srt h e
theorem kunion_len (B : List Nat) : ∀ (A : List Nat), A.length ≤ (kunion A B).length := by
  induction B with
  | nil => intro A; exact Nat.le_refl _
  | cons m B ih =>
    intro A
    have h := ih (if m ∈ A then A else kins m A)
    refine Nat.le_trans ?_ h
    by_cases e : m ∈ A
    · rw [if_pos e]; exact Nat.le_refl _
    · rw [if_neg e, kins_len]; omega
theorem kins_last {m : Nat} {A : List Nat} (h : ∀ x ∈ A, x < m) : kins m A = A ++ [m] := by
  induction A with
  | nil => rfl
  | cons a A ih =>
    unfold kins
    rw [if_pos (h a List.mem_cons_self), ih (fun x hx => h x (List.mem_cons_of_mem _ hx))]
    rfl
theorem kunion_app (B : List Nat) : ∀ (A : List Nat), ksrt (A ++ B) → kunion A B = A ++ B := by
  induction B with
  | nil => intro A _; exact (List.append_nil A).symm
  | cons m B ih =>
    intro A h
    have hlt : ∀ x ∈ A, x < m := fun x hx => (List.pairwise_append.mp h).2.2 x hx m List.mem_cons_self
    have e : m ∉ A := fun q => absurd (hlt m q) (Nat.lt_irrefl _)
    show kunion (if m ∈ A then A else kins m A) B = _
    rw [if_neg e, kins_last hlt, ih (A ++ [m]) (by simpa using h)]
    simp
theorem kunion_nil {B : List Nat} (h : ksrt B) : kunion [] B = B := kunion_app B [] h
theorem ksrt_ext {A B : List Nat} (ha : ksrt A) (hb : ksrt B) (h : ∀ x, x ∈ A ↔ x ∈ B) : A = B := by
  induction A generalizing B with
  | nil =>
    cases B with
    | nil => rfl
    | cons b B => exact absurd ((h b).mpr List.mem_cons_self) (fun q => by cases q)
  | cons a A ih =>
    cases B with
    | nil => exact absurd ((h a).mp List.mem_cons_self) (fun q => by cases q)
    | cons b B =>
      have ha1 := List.pairwise_cons.mp ha
      have hb1 := List.pairwise_cons.mp hb
      have hab : a = b := by
        rcases List.mem_cons.mp ((h a).mp List.mem_cons_self) with q | q
        · exact q
        · rcases List.mem_cons.mp ((h b).mpr List.mem_cons_self) with q2 | q2
          · exact q2.symm
          · have := hb1.1 a q
            have := ha1.1 b q2
            omega
      subst hab
      congr 1
      refine ih ha1.2 hb1.2 (fun x => ⟨fun q => ?_, fun q => ?_⟩)
      · rcases List.mem_cons.mp ((h x).mp (List.mem_cons_of_mem _ q)) with q2 | q2
        · subst q2; exact absurd (ha1.1 x q) (Nat.lt_irrefl _)
        · exact q2
      · rcases List.mem_cons.mp ((h x).mpr (List.mem_cons_of_mem _ q)) with q2 | q2
        · subst q2; exact absurd (hb1.1 x q) (Nat.lt_irrefl _)
        · exact q2
theorem klay_max (p : Nat) (A B : List Nat) {U : List Nat} (h : ∀ x, x ∈ U ↔ x ∈ A ∨ x ∈ B) : (fun y => max (klay p (fun _ => 0) A y) (klay p (fun _ => 0) B y)) = klay p (fun _ => 0) U := by
  apply kfn_ext
  intro y b
  rw [Nat.max_le, klay_le, klay_le, klay_le]
  constructor
  · rintro ⟨⟨h1, h2⟩, h3, h4⟩
    refine ⟨h1, fun m hm e => ?_⟩
    rcases (h m).mp hm with q | q
    · exact h2 m q e
    · exact h4 m q e
  · rintro ⟨h1, h2⟩
    exact ⟨⟨h1, fun m hm e => h2 m ((h m).mpr (Or.inl hm)) e⟩, h1, fun m hm e => h2 m ((h m).mpr (Or.inr hm)) e⟩
/-- a counter comes to another, as the model does it: A's slot, B's -/
def kji (A B : kC) : kC := if A.d || B.d || decide (64 < (kunion A.m B.m).length) then (min A.p B.p, min A.l B.l, true, [], fun y => max (kfold A.p (min A.p B.p) A.r y) (kfold B.p (min A.p B.p) B.r y)) else (min A.p B.p, min A.l B.l, false, kunion A.m B.m, fun y => max (kfold A.p (min A.p B.p) A.r y) (kfold B.p (min A.p B.p) B.r y))
theorem kji_J {A B : kC} (ha : kJ A) (hb : kJ B) : kJ (kji A B) := by
  obtain ⟨a1, a2, a3, a4, a5, a6, a7, a8, a9, a10, a11⟩ := ha
  obtain ⟨b1, b2, b3, b4, b5, b6, b7, b8, b9, b10, b11⟩ := hb
  have hpa : min A.p B.p ≤ A.p := Nat.min_le_left _ _
  have hpb : min A.p B.p ≤ B.p := Nat.min_le_right _ _
  have c1 : ∀ y, max (kfold A.p (min A.p B.p) A.r y) (kfold B.p (min A.p B.p) B.r y) ≤ 33 - min A.p B.p := fun y => Nat.max_le.mpr ⟨kfold_bound hpa (by omega) a5 y, kfold_bound hpb (by omega) b5 y⟩
  have c2 : ∀ y, 2 ^ (min A.p B.p) ≤ y → max (kfold A.p (min A.p B.p) A.r y) (kfold B.p (min A.p B.p) B.r y) = 0 := fun y hy => by rw [kfold_zero hpa _ hy, kfold_zero hpb _ hy]; rfl
  unfold kji
  by_cases e : (A.d || B.d || decide (64 < (kunion A.m B.m).length)) = true
  · rw [if_pos e]
    exact ⟨by show 4 ≤ min A.p B.p; omega, by show min A.p B.p ≤ 8; omega, by show 1 ≤ min A.l B.l; omega, by show min A.l B.l ≤ 48; omega, c1, c2, fun _ => rfl, (fun _ q => by cases q), List.Pairwise.nil, Nat.zero_le _, (fun q => by cases q)⟩
  · rw [if_neg e]
    simp only [Bool.or_eq_true, not_or, Bool.not_eq_true, decide_eq_true_eq] at e
    refine ⟨by show 4 ≤ min A.p B.p; omega, by show min A.p B.p ≤ 8; omega, by show 1 ≤ min A.l B.l; omega, by show min A.l B.l ≤ 48; omega, c1, c2, (fun q => by cases q), fun x hx => ?_, kunion_srt _ _ a9, ?_, fun _ => ?_⟩
    · rcases (kunion_mem _ _ x).mp hx with q | q
      · exact a8 x q
      · exact b8 x q
    · show (kunion A.m B.m).length ≤ 64
      omega
    · show (fun y => max (kfold A.p (min A.p B.p) A.r y) (kfold B.p (min A.p B.p) B.r y)) = klay (min A.p B.p) (fun _ => 0) (kunion A.m B.m)
      rw [a11 e.1.1, b11 e.1.2, kfold_lay (by omega) hpa a8, kfold_lay (by omega) hpb b8]
      exact klay_max _ _ _ (kunion_mem _ _)
/-- dense if more than so many -/
def kcap (n : Nat) (C : kC) : kC := if !C.d && decide (n < C.m.length) then kdense C else C
theorem kcap_J {n : Nat} {C : kC} (h : kJ C) : kJ (kcap n C) := by
  unfold kcap
  by_cases e : (!C.d && decide (n < C.m.length)) = true
  · rw [if_pos e]
    obtain ⟨a1, a2, a3, a4, a5, a6, a7, a8, a9, a10, a11⟩ := h
    exact ⟨a1, a2, a3, a4, a5, a6, fun _ => rfl, (fun _ q => by cases q), List.Pairwise.nil, Nat.zero_le _, (fun q => by cases q)⟩
  · rw [if_neg e]; exact h
/-- what the model has of the counters so far, with n the least limit of all -/
def kac (n : Nat) (Cs : List kC) : kC := (kjp Cs, kjl Cs, kjd Cs || decide (n < (kjm Cs).length), if kjd Cs || decide (n < (kjm Cs).length) then [] else kjm Cs, kjr (kjp Cs) Cs)
theorem kjp_app (Cs : List kC) (C : kC) : kjp (Cs ++ [C]) = min (kjp Cs) C.p := by unfold kjp; rw [List.foldl_append]; rfl
theorem kjl_app (Cs : List kC) (C : kC) : kjl (Cs ++ [C]) = min (kjl Cs) C.l := by unfold kjl; rw [List.foldl_append]; rfl
theorem kjd_app (Cs : List kC) (C : kC) : kjd (Cs ++ [C]) = (kjd Cs || C.d) := by unfold kjd; rw [List.any_append]; simp
theorem kjm_app (Cs : List kC) (C : kC) : kjm (Cs ++ [C]) = kunion (kjm Cs) C.m := by unfold kjm; rw [List.foldl_append]; rfl
theorem kjr_app (P : Nat) (Cs : List kC) (C : kC) : kjr P (Cs ++ [C]) = fun y => max (kjr P Cs y) (kfold C.p P C.r y) := by unfold kjr; rw [List.foldl_append]; rfl
theorem kfold_0 (p q : Nat) : kfold p q (fun _ => 0) = fun _ => 0 := by
  apply kfn_ext
  intro y b
  rw [kfold_le]
  exact ⟨fun _ => Nat.zero_le _, fun _ x _ hr _ => absurd rfl hr⟩
theorem kjr_fold {P Q : Nat} (hQ : Q ≤ P) (Cs : List kC) (h : ∀ C ∈ Cs, P ≤ C.p) : kfold P Q (kjr P Cs) = kjr Q Cs := by
  have gen : ∀ (Cs : List kC) (a b : Nat → Nat), (∀ C ∈ Cs, P ≤ C.p) → kfold P Q a = b → kfold P Q (Cs.foldl (fun r C => fun y => max (r y) (kfold C.p P C.r y)) a) = Cs.foldl (fun r C => fun y => max (r y) (kfold C.p Q C.r y)) b := by
    intro Cs
    induction Cs with
    | nil => intro a b _ e; exact e
    | cons C Cs ih =>
      intro a b hC e
      refine ih _ _ (fun D hD => hC D (List.mem_cons_of_mem _ hD)) ?_
      rw [kfold_max, kfold_comp hQ (hC C List.mem_cons_self), e]
  exact gen Cs _ _ h (kfold_0 P Q)
theorem kjp_le (Cs : List kC) : kjp Cs ≤ 8 ∧ ∀ C ∈ Cs, kjp Cs ≤ C.p := by
  have gen : ∀ (Cs : List kC) (a : Nat), Cs.foldl (fun a C => min a C.p) a ≤ a ∧ ∀ C ∈ Cs, Cs.foldl (fun a C => min a C.p) a ≤ C.p := by
    intro Cs
    induction Cs with
    | nil => intro a; exact ⟨Nat.le_refl _, (fun _ q => by cases q)⟩
    | cons C Cs ih =>
      intro a
      obtain ⟨h1, h2⟩ := ih (min a C.p)
      refine ⟨Nat.le_trans h1 (Nat.min_le_left _ _), fun D hD => ?_⟩
      rcases List.mem_cons.mp hD with rfl | hD
      · exact Nat.le_trans h1 (Nat.min_le_right _ _)
      · exact h2 D hD
  exact gen Cs 8
theorem kjm_srt (Cs : List kC) : ksrt (kjm Cs) := by
  have gen : ∀ (Cs : List kC) (A : List Nat), ksrt A → ksrt (Cs.foldl (fun A C => kunion A C.m) A) := by
    intro Cs
    induction Cs with
    | nil => intro A h; exact h
    | cons C Cs ih => intro A h; exact ih _ (kunion_srt _ _ h)
  exact gen Cs [] List.Pairwise.nil
theorem kac_one {n : Nat} {C : kC} (h : kI C) (hn : C.l ≤ 48) : kac n [C] = kcap n C := by
  obtain ⟨a1, a2, a3, a4, a5, a6, a7, a8, a9, a10, a11⟩ := h
  have e1 : kjp [C] = C.p := by unfold kjp; simp; omega
  have e2 : kjl [C] = C.l := by unfold kjl; simp; omega
  have e3 : kjd [C] = C.d := by unfold kjd; simp
  have e4 : kjm [C] = C.m := by unfold kjm; exact kunion_nil a9
  have e5 : kjr C.p [C] = C.r := by
    unfold kjr
    simp only [List.foldl_cons, List.foldl_nil]
    funext y
    rw [kfold_id a6]
    omega
  unfold kac kcap
  rw [e1, e2, e3, e4, e5]
  cases hd : C.d with
  | true =>
    have := a7 hd
    simp only [Bool.true_or, if_true, Bool.not_true, Bool.false_and, Bool.false_eq_true, if_false]
    show (C.1, C.2.1, true, [], C.2.2.2.2) = C
    have e6 : C.2.2.1 = true := hd
    have e7 : C.2.2.2.1 = [] := this
    rw [← e6, ← e7]
  | false =>
    simp only [Bool.false_or, Bool.not_false, Bool.true_and]
    by_cases e : n < C.m.length
    · simp only [e, decide_true, if_true]; rfl
    · simp only [e, decide_false, Bool.false_eq_true, if_false]
      have e6 : C.2.2.1 = false := hd
      show (C.1, C.2.1, false, C.2.2.2.1, C.2.2.2.2) = C
      rw [← e6]
theorem kac_step {n : Nat} (hn : n ≤ 48) {Cs : List kC} {C : kC} (hC : kI C) : kcap n (kji (kac n Cs) C) = kac n (Cs ++ [C]) := by
  have hU : kjm (Cs ++ [C]) = kunion (kjm Cs) C.m := kjm_app Cs C
  have hr : (fun y => max (kfold (kjp Cs) (min (kjp Cs) C.p) (kjr (kjp Cs) Cs) y) (kfold C.p (min (kjp Cs) C.p) C.r y)) = kjr (kjp (Cs ++ [C])) (Cs ++ [C]) := by
    rw [kjr_app, kjp_app, kjr_fold (Nat.min_le_left _ _) Cs (kjp_le Cs).2]
  have key : kcap n (kji (kac n Cs) C) = (kjp (Cs ++ [C]), kjl (Cs ++ [C]), kjd (Cs ++ [C]) || decide (n < (kjm (Cs ++ [C])).length), if kjd (Cs ++ [C]) || decide (n < (kjm (Cs ++ [C])).length) then [] else kjm (Cs ++ [C]), kjr (kjp (Cs ++ [C])) (Cs ++ [C])) := by
    rw [← hr, kjp_app, kjl_app, kjd_app, hU]
    have hlen := kunion_len C.m (kjm Cs)
    by_cases e0 : kjd Cs = true
    · have e1 : kac n Cs = (kjp Cs, kjl Cs, true, [], kjr (kjp Cs) Cs) := by unfold kac; rw [e0]; simp
      rw [e1, e0]
      simp only [kji, kC.d, kC.p, kC.l, kC.r, kC.m, Bool.true_or, if_true, kcap, Bool.not_true, Bool.false_and, Bool.false_eq_true, if_false]
    · have e0 : kjd Cs = false := by simpa using e0
      by_cases e2 : n < (kjm Cs).length
      · have e1 : kac n Cs = (kjp Cs, kjl Cs, true, [], kjr (kjp Cs) Cs) := by unfold kac; rw [e0]; simp [e2]
        have e3 : n < (kunion (kjm Cs) C.m).length := by omega
        rw [e1, e0]
        simp only [kji, kC.d, kC.p, kC.l, kC.r, kC.m, Bool.true_or, if_true, kcap, Bool.not_true, Bool.false_and, Bool.false_eq_true, if_false]
        have e3' : n < (kunion (kjm Cs) C.2.2.2.1).length := e3
        simp only [e3', decide_true, Bool.or_true, if_true]
      · have e1 : kac n Cs = (kjp Cs, kjl Cs, false, kjm Cs, kjr (kjp Cs) Cs) := by unfold kac; rw [e0]; simp [e2]
        rw [e1, e0]
        cases hd : C.d with
        | true =>
          have hd' : C.2.2.1 = true := hd
          simp only [kji, kC.d, kC.p, kC.l, kC.r, kC.m, hd', Bool.false_or, Bool.or_true, Bool.true_or, if_true, kcap, Bool.not_true, Bool.false_and, Bool.false_eq_true, if_false]
        | false =>
          have hd' : C.2.2.1 = false := hd
          by_cases e5 : n < (kunion (kjm Cs) C.m).length
          · have e5' : n < (kunion (kjm Cs) C.2.2.2.1).length := e5
            by_cases e6 : 64 < (kunion (kjm Cs) C.m).length
            · have e6' : 64 < (kunion (kjm Cs) C.2.2.2.1).length := e6
              simp only [kji, kC.d, kC.p, kC.l, kC.r, kC.m, hd', Bool.false_or, e6', decide_true, if_true, kcap, Bool.not_true, Bool.false_and, Bool.false_eq_true, if_false, e5']
            · have e6' : ¬ 64 < (kunion (kjm Cs) C.2.2.2.1).length := e6
              simp only [kji, kC.d, kC.p, kC.l, kC.r, kC.m, hd', Bool.false_or, e6', decide_false, Bool.false_eq_true, if_false, kcap, Bool.not_false, Bool.true_and, e5', decide_true, if_true, kdense]
          · have e5' : ¬ n < (kunion (kjm Cs) C.2.2.2.1).length := e5
            have e6' : ¬ 64 < (kunion (kjm Cs) C.2.2.2.1).length := by omega
            simp only [kji, kC.d, kC.p, kC.l, kC.r, kC.m, hd', Bool.false_or, e6', decide_false, Bool.false_eq_true, if_false, kcap, Bool.not_false, Bool.true_and, e5']
  exact key
theorem kac_join (Cs : List kC) : kac (kjl Cs) Cs = kjoin Cs := rfl
theorem kjl_le (Cs : List kC) : kjl Cs ≤ 48 ∧ ∀ C ∈ Cs, kjl Cs ≤ C.l := by
  have gen : ∀ (Cs : List kC) (a : Nat), Cs.foldl (fun a C => min a C.l) a ≤ a ∧ ∀ C ∈ Cs, Cs.foldl (fun a C => min a C.l) a ≤ C.l := by
    intro Cs
    induction Cs with
    | nil => intro a; exact ⟨Nat.le_refl _, (fun _ q => by cases q)⟩
    | cons C Cs ih =>
      intro a
      obtain ⟨h1, h2⟩ := ih (min a C.l)
      refine ⟨Nat.le_trans h1 (Nat.min_le_left _ _), fun D hD => ?_⟩
      rcases List.mem_cons.mp hD with rfl | hD
      · exact Nat.le_trans h1 (Nat.min_le_right _ _)
      · exact h2 D hD
  exact gen Cs 48
theorem kjp_ge {Cs : List kC} (h : ∀ C ∈ Cs, 4 ≤ C.p) : 4 ≤ kjp Cs := by
  have gen : ∀ (Cs : List kC) (a : Nat), 4 ≤ a → (∀ C ∈ Cs, 4 ≤ C.p) → 4 ≤ Cs.foldl (fun a C => min a C.p) a := by
    intro Cs
    induction Cs with
    | nil => intro a h _; exact h
    | cons C Cs ih => intro a h hC; exact ih (min a C.p) (by have := hC C List.mem_cons_self; omega) (fun D hD => hC D (List.mem_cons_of_mem _ hD))
  exact gen Cs 8 (by decide) h
theorem kjl_ge {Cs : List kC} (h : ∀ C ∈ Cs, 1 ≤ C.l) : 1 ≤ kjl Cs := by
  have gen : ∀ (Cs : List kC) (a : Nat), 1 ≤ a → (∀ C ∈ Cs, 1 ≤ C.l) → 1 ≤ Cs.foldl (fun a C => min a C.l) a := by
    intro Cs
    induction Cs with
    | nil => intro a h _; exact h
    | cons C Cs ih => intro a h hC; exact ih (min a C.l) (by have := hC C List.mem_cons_self; omega) (fun D hD => hC D (List.mem_cons_of_mem _ hD))
  exact gen Cs 48 (by decide) h
/-- the first n of the counters of a set -/
def kls (S : Nat → kC) (s : Nat) : Nat → List kC
  | 0 => []
  | n + 1 => kls S s n ++ if s.testBit n then [S n] else []
theorem kls_mem {S : Nat → kC} {s : Nat} {C : kC} (n : Nat) (h : C ∈ kls S s n) : ∃ c, c < n ∧ C = S c := by
  induction n with
  | zero => cases h
  | succ n ih =>
    unfold kls at h
    rcases List.mem_append.mp h with q | q
    · obtain ⟨c, h1, h2⟩ := ih q
      exact ⟨c, by omega, h2⟩
    · split at q
      · exact ⟨n, by omega, List.mem_singleton.mp q⟩
      · cases q
theorem kjr_lay {P : Nat} (hP : P ≤ 8) {Cs : List kC} (h : ∀ C ∈ Cs, kI C ∧ C.d = false ∧ P ≤ C.p) : kjr P Cs = klay P (fun _ => 0) (kjm Cs) := by
  have gen : ∀ (Cs : List kC) (a : Nat → Nat) (A : List Nat), (∀ C ∈ Cs, kI C ∧ C.d = false ∧ P ≤ C.p) → a = klay P (fun _ => 0) A → Cs.foldl (fun r C => fun y => max (r y) (kfold C.p P C.r y)) a = klay P (fun _ => 0) (Cs.foldl (fun A C => kunion A C.m) A) := by
    intro Cs
    induction Cs with
    | nil => intro a A _ e; exact e
    | cons C Cs ih =>
      intro a A hC e
      refine ih _ _ (fun D hD => hC D (List.mem_cons_of_mem _ hD)) ?_
      obtain ⟨h1, h2, h3⟩ := hC C List.mem_cons_self
      obtain ⟨a1, a2, a3, a4, a5, a6, a7, a8, a9, a10, a11⟩ := h1
      dsimp only
      rw [a11 h2, kfold_lay (by omega) h3 a8, e]
      exact klay_max _ _ _ (kunion_mem _ _)
  exact gen Cs _ [] h rfl
theorem kjr_bounds {P : Nat} {Cs : List kC} (h : ∀ C ∈ Cs, kI C ∧ P ≤ C.p) : (∀ y, kjr P Cs y ≤ 33 - P) ∧ ∀ y, 2 ^ P ≤ y → kjr P Cs y = 0 := by
  have gen : ∀ (Cs : List kC) (a : Nat → Nat), (∀ C ∈ Cs, kI C ∧ P ≤ C.p) → (∀ y, a y ≤ 33 - P) → (∀ y, 2 ^ P ≤ y → a y = 0) → (∀ y, Cs.foldl (fun r C => fun y => max (r y) (kfold C.p P C.r y)) a y ≤ 33 - P) ∧ ∀ y, 2 ^ P ≤ y → Cs.foldl (fun r C => fun y => max (r y) (kfold C.p P C.r y)) a y = 0 := by
    intro Cs
    induction Cs with
    | nil => intro a _ h1 h2; exact ⟨h1, h2⟩
    | cons C Cs ih =>
      intro a hC h1 h2
      obtain ⟨g1, g3⟩ := hC C List.mem_cons_self
      obtain ⟨a1, a2, a3, a4, a5, a6, a7, a8, a9, a10, a11⟩ := g1
      refine ih _ (fun D hD => hC D (List.mem_cons_of_mem _ hD)) (fun y => ?_) (fun y hy => ?_)
      · exact Nat.max_le.mpr ⟨h1 y, kfold_bound g3 (by omega) a5 y⟩
      · show max (a y) (kfold C.p P C.r y) = 0
        rw [h2 y hy, kfold_zero g3 _ hy]
        rfl
  exact gen Cs _ h (fun _ => Nat.zero_le _) (fun _ _ => rfl)
theorem kjm_mem (Cs : List kC) (x : Nat) : x ∈ kjm Cs ↔ ∃ C ∈ Cs, x ∈ C.m := by
  have gen : ∀ (Cs : List kC) (A : List Nat), x ∈ Cs.foldl (fun A C => kunion A C.m) A ↔ x ∈ A ∨ ∃ C ∈ Cs, x ∈ C.m := by
    intro Cs
    induction Cs with
    | nil => intro A; simp
    | cons C Cs ih =>
      intro A
      rw [List.foldl_cons, ih, kunion_mem]
      simp only [List.mem_cons, exists_eq_or_imp, or_assoc]
  rw [show kjm Cs = Cs.foldl (fun A C => kunion A C.m) [] from rfl, gen]
  simp
theorem kI_join {Cs : List kC} (h : ∀ C ∈ Cs, kI C) : kI (kjoin Cs) := by
  obtain ⟨p1, p2⟩ := kjp_le Cs
  obtain ⟨b1, b2⟩ := kjr_bounds (P := kjp Cs) (Cs := Cs) (fun C hC => ⟨h C hC, p2 C hC⟩)
  have g1 : 4 ≤ kjp Cs := kjp_ge (fun C hC => (h C hC).1)
  have g2 : 1 ≤ kjl Cs := kjl_ge (fun C hC => (h C hC).2.2.1)
  unfold kjoin
  by_cases e : (kjd Cs || decide (kjl Cs < (kjm Cs).length)) = true
  · rw [if_pos e, e]
    exact ⟨g1, p1, g2, (kjl_le Cs).1, b1, b2, fun _ => rfl, (fun _ q => by cases q), List.Pairwise.nil, Nat.zero_le _, (fun q => by cases q)⟩
  · have e' : (kjd Cs || decide (kjl Cs < (kjm Cs).length)) = false := by simpa using e
    rw [if_neg e, e']
    simp only [Bool.or_eq_false_iff, decide_eq_false_iff_not] at e'
    refine ⟨g1, p1, g2, (kjl_le Cs).1, b1, b2, (fun q => by cases q), fun x hx => ?_, kjm_srt Cs, ?_, fun _ => ?_⟩
    · obtain ⟨C, hC, hx⟩ := (kjm_mem Cs x).mp hx
      exact (h C hC).2.2.2.2.2.2.2.1 x hx
    · show (kjm Cs).length ≤ kjl Cs
      omega
    · refine kjr_lay p1 (fun C hC => ⟨h C hC, ?_, p2 C hC⟩)
      have := e'.1
      unfold kjd at this
      have h3 := List.any_eq_false.mp this C hC
      simpa using h3
theorem kI_ls {S : Nat → kC} {s n : Nat} (h : ∀ c, c < n → kI (S c)) : ∀ C ∈ kls S s n, kI C := by
  intro C hC
  obtain ⟨c, h1, rfl⟩ := kls_mem n hC
  exact h c h1
