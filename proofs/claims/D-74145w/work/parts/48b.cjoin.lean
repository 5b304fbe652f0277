/-! COUNTERS THAT TAKE OTHERS, in plain terms -/
/-- marks that came one by one into an empty one -/
def kst (P l : Nat) (U : List Nat) : kC := (P, l, decide (l < U.length), if l < U.length then [] else U, klay P (fun _ => 0) U)
theorem kst_s {P l : Nat} {U : List Nat} (h : U.length ≤ l) : kst P l U = (P, l, false, U, klay P (fun _ => 0) U) := by
  unfold kst
  rw [decide_eq_false (by omega), if_neg (by omega)]
theorem kst_d {P l : Nat} {U : List Nat} (h : l < U.length) : kst P l U = (P, l, true, [], klay P (fun _ => 0) U) := by
  unfold kst
  rw [decide_eq_true h, if_pos h]
theorem kst_comes (P l : Nat) (U : List Nat) (m : Nat) : kcomes (kst P l U) m = kst P l (if m ∈ U then U else kins m U) := by
  have hr : krs (klay P (fun _ => 0) U) (kpl m P) (krk m P) = klay P (fun _ => 0) (if m ∈ U then U else kins m U) := by
    apply krs_lay
    intro x
    by_cases h : m ∈ U
    · rw [if_pos h]
      exact ⟨Or.inr, fun q => q.elim (fun z => by rw [z]; exact h) id⟩
    · rw [if_neg h]
      exact kins_mem m x U
  by_cases h : l < U.length
  · have hl : l < (if m ∈ U then U else kins m U).length := by
      by_cases h2 : m ∈ U
      · rw [if_pos h2]; exact h
      · rw [if_neg h2, kins_len]; omega
    rw [kst_d h, kst_d hl, ← hr]
    rfl
  · by_cases h2 : m ∈ U
    · rw [if_pos h2, kst_s (by omega)]
      unfold kcomes
      simp only [kPr, Bool.false_eq_true, if_false, h2, if_true]
    · rw [if_neg h2, kst_s (by omega)]
      rw [if_neg h2] at hr
      unfold kcomes
      simp only [kPr, Bool.false_eq_true, if_false, h2, hr]
      unfold kst
      rw [kins_len]
theorem kst_fold (P l : Nat) (B : List Nat) : ∀ U, B.foldl kcomes (kst P l U) = kst P l (kunion U B) := by
  induction B with
  | nil => intro U; rfl
  | cons m B ih => intro U; rw [List.foldl_cons, kst_comes, ih]; rfl
theorem kst_nil (P l : Nat) : kst P l [] = kopen P l := by
  rw [kst_s (Nat.zero_le _)]
  rfl
theorem klay_max' (p : Nat) (r : Nat → Nat) (L : List Nat) : klay p r L = fun y => max (r y) (klay p (fun _ => 0) L y) := by
  apply kfn_ext
  intro y b
  rw [Nat.max_le, klay_le, klay_le]
  exact ⟨fun h => ⟨h.1, Nat.zero_le _, h.2⟩, fun h => ⟨h.1, h.2.2⟩⟩
theorem ktk_open {C : kC} (iC : kI C) {q : Nat} (hq : q ≤ C.p) : ktk (kopen q C.l) C = kfoldC C q := by
  obtain ⟨a1, a2, a3, a4, a5, a6, a7, a8, a9, a10, a11⟩ := iC
  unfold ktk
  cases hd : C.d with
  | false =>
    show C.m.foldl kcomes (kopen q C.l) = _
    rw [← kst_nil, kst_fold, kunion_nil a9, kst_s a10]
    unfold kfoldC
    rw [hd, a11 hd, kfold_lay (by omega) hq a8]
  | true =>
    show (q, C.l, true, [], kfo (C.p - q) C.r (fun _ => 0) (2 ^ C.p)) = _
    unfold kfoldC
    rw [hd, a7 hd]
    rfl
theorem kjoin_one {C : kC} (iC : kI C) : kjoin [C] = C := by
  rw [← kac_join, kac_one iC iC.2.2.2.1]
  have hl : kjl [C] = C.l := by
    show min 48 C.l = C.l
    have := iC.2.2.2.1
    omega
  unfold kcap
  rw [hl, decide_eq_false (by have := iC.2.2.2.2.2.2.2.2.2.1; omega)]
  simp
/-- those of Cs are taken, of P and l, dense or not at first -/
def kjs (P l : Nat) (d : Bool) (Cs : List kC) : kC := if d then (P, l, true, [], kjr P Cs) else kst P l (kjm Cs)
theorem kjs_step {P l : Nat} (hP : P ≤ 8) {d : Bool} {Cs : List kC} {C : kC} (iC : kI C) (hp : P ≤ C.p) (hd : d = false → C.d = false) : ktk (kjs P l d Cs) C = kjs P l d (Cs ++ [C]) := by
  obtain ⟨a1, a2, a3, a4, a5, a6, a7, a8, a9, a10, a11⟩ := iC
  unfold kjs
  cases d with
  | true =>
    rw [if_pos rfl, if_pos rfl, kjr_app]
    unfold ktk
    cases hC : C.d with
    | true =>
      show (P, l, true, [], kfo (C.p - P) C.r (kjr P Cs) (2 ^ C.p)) = _
      rw [kfo_max]
      rfl
    | false =>
      show (P, l, true, [], klay P (kjr P Cs) C.m) = _
      rw [klay_max', a11 hC, kfold_lay (by omega) hp a8]
  | false =>
    have hC := hd rfl
    rw [if_neg (by decide), if_neg (by decide), kjm_app]
    unfold ktk
    rw [hC]
    by_cases h : l < (kjm Cs).length
    · rw [kst_d h, kst_d (Nat.lt_of_lt_of_le h (kunion_len _ _))]
      show (P, l, true, [], klay P (klay P (fun _ => 0) (kjm Cs)) C.m) = _
      rw [← klay_app, klay_set (M := kunion (kjm Cs) C.m) (fun x => by rw [List.mem_append, kunion_mem])]
    · have e : (kst P l (kjm Cs)).d = false := by rw [kst_s (by omega)]; rfl
      rw [e]
      show C.m.foldl kcomes (kst P l (kjm Cs)) = _
      rw [kst_fold]
theorem kjs_fold {P l : Nat} (hP : P ≤ 8) {d : Bool} (Bs : List kC) : ∀ Cs, (∀ C ∈ Bs, kI C ∧ P ≤ C.p ∧ (d = false → C.d = false)) → Bs.foldl ktk (kjs P l d Cs) = kjs P l d (Cs ++ Bs) := by
  induction Bs with
  | nil => intro Cs _; rw [List.append_nil]; rfl
  | cons C Bs ih =>
    intro Cs h
    obtain ⟨h1, h2, h3⟩ := h C List.mem_cons_self
    rw [List.foldl_cons, kjs_step hP h1 h2 h3, ih _ (fun C hC => h C (List.mem_cons_of_mem _ hC)), List.append_assoc]
    rfl
theorem kjs_nil (P l : Nat) (d : Bool) : kjs P l d [] = (P, l, d, [], fun _ => 0) := by
  unfold kjs
  cases d with
  | true => rfl
  | false => rw [if_neg (by decide)]; exact kst_s (Nat.zero_le _)
theorem kjs_join {Cs : List kC} (h : ∀ C ∈ Cs, kI C) : Cs.foldl ktk (kjp Cs, kjl Cs, kjd Cs, [], fun _ => 0) = kjoin Cs := by
  have hp := kjp_le Cs
  have hd : ∀ C ∈ Cs, kjd Cs = false → C.d = false := fun C hC z => by
    unfold kjd at z
    have := List.any_eq_false.mp z C hC
    simpa using this
  rw [← kjs_nil, kjs_fold hp.1 Cs [] (fun C hC => ⟨h C hC, hp.2 C hC, hd C hC⟩), List.nil_append]
  unfold kjs kjoin
  cases e : kjd Cs with
  | true => simp
  | false =>
    rw [kjr_lay hp.1 (fun C hC => ⟨h C hC, hd C hC e, hp.2 C hC⟩)]
    unfold kst
    simp
