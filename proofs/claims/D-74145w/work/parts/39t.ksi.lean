/-! the invariant is kept by every call -/
theorem kSI.c {S : kS} (h : kSI S) (k : Nat) {C : kC} (hC : kI C) : kSI (S.s_c k C) := by
  refine ⟨fun c hc => ?_, h.2⟩
  show kI (if c = k then C else S.c c)
  by_cases e : c = k
  · rw [if_pos e]; exact hC
  · rw [if_neg e]; exact h.1 c hc
theorem kSI.w' {S : kS} (h : kSI S) {w : List Int64} (hw : w.length ≤ 6) : kSI (S.s_w w) := ⟨h.1, h.2.1, h.2.2.1, hw⟩
theorem kSI.t' {S : kS} (h : kSI S) {t : List Nat} (h1 : t.length ≤ 600) (h2 : ∀ x ∈ t, x < 256) : kSI (S.s_t t) := ⟨h.1, h1, h2, h.2.2.2⟩
theorem kSI.t0 {S : kS} (h : kSI S) : kSI (S.s_t []) := h.t' (Nat.zero_le _) (fun x hx => absurd hx List.not_mem_nil)
theorem kbd_kN {x : Int32} {lo hi : Nat} (h : kbd x lo hi = true) (hh : hi < 2147483648) : lo ≤ kN x ∧ kN x ≤ hi := by
  rcases kbd_cases x lo hi with e | ⟨k, h1, h2, rfl⟩
  · rw [h] at e; cases e
  · rw [kN_nI (by omega)]; exact ⟨h1, h2⟩
theorem kbd_c {S : kS} (h : kSI S) {c : Int32} (e : kbd c 0 5 = true) : kI (S.c (kN c)) := h.1 _ (by have := (kbd_kN e (by decide)).2; omega)
theorem kand2 {a b : Bool} (h : (a && b) = true) : a = true ∧ b = true := Bool.and_eq_true_iff.mp h
theorem kand3 {a b c : Bool} (h : (a && b && c) = true) : a = true ∧ b = true ∧ c = true := ⟨(kand2 (kand2 h).1).1, (kand2 (kand2 h).1).2, (kand2 h).2⟩
theorem i_mixes {S : kS} (h : kSI S) (a b : Int32) : kSI (q_mixes S a b).2 := by unfold q_mixes; split <;> exact h
theorem i_place {S : kS} (h : kSI S) (a b : Int32) : kSI (q_place S a b).2 := by
  unfold q_place; split
  · exact h.w' (show 1 ≤ 6 by decide)
  · exact h
theorem i_opens {S : kS} (h : kSI S) (c p l : Int32) : kSI (q_opens S c p l).2 := by
  unfold q_opens; split
  · rename_i e
    obtain ⟨e1, e2, e3⟩ := kand3 e
    have g2 := kbd_kN e2 (by decide)
    have g3 := kbd_kN e3 (by decide)
    exact h.c _ (kI_open g2.1 g2.2 g3.1 g3.2)
  · exact h
theorem i_adds {S : kS} (h : kSI S) (c t : Int32) : kSI (q_adds S c t).2 := by
  unfold q_adds; split
  · rename_i e
    exact h.c _ (kI_comes (kbd_c h e) (kmk_lt S t))
  · exact h
theorem i_runs {S : kS} (h : kSI S) (c a n s : Int32) : kSI (q_runs S c a n s).2 := by
  unfold q_runs; split
  · rename_i e
    exact h.c _ (kI_rn (fun k => kms_lt _ _ _ _ _) (kbd_c h (kand2 e).1) _)
  · exact h
theorem i_end {S : kS} (h : kSI S) (n : Int32) : kSI (q_end S n).2 := by
  unfold q_end; split
  · exact h.t' (Nat.le_trans (List.length_take_le' _ _) h.2.1) (fun x hx => h.2.2.1 x (List.mem_of_mem_take hx))
  · exact h
theorem i_dense {S : kS} (h : kSI S) (c : Int32) : kSI (q_dense S c).2 := by
  unfold q_dense; split
  · rename_i e
    split
    · exact h
    · exact h.c _ (kI_dense (kbd_c h e))
  · exact h
theorem i_folds {S : kS} (h : kSI S) (c p : Int32) : kSI (q_folds S c p).2 := by
  unfold q_folds; split
  · rename_i e
    obtain ⟨e1, e2⟩ := kand2 e
    have iC := kbd_c h e1
    have g2 := kbd_kN e2 (by have := iC.2.1; omega)
    split
    · exact h
    · exact h.c _ (kI_fold iC g2.1 g2.2)
  · exact h
theorem i_copies {S : kS} (h : kSI S) (c k : Int32) : kSI (q_copies S c k).2 := by
  unfold q_copies; split
  · rename_i e
    exact h.c _ (kbd_c h (kand2 e).1)
  · exact h
theorem i_joins {S : kS} (h : kSI S) (a b k : Int32) : kSI (q_joins S a b k).2 := by
  unfold q_joins; split
  · rename_i e
    obtain ⟨e1, e2, e3⟩ := kand3 e
    exact h.c _ (kI_two (kbd_c h e1) (kbd_c h e2))
  · exact h
theorem i_gathers {S : kS} (h : kSI S) (s k : Int32) : kSI (q_gathers S s k).2 := by
  unfold q_gathers; split
  · exact h.c _ (kI_join (kI_ls h.1))
  · exact h
theorem i_swaps {S : kS} (h : kSI S) (a b : Int32) : kSI (q_swaps S a b).2 := by
  unfold q_swaps; split
  · rename_i e
    obtain ⟨e1, e2⟩ := kand2 e
    exact (h.c _ (kbd_c h e2)).c _ (kbd_c h e1)
  · exact h
theorem i_sign {S : kS} (h : kSI S) (v : Int32) : kSI (q_sign S v).2 := by
  unfold q_sign; split
  · exact h
  · rename_i e
    refine h.t' (by rw [List.length_append]; simp only [List.length_cons, List.length_nil]; omega) (fun x hx => ?_)
    rcases List.mem_append.mp hx with q | q
    · exact h.2.2.1 x q
    · simp only [List.mem_cons, List.not_mem_nil, or_false] at q
      rcases q with q | q | q | q <;> (rw [q]; exact Nat.mod_lt _ (by decide))
theorem i_takes {S : kS} (h : kSI S) (c t : Int32) : kSI (q_takes S c t).2 := by
  unfold q_takes; split
  · rename_i e
    split
    · exact h
    · exact h.c _ (kI_drop _ (kbd_c h e))
  · exact h
theorem kI_flt {A : kC} (iA : kI A) {p l : Nat} (h4 : 4 ≤ p) (h8 : p ≤ 8) (h1 : 1 ≤ l) (h48 : l ≤ 48) (f : Nat → Bool) (hl : (A.m.filter f).length ≤ l) : kI (kspr p l (A.m.filter f)) :=
  kI_sparse h4 h8 h1 h48 (fun m hm => iA.2.2.2.2.2.2.2.1 m (List.mem_filter.mp hm).1) (List.Pairwise.filter _ iA.2.2.2.2.2.2.2.2.1) hl
theorem knd_le {L : List Nat} (hs : ksrt L) : ∀ (M : List Nat), (∀ x ∈ L, x ∈ M) → L.length ≤ M.length := by
  induction L with
  | nil => intro M _; exact Nat.zero_le _
  | cons a l ih =>
    intro M hM
    obtain ⟨h1, h2⟩ := List.pairwise_cons.mp hs
    have ha : a ∈ M := hM a (List.mem_cons_self ..)
    have hl := ih h2 (M.erase a) (fun x hx => (List.mem_erase_of_ne (by have := h1 x hx; omega)).mpr (hM x (List.mem_cons_of_mem _ hx)))
    rw [List.length_erase_of_mem ha] at hl
    have := List.length_pos_of_mem ha
    rw [List.length_cons]
    omega
theorem i_keeps {S : kS} (h : kSI S) (a b k : Int32) : kSI (q_keeps S a b k).2 := by
  unfold q_keeps; split
  · rename_i e
    obtain ⟨e1, e2, e3⟩ := kand3 e
    have iA := kbd_c h e1
    have iB := kbd_c h e2
    split
    · exact h
    · have := iA.1; have := iA.2.1; have := iA.2.2.1; have := iA.2.2.2.1
      have := iB.1; have := iB.2.1; have := iB.2.2.1; have := iB.2.2.2.1
      have f1 : ((S.c (kN a)).m.filter (fun x => decide (x ∈ (S.c (kN b)).m) == true)).length ≤ (S.c (kN a)).m.length := List.length_filter_le _ _
      have f2 : ((S.c (kN a)).m.filter (fun x => decide (x ∈ (S.c (kN b)).m) == true)).length ≤ (S.c (kN b)).m.length := knd_le (List.Pairwise.filter _ iA.2.2.2.2.2.2.2.2.1) _ (fun x hx => by simpa using (List.mem_filter.mp hx).2)
      have g1 := iA.2.2.2.2.2.2.2.2.2.1
      have g2 := iB.2.2.2.2.2.2.2.2.2.1
      exact h.c _ (kI_flt iA (by omega) (by omega) (by omega) (by omega) _ (by omega))
  · exact h
theorem i_less {S : kS} (h : kSI S) (a b k : Int32) : kSI (q_less S a b k).2 := by
  unfold q_less; split
  · rename_i e
    obtain ⟨e1, e2, e3⟩ := kand3 e
    have iA := kbd_c h e1
    split
    · exact h
    · exact h.c _ (kI_flt iA iA.1 iA.2.1 iA.2.2.1 iA.2.2.2.1 _ (Nat.le_trans (List.length_filter_le _ _) iA.2.2.2.2.2.2.2.2.2.1))
  · exact h
theorem i_splits {S : kS} (h : kSI S) (c j k : Int32) : kSI (q_splits S c j k).2 := by
  unfold q_splits; split
  · rename_i e
    obtain ⟨e1, e2, e3⟩ := kand3 e
    have iA := kbd_c h e1
    split
    · exact h
    · split
      · exact h
      · exact (h.c _ (kI_flt iA iA.1 iA.2.1 iA.2.2.1 iA.2.2.2.1 _ (Nat.le_trans (List.length_filter_le _ _) iA.2.2.2.2.2.2.2.2.2.1))).c _ (kI_flt iA iA.1 iA.2.1 iA.2.2.1 iA.2.2.2.1 _ (Nat.le_trans (List.length_filter_le _ _) iA.2.2.2.2.2.2.2.2.2.1))
  · exact h
theorem i_guess {S : kS} (h : kSI S) (c : Int32) : kSI (q_guess S c).2 := by
  unfold q_guess; split
  · exact h.w' (by simp only [List.length_cons, List.length_nil]; decide)
  · exact h
theorem i_roughly {S : kS} (h : kSI S) (c : Int32) : kSI (q_roughly S c).2 := by
  unfold q_roughly; split
  · exact h.w' (by simp only [List.length_cons, List.length_nil]; decide)
  · exact h
theorem i_ranks {S : kS} (h : kSI S) (c v : Int32) : kSI (q_ranks S c v).2 := by
  unfold q_ranks; split
  · exact h.w' (by simp only [List.length_cons, List.length_nil]; decide)
  · exact h
theorem i_common {S : kS} (h : kSI S) (a b : Int32) : kSI (q_common S a b).2 := by
  unfold q_common; split
  · exact h.w' (by simp only [List.length_cons, List.length_nil]; decide)
  · exact h
theorem i_nearest {S : kS} (h : kSI S) (c : Int32) : kSI (q_nearest S c).2 := by
  unfold q_nearest; split
  · exact h.w' (by simp only [List.length_cons, List.length_nil]; decide)
  · exact h
theorem i_over {S : kS} (h : kSI S) (s : Int32) : kSI (q_over S s).2 := by
  unfold q_over; split
  · exact h.w' (by simp only [List.length_cons, List.length_nil]; decide)
  · exact h
theorem i_meet {S : kS} (h : kSI S) (s : Int32) : kSI (q_meet S s).2 := by
  unfold q_meet; split
  · exact h.w' (by simp only [List.length_cons, List.length_nil]; decide)
  · exact h
theorem i_cover {S : kS} (h : kSI S) (s : Int32) : kSI (q_cover S s).2 := by
  unfold q_cover; split
  · exact h.w' (by simp only [List.length_cons, List.length_nil]; decide)
  · exact h
theorem i_unlike {S : kS} (h : kSI S) (a b : Int32) : kSI (q_unlike S a b).2 := by
  unfold q_unlike; split
  · exact h.w' (by simp only [List.length_cons, List.length_nil]; decide)
  · exact h
theorem i_errs {S : kS} (h : kSI S) (p a n s : Int32) : kSI (q_errs S p a n s).2 := by
  unfold q_errs; split
  · exact h.w' (by simp only [List.length_cons, List.length_nil]; decide)
  · exact h
theorem i_would {S : kS} (h : kSI S) (c a n s : Int32) : kSI (q_would S c a n s).2 := by
  unfold q_would; split
  · exact h.w' (by simp only [List.length_cons, List.length_nil]; decide)
  · exact h
theorem i_runsOf {S : kS} (h : kSI S) (c : Int32) : kSI (q_runsOf S c).2 := by
  unfold q_runsOf; split
  · exact h.w' (by simp only [List.length_cons, List.length_nil]; decide)
  · exact h
theorem i_gap {S : kS} (h : kSI S) (c : Int32) : kSI (q_gap S c).2 := by
  unfold q_gap; split
  · exact h.w' (by simp only [List.length_cons, List.length_nil]; decide)
  · exact h
theorem i_apart {S : kS} (h : kSI S) (a b : Int32) : kSI (q_apart S a b).2 := by
  unfold q_apart; split
  · exact h.w' (by simp only [List.length_cons, List.length_nil]; decide)
  · exact h
theorem i_first {S : kS} (h : kSI S) (c a s n : Int32) : kSI (q_first S c a s n).2 := by
  unfold q_first; split
  · split
    · exact h.w' (show 1 ≤ 6 by decide)
    · exact h
  · exact h
theorem i_least {S : kS} (h : kSI S) (a n s e : Int32) : kSI (q_least S a n s e).2 := by
  unfold q_least; split
  · split
    · exact h.w' (show 1 ≤ 6 by decide)
    · exact h
  · exact h
theorem i_reaches {S : kS} (h : kSI S) (c a s v : Int32) : kSI (q_reaches S c a s v).2 := by
  unfold q_reaches; split
  · split
    · exact h.w' (show 1 ≤ 6 by decide)
    · exact h
  · exact h
theorem i_chain {S : kS} (h : kSI S) (s : Int32) : kSI (q_chain S s).2 := by
  unfold q_chain; split
  · refine h.w' ?_
    have : ∀ (G : Nat → Nat) (s c : Nat), (kch G s c).1.length ≤ c := fun G s c => by
      induction c with
      | zero => exact Nat.le_refl _
      | succ c ih =>
        unfold kch
        split
        · rw [List.length_append, List.length_singleton]; omega
        · omega
    exact this _ _ 6
  · exact h
theorem i_order {S : kS} (h : kSI S) : kSI (q_order S).2 := h.w' (Nat.le_of_eq (kor_inv _ 6 (Nat.le_refl _)).2.2)
theorem i_lessers {S : kS} (h : kSI S) (a b k : Int32) : kSI (q_lessers S a b k).2 := by
  unfold q_lessers; split
  · rename_i e
    obtain ⟨e1, e2, e3⟩ := kand3 e
    exact h.c _ (kI_lss (kbd_c h e1) (kbd_c h e2))
  · exact h
theorem i_tells {S : kS} (h : kSI S) (c : Int32) : kSI (q_tells S c).2 := by
  unfold q_tells; split
  · exact h.t0
  · split
    · rename_i e
      exact h.t0.c _ (kI_rn (fun k => kun_lt _) (kbd_c h e) _)
    · exact h.t0
theorem i_replays {S : kS} (h : kSI S) (c : Int32) : kSI (q_replays S c).2 := by
  unfold q_replays; split
  · exact h.t0
  · split
    · exact h.t0.w' (show 1 ≤ 6 by decide)
    · exact h.t0
