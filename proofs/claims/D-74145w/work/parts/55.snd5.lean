/-! SOUNDNESS: heaps grow -/
def zoh (o : zF ⊕ (zR ⊕ zK)) : zH := match o with
  | .inl g => g.2.2.2
  | .inr (.inl r) => r.2
  | .inr (.inr k) => k.2.2.2.2.2.2
def zMn (f : zI) : Prop := ∀ ls st h o, f ls st h = some o → gMon h (zoh o)
theorem gMon_up {h : zH} {a : Nat} {e e0 : zE} (ha : h.1 a = some (true, e0)) : gMon h (zup h a e) := ⟨fun q hq => (gWr_zup ha q).mp hq, Nat.le_refl _, Nat.le_refl _, rfl⟩
theorem gMon_push (h : zH) (e : zE) (n : Nat) : gMon h (zpush h e n) := ⟨fun _ hq => gWr_push hq, Nat.le_succ _, Nat.le_add_right _ _, rfl⟩
theorem zm_X : zMn zX := fun _ _ _ _ e => by cases e
theorem zm_p (f : zP) (n : Nat) : zMn (zi_p f n) := by
  intro ls st h o e
  unfold zi_p at e
  split at e
  · cases e; exact gMon.rf _
  · cases e
theorem zm_il (k n : Nat) : zMn (zi_il k n) := by
  intro ls st h o e
  unfold zi_il at e
  split at e
  · cases e; exact gMon.rf _
  · cases e
theorem zm_ll (k n : Nat) : zMn (zi_ll k n) := by
  intro ls st h o e
  unfold zi_ll at e
  split at e
  · cases e; exact gMon.rf _
  · cases e
theorem zm_al (k n : Nat) : zMn (zi_al k n) := by
  intro ls st h o e
  unfold zi_al at e
  split at e
  · cases e; exact gMon.rf _
  · cases e; exact gMon.rf _
  · cases e
theorem zm_is (d : Bool) (k n : Nat) : zMn (zi_is d k n) := by
  intro ls st h o e
  unfold zi_is at e
  split at e
  · split at e
    · cases e; exact gMon.rf _
    · cases e
  · cases e
theorem zm_as (d : Bool) (k n : Nat) : zMn (zi_as d k n) := by
  intro ls st h o e
  unfold zi_as at e
  split at e
  · split at e
    · cases e; exact gMon.rf _
    · cases e
  · cases e
theorem zm_lst (d : Bool) (k n : Nat) : zMn (zi_lst d k n) := by
  intro ls st h o e
  unfold zi_lst at e
  split at e
  · split at e
    · cases e; exact gMon.rf _
    · cases e
  · cases e
theorem zm_inc (k : Nat) (c : Int32) (n : Nat) : zMn (zi_inc k c n) := by
  intro ls st h o e
  unfold zi_inc at e
  split at e
  · split at e
    · cases e; exact gMon.rf _
    · cases e
  · cases e
theorem zm_b1 (p : Int32 → Bool) (t n : Nat) : zMn (zi_b1 p t n) := by
  intro ls st h o e
  unfold zi_b1 at e
  split at e
  · cases e; exact gMon.rf _
  · cases e
theorem zm_b2 (p : Int32 → Int32 → Bool) (t n : Nat) : zMn (zi_b2 p t n) := by
  intro ls st h o e
  unfold zi_b2 at e
  split at e
  · cases e; exact gMon.rf _
  · cases e
theorem zm_sw (f : Int32 → Nat) : zMn (zi_sw f) := by
  intro ls st h o e
  unfold zi_sw at e
  split at e
  · cases e; exact gMon.rf _
  · cases e
theorem zm_get (c k n : Nat) : zMn (zi_get c k n) := by
  intro ls st h o e
  unfold zi_get at e
  split at e
  · split at e
    · cases e; exact gMon.rf _
    · cases e
  · cases e
theorem zm_put (c k ty n : Nat) : zMn (zi_put c k ty n) := by
  intro ls st h o e
  unfold zi_put at e
  split at e
  · split at e
    · rename_i hv
      cases e
      obtain ⟨fs, hh, -, -, rfl⟩ := zput_spec hv
      exact gMon_up hh
    · cases e
  · cases e
theorem zm_ald (t n : Nat) : zMn (zi_ald t n) := by
  intro ls st h o e
  unfold zi_ald at e
  split at e
  · split at e
    · cases e; exact gMon.rf _
    · cases e
  · cases e
theorem zm_ast (t n : Nat) : zMn (zi_ast t n) := by
  intro ls st h o e
  unfold zi_ast at e
  split at e
  · split at e
    · rename_i hv
      cases e
      obtain ⟨n', f, w, hh, -, -, -, rfl⟩ := zast_spec hv
      exact gMon_up hh
    · cases e
  · cases e
theorem zm_len (n : Nat) : zMn (zi_len n) := by
  intro ls st h o e
  unfold zi_len at e
  split at e
  · split at e
    · cases e; exact gMon.rf _
    · cases e
  · cases e
theorem zm_newa (t n : Nat) : zMn (zi_newa t n) := by
  intro ls st h o e
  unfold zi_newa at e
  split at e
  · split at e
    · rename_i hv
      cases e
      unfold znew at hv
      split at hv
      · cases hv
      · cases hv
        exact gMon_push _ _ _
    · cases e
  · cases e
theorem gMon_rows (h : zH) (k : Nat) : ∀ n, gMon h (zrows h k n)
  | 0 => gMon.rf _
  | n + 1 => (gMon_rows h k n).trans (gMon_push _ _ _)
theorem zm_grid (a b n : Nat) : zMn (zi_grid a b n) := by
  intro ls st h o e
  unfold zi_grid at e
  split at e
  · split at e
    · cases e
      exact (gMon_push _ _ _).trans (gMon_rows _ _ _)
    · cases e
  · cases e
theorem zm_new (c : Nat) (fs : List Value) (n : Nat) : zMn (zi_new c fs n) := by
  intro ls st h o e
  cases e
  exact gMon_push _ _ _
theorem zm_env (j n : Nat) : zMn (zi_env j n) := by
  intro ls st h o e
  cases e
  exact gMon.rf _
theorem zm_cp (n : Nat) : zMn (zi_cp n) := by
  intro ls st h o e
  unfold zi_cp at e
  split at e
  · split at e
    · rename_i hv
      cases e
      unfold zcp at hv
      split at hv
      · split at hv
        · rename_i hb _
          cases hv
          exact gMon_up hb
        · cases hv
      · cases hv
    · cases e
  · cases e
theorem zm_c (k na : Nat) (hd : Option (Nat × Nat × Nat)) (n : Nat) : zMn (zi_c k na hd n) := by
  intro ls st h o e
  unfold zi_c at e
  split at e
  · cases e; exact gMon.rf _
  · cases e
theorem zm_r (k na : Nat) (hd : Option (Nat × Nat × Nat)) (n : Nat) : zMn (zi_r k na hd n) := by
  intro ls st h o e
  unfold zi_r at e
  split at e
  · split at e
    · cases e; exact gMon.rf _
    · cases e
  · cases e
theorem zm_oi (n : Nat) : zMn (zi_oi n) := by
  intro ls st h o e
  unfold zi_oi at e
  split at e
  · cases e; exact gMon.rf _
  · cases e
theorem zm_v (c k na : Nat) (hd : Option (Nat × Nat × Nat)) (n : Nat) : zMn (zi_v c k na hd n) := by
  intro ls st h o e
  unfold zi_v at e
  split at e
  · split at e
    · cases e; exact gMon.rf _
    · cases e
  · cases e
theorem zm_f (l : List (Nat × Nat)) (na n : Nat) : zMn (zi_f l na n) := by
  intro ls st h o e
  unfold zi_f at e
  split at e
  · split at e
    · split at e
      · cases e; exact gMon.rf _
      · cases e
    · cases e
  · cases e
theorem zm_lam (c na n : Nat) : zMn (zi_lam c na n) := by
  intro ls st h o e
  unfold zi_lam at e
  split at e
  · cases e; exact gMon_push _ _ _
  · cases e
theorem zm_dv (f : Int32 → Int32 → Int32) (n : Nat) : zMn (zi_dv f n) := by
  intro ls st h o e
  unfold zi_dv at e
  split at e
  · split at e
    · cases e
    · cases e; exact gMon.rf _
  · cases e
theorem zm_ldv (f : Int64 → Int64 → Int64) (n : Nat) : zMn (zi_ldv f n) := by
  intro ls st h o e
  unfold zi_ldv at e
  split at e
  · split at e
    · cases e
    · cases e; exact gMon.rf _
  · cases e
theorem zm_ret0 : zMn zi_ret0 := by
  intro ls st h o e
  unfold zi_ret0 at e
  split at e
  · cases e; exact gMon.rf _
  · cases e
theorem zm_iret : zMn zi_iret := by
  intro ls st h o e
  unfold zi_iret at e
  split at e
  · cases e; exact gMon.rf _
  · cases e
theorem zm_lret : zMn zi_lret := by
  intro ls st h o e
  unfold zi_lret at e
  split at e
  · cases e; exact gMon.rf _
  · cases e
theorem zm_aret : zMn zi_aret := by
  intro ls st h o e
  unfold zi_aret at e
  split at e
  · cases e; exact gMon.rf _
  · cases e
theorem zm_retz : zMn zi_retz := by
  intro ls st h o e
  unfold zi_retz at e
  split at e
  · split at e
    · cases e; exact gMon.rf _
    · cases e
  · cases e
theorem zm_retc : zMn zi_retc := by
  intro ls st h o e
  unfold zi_retc at e
  split at e
  · split at e
    · cases e; exact gMon.rf _
    · cases e
  · cases e
theorem zm_retb : zMn zi_retb := by
  intro ls st h o e
  unfold zi_retb at e
  split at e
  · split at e
    · cases e; exact gMon.rf _
    · cases e
  · cases e
theorem zm_thr : zMn zi_thr := by
  intro ls st h o e
  unfold zi_thr at e
  split at e
  · split at e
    · cases e; exact gMon.rf _
    · cases e
  · cases e
theorem zm_lamc (j n : Nat) : zMn (zi_lamc j n) := by
  intro ls st h o e
  unfold zi_lamc at e
  split at e
  · cases e; exact gMon.rf _
  · cases e
theorem zm_nse : zMn zi_nse := by
  intro ls st h o e
  unfold zi_nse at e
  split at e
  · cases e
    exact gMon_push _ _ _
  · cases e
theorem zrun_mon {pg : List zM} (hall : ∀ M pc f, zat pg M pc = some f → zMn f) : ∀ n M g r, zrun pg n M g = some r → gMon g.2.2.2 r.2 := by
  intro n
  induction n with
  | zero => intro M g r e; cases e
  | succ n ih =>
    intro M g r e
    have hin : ∀ k as h r, zin pg (zrun pg n) k as h = some r → gMon h r.2 := by
      intro k as h r e
      unfold zin at e
      split at e
      · exact ih _ _ _ e
      · cases e
    have e : zstep pg (zrun pg n) M g = some r := e
    unfold zstep at e
    split at e
    · cases e
    · rename_i f hf
      have hm := hall M g.1 f hf
      split at e
      · cases e
      · rename_i g' hg
        exact (hm _ _ _ _ hg).trans (ih _ _ _ e)
      · rename_i r' hg
        cases e
        exact hm _ _ _ _ hg
      · rename_i k as hd n' ls st h hg
        have h1 := hm _ _ _ _ hg
        split at e
        · cases e
        · rename_i hc
          exact (h1.trans (hin _ _ _ _ hc)).trans (ih _ _ _ e)
        · rename_i hc
          split at e
          · cases e
          · cases e
            exact h1.trans (hin _ _ _ _ hc)
          · exact (h1.trans (hin _ _ _ _ hc)).trans (ih _ _ _ e)
