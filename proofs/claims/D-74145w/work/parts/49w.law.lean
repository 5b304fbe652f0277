/-! THE LAW: both sides in one heap -/
/-- where things lie: the script below D, the model's cells and the out array between D's cells and the line B -/
def wZ (D B s o : Nat) (α : Nat → Nat) : Prop := mD α ∧ (∀ j, j ≤ 10 → D + 34 ≤ α j ∧ α j < B) ∧ s < D ∧ D + 34 ≤ o ∧ o < B ∧ ∀ j, j ≤ 10 → o ≠ α j
def wM (α : Nat → Nat) (S : kS) (h : zH) : Prop := ∃ σ, h = mH α σ h ∧ mR6 S σ
def wV (s o n : Nat) (f : Nat → Int32) (h : zH) : Prop := (∃ b g, h.1 s = some (b, .inl (0, n, g)) ∧ ∀ k, k < n → g k = .int (f k)) ∧ ∃ g, h.1 o = some (true, .inl (2, 1, g))
/-- the world after k calls -/
def wW (D B s o n : Nat) (α : Nat → Nat) (f : Nat → Int32) (N M k : Nat) (S : kS) (h : zH) : Prop := dW D B S h ∧ kSI S ∧ wM α S h ∧ wV s o n f h ∧ h.2.1 ≤ N + 9000 * k ∧ h.2.2.1 ≤ M + 100000 * k
theorem mH_self {α : Nat → Nat} {σ : mS} {h : zH} (e : h = mH α σ h) (q : Nat) : h.1 q = (mH α σ h).1 q := congrArg (fun x => x.1 q) e
theorem w_ar {a b N k c : Nat} (h1 : a ≤ b + c) (h2 : b ≤ N + c * k) : a ≤ N + c * (k + 1) := by
  have := Nat.mul_succ c k
  show a ≤ N + c * Nat.succ k
  omega
section WS
variable {D B s o n N M k : Nat} {α : Nat → Nat} {f : Nat → Int32} {S S' : kS} {h h1 : zH}
theorem wM.c (Z : wZ D B s o α) (m : wM α S h) (hB : B ≤ h.2.1) {a b : Nat} (F : hF (dA D B) a b h h1) : wM α S h1 := by
  obtain ⟨hα, z1, z2, z3, z4, z5⟩ := Z
  obtain ⟨σ, e, R⟩ := m
  have c : ∀ j, j ≤ 10 → h1.1 (α j) = (mH α σ h).1 (α j) := fun j hj => by
    have := z1 j hj
    rw [F.2.1 (α j) (by omega) (fun z => by unfold dA at z; omega)]
    exact mH_self e _
  exact ⟨σ, mH_ext hα rfl ((c 0 (by omega)).trans (mH_0 _ _ _)) (fun j h1 h2 => (c j h2).trans (mH_j hα _ _ j h1 h2)) (fun q _ => rfl), R⟩
theorem wV.c (Z : wZ D B s o α) (v : wV s o n f h) (hD : D ≤ h.2.1) (hB : B ≤ h.2.1) {a b : Nat} (F : hF (dA D B) a b h h1) : wV s o n f h1 := by
  obtain ⟨hα, z1, z2, z3, z4, z5⟩ := Z
  obtain ⟨⟨b', g, e1, e2⟩, g', e3⟩ := v
  exact ⟨⟨b', g, (F.2.1 s (by omega) (fun z => by unfold dA at z; omega)).trans e1, e2⟩, g', (F.2.1 o (by omega) (fun z => by unfold dA at z; omega)).trans e3⟩
theorem w_m (Z : wZ D B s o α) (H : dW D B S h) (v : wV s o n f h) (σ : mS) (R : mR6 S σ) : dW D B S (mH α σ h) ∧ wM α S (mH α σ h) ∧ wV s o n f (mH α σ h) := by
  obtain ⟨hα, z1, z2, z3, z4, z5⟩ := Z
  obtain ⟨al, X, r⟩ := H
  obtain ⟨⟨b', g, e1, e2⟩, g', e3⟩ := v
  have b := r.b
  have F : hF (fun q => D + 34 ≤ q ∧ q < B) 0 0 h (mH α σ h) := by
    refine ⟨fun q hq => ?_, fun q _ hq => mH_o σ h (fun j hj z => hq (by rw [z]; exact z1 j hj)), Nat.le_refl _, Nat.le_refl _, Nat.le_refl _, rfl⟩
    have hq : h.2.1 ≤ q := hq
    rw [mH_o σ h (fun j hj z => by have := z1 j hj; omega)]
    exact r.w q hq
  refine ⟨⟨al, X, r.fr F (fun q hq z => by omega) (fun q h1 h2 z => by omega) (fun c hc q hq z => ?_)⟩, ⟨σ, ?_, R⟩, ⟨b', g, (mH_o σ h (fun j hj z => by have := z1 j hj; omega)).trans e1, e2⟩, g', (mH_o σ h (fun j hj => z5 j hj)).trans e3⟩
  · have := r.pl hc
    rcases hq with rfl | rfl | rfl <;> omega
  · exact mH_ext hα rfl (mH_0 _ _ _) (fun j h1 h2 => mH_j hα _ _ j h1 h2) (fun q _ => rfl)
theorem wV.a (v : wV s o n f h) (hn : n < 2147483648) : ∀ k, k < n → zald h s 0 (nI k) = some (.int (f k)) := by
  obtain ⟨⟨b', g, e1, e2⟩, g', e3⟩ := v
  intro k hk
  rw [zald_k e1 hk hn, e2 k hk]
theorem wM.is (m : wM α S h) : zis h (α 0) 3 = true := by
  obtain ⟨σ, e, R⟩ := m
  have := (mH_self e (α 0)).trans (mH_0 _ _ _)
  unfold zis
  rw [this]
  rfl
theorem dW.is (H : dW D B S h) : zis h D 1 = true := by
  obtain ⟨al, X, r⟩ := H
  exact (dG r).2.2.2.2.2.2.2.2.2.2.2.1
/-- a call of the component, then the same call of the model -/
theorem w_step (Z : wZ D B s o α) (W : wW D B s o n α f N M k S h) (hI : kSI S') (hn : n < 2147483648) (Q : dQ D B S' h h1) {mm : Nat} {as : List Value} {r : Option Value} (hm : ∀ σ, mR6 S σ → ∃ σ', zc PG mm as (mH α σ h1) = some (.inl r, mH α σ' h1) ∧ mR6 S' σ') : ∃ h2, zc PG mm as h1 = some (.inl r, h2) ∧ wW D B s o n α f N M (k + 1) S' h2 ∧ (∀ k, k < n → zald h1 s 0 (nI k) = some (.int (f k))) ∧ zis h1 (α 0) 3 = true := by
  obtain ⟨H, hI0, m, v, l1, l2⟩ := W
  obtain ⟨al, X, r0⟩ := H
  have b := r0.b
  obtain ⟨H1, F⟩ := Q
  have m1 := m.c Z b.2 F
  have v1 := v.c Z (by omega) b.2 F
  have i1 := m1.is
  obtain ⟨σ, e, R⟩ := m1
  obtain ⟨σ', c1, R'⟩ := hm σ R
  rw [← e] at c1
  obtain ⟨H2, m2, v2⟩ := w_m Z H1 v1 σ' R'
  have t1 := F.2.2.2.1
  have t2 := F.2.2.2.2.1
  exact ⟨_, c1, ⟨H2, hI, m2, v2, w_ar t1 l1, w_ar t2 l2⟩, v1.a hn, i1⟩
end WS
