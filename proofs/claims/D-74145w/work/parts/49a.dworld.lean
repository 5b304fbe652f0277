/-! THE COMPONENT: its world -/
theorem zasg3 {h : zH} {a : Nat} {t : Bool} {fs : List Value} (e : h.1 a = some (t, .inr (2, fs))) : zasg h 3 (.ref a) = true := by
  show (match h.1 a with
    | some (_, .inr (2, _)) => true
    | _ => false) = true
  rw [e]
  rfl
/-- what is there besides the counters: at, end, thingMany, things, text, row -/
abbrev dX : Type := Int32 × Int32 × Nat × (Nat → Int32) × (Nat → Int32) × (Nat → Int64)
def dX.i (X : dX) : Int32 := X.1
def dX.e (X : dX) : Int32 := X.2.1
def dX.n (X : dX) : Nat := X.2.2.1
def dX.g (X : dX) : Nat → Int32 := X.2.2.2.1
def dX.x (X : dX) : Nat → Int32 := X.2.2.2.2.1
def dX.r (X : dX) : Nat → Int64 := X.2.2.2.2.2
def dfs (D : Nat) (S : kS) (X : dX) : List Value := [.ref (D + 1), .ref (D + 2), .int S.a, .int S.b, .ref (D + 12), .ref (D + 31), .int (nI S.t.length), .int X.i, .int X.e, .ref (D + 32), .int (nI X.n), .ref (D + 33), .int (nI S.w.length)]
/-- the sign of a number below 30 -/
def dZ (h : zH) (D : Nat) : Prop := ∃ x y b b' u v, h.2.2.2 0 = .ref x ∧ x < D ∧ y < D ∧ h.1 x = some (b, .inr (7, [.ref y, .int (nI 0), u, v])) ∧ h.1 y = some (b', .inl (4, 30, fun k => .int (nI (ksg k))))
/-- digits of numbers below 100 -/
def dY (h : zH) (D : Nat) : Prop := ∃ x y b b' f g, h.2.2.2 1 = .ref x ∧ h.2.2.2 2 = .ref y ∧ x < D ∧ y < D ∧ h.1 x = some (b, .inl (4, 100, f)) ∧ h.1 y = some (b', .inl (4, 100, g)) ∧ (∀ k, k < 100 → f k = .int (nI (48 + k % 10))) ∧ ∀ k, k < 100 → g k = .int (nI (48 + k / 10))
/-- lambdas that hold nothing -/
def dL (h : zH) (D : Nat) : Prop := ∀ s, s = 2 ∨ s = 3 ∨ (8 ≤ s ∧ s ≤ 11) → ∃ x b, h.2.2.2 (10 + s) = .ref x ∧ x < D ∧ h.1 x = some (b, .inr (100 + s, []))
/-- what a Throwable is laid with -/
def dI (h : zH) : Prop := ∃ x y, h.2.2.2 3 = .ref x ∧ h.2.2.2 4 = .ref y ∧ ((∃ z, h.2.2.2 5 = .ref z) ∨ h.2.2.2 5 = .null)
def dC (h : zH) (D : Nat) : Prop := dZ h D ∧ dY h D ∧ dL h D ∧ dI h
theorem dC.fr {A : Nat → Prop} {m s : Nat} {h h' : zH} {D : Nat} (e : dC h D) (w : hW h) (F : hF A m s h h') (hA : ∀ q, q < D → ¬ A q) : dC h' D := by
  obtain ⟨⟨x, y, b, b', u, v, e1, e2, e3, e4, e5⟩, ⟨x2, y2, c, c', f, g, g1, g2, g3, g4, g5, g6, g7, g8⟩, l, ⟨x3, y3, i1, i2, i5⟩⟩ := e
  have ee : h'.2.2.2 = h.2.2.2 := F.2.2.2.2.2
  refine ⟨⟨x, y, b, b', u, v, by rw [ee]; exact e1, e2, e3, F.at w e4 (hA _ e2), F.at w e5 (hA _ e3)⟩, ⟨x2, y2, c, c', f, g, by rw [ee]; exact g1, by rw [ee]; exact g2, g3, g4, F.at w g5 (hA _ g3), F.at w g6 (hA _ g4), g7, g8⟩, fun s hs => ?_, ⟨x3, y3, by rw [ee]; exact i1, by rw [ee]; exact i2, by rw [ee]; exact i5⟩⟩
  obtain ⟨x, b, l1, l2, l3⟩ := l s hs
  exact ⟨x, b, by rw [ee]; exact l1, l2, F.at w l3 (hA _ l2)⟩
/-- the counters' places -/
def dcs (al : Nat → Nat) : Nat → Value := fun c => if c < 6 then .ref (al c) else .null
theorem dcs_g {al : Nat → Nat} {c : Nat} (hc : c < 6) : dcs al c = .ref (al c) := if_pos hc
theorem dcs_u {al : Nat → Nat} {k a : Nat} (hk : k < 6) : zfu (dcs al) k (.ref a) = dcs (va_up al k a) := by
  funext y
  unfold zfu dcs va_up
  by_cases q : y = k
  · rw [if_pos q, if_pos q, if_pos (by omega)]
  · rw [if_neg q, if_neg q]
/-- the whole: D's object and arrays, the counters at al -/
def dR (h : zH) (D B : Nat) (al : Nat → Nat) (S : kS) (X : dX) : Prop := hW h ∧ h.1 D = some (true, .inr (1, dfs D S X)) ∧ dT h D ∧ h.1 (D + 12) = some (true, .inl (3, 6, dcs al)) ∧ h.1 (D + 31) = some (true, .inl (0, 600, fun k => .int (X.x k))) ∧ h.1 (D + 32) = some (true, .inl (0, 600, fun k => .int (X.g k))) ∧ h.1 (D + 33) = some (true, .inl (2, 6, fun k => .long (X.r k))) ∧ (∀ c, c < 6 → cN h D (al c) (S.c c)) ∧ (∀ c d, c < 6 → d < 6 → al c = al d → c = d) ∧ (∀ c, c < 6 → (D + 13 ≤ al c ∧ al c + 2 < D + 31) ∨ B ≤ al c) ∧ (D + 34 ≤ B ∧ B ≤ h.2.1) ∧ (∀ k, k < S.t.length → X.x k = nI (S.t.getD k 0)) ∧ (∀ k, k < S.w.length → X.r k = S.w.getD k 0) ∧ dC h D
section DR
variable {h h' : zH} {D B : Nat} {al : Nat → Nat} {S : kS} {X : dX}
theorem dR.w (R : dR h D B al S X) : hW h := R.1
theorem dR.o (R : dR h D B al S X) : h.1 D = some (true, .inr (1, dfs D S X)) := R.2.1
theorem dR.t (R : dR h D B al S X) : dT h D := R.2.2.1
theorem dR.cs (R : dR h D B al S X) : h.1 (D + 12) = some (true, .inl (3, 6, dcs al)) := R.2.2.2.1
theorem dR.tx (R : dR h D B al S X) : h.1 (D + 31) = some (true, .inl (0, 600, fun k => .int (X.x k))) := R.2.2.2.2.1
theorem dR.th (R : dR h D B al S X) : h.1 (D + 32) = some (true, .inl (0, 600, fun k => .int (X.g k))) := R.2.2.2.2.2.1
theorem dR.rw (R : dR h D B al S X) : h.1 (D + 33) = some (true, .inl (2, 6, fun k => .long (X.r k))) := R.2.2.2.2.2.2.1
theorem dR.c (R : dR h D B al S X) {c : Nat} (hc : c < 6) : cN h D (al c) (S.c c) := R.2.2.2.2.2.2.2.1 c hc
theorem dR.inj (R : dR h D B al S X) {c d : Nat} (hc : c < 6) (hd : d < 6) (e : al c = al d) : c = d := R.2.2.2.2.2.2.2.2.1 c d hc hd e
theorem dR.pl (R : dR h D B al S X) {c : Nat} (hc : c < 6) : (D + 13 ≤ al c ∧ al c + 2 < D + 31) ∨ B ≤ al c := R.2.2.2.2.2.2.2.2.2.1 c hc
theorem dR.b (R : dR h D B al S X) : D + 34 ≤ B ∧ B ≤ h.2.1 := R.2.2.2.2.2.2.2.2.2.2.1
theorem dR.xt (R : dR h D B al S X) {k : Nat} (hk : k < S.t.length) : X.x k = nI (S.t.getD k 0) := R.2.2.2.2.2.2.2.2.2.2.2.1 k hk
theorem dR.wr (R : dR h D B al S X) {k : Nat} (hk : k < S.w.length) : X.r k = S.w.getD k 0 := R.2.2.2.2.2.2.2.2.2.2.2.2.1 k hk
theorem dR.k (R : dR h D B al S X) : dC h D := R.2.2.2.2.2.2.2.2.2.2.2.2.2
/-- nothing of it is written -/
theorem dR.fr {A : Nat → Prop} {m s : Nat} (R : dR h D B al S X) (F : hF A m s h h') (h1 : ∀ q, q < D + 13 → ¬ A q) (h2 : ∀ q, D + 31 ≤ q → q < D + 34 → ¬ A q) (h3 : ∀ c, c < 6 → ∀ q, cA (al c) q → ¬ A q) : dR h' D B al S X := by
  have w := R.w
  have b := R.b
  exact ⟨F.1, F.at w R.o (h1 _ (by omega)), R.t.fr w F (fun q _ hq => h1 q (by omega)), F.at w R.cs (h1 _ (by omega)), F.at w R.tx (h2 _ (by omega) (by omega)), F.at w R.th (h2 _ (by omega) (by omega)), F.at w R.rw (h2 _ (by omega) (by omega)), fun c hc => (R.c hc).fr w F (h3 c hc), fun c d => R.inj, fun c => R.pl, ⟨b.1, Nat.le_trans b.2 F.2.2.1⟩, fun k => R.xt, fun k => R.wr, R.k.fr w F (fun q hq => h1 q (by omega))⟩
theorem dR.nw {m s : Nat} (R : dR h D B al S X) (F : hF hN m s h h') : dR h' D B al S X := R.fr F (fun _ _ z => z) (fun _ _ _ z => z) (fun _ _ _ _ z => z)
/-- a counter's cells are none of D's -/
theorem dR.ap (R : dR h D B al S X) {c : Nat} (hc : c < 6) : (∀ q, q < D + 13 → ¬ cA (al c) q) ∧ ∀ q, D + 31 ≤ q → q < D + 34 → ¬ cA (al c) q := by
  have := R.pl hc
  have b := R.b
  constructor
  · intro q hq z
    rcases z with rfl | rfl | rfl <;> omega
  · intro q hq hq2 z
    rcases z with rfl | rfl | rfl <;> omega
/-- one counter has changed -/
theorem dR.one {m s : Nat} (R : dR h D B al S X) {c : Nat} (hc : c < 6) (F : hF (cA (al c)) m s h h') {C : kC} (e : cN h' D (al c) C) : dR h' D B al (S.s_c c C) X := by
  have w := R.w
  have b := R.b
  obtain ⟨h1, h2⟩ := R.ap hc
  refine ⟨F.1, F.at w R.o (h1 _ (by omega)), R.t.fr w F (fun q _ hq => h1 q (by omega)), F.at w R.cs (h1 _ (by omega)), F.at w R.tx (h2 _ (by omega) (by omega)), F.at w R.th (h2 _ (by omega) (by omega)), F.at w R.rw (h2 _ (by omega) (by omega)), fun d hd => ?_, fun c d => R.inj, fun c => R.pl, ⟨b.1, Nat.le_trans b.2 F.2.2.1⟩, fun k => R.xt, fun k => R.wr, R.k.fr w F (fun q hq => h1 q (by omega))⟩
  show cN h' D (al d) (if d = c then C else S.c d)
  by_cases z : d = c
  · rw [if_pos z, z]; exact e
  · rw [if_neg z]
    exact (R.c hd).fr w F (fun q hq => (R.c hd).apart (R.c hc) (fun y => z (R.inj hd hc y)) q hq)
/-- D's fields are written -/
def hD (h : zH) (D : Nat) (S : kS) (X : dX) : zH := zup h D (.inr (1, dfs D S X))
theorem dR.lt (R : dR h D B al S X) : D + 34 ≤ h.2.1 := Nat.le_trans R.b.1 R.b.2
theorem hD_F (R : dR h D B al S X) (S' : kS) (X' : dX) : hF (fun q => q = D) 0 0 h (hD h D S' X') := hF_up R.w (by have := R.lt; omega) _
theorem dT_fs {fs : List Value} (e : dT h D) (F : hF (fun q => q = D) 0 0 h h') (w : hW h) (e2 : h'.1 D = some (true, .inr (1, .ref (D + 1) :: .ref (D + 2) :: fs))) : dT h' D := by
  obtain ⟨_, ⟨g, e3, e4⟩, e5, e6⟩ := e
  refine ⟨⟨fs, e2⟩, ⟨g, F.at w e3 (by omega), e4⟩, F.at w e5 (by omega), fun p h4 h8 => ?_⟩
  obtain ⟨g, e7, e8⟩ := e6 p h4 h8
  exact ⟨g, F.at w e7 (by omega), e8⟩
theorem dR.fld (R : dR h D B al S X) {S' : kS} {X' : dX} (c1 : S'.c = S.c) (c2 : X'.g = X.g) (c3 : X'.x = X.x) (c4 : X'.r = X.r) (t : ∀ k, k < S'.t.length → X.x k = nI (S'.t.getD k 0)) (v : ∀ k, k < S'.w.length → X.r k = S'.w.getD k 0) : dR (hD h D S' X') D B al S' X' := by
  have w := R.w
  have b := R.b
  have F := hD_F R S' X'
  have hc : ∀ c, c < 6 → ∀ q, cA (al c) q → q ≠ D := fun c hc q hq z => (R.ap hc).1 q (by omega) hq
  refine ⟨F.1, zup_s _ _ _, dT_fs R.t F w (zup_s _ _ _), F.at w R.cs (by omega), ?_, ?_, ?_, fun d hd => ?_, fun c d => R.inj, fun c => R.pl, b, ?_, ?_, R.k.fr w F (fun q hq => by omega)⟩
  · rw [c3]; exact F.at w R.tx (by omega)
  · rw [c2]; exact F.at w R.th (by omega)
  · rw [c4]; exact F.at w R.rw (by omega)
  · rw [c1]; exact (R.c hd).fr w F (hc d hd)
  · rw [c3]; exact t
  · rw [c4]; exact v
/-- one of D's arrays is written -/
theorem dR.arr (R : dR h D B al S X) {a : Nat} (ha : 31 ≤ a ∧ a < 34) {e : zE} (S' : kS) (X' : dX) (c1 : S'.c = S.c) (c5 : dfs D S' X' = dfs D S X) (c2 : (zup h (D + a) e).1 (D + 32) = some (true, .inl (0, 600, fun k => .int (X'.g k)))) (c3 : (zup h (D + a) e).1 (D + 31) = some (true, .inl (0, 600, fun k => .int (X'.x k)))) (c4 : (zup h (D + a) e).1 (D + 33) = some (true, .inl (2, 6, fun k => .long (X'.r k)))) (t : ∀ k, k < S'.t.length → X'.x k = nI (S'.t.getD k 0)) (v : ∀ k, k < S'.w.length → X'.r k = S'.w.getD k 0) : dR (zup h (D + a) e) D B al S' X' := by
  have w := R.w
  have b := R.b
  have F := hF_up w (a := D + a) (by omega) e
  have hc : ∀ c, c < 6 → ∀ q, cA (al c) q → q ≠ D + a := fun c hc q hq z => (R.ap hc).2 q (by omega) (by omega) hq
  refine ⟨F.1, ?_, R.t.fr w F (fun q _ _ => by omega), F.at w R.cs (by omega), c3, c2, c4, fun d hd => ?_, fun c d => R.inj, fun c => R.pl, b, t, v, R.k.fr w F (fun q hq => by omega)⟩
  · rw [c5]; exact F.at w R.o (by omega)
  · rw [c1]; exact (R.c hd).fr w F (hc d hd)
/-- a new counter stands for another one -/
def hC (h : zH) (D : Nat) (al : Nat → Nat) : zH := zup h (D + 12) (.inl (3, 6, dcs al))
theorem dR.set (R : dR h D B al S X) {k a : Nat} (hk : k < 6) {C : kC} (e : cN h D a C) (ha : B ≤ a) (hn : ∀ c, c < 6 → a ≠ al c) : zast h (D + 12) 3 (nI k) (.ref a) = some (hC h D (va_up al k a)) ∧ dR (hC h D (va_up al k a)) D B (va_up al k a) (S.s_c k C) X ∧ hF (fun q => q = D + 12) 0 0 h (hC h D (va_up al k a)) := by
  have w := R.w
  have b := R.b
  have F := hF_up w (a := D + 12) (by omega) (.inl (3, 6, dcs (va_up al k a)))
  have hc : ∀ c, c < 6 → ∀ q, cA (al c) q → q ≠ D + 12 := fun c hc q hq z => (R.ap hc).1 q (by omega) hq
  have ha2 : ∀ q, cA a q → q ≠ D + 12 := fun q hq z => by have := cA_ge hq; omega
  refine ⟨?_, ⟨F.1, F.at w R.o (by omega), R.t.fr w F (fun q _ _ => by omega), zup_s _ _ _, F.at w R.tx (by omega), F.at w R.th (by omega), F.at w R.rw (by omega), fun d hd => ?_, fun c d hc hd z => ?_, fun c hc => ?_, b, fun k => R.xt, fun k => R.wr, R.k.fr w F (fun q hq => by omega)⟩, F⟩
  · have hz : zasg h 3 (.ref a) = true := by
      obtain ⟨n, f, e1, -, -⟩ := e
      exact zasg3 e1.1
    unfold zast
    rw [R.cs]
    dsimp only
    rw [if_pos ⟨rfl, kNb hk (by decide), hz⟩, nI_clamp (by omega)]
    show some (zup h (D + 12) (.inl (3, 6, zfu (dcs al) k (.ref a)))) = _
    rw [dcs_u hk]
    rfl
  · show cN _ D (va_up al k a d) (if d = k then C else S.c d)
    unfold va_up
    by_cases z : d = k
    · rw [if_pos z, if_pos z]; exact e.fr w F ha2
    · rw [if_neg z, if_neg z]; exact (R.c hd).fr w F (hc d hd)
  · unfold va_up at z
    by_cases z1 : c = k
    · by_cases z2 : d = k
      · omega
      · rw [if_pos z1, if_neg z2] at z; exact absurd z (hn d hd)
    · by_cases z2 : d = k
      · rw [if_neg z1, if_pos z2] at z; exact absurd z.symm (hn c hc)
      · rw [if_neg z1, if_neg z2] at z; exact R.inj hc hd z
  · unfold va_up
    by_cases z : c = k
    · rw [if_pos z]; exact Or.inr ha
    · rw [if_neg z]; exact R.pl hc
/-- what is read of D -/
theorem dG (R : dR h D B al S X) : zget h D 1 2 = some (.int S.a) ∧ zget h D 1 3 = some (.int S.b) ∧ zget h D 1 4 = some (.ref (D + 12)) ∧ zget h D 1 5 = some (.ref (D + 31)) ∧ zget h D 1 6 = some (.int (nI S.t.length)) ∧ zget h D 1 7 = some (.int X.i) ∧ zget h D 1 8 = some (.int X.e) ∧ zget h D 1 9 = some (.ref (D + 32)) ∧ zget h D 1 10 = some (.int (nI X.n)) ∧ zget h D 1 11 = some (.ref (D + 33)) ∧ zget h D 1 12 = some (.int (nI S.w.length)) ∧ zis h D 1 = true ∧ (∀ c, c < 6 → zald h (D + 12) 3 (nI c) = some (.ref (al c))) ∧ (∀ k, k < 600 → zald h (D + 31) 0 (nI k) = some (.int (X.x k))) ∧ (∀ k, k < 600 → zald h (D + 32) 0 (nI k) = some (.int (X.g k))) ∧ (∀ k, k < 6 → zald h (D + 33) 2 (nI k) = some (.long (X.r k))) ∧ zlen h (D + 12) = some (.int (nI 6)) := by
  have e := R.o
  refine ⟨?_, ?_, ?_, ?_, ?_, ?_, ?_, ?_, ?_, ?_, ?_, ?_, fun c hc => by rw [zald_k R.cs hc (by decide), dcs_g hc], fun c hc => zald_k R.tx hc (by decide), fun c hc => zald_k R.th hc (by decide), fun c hc => zald_k R.rw hc (by decide), ?_⟩
  · unfold zget; rw [e]; rfl
  · unfold zget; rw [e]; rfl
  · unfold zget; rw [e]; rfl
  · unfold zget; rw [e]; rfl
  · unfold zget; rw [e]; rfl
  · unfold zget; rw [e]; rfl
  · unfold zget; rw [e]; rfl
  · unfold zget; rw [e]; rfl
  · unfold zget; rw [e]; rfl
  · unfold zget; rw [e]; rfl
  · unfold zget; rw [e]; rfl
  · unfold zis; rw [e]; rfl
  · unfold zlen; rw [R.cs]
/-- what is written of D -/
theorem dP (R : dR h D B al S X) : (∀ x, zput h D 1 2 0 (.int x) = some (hD h D (S.c, x, S.b, S.t, S.w) X)) ∧ (∀ x, zput h D 1 3 0 (.int x) = some (hD h D (S.c, S.a, x, S.t, S.w) X)) ∧ (∀ x, zput h D 1 7 0 (.int x) = some (hD h D S (x, X.2))) ∧ (∀ x, zput h D 1 8 0 (.int x) = some (hD h D S (X.1, x, X.2.2))) ∧ (∀ n, zput h D 1 10 0 (.int (nI n)) = some (hD h D S (X.1, X.2.1, n, X.2.2.2))) := by
  have e := R.o
  refine ⟨fun x => ?_, fun x => ?_, fun x => ?_, fun x => ?_, fun n => ?_⟩ <;> (unfold zput; rw [e]; rfl)
theorem dP_t (R : dR h D B al S X) {n : Nat} (T : List Nat) (hT : T.length = n) : zput h D 1 6 0 (.int (nI n)) = some (hD h D (S.s_t T) X) := by
  have e := R.o
  subst hT
  unfold zput; rw [e]; rfl
theorem dP_w (R : dR h D B al S X) {n : Nat} (W : List Int64) (hW : W.length = n) : zput h D 1 12 0 (.int (nI n)) = some (hD h D (S.s_w W) X) := by
  have e := R.o
  subst hW
  unfold zput; rw [e]; rfl
end DR
/-- a world, and what a call may touch -/
def dW (D B : Nat) (S : kS) (h : zH) : Prop := ∃ al X, dR h D B al S X
def dA (D B : Nat) : Nat → Prop := fun q => (D ≤ q ∧ q < D + 34) ∨ B ≤ q
theorem hF.dD {h h' : zH} {D B n s : Nat} {A : Nat → Prop} (F : hF A n s h h') (hA : ∀ q, A q → dA D B q) : hF (dA D B) n s h h' := F.up (fun q _ z => hA q z) (Nat.le_refl _) (Nat.le_refl _)
theorem dR.cA {h : zH} {D B : Nat} {al : Nat → Nat} {S : kS} {X : dX} (R : dR h D B al S X) {c : Nat} (hc : c < 6) : ∀ q, cA (al c) q → dA D B q := by
  intro q hq
  have := R.pl hc
  unfold dA
  rcases hq with rfl | rfl | rfl <;> omega
/-- what a public call leaves -/
def dQ (D B : Nat) (S : kS) (h h' : zH) : Prop := dW D B S h' ∧ hF (dA D B) 9000 100000 h h'
theorem dR.q {h h' : zH} {D B n s : Nat} {al : Nat → Nat} {S : kS} {X : dX} (R : dR h' D B al S X) (F : hF (dA D B) n s h h') (hn : n ≤ 9000 := by omega) (hs : s ≤ 100000 := by omega) : dQ D B S h h' := ⟨⟨al, X, R⟩, F.up (fun _ _ z => z) hn hs⟩
