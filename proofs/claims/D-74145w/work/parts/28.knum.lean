/-! PLAIN NUMBERS: bit lengths, places and ranks of marks, folds, sorted lists -/
def kbl (n : Nat) : Nat := if n = 0 then 0 else n.log2 + 1
theorem kbl_le (n k : Nat) : kbl n ≤ k ↔ n < 2 ^ k := by
  unfold kbl
  by_cases h : n = 0
  · subst h
    rw [if_pos rfl]
    exact ⟨fun _ => Nat.pow_pos (by decide), fun _ => Nat.zero_le _⟩
  · rw [if_neg h]
    exact Nat.log2_lt h
theorem kbl_eq {n j : Nat} (h1 : 2 ^ j ≤ n) (h2 : n < 2 ^ (j + 1)) : kbl n = j + 1 := by
  have a := (kbl_le n (j + 1)).mpr h2
  have b : ¬ kbl n ≤ j := fun q => by have := (kbl_le n j).mp q; omega
  omega
theorem kbl_0 : kbl 0 = 0 := rfl
theorem kbl_pos {n : Nat} (h : n ≠ 0) : 0 < kbl n := by
  unfold kbl
  rw [if_neg h]
  omega
theorem kle_ext {a b : Nat} (h : ∀ k, a ≤ k ↔ b ≤ k) : a = b := Nat.le_antisymm ((h b).mpr (Nat.le_refl _)) ((h a).mp (Nat.le_refl _))
theorem kbl_shift {n d low : Nat} (hn : n ≠ 0) (hl : low < 2 ^ d) : kbl (n * 2 ^ d + low) = kbl n + d := by
  apply kle_ext
  intro k
  have hp : 0 < 2 ^ d := Nat.pow_pos (by decide)
  have hdiv : (n * 2 ^ d + low) / 2 ^ d = n := by
    rw [Nat.add_comm, Nat.add_mul_div_right _ _ hp, Nat.div_eq_of_lt hl, Nat.zero_add]
  rw [kbl_le]
  by_cases hk : d ≤ k
  · have e : kbl n + d ≤ k ↔ kbl n ≤ k - d := by omega
    rw [e, kbl_le]
    have e2 : 2 ^ k = 2 ^ (k - d) * 2 ^ d := by rw [← Nat.pow_add]; congr 1; omega
    rw [e2, ← Nat.div_lt_iff_lt_mul hp, hdiv]
  · constructor
    · intro q
      exfalso
      have h1 : 2 ^ k ≤ 2 ^ d := Nat.pow_le_pow_right (by decide) (by omega)
      have h2 : 1 * 2 ^ d ≤ n * 2 ^ d := Nat.mul_le_mul_right _ (by omega)
      omega
    · intro q
      omega
/-- a mark's place and rank -/
def kpl (m p : Nat) : Nat := m / 2 ^ (32 - p)
def krk (m p : Nat) : Nat := 33 - p - kbl (m % 2 ^ (32 - p))
theorem kpl_lt {m p : Nat} (hm : m < 2 ^ 32) (hp : p ≤ 32) : kpl m p < 2 ^ p := by
  unfold kpl
  rw [Nat.div_lt_iff_lt_mul (Nat.pow_pos (by decide)), ← Nat.pow_add, show p + (32 - p) = 32 by omega]
  exact hm
theorem krk_bounds (m : Nat) {p : Nat} (hp : p ≤ 32) : 1 ≤ krk m p ∧ krk m p ≤ 33 - p := by
  have : kbl (m % 2 ^ (32 - p)) ≤ 32 - p := (kbl_le _ _).mpr (Nat.mod_lt _ (Nat.pow_pos (by decide)))
  unfold krk
  omega
/-- a rank raised -/
def krs (r : Nat → Nat) (x v : Nat) : Nat → Nat := fun y => if y = x then max (r y) v else r y
theorem krs_le (r : Nat → Nat) (x v y b : Nat) : krs r x v y ≤ b ↔ r y ≤ b ∧ (y = x → v ≤ b) := by
  unfold krs
  by_cases h : y = x
  · rw [if_pos h, Nat.max_le]
    exact ⟨fun q => ⟨q.1, fun _ => q.2⟩, fun q => ⟨q.1, q.2 h⟩⟩
  · rw [if_neg h]
    exact ⟨fun q => ⟨q, fun e => absurd e h⟩, fun q => q.1⟩
theorem krs_up {r : Nat → Nat} {x v : Nat} (h : r x < v) : krs r x v = va_up r x v := by
  funext y
  unfold krs va_up
  by_cases e : y = x
  · rw [if_pos e, if_pos e, e]
    omega
  · rw [if_neg e, if_neg e]
theorem krs_same {r : Nat → Nat} {x v : Nat} (h : v ≤ r x) : krs r x v = r := by
  funext y
  unfold krs
  by_cases e : y = x
  · rw [if_pos e, e]
    omega
  · rw [if_neg e]
/-- the ranks of marks laid over r -/
def klay (p : Nat) (r : Nat → Nat) (L : List Nat) : Nat → Nat := L.foldl (fun r m => krs r (kpl m p) (krk m p)) r
theorem klay_nil (p : Nat) (r : Nat → Nat) : klay p r [] = r := rfl
theorem klay_cons (p : Nat) (r : Nat → Nat) (m : Nat) (L : List Nat) : klay p r (m :: L) = klay p (krs r (kpl m p) (krk m p)) L := rfl
theorem klay_app (p : Nat) (r : Nat → Nat) (L M : List Nat) : klay p r (L ++ M) = klay p (klay p r L) M := List.foldl_append ..
theorem klay_le (p : Nat) (L : List Nat) : ∀ (r : Nat → Nat) (y b : Nat), klay p r L y ≤ b ↔ r y ≤ b ∧ ∀ m ∈ L, kpl m p = y → krk m p ≤ b := by
  induction L with
  | nil => intro r y b; exact ⟨fun h => ⟨h, fun _ q => by cases q⟩, fun h => h.1⟩
  | cons a L ih =>
    intro r y b
    rw [klay_cons, ih, krs_le]
    constructor
    · rintro ⟨⟨h1, h2⟩, h3⟩
      refine ⟨h1, fun m hm e => ?_⟩
      rcases List.mem_cons.mp hm with rfl | hm
      · exact h2 e.symm
      · exact h3 m hm e
    · rintro ⟨h1, h2⟩
      exact ⟨⟨h1, fun e => h2 a List.mem_cons_self e.symm⟩, fun m hm => h2 m (List.mem_cons_of_mem _ hm)⟩
/-- a rank at a place of d bits more -/
def kfv (d x r : Nat) : Nat := if x % 2 ^ d = 0 then d + r else d + 1 - kbl (x % 2 ^ d)
/-- the first n places folded onto F -/
def kfo (d : Nat) (r F : Nat → Nat) : Nat → (Nat → Nat)
  | 0 => F
  | n + 1 => if r n = 0 then kfo d r F n else krs (kfo d r F n) (n / 2 ^ d) (kfv d n (r n))
theorem kfo_le (d : Nat) (r F : Nat → Nat) (n : Nat) : ∀ y b, kfo d r F n y ≤ b ↔ F y ≤ b ∧ ∀ x, x < n → r x ≠ 0 → x / 2 ^ d = y → kfv d x (r x) ≤ b := by
  induction n with
  | zero => intro y b; exact ⟨fun h => ⟨h, fun _ q => by omega⟩, fun h => h.1⟩
  | succ n ih =>
    intro y b
    unfold kfo
    by_cases h : r n = 0
    · rw [if_pos h, ih]
      constructor
      · rintro ⟨h1, h2⟩
        refine ⟨h1, fun x hx hr e => ?_⟩
        by_cases hxn : x = n
        · subst hxn; exact absurd h hr
        · exact h2 x (by omega) hr e
      · rintro ⟨h1, h2⟩
        exact ⟨h1, fun x hx hr e => h2 x (by omega) hr e⟩
    · rw [if_neg h, krs_le, ih]
      constructor
      · rintro ⟨⟨h1, h2⟩, h3⟩
        refine ⟨h1, fun x hx hr e => ?_⟩
        by_cases hxn : x = n
        · subst hxn; exact h3 e.symm
        · exact h2 x (by omega) hr e
      · rintro ⟨h1, h2⟩
        exact ⟨⟨h1, fun x hx hr e => h2 x (by omega) hr e⟩, fun e => h2 n (by omega) h e.symm⟩
/-- ranks of p bits folded to q bits -/
def kfold (p q : Nat) (r : Nat → Nat) : Nat → Nat := kfo (p - q) r (fun _ => 0) (2 ^ p)
theorem kfold_le (p q : Nat) (r : Nat → Nat) (y b : Nat) : kfold p q r y ≤ b ↔ ∀ x, x < 2 ^ p → r x ≠ 0 → x / 2 ^ (p - q) = y → kfv (p - q) x (r x) ≤ b := by
  unfold kfold
  rw [kfo_le]
  exact ⟨fun h => h.2, fun h => ⟨Nat.zero_le _, h⟩⟩
theorem kfn_ext {f g : Nat → Nat} (h : ∀ y b, f y ≤ b ↔ g y ≤ b) : f = g := funext fun y => kle_ext (h y)
/-- folded onto ranks that are there: the greater of both -/
theorem kfo_max (d : Nat) (r F : Nat → Nat) (n : Nat) : kfo d r F n = fun y => max (F y) (kfo d r (fun _ => 0) n y) := by
  apply kfn_ext
  intro y b
  rw [Nat.max_le, kfo_le, kfo_le]
  exact ⟨fun h => ⟨h.1, Nat.zero_le _, h.2⟩, fun h => ⟨h.1, h.2.2⟩⟩
theorem kfv_0 (x r : Nat) : kfv 0 x r = r := by
  unfold kfv
  rw [if_pos (by rw [Nat.pow_zero, Nat.mod_one]), Nat.zero_add]
theorem kfold_id {p : Nat} {r : Nat → Nat} (h : ∀ x, 2 ^ p ≤ x → r x = 0) : kfold p p r = r := by
  apply kfn_ext
  intro y b
  rw [kfold_le, Nat.sub_self]
  constructor
  · intro q
    by_cases h1 : r y = 0
    · omega
    · have h2 : y < 2 ^ p := Nat.not_le.mp fun z => h1 (h y z)
      have := q y h2 h1 (by rw [Nat.pow_zero, Nat.div_one])
      rwa [kfv_0] at this
  · intro q x _ _ e
    rw [Nat.pow_zero, Nat.div_one] at e
    subst e
    rw [kfv_0]
    exact q
theorem kfv_pos {d x r : Nat} (h : r ≠ 0) : kfv d x r ≠ 0 := by
  unfold kfv
  by_cases e : x % 2 ^ d = 0
  · rw [if_pos e]; omega
  · rw [if_neg e]
    have : kbl (x % 2 ^ d) ≤ d := (kbl_le _ _).mpr (Nat.mod_lt _ (Nat.pow_pos (by decide)))
    omega
theorem kmod_add (x a b : Nat) : x % 2 ^ (a + b) = x / 2 ^ a % 2 ^ b * 2 ^ a + x % 2 ^ a := by
  rw [Nat.pow_add, Nat.mod_mul, Nat.mul_comm (2 ^ a), Nat.add_comm]
theorem kfv_comp (d1 d2 x r : Nat) : kfv d2 (x / 2 ^ d1) (kfv d1 x r) = kfv (d1 + d2) x r := by
  have hm := kmod_add x d1 d2
  have hl : x % 2 ^ d1 < 2 ^ d1 := Nat.mod_lt _ (Nat.pow_pos (by decide))
  have hp : 0 < 2 ^ d1 := Nat.pow_pos (by decide)
  unfold kfv
  by_cases h2 : x / 2 ^ d1 % 2 ^ d2 = 0
  · rw [if_pos h2]
    rw [h2, Nat.zero_mul, Nat.zero_add] at hm
    rw [hm]
    by_cases h1 : x % 2 ^ d1 = 0
    · rw [if_pos h1, if_pos h1]; omega
    · rw [if_neg h1, if_neg h1]
      have : kbl (x % 2 ^ d1) ≤ d1 := (kbl_le _ _).mpr hl
      omega
  · rw [if_neg h2]
    have hne : x % 2 ^ (d1 + d2) ≠ 0 := by
      rw [hm]
      have : 0 < x / 2 ^ d1 % 2 ^ d2 * 2 ^ d1 := Nat.mul_pos (by omega) hp
      omega
    rw [if_neg hne, hm, kbl_shift h2 hl]
    omega
theorem kfv_mono {d x a b : Nat} (h : a ≤ b) : kfv d x a ≤ kfv d x b := by
  unfold kfv
  by_cases e : x % 2 ^ d = 0
  · rw [if_pos e, if_pos e]; omega
  · rw [if_neg e, if_neg e]; exact Nat.le_refl _
/-- the greatest is one of them -/
theorem kfold_hit {p q : Nat} {r : Nat → Nat} {y : Nat} (h : kfold p q r y ≠ 0) : ∃ x, x < 2 ^ p ∧ r x ≠ 0 ∧ x / 2 ^ (p - q) = y ∧ kfv (p - q) x (r x) = kfold p q r y := by
  refine Classical.byContradiction fun hn => ?_
  have h1 : kfold p q r y ≤ kfold p q r y - 1 := by
    rw [kfold_le]
    intro x hx hr e
    have h2 : kfv (p - q) x (r x) ≤ kfold p q r y := (kfold_le p q r y _).mp (Nat.le_refl _) x hx hr e
    have h3 : kfv (p - q) x (r x) ≠ kfold p q r y := fun z => hn ⟨x, hx, hr, e, z⟩
    omega
  omega
theorem kdiv_pow (x a b : Nat) : x / 2 ^ a / 2 ^ b = x / 2 ^ (a + b) := by rw [Nat.div_div_eq_div_mul, Nat.pow_add]
theorem kfold_comp {p q t : Nat} (h1 : t ≤ q) (h2 : q ≤ p) (r : Nat → Nat) : kfold q t (kfold p q r) = kfold p t r := by
  apply kfn_ext
  intro z b
  have hd : p - t = p - q + (q - t) := by omega
  rw [kfold_le q t, kfold_le p t]
  constructor
  · intro h x hx hr e
    rw [hd, ← kdiv_pow] at e
    have hy : x / 2 ^ (p - q) < 2 ^ q := by
      rw [Nat.div_lt_iff_lt_mul (Nat.pow_pos (by decide)), ← Nat.pow_add, show q + (p - q) = p by omega]
      exact hx
    have h3 : kfv (p - q) x (r x) ≤ kfold p q r (x / 2 ^ (p - q)) := (kfold_le p q r _ _).mp (Nat.le_refl _) x hx hr rfl
    have h4 : kfold p q r (x / 2 ^ (p - q)) ≠ 0 := by have := kfv_pos (d := p - q) (x := x) hr; omega
    have h5 := h _ hy h4 e
    rw [hd, ← kfv_comp]
    exact Nat.le_trans (kfv_mono h3) h5
  · intro h y hy hr e
    obtain ⟨x, hx, hrx, ex, ev⟩ := kfold_hit hr
    rw [← ev]
    subst ex
    rw [kfv_comp, ← hd]
    refine h x hx hrx ?_
    rw [hd, ← kdiv_pow]
    exact e
theorem kfold_max (p q : Nat) (r1 r2 : Nat → Nat) : kfold p q (fun x => max (r1 x) (r2 x)) = fun y => max (kfold p q r1 y) (kfold p q r2 y) := by
  apply kfn_ext
  intro y b
  rw [Nat.max_le, kfold_le, kfold_le, kfold_le]
  constructor
  · intro h
    constructor
    · intro x hx hr e
      exact Nat.le_trans (kfv_mono (Nat.le_max_left _ _)) (h x hx (by show max (r1 x) (r2 x) ≠ 0; omega) e)
    · intro x hx hr e
      exact Nat.le_trans (kfv_mono (Nat.le_max_right _ _)) (h x hx (by show max (r1 x) (r2 x) ≠ 0; omega) e)
  · rintro ⟨h1, h2⟩ x hx hr e
    show kfv (p - q) x (max (r1 x) (r2 x)) ≤ b
    have hr : max (r1 x) (r2 x) ≠ 0 := hr
    by_cases hle : r1 x ≤ r2 x
    · rw [Nat.max_eq_right hle] at hr ⊢
      exact h2 x hx hr e
    · rw [Nat.max_eq_left (by omega)] at hr ⊢
      exact h1 x hx hr e
theorem kfv_mark {m p q : Nat} (hp : p ≤ 32) (hq : q ≤ p) : kfv (p - q) (kpl m p) (krk m p) = krk m q := by
  have hm := kmod_add m (32 - p) (p - q)
  rw [show 32 - p + (p - q) = 32 - q by omega] at hm
  have hl : m % 2 ^ (32 - p) < 2 ^ (32 - p) := Nat.mod_lt _ (Nat.pow_pos (by decide))
  have hb := (kbl_le (m % 2 ^ (32 - p)) (32 - p)).mpr hl
  unfold kfv krk kpl
  by_cases h : m / 2 ^ (32 - p) % 2 ^ (p - q) = 0
  · rw [if_pos h]
    rw [h, Nat.zero_mul, Nat.zero_add] at hm
    rw [hm]
    omega
  · rw [if_neg h, hm, kbl_shift h hl]
    have : kbl (m / 2 ^ (32 - p) % 2 ^ (p - q)) ≤ p - q := (kbl_le _ _).mpr (Nat.mod_lt _ (Nat.pow_pos (by decide)))
    omega
theorem kpl_fold {m p q : Nat} (hp : p ≤ 32) (hq : q ≤ p) : kpl m p / 2 ^ (p - q) = kpl m q := by
  unfold kpl
  rw [kdiv_pow, show 32 - p + (p - q) = 32 - q by omega]
theorem klay_hit {p : Nat} {L : List Nat} {y : Nat} (h : klay p (fun _ => 0) L y ≠ 0) : ∃ m ∈ L, kpl m p = y ∧ krk m p = klay p (fun _ => 0) L y := by
  refine Classical.byContradiction fun hn => ?_
  have h1 : klay p (fun _ => 0) L y ≤ klay p (fun _ => 0) L y - 1 := by
    rw [klay_le]
    refine ⟨Nat.zero_le _, fun m hm e => ?_⟩
    have h2 : krk m p ≤ klay p (fun _ => 0) L y := ((klay_le p L _ y _).mp (Nat.le_refl _)).2 m hm e
    have h3 : krk m p ≠ klay p (fun _ => 0) L y := fun z => hn ⟨m, hm, e, z⟩
    omega
  omega
theorem kfold_lay {p q : Nat} (hp : p ≤ 32) (hq : q ≤ p) {L : List Nat} (hL : ∀ m ∈ L, m < 2 ^ 32) : kfold p q (klay p (fun _ => 0) L) = klay q (fun _ => 0) L := by
  apply kfn_ext
  intro y b
  rw [kfold_le, klay_le]
  constructor
  · intro h
    refine ⟨Nat.zero_le _, fun m hm e => ?_⟩
    have h2 : krk m p ≤ klay p (fun _ => 0) L (kpl m p) := ((klay_le p L _ _ _).mp (Nat.le_refl _)).2 m hm rfl
    have h3 := (krk_bounds m hp).1
    have h4 := h (kpl m p) (kpl_lt (hL m hm) hp) (by omega) (by rw [kpl_fold hp hq]; exact e)
    rw [← kfv_mark (m := m) hp hq]
    exact Nat.le_trans (kfv_mono h2) h4
  · rintro ⟨-, h⟩ x hx hr e
    obtain ⟨m, hm, e1, e2⟩ := klay_hit hr
    rw [← e2]
    subst e1
    rw [kfv_mark hp hq]
    exact h m hm (by rw [← kpl_fold hp hq]; exact e)
theorem kfold_zero {p q y : Nat} (hq : q ≤ p) (r : Nat → Nat) (hy : 2 ^ q ≤ y) : kfold p q r y = 0 := by
  have : kfold p q r y ≤ 0 := by
    rw [kfold_le]
    intro x hx hr e
    exfalso
    have : x / 2 ^ (p - q) < 2 ^ q := by
      rw [Nat.div_lt_iff_lt_mul (Nat.pow_pos (by decide)), ← Nat.pow_add, show q + (p - q) = p by omega]
      exact hx
    omega
  omega
theorem kfold_bound {p q : Nat} (hq : q ≤ p) (hp : p ≤ 32) {r : Nat → Nat} (h : ∀ x, r x ≤ 33 - p) (y : Nat) : kfold p q r y ≤ 33 - q := by
  rw [kfold_le]
  intro x hx hr e
  have := h x
  unfold kfv
  by_cases e : x % 2 ^ (p - q) = 0
  · rw [if_pos e]; omega
  · rw [if_neg e]; omega
/-! sorted lists of marks -/
def kpos (m : Nat) : List Nat → Nat
  | [] => 0
  | a :: l => if a < m then kpos m l + 1 else 0
def kins (m : Nat) : List Nat → List Nat
  | [] => [m]
  | a :: l => if a < m then a :: kins m l else m :: a :: l
def ksrt (L : List Nat) : Prop := L.Pairwise (fun a b => a < b)
theorem kpos_le (m : Nat) (L : List Nat) : kpos m L ≤ L.length := by
  induction L with
  | nil => exact Nat.le_refl _
  | cons a l ih =>
    unfold kpos
    by_cases h : a < m
    · rw [if_pos h, List.length_cons]; omega
    · rw [if_neg h]; omega
theorem kins_len (m : Nat) (L : List Nat) : (kins m L).length = L.length + 1 := by
  induction L with
  | nil => rfl
  | cons a l ih =>
    unfold kins
    by_cases h : a < m
    · rw [if_pos h, List.length_cons, ih, List.length_cons]
    · rw [if_neg h]; rfl
theorem kins_mem (m x : Nat) (L : List Nat) : x ∈ kins m L ↔ x = m ∨ x ∈ L := by
  induction L with
  | nil => simp [kins]
  | cons a l ih =>
    unfold kins
    by_cases h : a < m
    · rw [if_pos h, List.mem_cons, ih, List.mem_cons]
      constructor
      · rintro (q | q | q)
        · exact Or.inr (Or.inl q)
        · exact Or.inl q
        · exact Or.inr (Or.inr q)
      · rintro (q | q | q)
        · exact Or.inr (Or.inl q)
        · exact Or.inl q
        · exact Or.inr (Or.inr q)
    · rw [if_neg h, List.mem_cons]
theorem kins_srt {m : Nat} {L : List Nat} (h : ksrt L) (hm : m ∉ L) : ksrt (kins m L) := by
  induction L with
  | nil => exact List.pairwise_singleton _ _
  | cons a l ih =>
    have h1 := List.pairwise_cons.mp h
    unfold kins
    by_cases e : a < m
    · rw [if_pos e]
      refine List.pairwise_cons.mpr ⟨fun b hb => ?_, ih h1.2 (fun q => hm (List.mem_cons_of_mem _ q))⟩
      rcases (kins_mem m b l).mp hb with rfl | hb
      · exact e
      · exact h1.1 b hb
    · rw [if_neg e]
      have hne : m ≠ a := fun q => hm (by rw [q]; exact List.mem_cons_self)
      refine List.pairwise_cons.mpr ⟨fun b hb => ?_, h⟩
      rcases List.mem_cons.mp hb with rfl | hb
      · omega
      · have := h1.1 b hb
        omega
theorem kget_0 (a : Nat) (l : List Nat) : (a :: l).getD 0 0 = a := rfl
theorem kget_s (a j : Nat) (l : List Nat) : (a :: l).getD (j + 1) 0 = l.getD j 0 := by simp [List.getD]
theorem kins_get (m : Nat) (L : List Nat) : ∀ j, (kins m L).getD j 0 = if j < kpos m L then L.getD j 0 else if j = kpos m L then m else L.getD (j - 1) 0 := by
  induction L with
  | nil =>
    intro j
    cases j with
    | zero => rfl
    | succ j => simp [kins, kpos, List.getD]
  | cons a l ih =>
    intro j
    unfold kins kpos
    by_cases e : a < m
    · rw [if_pos e, if_pos e]
      cases j with
      | zero => rw [if_pos (by omega)]; rfl
      | succ j =>
        rw [kget_s, ih j, kget_s]
        by_cases h1 : j < kpos m l
        · rw [if_pos h1, if_pos (show j + 1 < kpos m l + 1 by omega)]
        · rw [if_neg h1, if_neg (show ¬ j + 1 < kpos m l + 1 by omega)]
          by_cases h2 : j = kpos m l
          · rw [if_pos h2, if_pos (show j + 1 = kpos m l + 1 by omega)]
          · rw [if_neg h2, if_neg (show ¬ j + 1 = kpos m l + 1 by omega)]
            cases j with
            | zero => omega
            | succ j => rw [show j + 1 + 1 - 1 = j + 1 by omega, kget_s]; rfl
    · rw [if_neg e, if_neg e, if_neg (by omega)]
      cases j with
      | zero => rfl
      | succ j => rw [if_neg (by omega), kget_s]; rfl
theorem kpos_lt (m : Nat) (L : List Nat) : ∀ j, j < kpos m L → L.getD j 0 < m := by
  induction L with
  | nil => intro j h; unfold kpos at h; omega
  | cons a l ih =>
    intro j h
    unfold kpos at h
    by_cases e : a < m
    · rw [if_pos e] at h
      cases j with
      | zero => exact e
      | succ j => rw [kget_s]; exact ih j (by omega)
    · rw [if_neg e] at h; omega
theorem kget_mem {L : List Nat} {j : Nat} (h : j < L.length) : L.getD j 0 ∈ L := by
  rw [List.getD_eq_getElem?_getD, List.getElem?_eq_getElem h]
  exact List.getElem_mem h
theorem kmem_get {L : List Nat} {m : Nat} (h : m ∈ L) : ∃ j, j < L.length ∧ L.getD j 0 = m := by
  obtain ⟨j, hj, e⟩ := List.getElem_of_mem h
  exact ⟨j, hj, by rw [List.getD_eq_getElem?_getD, List.getElem?_eq_getElem hj]; exact e⟩
theorem kpos_ge {m : Nat} {L : List Nat} (hs : ksrt L) : ∀ j, kpos m L ≤ j → j < L.length → m ≤ L.getD j 0 := by
  induction L with
  | nil => intro j _ h; exact absurd h (Nat.not_lt_zero _)
  | cons a l ih =>
    intro j h hj
    have h1 := List.pairwise_cons.mp hs
    unfold kpos at h
    by_cases e : a < m
    · rw [if_pos e] at h
      cases j with
      | zero => omega
      | succ j => rw [kget_s]; exact ih h1.2 j (by omega) (by rw [List.length_cons] at hj; omega)
    · cases j with
      | zero => rw [kget_0]; omega
      | succ j =>
        rw [kget_s]
        have := h1.1 _ (kget_mem (L := l) (j := j) (by rw [List.length_cons] at hj; omega))
        omega
theorem ksrt_lt {L : List Nat} (hs : ksrt L) {i j : Nat} (hij : i < j) (hj : j < L.length) : L.getD i 0 < L.getD j 0 := by
  have h1 := List.pairwise_iff_getElem.mp hs i j (by omega) hj hij
  rw [List.getD_eq_getElem?_getD, List.getElem?_eq_getElem (by omega : i < L.length), List.getD_eq_getElem?_getD, List.getElem?_eq_getElem hj]
  exact h1
theorem kapp_get (A : List Nat) (x : Nat) (B : List Nat) : (A ++ x :: B).getD A.length 0 = x := by simp [List.getD]
