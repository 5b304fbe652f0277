/-! SOUNDNESS OF THE ABSTRACT MACHINE: what a machine's heap holds, what a frame owes, one law an instruction -/
/-- ids of the classes by their numbers, slots of their fields, ids of the arrays' classes by their kinds -/
abbrev gG : Type := (Nat → ClassId) × (Nat → Nat → Nat) × (Nat → ClassId)
/-- the classes by their numbers -/
def gCl : List vw_C := [("java/lang/Object", fun _ => ("", "", "", false), 0), (RX1, TX1, 13), (RX2, TX2, 7), (RX3, TX3, 19), (RX4, TX4, 6), (RJ14, TJ14, 6), (RJ5, TJ5, 4), (RJ6, TJ6, 4)]
/-- a value that an array of a kind holds -/
def gFit : Nat → Value → Bool
  | 0, .int _ => true
  | 1, .int x => x = 0 ∨ x = 1
  | 2, .long _ => true
  | 3, .ref _ => true
  | 3, .null => true
  | 4, .int x => x.toInt8.toInt32 = x
  | 5, .ref _ => true
  | 5, .null => true
  | _, _ => false
def gCell (G : gG) (a : Nat) (e : zE) (H : Heap) : Prop := match e with
  | .inl (t, n, f) => H[a]? = some (arrV (G.2.2 t) n f) ∧ n ≤ 100000000 ∧ (∀ i, i < n → gFit t (f i) = true) ∧ t < 6
  | .inr (c, fs) => ∃ cell : Cell, H[a]? = some cell ∧ cell.cls = G.1 c ∧ cell.vm = .none ∧ (∀ k v, fs[k]? = some v → cell.slots[G.2.1 c k]? = some v) ∧ ∀ r, gCl[c]? = some r → fs.length ≤ r.2.2
theorem gCell.kept {G : gG} {a : Nat} {e : zE} {H H1 : Heap} (h : gCell G a e H) (hq : H1[a]? = H[a]?) : gCell G a e H1 := by
  unfold gCell at h ⊢
  rcases e with ⟨t, n, f⟩ | ⟨c, fs⟩
  · exact ⟨hq.trans h.1, h.2⟩
  · obtain ⟨cell, h1, h2⟩ := h
    exact ⟨cell, hq.trans h1, h2⟩
theorem gCell.lt {G : gG} {a : Nat} {e : zE} {H : Heap} (h : gCell G a e H) : a < H.size := by
  unfold gCell at h
  rcases e with ⟨t, n, f⟩ | ⟨c, fs⟩
  · exact (Array.getElem?_eq_some_iff.mp h.1).1
  · obtain ⟨cell, h1, h2⟩ := h
    exact (Array.getElem?_eq_some_iff.mp h1).1
/-- what may be written: what the heap says, and all that is new -/
def gWr (h : zH) (q : Nat) : Prop := (∃ e, h.1 q = some (true, e)) ∨ h.2.1 ≤ q
def gInv (G : gG) (h : zH) (H : Heap) : Prop := H.size = h.2.1 ∧ ∀ a b e, h.1 a = some (b, e) → gCell G a e H
/-- since the entry with the heap h0 (the machine's H0) -/
def gFr (h0 : zH) (H0 H : Heap) (locs : List Loc) (h : zH) : Prop := va_S (gWr h0) H0 H locs ∧ (∀ q, gWr h q → gWr h0 q) ∧ h0.2.1 ≤ h.2.1 ∧ h0.2.2.1 ≤ h.2.2.1 ∧ h.2.2.2 = h0.2.2.2 ∧ H0.size = h0.2.1
/-- the locals -/
def gL (la : Array Slot) (nL : Nat) (ls : List Value) : Prop := la.size = nL ∧ lv_wf la ∧ ls.length = nL ∧ ∀ k v, znth ls k = some v → v ≠ zJ → la[k]? = some (.val v)
section GS
variable (G : gG) (p : Program) (l : Launch) (e : Env) (R : Room) (s : State) (m : MethodId) (args : Array Value) (below : List Frame) (meth : Method) (c : Code) (nL : Nat) (h0 : zH)
/-- a frame that comes to Q -/
def gOK (Q : State → Prop) (g : zF) : Prop :=
  ∀ (H : Heap) (locs : List Loc) (la : Array Slot), gInv G g.2.2.2 H → gL la nL g.2.1 → gFr h0 s.heap H locs g.2.2.2 → W p l e R s m args below meth c H locs (g.2.2.2.2.1 - h0.2.1) (g.2.2.2.2.2.1 - h0.2.2.1) Q (F0 m g.1 la g.2.2.1)
/-- an instruction that goes on -/
def gN (pc : Nat) (f : zI) : Prop := ∀ (Q : State → Prop) (ls st : List Value) (h : zH) (g : zF), f ls st h = some (.inl g) → g.2.2.2.2.1 - h0.2.1 ≤ R.cells → g.2.2.2.2.2.1 - h0.2.2.1 ≤ R.slots → gOK G p l e R s m args below meth c nL h0 Q g → gOK G p l e R s m args below meth c nL h0 Q (pc, ls, st, h)
end GS
/-- the known locals, as the kit lists them -/
def gLs (ls : List Value) : List (Nat × Value) := (List.range ls.length).filterMap (fun k => match znth ls k with
  | some v => if v = zJ then none else some (k, v)
  | none => none)
theorem znth_lt {α : Type} : ∀ (l : List α) (k : Nat) (v : α), znth l k = some v → k < l.length := by
  intro l
  induction l with
  | nil => intro k v h; cases h
  | cons a l ih =>
    intro k v h
    cases k with
    | zero => exact Nat.succ_pos _
    | succ k => exact Nat.succ_lt_succ (ih k v h)
theorem gLs_mem {ls : List Value} {k : Nat} {v : Value} : (k, v) ∈ gLs ls ↔ znth ls k = some v ∧ v ≠ zJ := by
  unfold gLs
  rw [List.mem_filterMap]
  constructor
  · rintro ⟨j, hj, h⟩
    cases e : znth ls j with
    | none => rw [e] at h; cases h
    | some w =>
      rw [e] at h
      dsimp only at h
      by_cases hw : w = zJ
      · rw [if_pos hw] at h; cases h
      · rw [if_neg hw] at h
        cases h
        exact ⟨e, hw⟩
  · rintro ⟨h1, h2⟩
    refine ⟨k, List.mem_range.mpr (znth_lt _ _ _ h1), ?_⟩
    rw [h1]
    dsimp only
    rw [if_neg h2]
theorem gL.has {la : Array Slot} {nL : Nat} {ls : List Value} (h : gL la nL ls) : lv_has la nL (gLs ls) := by
  refine ⟨h.1, h.2.1, fun q hq => ?_⟩
  obtain ⟨k, v⟩ := q
  obtain ⟨h1, h2⟩ := gLs_mem.mp hq
  exact h.2.2.2 k v h1 h2
theorem zset_nth : ∀ (l : List Value) (k : Nat) (v : Value) (l' : List Value), zset l k v = some l' → (∀ j, znth l' j = if j = k then some v else znth l j) ∧ l'.length = l.length := by
  intro l
  induction l with
  | nil => intro k v l' h; cases h
  | cons a l ih =>
    intro k v l' h
    cases k with
    | zero =>
      cases h
      refine ⟨fun j => ?_, rfl⟩
      cases j with
      | zero => rfl
      | succ j => rw [if_neg (by omega)]; rfl
    | succ k =>
      unfold zset at h
      cases e : zset l k v with
      | none => rw [e] at h; cases h
      | some l2 =>
        rw [e] at h
        cases h
        obtain ⟨h1, h2⟩ := ih k v l2 e
        refine ⟨fun j => ?_, by simp [h2]⟩
        cases j with
        | zero => rw [if_neg (by omega)]; rfl
        | succ j =>
          show znth l2 j = _
          rw [h1 j]
          by_cases hj : j = k
          · rw [if_pos hj, if_pos (by omega)]
          · rw [if_neg hj, if_neg (by omega)]
            rfl
/-- what is left of the locals where something is stored at i -/
theorem zpre_nth {d : Bool} {ls l : List Value} {i : Nat} (h : zpre d ls i = some l) : l.length = ls.length ∧ ∀ k v, znth l k = some v → v ≠ zJ → znth ls k = some v ∧ ¬ (k + 1 = i ∧ v.category = 2) := by
  cases i with
  | zero =>
    cases h
    exact ⟨rfl, fun k v h1 _ => ⟨h1, fun q => by omega⟩⟩
  | succ i =>
    unfold zpre at h
    cases d with
    | true =>
      obtain ⟨h1, h2⟩ := zset_nth _ _ _ _ h
      refine ⟨h2, fun k v h3 h4 => ?_⟩
      rw [h1 k] at h3
      by_cases hk : k = i
      · rw [if_pos hk] at h3
        cases h3
        exact absurd rfl h4
      · rw [if_neg hk] at h3
        exact ⟨h3, fun q => hk (by omega)⟩
    | false =>
      dsimp only at h
      have hl : l = ls ∧ ∀ v, znth ls i = some v → v.category ≠ 2 := by
        split at h
        · cases h
        · cases h
        · rename_i h1 h2
          cases h
          refine ⟨rfl, fun v hv => ?_⟩
          cases v with
          | long x => exact absurd hv (h1 x)
          | double x => exact absurd hv (h2 x)
          | _ => simp [Value.category]
      obtain ⟨rfl, hc⟩ := hl
      refine ⟨rfl, fun k v h1 _ => ⟨h1, fun q => ?_⟩⟩
      have hk : k = i := by omega
      subst hk
      exact hc v h1 q.2
theorem gL.st1 {la' : Array Slot} {nL i : Nat} {d : Bool} {ls ls' : List Value} {v w : Value} (hn : ls.length = nL) (h : lv_has la' nL ((i, v) :: (gLs ls).filter (fun q => !(q.1 == i) && !(q.1 + 1 == i && q.2.category == 2)))) (hz : zst1 d ls i w = some ls') (hw : w = v ∨ w = zJ) : gL la' nL ls' := by
  unfold zst1 at hz
  cases e : zpre d ls i with
  | none => rw [e] at hz; cases hz
  | some l =>
    rw [e] at hz
    dsimp only at hz
    obtain ⟨h1, h2⟩ := zpre_nth e
    obtain ⟨h3, h4⟩ := zset_nth _ _ _ _ hz
    refine ⟨h.1, h.2.1, by rw [h4, h1, hn], fun k x hk hx => ?_⟩
    rw [h3 k] at hk
    by_cases hki : k = i
    · rw [if_pos hki] at hk
      cases hk
      rcases hw with rfl | rfl
      · rw [hki]; exact h.2.2 _ List.mem_cons_self
      · exact absurd rfl hx
    · rw [if_neg hki] at hk
      obtain ⟨h5, h6⟩ := h2 k x hk hx
      refine h.2.2 (k, x) (List.mem_cons_of_mem _ (List.mem_filter.mpr ⟨gLs_mem.mpr ⟨h5, hx⟩, ?_⟩))
      simp only [Bool.and_eq_true, Bool.not_eq_true', beq_eq_false_iff_ne, Bool.and_eq_false_iff, ne_eq]
      refine ⟨hki, ?_⟩
      by_cases h7 : k + 1 = i
      · exact Or.inr (fun q => h6 ⟨h7, q⟩)
      · exact Or.inl h7
section GR
variable {G : gG} {p : Program} {l : Launch} {e : Env} {R : Room} {s : State} {m : MethodId} {args : Array Value} {below : List Frame} {meth : Method} {c : Code} {nL : Nat} {h0 : zH} {cc : ByteArray} {pc n : Nat}
/-- on the stack alone -/
theorem gn_p {f : zP} (k : ∀ (Q : State → Prop) (st st' : List Value) (H : Heap) (locs : List Loc) (cells slots : Nat) (la : Array Slot), f st = some st' → W p l e R s m args below meth c H locs cells slots Q (F0 m n la st') → W p l e R s m args below meth c H locs cells slots Q (F0 m pc la st)) : gN G p l e R s m args below meth c nL h0 pc (zi_p f n) := by
  intro Q ls st h g hf h1 h2 hk H locs la hI hL hF
  unfold zi_p at hf
  cases e1 : f st with
  | none => rw [e1] at hf; cases hf
  | some st' =>
    rw [e1] at hf
    cases hf
    exact k Q st st' H locs _ _ la e1 (hk H locs la hI hL hF)
theorem gn_iadd (hx : p.tables.exec = Jvm.exec) (hb : c.code = cc) (hd : decode cc pc = .ok (.iadd, 1)) (hn : pc + 1 = n) : gN G p l e R s m args below meth c nL h0 pc (zi_p zo_iadd n) := by
  subst hn
  refine gn_p fun Q st st' H locs cells slots la hf hk => ?_
  unfold zo_iadd zo_i2 at hf
  split at hf
  · cases hf
    exact lv_iadd hx hb hd hk
  · cases hf
theorem gn_il {k : Nat} (hx : p.tables.exec = Jvm.exec) (hb : c.code = cc) (hd : (∃ q : Fin 4, (q : Nat) = k ∧ decode cc pc = .ok (.iload_n q, 1) ∧ pc + 1 = n) ∨ (decode cc pc = .ok (.iload k, 2) ∧ pc + 2 = n)) : gN G p l e R s m args below meth c nL h0 pc (zi_il k n) := by
  intro Q ls st h g hf h1 h2 hk H locs la hI hL hF
  unfold zi_il at hf
  split at hf
  · rename_i x hkx
    cases hf
    have hl := hL.2.2.2 k _ hkx (fun z => by cases z)
    rcases hd with ⟨q, rfl, hd, rfl⟩ | ⟨hd, rfl⟩
    · exact lv_iload_n hx hb hd rfl hl (hk H locs la hI hL hF)
    · exact lv_iload hx hb hd hl (hk H locs la hI hL hF)
  · cases hf
theorem gn_is {k : Nat} {d : Bool} (hx : p.tables.exec = Jvm.exec) (hb : c.code = cc) (hkn : k < nL) (hd : (∃ q : Fin 4, (q : Nat) = k ∧ decode cc pc = .ok (.istore_n q, 1) ∧ pc + 1 = n) ∨ (decode cc pc = .ok (.istore k, 2) ∧ pc + 2 = n)) : gN G p l e R s m args below meth c nL h0 pc (zi_is d k n) := by
  intro Q ls st h g hf h1 h2 hk H locs la hI hL hF
  unfold zi_is at hf
  split at hf
  · split at hf
    · rename_i l hl
      cases hf
      rcases hd with ⟨q, rfl, hd, rfl⟩ | ⟨hd, rfl⟩
      · exact lv_istore_n hx hb hd rfl hL.has hkn rfl (fun la' h' => hk H locs la' hI (gL.st1 hL.2.2.1 h' hl (Or.inl rfl)) hF)
      · exact lv_istore hx hb hd hL.has hkn rfl (fun la' h' => hk H locs la' hI (gL.st1 hL.2.2.1 h' hl (Or.inl rfl)) hF)
    · cases hf
  · cases hf
end GR
