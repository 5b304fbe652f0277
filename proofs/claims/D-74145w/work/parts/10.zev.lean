/-! THE ABSTRACT MACHINE: cells, heap, instructions as functions, runs with fuel, the fuel-free meaning zsem, and its step laws. -/
/-- a cell: an array (kind, length, contents) or an object (class number, fields) -/
abbrev zE : Type := (Nat × Nat × (Nat → Value)) ⊕ (Nat × List Value)
/-- a heap: what lies where (with a flag: may be written), its size, the slots made so far, the constants -/
abbrev zH : Type := (Nat → Option (Bool × zE)) × Nat × Nat × (Nat → Value)
/-- an end: returned, or threw an object of a class; and the heap -/
abbrev zR : Type := (Option Value ⊕ Nat) × zH
/-- a frame: pc, locals, stack, heap -/
abbrev zF : Type := Nat × List Value × List Value × zH
/-- a call: method, arguments, the handler (its pc behind the store of what was thrown, that local, the class that it takes), the frame that goes on -/
abbrev zK : Type := Nat × List Value × Option (Nat × Nat × Nat) × zF
abbrev zO : Type := Option (zF ⊕ (zR ⊕ zK))
abbrev zI : Type := List Value → List Value → zH → zO
/-- what stands in a local that holds nothing -/
def zJ : Value := .retAddr 0
/-- a method: its number of locals, its code by pc -/
abbrev zM : Type := Nat × List zI
def znth {α : Type} : List α → Nat → Option α
  | [], _ => none
  | a :: _, 0 => some a
  | _ :: l, n + 1 => znth l n
/-- the locals at entry -/
def zsl : List Value → List Value
  | [] => []
  | .long x :: l => .long x :: zJ :: zsl l
  | .double x :: l => .double x :: zJ :: zsl l
  | v :: l => v :: zsl l
def zset : List Value → Nat → Value → Option (List Value)
  | [], _, _ => none
  | _ :: l, 0, v => some (v :: l)
  | a :: l, n + 1, v => (zset l n v).map (fun l' => a :: l')
/-- a long that ends where something is stored is gone -/
def zpre (d : Bool) (ls : List Value) : Nat → Option (List Value)
  | 0 => some ls
  | k + 1 => match d with
    | true => zset ls k zJ
    | false => match znth ls k with
      | some (.long _) => none
      | some (.double _) => none
      | _ => some ls
def zst1 (d : Bool) (ls : List Value) (k : Nat) (v : Value) : Option (List Value) := match zpre d ls k with
  | some l => zset l k v
  | none => none
def zent (n : Nat) (as : List Value) : List Value := zsl as ++ List.replicate (n - (zsl as).length) zJ
def zN (pg : List zM) (k : Nat) : Nat := (znth pg k).elim 0 (fun q => q.1)
/-- a call, over a meaning of what is called -/
def zin (pg : List zM) (rec : Nat → zF → Option zR) (k : Nat) (as : List Value) (h : zH) : Option zR := if (zsl as).length ≤ zN pg k then rec k (0, zent (zN pg k) as, [], h) else none
theorem zin_mono {pg : List zM} {r1 r2 : Nat → zF → Option zR} (h : ∀ M g r, r1 M g = some r → r2 M g = some r) {k : Nat} {as : List Value} {hp : zH} {r : zR} (e : zin pg r1 k as hp = some r) : zin pg r2 k as hp = some r := by
  unfold zin at e ⊢
  split at e
  · rename_i hl
    rw [if_pos hl]
    exact h _ _ _ e
  · cases e
/-- what becomes of what was thrown: no word, on to the caller, caught -/
def zhnd (hd : Option (Nat × Nat × Nat)) (q : Nat) (ls : List Value) : Option (Option (Nat × List Value)) := match hd with
  | none => some none
  | some (j, k, x) => if q = x then (match zst1 false ls k zJ with
    | some l => some (some (j, l))
    | none => none) else none
/-- one step, over a meaning of the rest -/
def zstep (pg : List zM) (rec : Nat → zF → Option zR) (M : Nat) (g : zF) : Option zR :=
  match (znth pg M).bind (fun q => znth q.2 g.1) with
  | none => none
  | some f => match f g.2.1 g.2.2.1 g.2.2.2 with
    | none => none
    | some (.inl g') => rec M g'
    | some (.inr (.inl r)) => some r
    | some (.inr (.inr (k, as, hd, (n, ls, st, h)))) =>
      match zin pg rec k as h with
      | none => none
      | some (.inl v, h2) => rec M (n, ls, v.toList ++ st, h2)
      | some (.inr q, h2) => match zhnd hd q ls with
        | none => none
        | some none => some (.inr q, h2)
        | some (some (j, l)) => rec M (j, l, [], h2)
def zrun (pg : List zM) : Nat → Nat → zF → Option zR
  | 0, _, _ => none
  | n + 1, M, g => zstep pg (zrun pg n) M g
theorem zstep_mono {pg : List zM} {r1 r2 : Nat → zF → Option zR} (h : ∀ M g r, r1 M g = some r → r2 M g = some r) (M : Nat) (g : zF) (r : zR) (e : zstep pg r1 M g = some r) : zstep pg r2 M g = some r := by
  unfold zstep at e ⊢
  split at e
  · cases e
  · split at e
    · cases e
    · exact h _ _ _ e
    · exact e
    · split at e
      · cases e
      · rename_i hc
        rw [zin_mono h hc]
        exact h _ _ _ e
      · rename_i hc
        rw [zin_mono h hc]
        split at e
        · cases e
        · rename_i hz
          dsimp only
          rw [hz]
          exact e
        · rename_i hz
          dsimp only
          rw [hz]
          exact h _ _ _ e
theorem zrun_succ {pg : List zM} (n : Nat) : ∀ M g r, zrun pg n M g = some r → zrun pg (n + 1) M g = some r := by
  induction n with
  | zero => intro M g r e; cases e
  | succ n ih => intro M g r e; exact zstep_mono ih M g r e
theorem zrun_le {pg : List zM} {n k : Nat} (hnk : n ≤ k) : ∀ M g r, zrun pg n M g = some r → zrun pg k M g = some r := by
  induction hnk with
  | refl => intro M g r e; exact e
  | step _ ih => intro M g r e; exact zrun_succ _ _ _ _ (ih M g r e)
/-- the meaning of a frame: its end, if it comes to one -/
noncomputable def zsm (pg : List zM) (M : Nat) (g : zF) : Option zR := @dite (Option zR) (∃ r n, zrun pg n M g = some r) (Classical.propDecidable _) (fun h => some h.choose) (fun _ => none)
theorem zsm_iff {pg : List zM} {M : Nat} {g : zF} {r : zR} : zsm pg M g = some r ↔ ∃ n, zrun pg n M g = some r := by
  unfold zsm
  by_cases h : ∃ r n, zrun pg n M g = some r
  · rw [dif_pos h]
    obtain ⟨n, hn⟩ := h.choose_spec
    constructor
    · intro e
      cases e
      exact ⟨n, hn⟩
    · rintro ⟨k, hk⟩
      have h1 := zrun_le (Nat.le_max_left n k) _ _ _ hn
      have h2 := zrun_le (Nat.le_max_right n k) _ _ _ hk
      rw [h1] at h2
      exact h2
  · rw [dif_neg h]
    constructor
    · intro e; cases e
    · rintro ⟨k, hk⟩
      exact absurd ⟨r, k, hk⟩ h
theorem zin_fin {pg : List zM} {k : Nat} {as : List Value} {hp : zH} {r : zR} (e : zin pg (zsm pg) k as hp = some r) : ∃ n, zin pg (zrun pg n) k as hp = some r := by
  unfold zin at e
  split at e
  · rename_i hl
    obtain ⟨n, hn⟩ := zsm_iff.mp e
    refine ⟨n, ?_⟩
    unfold zin
    rw [if_pos hl]
    exact hn
  · cases e
theorem zsm_step (pg : List zM) (M : Nat) (g : zF) : zsm pg M g = zstep pg (zsm pg) M g := by
  have key : ∀ r, zsm pg M g = some r ↔ zstep pg (zsm pg) M g = some r := by
    intro r
    rw [zsm_iff]
    constructor
    · rintro ⟨n, hn⟩
      cases n with
      | zero => cases hn
      | succ n => exact zstep_mono (fun M g r e => zsm_iff.mpr ⟨n, e⟩) M g r hn
    · intro e
      have fin : ∃ n, zstep pg (zrun pg n) M g = some r := by
        unfold zstep at e ⊢
        split at e
        · cases e
        · split at e
          · cases e
          · obtain ⟨n, hn⟩ := zsm_iff.mp e
            exact ⟨n, hn⟩
          · exact ⟨0, e⟩
          · split at e
            · cases e
            · rename_i hc
              obtain ⟨n1, h1⟩ := zin_fin hc
              obtain ⟨n2, h2⟩ := zsm_iff.mp e
              refine ⟨max n1 n2, ?_⟩
              rw [zin_mono (zrun_le (Nat.le_max_left n1 n2)) h1]
              exact zrun_le (Nat.le_max_right n1 n2) _ _ _ h2
            · rename_i hc
              obtain ⟨n1, h1⟩ := zin_fin hc
              split at e
              · cases e
              · rename_i hz
                refine ⟨n1, ?_⟩
                rw [h1]
                dsimp only
                rw [hz]
                exact e
              · rename_i hz
                obtain ⟨n2, h2⟩ := zsm_iff.mp e
                refine ⟨max n1 n2, ?_⟩
                rw [zin_mono (zrun_le (Nat.le_max_left n1 n2)) h1]
                dsimp only
                rw [hz]
                exact zrun_le (Nat.le_max_right n1 n2) _ _ _ h2
      obtain ⟨n, hn⟩ := fin
      exact ⟨n + 1, hn⟩
  cases h1 : zsm pg M g with
  | none =>
    cases h2 : zstep pg (zsm pg) M g with
    | none => rfl
    | some r => rw [← key] at h2; rw [h1] at h2; cases h2
  | some r => exact ((key r).mp h1).symm
