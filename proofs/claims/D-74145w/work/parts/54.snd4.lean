/-! SOUNDNESS: ends, calls, and the whole program -/
/-- the classes of what is thrown -/
def gName : Nat → Option String
  | 4 => some "DistinctMarks$Wrong"
  | 5 => some "java/util/NoSuchElementException"
  | _ => none
/-- from h to h': nothing more may be written but what is new -/
def gMon (h h' : zH) : Prop := (∀ q, gWr h' q → gWr h q) ∧ h.2.1 ≤ h'.2.1 ∧ h.2.2.1 ≤ h'.2.2.1 ∧ h'.2.2.2 = h.2.2.2
theorem gMon.rf (h : zH) : gMon h h := ⟨fun _ q => q, Nat.le_refl _, Nat.le_refl _, rfl⟩
theorem gMon.trans {h1 h2 h3 : zH} (a : gMon h1 h2) (b : gMon h2 h3) : gMon h1 h3 := ⟨fun q hq => a.1 q (b.1 q hq), Nat.le_trans a.2.1 b.2.1, Nat.le_trans a.2.2.1 b.2.2.1, b.2.2.2.trans a.2.2.2⟩
def gQc (G : gG) (h : zH) (r : zR) : Array Value → State → Outcome → State → Prop := fun _ st o t => ∃ v, r.1 = .inl v ∧ o = .returned v ∧ gInv G r.2 t.heap ∧ va_F (gWr h) st t
def gXC (G : gG) (h : zH) (r : zR) : String → State → State → Prop := fun E st t => ∃ x, r.1 = .inr x ∧ gName x = some E ∧ gInv G r.2 t.heap ∧ va_F (gWr h) st t
def gQ (G : gG) (below : List Frame) (args : Array Value) (s : State) (h0 : zH) (r : zR) : State → Prop := vx_MQ below (gQc G h0 r) (gXC G h0 r) args s (r.2.2.1 - h0.2.1) (r.2.2.2.1 - h0.2.2.1) (gWr h0)
section GR
variable {G : gG} {p : Program} {l : Launch} {e : Env} {R : Room} {s : State} {m : MethodId} {args : Array Value} {below : List Frame} {meth : Method} {c : Code} {nL : Nat} {h0 : zH} {cc : ByteArray} {pc n : Nat}
theorem gFr.F {H : Heap} {locs : List Loc} {h : zH} {t : State} (hF : gFr h0 s.heap H locs h) (ht : t.heap = H) : va_F (gWr h0) s t := hF.1.F ht
/-- a call's run, and what goes on behind it -/
theorem gc_go {Q : State → Prop} {h : zH} {r : zR} {H : Heap} {locs : List Loc} {la : Array Slot} {ls st0 rest : List Value} {a : Array Value}
    (hr : vx_Run p l e R s m args below meth c H locs (h.2.1 - h0.2.1) (h.2.2.1 - h0.2.2.1) (r.2.2.1 - h.2.1) (r.2.2.2.1 - h.2.2.1) (F0 m pc la st0) rest (gQc G h r a) (gXC G h r) (gWr h)) (hL : gL la nL ls) (hF : gFr h0 s.heap H locs h) (hm : gMon h r.2)
    (k1 : ∀ v, r.1 = .inl v → gOK G p l e R s m args below meth c nL h0 Q (pc + 3, ls, v.toList ++ rest, r.2))
    (k2 : ∀ x, r.1 = .inr x → ∀ (H1 : Heap) (locs1 : List Loc) (q : Addr) (E : String) (ce : Cell), gInv G r.2 H1 → gFr h0 s.heap H1 locs1 r.2 → H1[q]? = some ce → ce.vm = .none → s.vm.findClass E = some ce.cls → gName x = some E → vx_W p l e R s m args below meth c H1 locs1 (r.2.2.1 - h0.2.1) (r.2.2.2.1 - h0.2.2.1) Q (F0 m pc la rest) q) :
    W p l e R s m args below meth c H locs (h.2.1 - h0.2.1) (h.2.2.1 - h0.2.2.1) Q (F0 m pc la st0) := by
  have ec : h.2.1 - h0.2.1 + (r.2.2.1 - h.2.1) = r.2.2.1 - h0.2.1 := by have q1 := hF.2.2.1; have q2 := hm.2.1; omega
  have es : h.2.2.1 - h0.2.2.1 + (r.2.2.2.1 - h.2.2.1) = r.2.2.2.1 - h0.2.2.1 := by have q1 := hF.2.2.2.1; have q2 := hm.2.2.1; omega
  have fr : ∀ {st₀ t T' : State} {L : List Loc}, st₀.heap = H → T'.heap = t.heap → va_F (gWr h) st₀ t → (∀ q ∈ L, gWr h q.base) → gFr h0 s.heap T'.heap (locs ++ L) r.2 := by
    intro st₀ t T' L e0 e1 hva hLq
    obtain ⟨k1, k2, k3⟩ := vx_keep (A0 := gWr h0) (A1 := gWr h) (free := gWr h) e0 e1 hF.1 (fun q _ hq => hF.2.1 q hq) (fun q hq => hF.2.1 q hq) hLq hva
    exact ⟨k3, fun q hq => hF.2.1 q (hm.1 q hq), Nat.le_trans hF.2.2.1 hm.2.1, Nat.le_trans hF.2.2.2.1 hm.2.2.1, hm.2.2.2.trans hF.2.2.2.2.1, hF.2.2.2.2.2⟩
  intro T hT X
  rcases hr T hT X with ⟨v, st₀, t, T', L, h0', X', hL', e1, e2, ⟨v', hv', hv, hInv, hva⟩, st⟩ | ⟨q, st₀, t, T', L, E, ce, h0', X', hL', e1, e2, ⟨x, hx', hnm, hInv, hva⟩, hce, hcv, hcl, st⟩
  · cases hv
    rw [ec, es] at X'
    obtain ⟨t2, a1, b1⟩ := k1 v hv' T'.heap (locs ++ L) la (by rw [e1]; exact hInv) hL (fr h0' e1 hva hL') T' rfl X'
    exact ⟨t2, st t2 a1, b1⟩
  · rw [ec, es] at X'
    obtain ⟨t2, a1, b1⟩ := k2 x hx' T'.heap (locs ++ L) q E ce (by rw [e1]; exact hInv) (fr h0' e1 hva hL') (by rw [e1]; exact hce) hcv hcl hnm T' rfl X'
    exact ⟨t2, st.trans a1, b1⟩
/-- ends -/
theorem ge_end {h : zH} {v : Option Value} {H : Heap} {locs : List Loc} {la : Array Slot} {st : List Value} (hI : gInv G h H) (hF : gFr h0 s.heap H locs h)
    (k : (∀ t : State, t.heap = H → s.WarmedH t.vm → gQc G h0 (.inl v, h) args s (.returned v) t) → (∀ q ∈ locs, gWr h0 q.base) → W p l e R s m args below meth c H locs (h.2.1 - h0.2.1) (h.2.2.1 - h0.2.2.1) (MQ below (gQc G h0 (.inl v, h)) args s (h.2.1 - h0.2.1) (h.2.2.1 - h0.2.2.1) (gWr h0)) (F0 m pc la st)) :
    W p l e R s m args below meth c H locs (h.2.1 - h0.2.1) (h.2.2.1 - h0.2.2.1) (gQ G below args s h0 (.inl v, h)) (F0 m pc la st) :=
  vx_ret (k (fun t ht _ => ⟨v, rfl, rfl, by rw [ht]; exact hI, hF.1.F ht⟩) hF.1.2.2)
/-- an instruction that ends the method -/
def gEd (G : gG) (p : Program) (l : Launch) (e : Env) (R : Room) (s : State) (m : MethodId) (args : Array Value) (below : List Frame) (meth : Method) (c : Code) (nL : Nat) (h0 : zH) (pc : Nat) (f : zI) : Prop := ∀ (ls st : List Value) (h : zH) (r : zR), f ls st h = some (.inr (.inl r)) → r.2.2.1 - h0.2.1 ≤ R.cells → r.2.2.2.1 - h0.2.2.1 ≤ R.slots → gOK G p l e R s m args below meth c nL h0 (gQ G below args s h0 r) (pc, ls, st, h)
theorem ge_ret0 (hx : p.tables.exec = Jvm.exec) (hb : c.code = cc) (hr : meth.sig.returnType = none) (hlk : meth.locks = false) (hd : decode cc pc = .ok (.return_, 1)) : gEd G p l e R s m args below meth c nL h0 pc zi_ret0 := by
  intro ls st h r hf _ _ H locs la hI hL hF
  unfold zi_ret0 at hf
  split at hf
  · cases hf
    exact ge_end hI hF (fun k1 k2 => W.vret hx hb hr k1 k2 hd hlk)
  · cases hf
theorem ge_iret (hx : p.tables.exec = Jvm.exec) (hb : c.code = cc) (hr : meth.sig.returnType = some .int) (hlk : meth.locks = false) (hd : decode cc pc = .ok (.ireturn, 1)) : gEd G p l e R s m args below meth c nL h0 pc zi_iret := by
  intro ls st h r hf _ _ H locs la hI hL hF
  unfold zi_iret at hf
  split at hf
  · cases hf
    exact ge_end hI hF (fun k1 k2 => W.iret hx hb hr k1 k2 hd hlk)
  · cases hf
theorem ge_lret (hx : p.tables.exec = Jvm.exec) (hb : c.code = cc) (hr : meth.sig.returnType = some .long) (hlk : meth.locks = false) (hd : decode cc pc = .ok (.lreturn, 1)) : gEd G p l e R s m args below meth c nL h0 pc zi_lret := by
  intro ls st h r hf _ _ H locs la hI hL hF
  unfold zi_lret at hf
  split at hf
  · cases hf
    exact ge_end hI hF (fun k1 k2 => W.lret hx hb hr k1 k2 hd hlk)
  · cases hf
theorem ge_aret {rt : FieldType} (hx : p.tables.exec = Jvm.exec) (hb : c.code = cc) (hr : meth.sig.returnType = some rt) (hrt : (∃ n, rt = .object n) ∨ ∃ t, rt = .array t) (hlk : meth.locks = false) (hd : decode cc pc = .ok (.areturn, 1)) : gEd G p l e R s m args below meth c nL h0 pc zi_aret := by
  intro ls st h r hf _ _ H locs la hI hL hF
  unfold zi_aret at hf
  split at hf
  · cases hf
    exact ge_end hI hF (fun k1 k2 => W.aret hx hb hr hrt (Or.inr ⟨_, rfl⟩) k1 k2 hd hlk)
  · cases hf
theorem ge_zret (hx : p.tables.exec = Jvm.exec) (hb : c.code = cc) (hr : meth.sig.returnType = some .boolean) (hlk : meth.locks = false) (hd : decode cc pc = .ok (.ireturn, 1)) : gEd G p l e R s m args below meth c nL h0 pc zi_retz := by
  intro ls st h r hf _ _ H locs la hI hL hF
  unfold zi_retz at hf
  split at hf
  · split at hf
    · rename_i x hx1
      cases hf
      exact ge_end hI hF (fun k1 k2 => W.zret hx hb hr (by rcases hx1 with rfl | rfl <;> decide) k1 k2 hd hlk)
    · cases hf
  · cases hf
theorem ge_cret (hx : p.tables.exec = Jvm.exec) (hb : c.code = cc) (hr : meth.sig.returnType = some .char) (hlk : meth.locks = false) (hd : decode cc pc = .ok (.ireturn, 1)) : gEd G p l e R s m args below meth c nL h0 pc zi_retc := by
  intro ls st h r hf _ _ H locs la hI hL hF
  unfold zi_retc at hf
  split at hf
  · split at hf
    · rename_i x hx1
      cases hf
      exact ge_end hI hF (fun k1 k2 => W.zret hx hb hr (by rw [← hx1]; exact pk_nc x) k1 k2 hd hlk)
    · cases hf
  · cases hf
theorem ge_bret (hx : p.tables.exec = Jvm.exec) (hb : c.code = cc) (hr : meth.sig.returnType = some .byte) (hlk : meth.locks = false) (hd : decode cc pc = .ok (.ireturn, 1)) : gEd G p l e R s m args below meth c nL h0 pc zi_retb := by
  intro ls st h r hf _ _ H locs la hI hL hF
  unfold zi_retb at hf
  split at hf
  · split at hf
    · rename_i x hx1
      cases hf
      exact ge_end hI hF (fun k1 k2 => W.zret hx hb hr (by rw [← hx1]; exact pk_nb x) k1 k2 hd hlk)
    · cases hf
  · cases hf
/-- thrown here, not caught here -/
theorem ge_thr (hx : p.tables.exec = Jvm.exec) (hb : c.code = cc) (hK : gV G s) (hlk : meth.locks = false) (hout : ∀ x ∈ c.exceptionTable.toList, covers x pc = false) (hd : decode cc pc = .ok (.athrow, 1)) : gEd G p l e R s m args below meth c nL h0 pc zi_thr := by
  intro ls st h r hf _ _ H locs la hI hL hF
  unfold zi_thr at hf
  split at hf
  · split at hf
    · rename_i q st _ x hv
      cases hf
      unfold zthr at hv
      split at hv
      · rename_i b x' fs hh
        split at hv
        · rename_i h4
          subst h4
          cases hv
          obtain ⟨cell, q1, q2, q3, -⟩ := hI.2 _ _ _ hh
          refine vx_athrow hx hb hd ?_
          exact vx_out (E := "DistinctMarks$Wrong") hout hlk q1 q3 (by rw [q2]; exact (hK.1 4 (RX4, TX4, 6) rfl).2.1) (fun t ht _ => ⟨4, rfl, rfl, by rw [ht]; exact hI, hF.1.F ht⟩) hF.1.2.2 (Nat.le_refl _) (Nat.le_refl _)
        · cases hv
      · cases hv
    · cases hf
  · cases hf
end GR
