/-! SOUNDNESS: a method's entry -/
theorem gL_at (as : List Value) {nL : Nat} (h : (zsl as).length ≤ nL) : gL ((lg_sl as ++ List.replicate (nL - (lg_sl as).length) Slot.unset).toArray) nL (zent nL as) := by
  have hl := lv_entry as (n := nL) (by rw [← zsl_len]; exact h)
  refine ⟨hl.1, hl.2.1, ?_, fun k v hk hv => ?_⟩
  · unfold zent
    rw [List.length_append, List.length_replicate]
    omega
  · have := gL_entry as k v _ (nL - (lg_sl as).length) hk hv
    simpa using this
theorem gFr.rf (h : zH) (H : Heap) (hz : H.size = h.2.1) : gFr h H H [] h := ⟨va_S.rf, fun _ q => q, Nat.le_refl _, Nat.le_refl _, rfl, hz⟩
theorem vx_ofWF {l : Launch} {y : MethodName} {ws ws' : List Cond} {rm : Room} {Pc : Array Value → State → Prop} {Qc : Array Value → State → Outcome → State → Prop} {XC : String → State → State → Prop} {mc ms : Nat} {free : Addr → Prop} {cc : ByteArray} {maxL : Nat} {ret : Option FieldType}
    (hy : plainFor y = true) (hw : ws = Cond.code y cc maxL ret :: ws')
    (body : ∀ p e s m args below meth c s₁, BodyLoose p l y (headSpec ws rm) cc maxL ret e s m args below meth c s₁ → c.maxLocals = maxL → (∀ x ∈ c.exceptionTable.toList, False) → Pc args s →
      W p l e (headSpec ws rm).room s m args below meth c s.heap [] 0 0 (vx_MQ below Qc XC args s mc ms free) (entryFrame m args maxL)) : vx_Met l y ws rm Pc Qc XC mc ms free := by
  refine MetFree.of_bodySF (code := cc) (maxLocals := maxL) (ret := ret) hy ?_ ?_
  · intro args s m h hn
    obtain ⟨meth, c, h1, h2, h3, h4, h5, h6, -, -⟩ := Cond.code_spec hn (atoms_spec (ws := ws) h _ (by rw [hw]; exact List.mem_cons_self))
    exact ⟨meth, c, h1, h2, h3, h4, h5, h6⟩
  · intro p e s m args below meth c s₁ B hml hP _
    have hh0 : s₁.heap = s.heap := by rw [B.state]; rfl
    have ht : ∀ x ∈ c.exceptionTable.toList, False := by
      obtain ⟨meth9, c9, h1, h2, -, -, -, -, h7, -⟩ := Cond.code_spec B.named (atoms_spec (ws := ws) B.pre _ (by rw [hw]; exact List.mem_cons_self))
      cases Option.some.inj (h1.symm.trans B.method)
      cases Option.some.inj (h2.symm.trans (Stand.of_body B).code)
      intro x hx
      rw [Array.isEmpty_iff.mp h7] at hx
      cases hx
    obtain ⟨t, a1, o, b1, b2, b3⟩ := body p e s m args below meth c s₁ B hml ht hP s₁ hh0 (Stand.of_body B)
    exact ⟨t, o, a1, b1, b2, b3⟩
theorem vx_ofWHF {l : Launch} {y : MethodName} {ws ws' : List Cond} {rm : Room} {Pc : Array Value → State → Prop} {Qc : Array Value → State → Outcome → State → Prop} {XC : String → State → State → Prop} {mc ms : Nat} {free : Addr → Prop} {cc : ByteArray} {maxL : Nat} {ret : Option FieldType} {hh : List (Nat × Nat × Nat × Nat)}
    (hy : plainFor y = true) (hw : ws = Cond.codeWith y cc maxL ret hh :: ws')
    (body : ∀ p e s m args below meth c s₁, BodyLoose p l y (headSpec ws rm) cc maxL ret e s m args below meth c s₁ → c.maxLocals = maxL → Pc args s →
      W p l e (headSpec ws rm).room s m args below meth c s.heap [] 0 0 (vx_MQ below Qc XC args s mc ms free) (entryFrame m args maxL)) : vx_Met l y ws rm Pc Qc XC mc ms free := by
  refine MetFree.of_bodySF (code := cc) (maxLocals := maxL) (ret := ret) hy ?_ ?_
  · intro args s m h hn
    obtain ⟨m9, meth, c, hn9, h1, h2, h3, h4, -, h5, h6, -⟩ := Cond.codeWith_spec (atoms_spec (ws := ws) h _ (by rw [hw]; exact List.mem_cons_self))
    cases hn.symm.trans hn9
    exact ⟨meth, c, h1, h2, h3, h4, h5, h6⟩
  · intro p e s m args below meth c s₁ B hml hP _
    have hh0 : s₁.heap = s.heap := by rw [B.state]; rfl
    obtain ⟨t, a1, o, b1, b2, b3⟩ := body p e s m args below meth c s₁ B hml hP s₁ hh0 (Stand.of_body B)
    exact ⟨t, o, a1, b1, b2, b3⟩
theorem gEnt {G : gG} {l : Launch} (hfl : l.flags = flags0) {y : MethodName} {cc : ByteArray} {ret : Option FieldType} {nL F L : Nat} {hh : List (Nat × Nat × Nat × Nat)} {as : List Value} {h : zH} {r : zR} (hy : plainFor y = true) (hlen : (zsl as).length ≤ nL)
    (k : ∀ (p : Program) (e : Env) (R : Room) (s : State) (m : MethodId) (args : Array Value) (below : List Frame) (meth : Method) (c : Code), gCx G (y, cc, ret, nL, hh, F, L) p l e R s m args below meth c h → r.2.2.1 - h.2.1 ≤ R.cells → r.2.2.2.1 - h.2.2.1 ≤ R.slots → gOK G p l e R s m args below meth c nL h (gQ G below args s h r) (0, zent nL as, [], h)) : gMet G l (y, cc, ret, nL, hh, F, L) as h r := by
  unfold gMet
  cases hh with
  | nil =>
    refine vx_ofWF (cc := cc) (maxL := nL) (ret := ret) hy rfl ?_
    intro p e s m args below meth c s₁ B hml ht hv
    obtain ⟨rfl, hI, hK⟩ := hv
    have hts := atoms_spec (ws := ws_ y cc nL ret) B.pre
    have htb : c.exceptionTable.toList = tableOf [] := List.eq_nil_iff_forall_not_mem.mpr ht
    have k := k p e (gRm (y, cc, ret, nL, [], F, L) (r.2.2.1 - h.2.1) (r.2.2.2.1 - h.2.2.1)) s m as.toArray below meth c ⟨B.exec, B.bytes, B.returns, B.notSynchronized, hml, findClass_of_methodNamed B.named, fun _ => ⟨(name_of_methodNamed B.named B.method).1, B.named⟩, fun w h => hts w (List.mem_cons_of_mem _ h), htb, rfl, rfl, hfl, hK⟩ (Nat.le_refl _) (Nat.le_refl _) s.heap [] _ hI (gL_at as hlen) (gFr.rf h s.heap hI.1)
    rw [lg_entry_eq]
    dsimp only at k
    rw [Nat.sub_self, Nat.sub_self] at k
    exact k
  | cons q hh =>
    refine vx_ofWHF (cc := cc) (maxL := nL) (ret := ret) (hh := q :: hh) hy rfl ?_
    intro p e s m args below meth c s₁ B hml hv
    obtain ⟨rfl, hI, hK⟩ := hv
    have hts := atoms_spec (ws := wsW_ y cc nL ret (q :: hh)) B.pre
    have htb : c.exceptionTable.toList = tableOf (q :: hh) := vx_table (x := y) B (hts _ List.mem_cons_self)
    have k := k p e (gRm (y, cc, ret, nL, q :: hh, F, L) (r.2.2.1 - h.2.1) (r.2.2.2.1 - h.2.2.1)) s m as.toArray below meth c ⟨B.exec, B.bytes, B.returns, B.notSynchronized, hml, findClass_of_methodNamed B.named, fun _ => ⟨(name_of_methodNamed B.named B.method).1, B.named⟩, fun w h => hts w (List.mem_cons_of_mem _ h), htb, rfl, rfl, hfl, hK⟩ (Nat.le_refl _) (Nat.le_refl _) s.heap [] _ hI (gL_at as hlen) (gFr.rf h s.heap hI.1)
    rw [lg_entry_eq]
    dsimp only at k
    rw [Nat.sub_self, Nat.sub_self] at k
    exact k
