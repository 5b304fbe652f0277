/-! THE SOUNDNESS THEOREM: what the abstract machine comes to, the machine comes to -/
theorem gPn : gT.all (fun I => plainFor I.1) = true := by decide +kernel
theorem znth_mem {α : Type} {l : List α} {k : Nat} {a : α} (h : znth l k = some a) : a ∈ l := by
  rw [znth_get] at h
  exact List.mem_of_getElem? h
theorem gSnd (G : gG) (l : Launch) (hfl : l.flags = flags0) : ∀ n M g r, zrun PG n M g = some r → ∀ I, znth gT M = some I → ∀ (p : Program) (e : Env) (R : Room) (s : State) (m : MethodId) (args : Array Value) (below : List Frame) (meth : Method) (c : Code) (h0 : zH), gCx G I p l e R s m args below meth c h0 → r.2.2.1 - h0.2.1 ≤ R.cells → r.2.2.2.1 - h0.2.2.1 ≤ R.slots → gOK G p l e R s m args below meth c I.2.2.2.1 h0 (gQ G below args s h0 r) g := by
  refine gMain gT G l hfl ?_ ?_ ?_ ?_
  · intro M pc f e
    obtain ⟨I, h1, h2, h3⟩ := gPr_all (gWhole (G := G)) e
    exact h3
  · intro M pc f I e hI
    obtain ⟨I', h1, h2, h3⟩ := gPr_all (gWhole (G := G)) e
    cases hI.symm.trans h1
    exact h2
  · intro k q hq
    obtain ⟨I, h1, -, h3⟩ := gPr_at PG gT (gWhole (G := G)) k q hq
    exact ⟨I, h1, h3⟩
  · intro k I as h r hI hlen kk
    have hy : plainFor I.1 = true := List.all_eq_true.mp gPn I (znth_mem hI)
    obtain ⟨y, cc, ret, nL, hh, F, L⟩ := I
    exact gEnt hfl hy hlen kk
