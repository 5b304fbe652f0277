/-! SOUNDNESS: 'throw new NoSuchElementException()' (gx_throw0 is the kit's vx_throw0, with what is new told exactly) -/
section GX
variable {p : Program} {l : Launch} {e : Env} {R : Room} {s : State} {m : MethodId} {args : Array Value} {below : List Frame} {meth : Method} {c : Code} {H : Heap} {locs : List Loc} {cells slots : Nat} {ls : Array Slot} {rest : List Value} {free : Addr → Prop}
variable {Qc : Array Value → State → Outcome → State → Prop} {XC : String → State → State → Prop}
theorem gx_throw0 {cc : ByteArray} {pc : Nat} (hexec : p.tables.exec = Jvm.exec) (hb : c.code = cc) (hl : l.stackTraces = false) {own cls : String} {names : List String} {ik ic mc ms : Nat} {A : Nat → Prop}
    (hown : s.vm.findClass own = some m.cls) (hcls : Bundle.fit cls = true) (hnames : ∀ n ∈ names, Bundle.fit n = true)
    (hk : (Cond.classLink own ik cls).before args s = true) (hini : (Cond.initialized cls).before args s = true) (hat : ∀ w ∈ vx_at0 own ic cls names, w.before args s = true)
    (hgood : ∀ w ∈ Cond.classLink own ik cls :: Cond.initialized cls :: vx_at0 own ic cls names, vx_ot w = true)
    (hU : vx_Zq Bundle.tN "UNASSIGNED_STACK" Bundle.steD A s s.heap) (hN : vx_Zq Bundle.tN "SUPPRESSED_SENTINEL" Bundle.listD A s s.heap) (hS : va_S A s.heap H locs) (hsize : ls.size = c.maxLocals)
    (d0 : decode cc pc = .ok (.new ik, 3)) (d3 : decode cc (pc + 3) = .ok (.dup, 1)) (d4 : decode cc (pc + 4) = .ok (.invokespecial ic, 3)) (d7 : decode cc (pc + 7) = .ok (.athrow, 1))
    (hout : ∀ x ∈ c.exceptionTable.toList, covers x (pc + 7) = false)
    (hRframes : names.length + 3 < R.frames) (hRlocals : (rest.map fun v => v.category).sum + (13 * (names.length + 1) + 42) ≤ R.locals) (hRcells : cells + 1 ≤ R.cells) (hRslots : slots + 6 ≤ R.slots) (hlocks : meth.locks = false)
    (hx : ∀ (t : State) (ce : Cell), s.vm.Alike t.vm → t.heap.size = H.size + 1 → (∀ q : Nat, q < H.size → t.heap[q]? = H[q]?) → t.heap[H.size]? = some ce → s.vm.findClass cls = some ce.cls → ce.vm = .none → XC cls s t)
    (hf : ∀ z ∈ locs, free z.base) (hc : cells + 1 ≤ mc) (hs : slots + 6 ≤ ms) :
    W p l e R s m args below meth c H locs cells slots (vx_MQ below Qc XC args s mc ms free) (F0 m pc ls rest) := by
  intro T hT X
  have htr : e.platform.stackTraces = false := (show e.platform.stackTraces = l.stackTraces by rw [X.admits.platform]).trans hl
  have Y := vx_rebase X (R' := { frames := R.frames, locals := R.locals, cells := 1, slots := 6 }) (Nat.le_refl _) (Nat.le_refl _) hRcells hRslots
  obtain ⟨s', hA⟩ : ∃ z, z = (T.setVm s.vm).setFrames (.invoking m args :: below) := ⟨_, rfl⟩
  rw [← hA] at Y
  have hvm : s'.vm = s.vm := by rw [hA]; rfl
  have hhp : s'.heap = H := by rw [hA]; exact hT
  have hW0 : s.WarmedH s'.vm := by rw [hvm]; exact State.WarmedH.refl s
  have hat' : ∀ w ∈ vx_at0 own ic cls names, w.before args s' = true := fun w hw => vx_ot_at hW0 hvm.symm (hgood w (List.mem_cons_of_mem _ (List.mem_cons_of_mem _ hw))) (hat w hw)
  have hk' : (Cond.classLink own ik cls).before args s' = true := vx_ot_at hW0 hvm.symm (hgood _ List.mem_cons_self) hk
  have hini' : (Cond.initialized cls).before args s' = true := vx_ot_at hW0 hvm.symm (hgood _ (List.mem_cons_of_mem _ List.mem_cons_self)) hini
  have hU' : vx_Zq Bundle.tN "UNASSIGNED_STACK" Bundle.steD A s' s'.heap := by rw [hhp]; exact vx_Zq.moved hW0.alike (hU.kept hS.2.1)
  have hN' : vx_Zq Bundle.tN "SUPPRESSED_SENTINEL" Bundle.listD A s' s'.heap := by rw [hhp]; exact vx_Zq.moved hW0.alike (hN.kept hS.2.1)
  have h : ∀ w ∈ Bundle.ownAtoms0 own ic cls names, w.before args s' = true := vx_own hat' (vx_isRefq hU'.1) (vx_isRefq hN'.1) hU'.2.word hN'.2.word
  have hown' : s'.vm.findClass own = some m.cls := by rw [hvm]; exact hown
  have hins : (Cond.instantiable cls 6).before args s' = true := h _ (by simp [Bundle.ownAtoms0])
  obtain ⟨vm₁, cX, kX, hfX, hkX, -, -, X₁, st1⟩ := Y.newCold hexec (own := own) (C := cls) (index := ik) (n := 6) hown' hk' hins hini'
    (g := F0 m pc ls rest) rfl (by rw [hb]; exact d0) (Nat.le_refl _) (Nat.le_refl _)
  generalize hT1 : (T.setVm vm₁).pushCell { cls := cX, slots := kX.instanceTypes.map defaultValue, vm := .none } = T1 at X₁ st1
  have hcat : (Value.ref T.heap.size).category = 1 := rfl
  have hcellA : T1.heap[T.heap.size]? = some (freshCell cX kX) := by rw [← hT1]; exact State.heap_pushCell_size _ _
  have d3' : decode c.code (pc + 3) = .ok (.dup, 1) := by rw [hb]; exact d3
  obtain ⟨U, hsteps, hrun, hend, hW, hsame, ce, hce, hO⟩ := X₁.ctorThrow0 hexec htr (own := own) (cls := cls) (names := names) (ic := ic) hown' hcls hnames h (fun x hx => nomatch hx) hfX hkX hcellA (by rw [hhp, hT]; exact Nat.le_refl _)
    (g := { method := m, pc := pc + 4, locals := ls, stack := .ref T.heap.size :: .ref T.heap.size :: rest, locked := none }) rfl hsize rfl rfl (rest := rest) rfl
    (by rw [hb]; exact d4) (by rw [hb]; exact d7) hout hRframes (by simp only [List.map_cons, List.sum_cons, hcat]; omega) hlocks
  obtain ⟨f1, f2⟩ := vx_frame hsame
  rw [hhp] at f1 f2
  have hsz : U.heap.size = H.size + 1 := by
    have h5 := hsame.2.2.1
    have h6 : T.heap.size < U.heap.size := (Array.getElem?_eq_some_iff.mp hce).1
    rw [hT] at h6
    have h7 : ({ U with vm := s'.vm } : State).heap.size = U.heap.size := rfl
    rw [hhp] at h5
    omega
  have hWs : s.WarmedH U.vm := State.WarmedH.trans hW0 hW
  have hcl : s.vm.findClass cls = some ce.cls := by
    have h9 := hO.cls
    rw [hvm] at h9
    exact h9
  have hall : s.sameButNew ({ U with vm := s.vm } : State) locs mc ms := by
    subst hA
    obtain ⟨e1, e2⟩ := hsame
    rw [State.setFrames_setFrames] at e1
    have h2 : (T.setVm s.vm).sameButNew ({ U with vm := s.vm } : State) [] (0 + 1) (0 + 6) := ⟨e1, e2⟩
    have h3 := X.same.trans h2
    rw [List.append_nil] at h3
    exact h3.mono hc hs
  refine ⟨U, ?_, .threw T.heap.size, hrun, hend, Or.inr ⟨T.heap.size, rfl, cls, ce, locs, hx U ce hWs.alike hsz (fun q hq => f2 q hq (fun z hz => nomatch hz)) (by rw [← hT]; exact hce) hcl hO.vm, hce, hO.vm, hcl, hWs, hall, hf⟩⟩
  refine st1 _ ?_
  show Steps p.tables e below (T1.setTop { method := m, pc := pc + 3, locals := ls, stack := .ref T.heap.size :: rest, locked := none }) _
  jvm_step X₁.here [X₁.here.top, hexec, d3', Value.category]
  exact hsteps
end GX
section GE
variable {G : gG} {p : Program} {l : Launch} {e : Env} {R : Room} {s : State} {m : MethodId} {args : Array Value} {below : List Frame} {meth : Method} {c : Code} {nL : Nat} {h0 : zH} {cc : ByteArray} {pc n : Nat}
theorem ge_nse (hx : p.tables.exec = Jvm.exec) (hb : c.code = cc) (hfl : l.flags = flags0) (hml : c.maxLocals = nL) (hown : s.vm.findClass "DistinctMarks" = some m.cls) (hK : gK G h0 s) (hlk : meth.locks = false) (hout : ∀ x ∈ c.exceptionTable.toList, covers x (pc + 7) = false) (hk : (Cond.classLink "DistinctMarks" 402 "java/util/NoSuchElementException").before args s = true) (hko : vx_ot (Cond.classLink "DistinctMarks" 402 "java/util/NoSuchElementException") = true) (hini : (Cond.initialized "java/util/NoSuchElementException").before args s = true) (hfr : 5 < R.frames) (hlo : 81 ≤ R.locals)
    (d0 : decode cc pc = .ok (.new 402, 3)) (d3 : decode cc (pc + 3) = .ok (.dup, 1)) (d4 : decode cc (pc + 4) = .ok (.invokespecial 404, 3)) (d7 : decode cc (pc + 7) = .ok (.athrow, 1)) : gEd G p l e R s m args below meth c nL h0 pc zi_nse := by
  intro ls st h r hf hc hs H locs la hI hL hF
  unfold zi_nse at hf
  split at hf
  · cases hf
    have hF : gFr h0 s.heap H locs h := hF
    have hI : gInv G h H := hI
    have hc : h.2.1 + 1 - h0.2.1 ≤ R.cells := hc
    have hs : h.2.2.1 + 6 - h0.2.2.1 ≤ R.slots := hs
    have q1 : h0.2.1 ≤ h.2.1 := hF.2.2.1
    have q2 : h0.2.2.1 ≤ h.2.2.1 := hF.2.2.2.1
    have hl : l.stackTraces = false := by
      unfold Launch.stackTraces
      rw [hfl]
      decide +kernel
    have hY := hK.2.2.2.2.1
    refine gx_throw0 (own := "DistinctMarks") (cls := "java/util/NoSuchElementException") (names := ["java/lang/RuntimeException", "java/lang/Exception"]) (ik := 402) (ic := 404) (A := gWr h0) hx hb hl hown (by decide +kernel) (by decide +kernel) hk hini (hY.2.2.1.move (State.WarmedH.refl _) args) ?_ hK.2.2.2.2.2.1 hK.2.2.2.2.2.2 hF.1 (by rw [hL.1, hml]) d0 d3 d4 d7 hout hfr (by simp only [List.map_nil, List.sum_nil, List.length_cons, List.length_nil]; omega) (show h.2.1 - h0.2.1 + 1 ≤ R.cells by omega) (show h.2.2.1 - h0.2.2.1 + 6 ≤ R.slots by omega) hlk ?_ hF.1.2.2 (show h.2.1 - h0.2.1 + 1 ≤ h.2.1 + 1 - h0.2.1 by omega) (show h.2.2.1 - h0.2.2.1 + 6 ≤ h.2.2.1 + 6 - h0.2.2.1 by omega)
    · intro w hw
      rcases List.mem_cons.mp hw with rfl | hw
      · exact hko
      · rcases List.mem_cons.mp hw with rfl | hw
        · rfl
        · exact List.all_eq_true.mp gNL_ot w hw
    · intro t ce hal hsz hold hce hcl hvm
      refine ⟨5, rfl, rfl, ?_, ?_⟩
      · refine hI.push (e2 := .inr (5, [])) (k := 6) hsz hold ⟨ce, hce, ?_, hvm, fun k v hv => (by simp at hv), fun r hr => Nat.zero_le _⟩
        exact Option.some.inj (hcl.symm.trans (hK.1.1 5 (RJ14, TJ14, 6) rfl).2.1)
      · have hF2 : gFr h0 s.heap t.heap locs (zpush h (.inr (5, [])) 6) := hF.push hI.1 hsz hold
        exact hF2.1.F rfl
  · cases hf
end GE
