/-! SOUNDNESS: rows that were wanting: private methods of the JDK's, arrays of arrays -/
/-- a private method, called on an object of a class below: who is selected is told -/
theorem va_cuP {R : Room} {s : State} {args : Array Value} {own C : String} {index maxL mc ms : Nat} {y : MethodName} {bytes : ByteArray} {ret : Option FieldType} {ws ws' : List Cond} {rm : Room} (n : Nat) (ht : ∀ w ∈ lw_all, w.before args s = true) (hG : GoodIn lw_all ws) (hl : Cond.methodLink own index y ∈ lw_all) (hs : Cond.sameMethod y.cls y.cls y.name y.desc ∈ lw_all) (hi : Cond.instanceMethod y ∈ lw_all) (hin : Cond.initialized y.cls ∈ lw_all) (hsel : (Cond.selects C y y).before args s = true) (hw : ws = Cond.code y bytes maxL ret :: ws') (hrc : rm.cells = mc) (hrs : rm.slots = ms)
    (hd : y.cls ≠ "java/lang/invoke/MethodHandle" ∧ y.cls ≠ "java/lang/invoke/VarHandle" ∧ (parseMethodDescriptor y.desc).map (fun d => d.parameters.length) = some n) (hR : rm.frames + 1 ≤ R.frames ∧ 8 + (maxL + 11) + rm.locals ≤ R.locals) : va_CU R s args own C y.cls index y y bytes maxL ret ws rm mc ms n := by
  have hc : Cond.code y bytes maxL ret ∈ ws := by rw [hw]; exact List.mem_cons_self
  refine ⟨⟨hrc, hrs, hR.1, hR.2, pay_in ht hG, hc⟩, ht _ (hG _ hc).1, ht _ hin, ⟨hd.1, hd.2.1⟩, fun sig h => ?_, ht _ hl, ht _ hs, va_Decl.of (ht _ hi) (ht _ (hG _ hc).1), hsel, ht _ hi⟩
  have h2 := hd.2.2
  rw [h] at h2
  exact (Option.some.inj h2).symm
theorem cell_ext {a b : Cell} (h1 : a.cls = b.cls) (h2 : a.slots = b.slots) (h3 : a.vm = b.vm) (h4 : a.monitor = b.monitor) (h5 : a.hash = b.hash) : a = b := by
  cases a; cases b; cases h1; cases h2; cases h3; cases h4; cases h5; rfl
theorem outer_mh (cA : ClassId) (N h0 : Nat) (f : Nat → Value) : ∀ i, (Jvm.Free.Multi.outerC cA N h0 i).monitor = (arrV cA N f).monitor ∧ (Jvm.Free.Multi.outerC cA N h0 i).hash = (arrV cA N f).hash
  | 0 => ⟨rfl, rfl⟩
  | i + 1 => by
    obtain ⟨h1, h2⟩ := outer_mh cA N h0 f i
    exact ⟨h1, h2⟩
/-- a grid of ints -/
theorem W.gridI {p : Program} {l : Launch} {e : Env} {R : Room} {s : State} {m : MethodId} {args : Array Value} {below : List Frame} {meth : Method} {c : Code} {H : Heap} {locs : List Loc} {cells slots : Nat} {Q : State → Prop} {cc : ByteArray} (hexec : p.tables.exec = Jvm.exec) (hb : c.code = cc) {own : String} {index : Nat} (hown : s.vm.findClass own = some m.cls) (hclink : (Cond.classLink own index ("[" ++ (FieldType.array .int).toString)).before args s = true) (hover : (Cond.arrayOver (.array .int)).before args s = true) (harr : (Cond.arrayClass .int).before args s = true)
    {g : JFrame} (hg : g.method = m) (hdg : decode cc g.pc = .ok (.multianewarray index 2, 4)) {rest : List Value} (hstack : g.stack = .int (nI 257) :: .int (nI 9) :: rest) (hcells : cells + 10 ≤ R.cells) (hslots : slots + 2322 ≤ R.slots)
    (kk : ∀ (H' : Heap) (cA comp : ClassId), s.vm.findClass ("[" ++ (FieldType.array .int).toString) = some cA → s.vm.findClass (FieldType.array .int).toString = some comp → H'.size = H.size + 10 → (∀ q, q < H.size → H'[q]? = H[q]?) → H'[H.size]? = some (arrV cA 9 (fun i => .ref (H.size + 1 + i))) → (∀ j, j < 9 → H'[H.size + 1 + j]? = some (arrV comp 257 (fun _ => .int 0))) →
      W p l e R s m args below meth c H' locs (cells + 10) (slots + 2322) Q { g with pc := g.pc + 4, stack := .ref H.size :: rest }) : W p l e R s m args below meth c H locs cells slots Q g := by
  intro T hT X
  subst hT; subst hb
  have c9 : (nI 9).toNatClampNeg = 9 := by decide
  have c257 : (nI 257).toNatClampNeg = 257 := by decide
  obtain ⟨vm₁, cA, comp, hW, hfA, hfC, hO, hI, X1, st⟩ := X.multianewarray2F hexec hown hclink hover harr hg hdg hstack (by decide) (by decide) (by decide) (by decide) (by decide) rfl rfl (by rw [c9]; omega) (by rw [c9, c257]; omega)
  rw [c9, c257] at X1 st
  obtain ⟨f1, f2, f3, f4⟩ := Jvm.Free.Multi.fill_facts (T.setVm vm₁) cA comp 9 257 (defaultValue .int) 9
  have fo := fun (a : Addr) (ha : a < T.heap.size) => Jvm.Free.Multi.fill_old (T.setVm vm₁) cA comp 9 257 (defaultValue .int) (a := a) ha 9
  have fi := fun (j : Nat) (hj : j < 9) => Jvm.Free.Multi.fill_inner (T.setVm vm₁) cA comp 9 257 (defaultValue .int) 9 j hj
  obtain ⟨o1, o2, o3⟩ := Jvm.Free.Multi.outerC_facts cA 9 T.heap.size 9
  have os := fun (j : Nat) (hj : j < 9) => Jvm.Free.Multi.outerC_slot cA 9 T.heap.size 9 j hj
  have eH : (T.setVm vm₁).heap = T.heap := rfl
  rw [eH] at f1 f2 fi
  generalize Jvm.Free.Multi.fill (T.setVm vm₁) cA comp 9 257 (defaultValue .int) 9 = S at *
  have oe : Jvm.Free.Multi.outerC cA 9 T.heap.size 9 = arrV cA 9 (fun i => .ref (T.heap.size + 1 + i)) := by
    refine cell_ext o1 ?_ o2 (outer_mh _ _ _ _ _).1 (outer_mh _ _ _ _ _).2
    apply Array.ext_getElem?
    intro j
    by_cases hj : j < 9
    · rw [os j hj, arrV_read _ _ hj, if_pos hj]
    · rw [Array.getElem?_eq_none (by rw [o3]; omega), Array.getElem?_eq_none (by rw [arrV_size]; omega)]
  rw [oe] at f2
  have fi' : ∀ j, j < 9 → S.heap[T.heap.size + 1 + j]? = some (arrV comp 257 (fun _ => .int 0)) := fun j hj => by
    rw [fi j hj, ← arrV_new]
    rfl
  have X2 := X1.more (cells' := cells + 10) (slots' := slots + 2322) (by omega) (by omega)
  obtain ⟨t, a1, b1⟩ := kk S.heap cA comp hfA hfC f1 fo f2 fi' S rfl X2
  exact ⟨t, st t a1, b1⟩
/-! the abstract grid -/
theorem zrows_at (h : zH) (k n : Nat) : (∀ q, (zrows h k n).1 q = if h.2.1 ≤ q ∧ q < h.2.1 + n then some (true, .inl (0, k, fun _ => .int 0)) else h.1 q) ∧ (zrows h k n).2.1 = h.2.1 + n ∧ (zrows h k n).2.2.1 = h.2.2.1 + n * k ∧ (zrows h k n).2.2.2 = h.2.2.2 := by
  induction n with
  | zero => exact ⟨fun q => by rw [if_neg (by omega)]; rfl, rfl, by rw [Nat.zero_mul]; rfl, rfl⟩
  | succ n ih =>
    obtain ⟨e1, e2, e3, e4⟩ := ih
    refine ⟨fun q => ?_, ?_, ?_, e4⟩
    · show (if q = (zrows h k n).2.1 then _ else (zrows h k n).1 q) = _
      rw [e2, e1]
      by_cases z : q = h.2.1 + n
      · rw [if_pos z, if_pos (by omega)]
      · rw [if_neg z]
        by_cases z2 : h.2.1 ≤ q ∧ q < h.2.1 + n
        · rw [if_pos z2, if_pos (by omega)]
        · rw [if_neg z2, if_neg (by omega)]
    · show (zrows h k n).2.1 + 1 = _
      rw [e2]
      omega
    · show (zrows h k n).2.2.1 + k = _
      rw [e3, Nat.succ_mul]
      omega
theorem zgrid_at (h : zH) : (∀ q, (zgrid h 9 257).1 q = if q = h.2.1 then some (true, .inl (5, 9, fun i => .ref (h.2.1 + 1 + i))) else if h.2.1 + 1 ≤ q ∧ q < h.2.1 + 10 then some (true, .inl (0, 257, fun _ => .int 0)) else h.1 q) ∧ (zgrid h 9 257).2.1 = h.2.1 + 10 ∧ (zgrid h 9 257).2.2.1 = h.2.2.1 + 2322 ∧ (zgrid h 9 257).2.2.2 = h.2.2.2 := by
  obtain ⟨e1, e2, e3, e4⟩ := zrows_at (zpush h (.inl (5, 9, fun i => .ref (h.2.1 + 1 + i))) 9) 257 9
  have p1 : (zpush h (.inl (5, 9, fun i => .ref (h.2.1 + 1 + i))) 9).2.1 = h.2.1 + 1 := rfl
  have p2 : (zpush h (.inl (5, 9, fun i => .ref (h.2.1 + 1 + i))) 9).2.2.1 = h.2.2.1 + 9 := rfl
  rw [p1] at e1 e2
  rw [p2] at e3
  refine ⟨fun q => ?_, e2, e3, e4⟩
  show (zrows (zpush h (.inl (5, 9, fun i => .ref (h.2.1 + 1 + i))) 9) 257 9).1 q = _
  rw [e1]
  by_cases z : q = h.2.1
  · rw [if_pos z, if_neg (by omega), z]
    exact if_pos rfl
  · rw [if_neg z]
    by_cases z2 : h.2.1 + 1 ≤ q ∧ q < h.2.1 + 10
    · rw [if_pos z2, if_pos (by omega)]
    · rw [if_neg z2, if_neg (by omega)]
      exact if_neg z
section GG
variable {G : gG} {p : Program} {l : Launch} {e : Env} {R : Room} {s : State} {m : MethodId} {args : Array Value} {below : List Frame} {meth : Method} {c : Code} {nL : Nat} {h0 : zH} {cc : ByteArray} {pc n : Nat}
theorem gn_grid {own : String} {index : Nat} (hx : p.tables.exec = Jvm.exec) (hb : c.code = cc) (hown : s.vm.findClass own = some m.cls) (hK : gV G s) (hY : gY G h0 s) (hclink : (Cond.classLink own index "[[I").before args s = true) (harr : (Cond.arrayClass .int).before args s = true) (hd : decode cc pc = .ok (.multianewarray index 2, 4)) (hn : pc + 4 = n) : gN G p l e R s m args below meth c nL h0 pc (zi_grid 9 257 n) := by
  subst hn
  intro Q ls st h g hf h1 h2 hkk H locs la hI hL hF
  unfold zi_grid at hf
  split at hf
  · split at hf
    · rename_i k' m' st _ hc
      cases hf
      obtain ⟨rfl, rfl⟩ := hc
      have hF : gFr h0 s.heap H locs h := hF
      have hI : gInv G h H := hI
      obtain ⟨e1, e2, e3, e4⟩ := zgrid_at h
      dsimp only at h1 h2
      rw [e2] at h1
      rw [e3] at h2
      have q1 : h0.2.1 ≤ h.2.1 := hF.2.2.1
      have q2 : h0.2.2.1 ≤ h.2.2.1 := hF.2.2.2.1
      refine W.gridI hx hb hown hclink (gAI_any hY.1 (Vm.Alike.refl _) args) harr rfl hd rfl (show h.2.1 - h0.2.1 + 10 ≤ R.cells by omega) (show h.2.2.1 - h0.2.2.1 + 2322 ≤ R.slots by omega) fun H' cA comp f1 f2 z1 o1 a1 a2 => ?_
      have hA : cA = G.2.2 5 := Option.some.inj (f1.symm.trans (gV_ty hK (t := 5) rfl).2)
      have hC : comp = G.2.2 0 := Option.some.inj (f2.symm.trans (gV_ty hK (t := 0) rfl).2)
      subst hA
      subst hC
      have hI' : gInv G (zgrid h 9 257) H' := by
        refine ⟨by rw [z1, hI.1, e2], fun q b e5 hq => ?_⟩
        rw [e1] at hq
        by_cases z : q = h.2.1
        · rw [if_pos z] at hq
          cases hq
          rw [z, ← hI.1]
          exact ⟨a1, by decide, fun i _ => rfl, by decide⟩
        · rw [if_neg z] at hq
          by_cases z2 : h.2.1 + 1 ≤ q ∧ q < h.2.1 + 10
          · rw [if_pos z2] at hq
            cases hq
            have := a2 (q - (h.2.1 + 1)) (by omega)
            rw [hI.1, show h.2.1 + 1 + (q - (h.2.1 + 1)) = q by omega] at this
            exact ⟨this, by decide, fun i _ => rfl, by decide⟩
          · rw [if_neg z2] at hq
            have h4 := hI.2 q b e5 hq
            exact h4.kept (o1 q h4.lt)
      have hF' : gFr h0 s.heap H' locs (zgrid h 9 257) := by
        obtain ⟨hS, r1, r2, r3, r4, r5⟩ := hF
        refine ⟨⟨by have := hS.1; omega, fun q hq hn => ?_, hS.2.2⟩, fun q hq => r1 q (show gWr h q from ?_), by rw [e2]; omega, by rw [e3]; omega, by rw [e4]; exact r4, r5⟩
        · rw [o1 q (Nat.lt_of_lt_of_le hq hS.1)]
          exact hS.2.1 q hq hn
        · unfold gWr at hq ⊢
          rw [e1, e2] at hq
          rcases hq with ⟨e3', hq⟩ | hq
          · by_cases z : q = h.2.1
            · exact Or.inr (by omega)
            · rw [if_neg z] at hq
              by_cases z2 : h.2.1 + 1 ≤ q ∧ q < h.2.1 + 10
              · exact Or.inr (by omega)
              · rw [if_neg z2] at hq
                exact Or.inl ⟨e3', hq⟩
          · exact Or.inr (by omega)
      have k := hkk H' locs la hI' hL hF'
      dsimp only at k
      rw [e2, e3, show h.2.1 + 10 - h0.2.1 = h.2.1 - h0.2.1 + 10 by omega, show h.2.2.1 + 2322 - h0.2.2.1 = h.2.2.1 - h0.2.2.1 + 2322 by omega] at k
      rw [hI.1]
      exact k
    · cases hf
  · cases hf
end GG
