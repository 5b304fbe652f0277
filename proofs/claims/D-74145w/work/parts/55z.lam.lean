/-! SOUNDNESS: what is known besides the tables' words: rows of arrays, private methods of the JDK, the lambdas' sites -/
def gAI (s : State) : Prop := (Cond.arrayOver (.array .int)).before #[] s = true
theorem gAI_spec {s : State} (h : gAI s) : ∃ comp c k, s.vm.findClass (FieldType.array .int).toString = some comp ∧ (s.vm.classes.findIdx? fun x => match x.kind with | .array component _ => component == comp | _ => false) = some c ∧ s.vm.classes[c]? = some k ∧ k.kind = .array comp (.array .int) ∧ s.vm.findClass ("[" ++ (FieldType.array .int).toString) = some c := by
  unfold gAI Cond.before at h
  simp only [Cond.holds, Cond.value, beq_iff_eq] at h
  cases hc : s.vm.findClass (FieldType.array .int).toString with
  | none => simp [hc] at h
  | some comp =>
    simp only [hc, Option.bind_some, Option.bind_eq_some_iff, Option.map_eq_some_iff] at h
    obtain ⟨c, hi, k, hk, hb⟩ := h
    obtain ⟨hlt, hp, -⟩ := Array.findIdx?_eq_some_iff_getElem.mp hi
    have hkk : s.vm.classes[c] = k := (Array.getElem?_eq_some_iff.mp hk).2
    rw [hkk] at hp
    cases hkind : k.kind with
    | array component ty =>
      rw [hkind] at hb hp
      simp at hb hp
      exact ⟨comp, c, k, rfl, hi, hk, by rw [hkind, hp, hb.1], hb.2⟩
    | _ => rw [hkind] at hb; simp at hb
theorem gAI_any {s U : State} (h : gAI s) (hal : s.vm.Alike U.vm) (args : Array Value) : (Cond.arrayOver (.array .int)).before args U = true := by
  obtain ⟨comp, c, k, hcomp, hidx, hk, hkind, hname⟩ := gAI_spec h
  obtain ⟨k', hk', hek'⟩ := hal.2.2 _ _ hk
  have hkind' : k'.kind = .array comp (.array .int) := by rw [hek']; exact hkind
  have hname' : U.vm.findClass ("[" ++ (FieldType.array .int).toString) = some c := by rw [hal.findClass]; exact hname
  have hcomp' : U.vm.findClass (FieldType.array .int).toString = some comp := by rw [hal.findClass]; exact hcomp
  unfold Cond.before
  simp only [Cond.holds, Cond.value, hcomp', Option.bind_some, beq_iff_eq]
  rw [Option.bind_eq_some_iff]
  refine ⟨c, (hal.findIdx?_eqK _ (fun _ => rfl)).trans hidx, ?_⟩
  simp [hk', hkind', hname']
/-- private methods of AbstractStringBuilder, called on a StringBuilder -/
def gPm : List MethodName := [⟨"java/lang/AbstractStringBuilder", "ensureCapacityInternal", "(I)V"⟩, ⟨"java/lang/AbstractStringBuilder", "newCapacity", "(I)I"⟩, ⟨"java/lang/AbstractStringBuilder", "inflate", "()V"⟩]
def gPS (s : State) : Prop := ∀ y ∈ gPm, (Cond.selects "java/lang/StringBuilder" y y).before #[] s = true
theorem gPS.move {s U : State} (h : gPS s) (hW : s.WarmedH U.vm) (y : MethodName) (hy : y ∈ gPm) (args : Array Value) : (Cond.selects "java/lang/StringBuilder" y y).before args U = true := word_at hW (Or.inl rfl) (h y hy)
/-- a lambda's site -/
def gLm (s : State) (w : Cond) (c : ClassId) (v : Value) : Prop := match w with
  | .lambdaSite x pc index σ => ∃ (m : MethodId) (k : Class) (cf : ClassFile) (i0 p0 : Nat) (l : Linked), s.methodNamed? x = some m ∧ s.vm.classes[m.cls]? = some k ∧ k.cf = some cf ∧ Lambda.shapeOf? cf index = some σ ∧ (k.callSites.find? fun y => y.1 == m.idx && y.2.1 == pc) = some (i0, p0, l) ∧ Lambda.isMade { classPath := fun _ => none } s.vm m.cls σ c = true ∧ s.lambdaCallable σ c = true ∧ ((∃ a, l = .constant a ∧ v = .ref a ∧ σ.captured = []) ∨ (l = .makes c ∧ σ.captured ≠ []))
  | _ => False
theorem gLm.move {s U : State} {w : Cond} {c : ClassId} {v : Value} (h : gLm s w c v) (hW : s.WarmedH U.vm) : gLm U w c v := by
  unfold gLm at h ⊢
  split at h
  · rename_i x pc index σ
    obtain ⟨m, k, cf, i0, p0, l, hm, hk, hcf, hsh, hfind, hmade, hcall, hl⟩ := h
    obtain ⟨k', hk', he⟩ := hW.alike.2.2 _ _ hk
    refine ⟨m, k', cf, i0, p0, l, ?_, hk', by rw [he]; exact hcf, hsh, by rw [he]; exact hfind, Lambda.isMade_warmer hW hmade, ?_, hl⟩
    · have := State.methodNamed?_setVm (s := s) hW.alike x
      rw [hm] at this
      exact this
    · have hA := hW.alike
      simp only [State.lambdaCallable, hA.findClass, hA.assignable, hA.superclasses, hA.declaredIn] at hcall ⊢
      exact hcall
  · exact h.elim
/-- what 'new NoSuchElementException()' asks -/
def gNL : List Cond := vx_at0 "DistinctMarks" 404 "java/util/NoSuchElementException" ["java/lang/RuntimeException", "java/lang/Exception"]
def gNb (w : Cond) : Bool := goodWord w || (w.faceAtom && w.onTables)
theorem gNL_ok : gNL.all gNb = true := by decide +kernel
theorem gNL_ot : gNL.all vx_ot = true := by decide +kernel
def gNS (s : State) : Prop := ∀ w ∈ gNL, w.before #[] s = true
theorem gNS.move {s U : State} (h : gNS s) (hW : s.WarmedH U.vm) (args : Array Value) : ∀ w ∈ gNL, w.before args U = true := by
  intro w hw
  have hb := List.all_eq_true.mp gNL_ok w hw
  unfold gNb at hb
  rw [Bool.or_eq_true, Bool.and_eq_true] at hb
  rcases hb with hb | ⟨h1, h2⟩
  · exact word_at hW (good_of_word hb) (h w hw)
  · exact va_tabs (u := s.setVm U.vm) h2 rfl (Cond.faceAtom_setVm hW.alike w h1 (h w hw))
def gSites : List (Nat × Cond) := [(0, siteWord_1_1), (1, siteWord_1_2), (2, siteWord_1_3), (3, siteWord_1_4), (4, siteWord_1_5), (5, siteWord_1_6), (6, siteWord_1_7), (7, siteWord_1_8), (8, siteWord_1_9), (9, siteWord_1_10), (10, siteWord_1_11), (11, siteWord_1_12), (12, siteWord_1_13)]
def gY (G : gG) (h : zH) (s : State) : Prop := gAI s ∧ gPS s ∧ gNS s ∧ ∀ q ∈ gSites, gLm s q.2 (G.1 (100 + q.1)) (h.2.2.2 (10 + q.1))
theorem gY.move {G : gG} {h0 h : zH} {s U : State} (k : gY G h0 s) (he : h.2.2.2 = h0.2.2.2) (hW : s.WarmedH U.vm) : gY G h U := ⟨gAI_any k.1 hW.alike #[], fun y hy => k.2.1.move hW y hy #[], k.2.2.1.move hW #[], fun q hq => by rw [he]; exact (k.2.2.2 q hq).move hW⟩
theorem gY.same {G : gG} {h : zH} {s U : State} (k : gY G h s) (hv : s.vm = U.vm) : gY G h U := k.move rfl (by rw [← hv]; exact State.WarmedH.refl _)
