/-! SOUNDNESS: the whole program, by induction on the fuel -/
/-- a method: its name, code, answer, locals, handlers, the frames and the words that it needs below it -/
abbrev gMI : Type := MethodName × ByteArray × Option FieldType × Nat × List (Nat × Nat × Nat × Nat) × Nat × Nat
def gWs (I : gMI) : List Cond := match I.2.2.2.2.1 with
  | [] => ws_ I.1 I.2.1 I.2.2.2.1 I.2.2.1
  | hh => wsW_ I.1 I.2.1 I.2.2.2.1 I.2.2.1 hh
def gRm (I : gMI) (mc ms : Nat) : Room := { frames := I.2.2.2.2.2.1, cells := mc, slots := ms, locals := I.2.2.2.2.2.2 }
/-- words that don't ride in the lists: nest mates' fields and methods, what is caught -/
def gNF : List (Nat × String × String) := [(165, "p", "I"), (171, "limit", "I"), (174, "isDense", "Z"), (204, "ranks", "[B"), (217, "many", "I"), (218, "marks", "[I")]
def gW (s : State) : Prop := (∀ a i b n d h, Cond.fieldLinkNest a i b n d h ∈ lw_tbl → va_Nw (.fieldLinkNest a i b n d h) s) ∧ (∀ a i x h, Cond.methodLinkNest a i x h ∈ lw_tbl → va_Nw (.methodLinkNest a i x h) s) ∧ (∀ C D, Cond.castable C D ∈ lw_tbl → va_Nw (.castable C D) s) ∧ va_AO "DistinctMarks$Counter" s
theorem gW.move {s U : State} (h : gW s) (hW : s.WarmedH U.vm) : gW U := ⟨fun a i b n d q hm => (h.1 a i b n d q hm).warmF hW, fun a i x q hm => (h.2.1 a i x q hm).warmM hW, fun C D hm => (h.2.2.1 C D hm).warmC hW, h.2.2.2.moved hW.alike⟩
theorem gW.same {s U : State} (h : gW s) (hv : s.vm = U.vm) : gW U := ⟨fun a i b n d q hm => (h.1 a i b n d q hm).same rfl hv, fun a i x q hm => (h.2.1 a i x q hm).same rfl hv, fun C D hm => (h.2.2.1 C D hm).same rfl hv, h.2.2.2.moved (by rw [← hv]; exact Vm.Alike.refl _)⟩
/-- the statics that are read, and what they hold -/
def gStat (env : Nat → Value) : List (String × String × String × Value) := [("java/lang/String", "COMPACT_STRINGS", "Z", .int 1), ("java/lang/Integer", "DigitOnes", "[B", env 1), ("java/lang/Integer", "DigitTens", "[B", env 2), ("java/lang/Throwable", "UNASSIGNED_STACK", "[Ljava/lang/StackTraceElement;", env 3), ("java/lang/Throwable", "SUPPRESSED_SENTINEL", "Ljava/util/List;", env 4), ("jdk/internal/util/Preconditions", "SIOOBE_FORMATTER", "Ljava/util/function/BiFunction;", env 5)]
def gSt (h : zH) (s : State) : Prop := ∀ q ∈ gStat h.2.2.2, va_Z q.1 q.2.1 q.2.2.1 q.2.2.2 (gWr h) s s.heap
def gTx (h : zH) (s : State) : Prop := ∃ a, h.2.2.2 0 = .ref a ∧ vk_R "DistinctMarks" 341 "0123456789abcdefghijklmnopqrst" a s
/-- what a Throwable is laid with -/
def gZq (h : zH) (s : State) : Prop := vx_Zq Bundle.tN "UNASSIGNED_STACK" Bundle.steD (gWr h) s s.heap ∧ vx_Zq Bundle.tN "SUPPRESSED_SENTINEL" Bundle.listD (gWr h) s s.heap
def gK (G : gG) (h : zH) (s : State) : Prop := gV G s ∧ gW s ∧ gSt h s ∧ gTx h s ∧ gY G h s ∧ gZq h s
theorem gSt.move {h0 h : zH} {s U : State} {H : Heap} {locs : List Loc} (hK : gSt h0 s) (hF : gFr h0 s.heap H locs h) (hU : U.heap = H) (hW : s.WarmedH U.vm) : gSt h U := by
  intro q hq
  rw [hF.2.2.2.2.1] at hq
  rw [hU]
  exact ((va_Z.kept (hK q hq) hF.1.2.1).moved hW.alike).narrow (fun x hx => hF.2.1 x hx)
theorem gK.move {G : gG} {h0 h : zH} {s U : State} {H : Heap} {locs : List Loc} (hK : gK G h0 s) (hF : gFr h0 s.heap H locs h) (hU : U.heap = H) (hW : s.WarmedH U.vm) : gK G h U := by
  refine ⟨va_K.moved hW.alike hK.1, hK.2.1.move hW, hK.2.2.1.move hF hU hW, ?_, hK.2.2.2.2.1.move hF.2.2.2.2.1 hW, by rw [hU]; exact ((hK.2.2.2.2.2.1.kept hF.1.2.1).moved hW.alike).narrow (fun x hx => hF.2.1 x hx), by rw [hU]; exact ((hK.2.2.2.2.2.2.kept hF.1.2.1).moved hW.alike).narrow (fun x hx => hF.2.1 x hx)⟩
  obtain ⟨a, h1, h2⟩ := hK.2.2.2.1
  exact ⟨a, by rw [hF.2.2.2.2.1]; exact h1, h2.warm hW⟩
theorem gK.blind {G : gG} {h : zH} {U : State} (hK : gK G h U) (g : JFrame) (mk : MethodId) (a : Array Value) : gK G h (U.calling g mk a) := by
  refine ⟨va_K.moved (u := U) (U := U.calling g mk a) (Vm.Alike.refl U.vm) hK.1, hK.2.1.same (U := U.calling g mk a) rfl, fun q hq => (hK.2.2.1 q hq).moved (U := U.calling g mk a) (Vm.Alike.refl U.vm), ?_, hK.2.2.2.2.1.same (U := U.calling g mk a) rfl, hK.2.2.2.2.2.1.moved (U := U.calling g mk a) (Vm.Alike.refl U.vm), hK.2.2.2.2.2.2.moved (U := U.calling g mk a) (Vm.Alike.refl U.vm)⟩
  obtain ⟨b, h1, h2⟩ := hK.2.2.2.1
  exact ⟨b, h1, h2.same (U := U.calling g mk a) rfl⟩
/-- where a method's body runs -/
def gCx (G : gG) (I : gMI) (p : Program) (l : Launch) (e : Env) (R : Room) (s : State) (m : MethodId) (args : Array Value) (below : List Frame) (meth : Method) (c : Code) (h0 : zH) : Prop :=
  p.tables.exec = Jvm.exec ∧ c.code = I.2.1 ∧ meth.sig.returnType = I.2.2.1 ∧ meth.locks = false ∧ c.maxLocals = I.2.2.2.1 ∧ s.vm.findClass I.1.cls = some m.cls ∧ (I.1.name ≠ "law" → meth.name = I.1.name ∧ s.methodNamed? I.1 = some m) ∧ (∀ w ∈ lw_all, w.before args s = true) ∧ c.exceptionTable.toList = tableOf I.2.2.2.2.1 ∧ R.frames = I.2.2.2.2.2.1 ∧ R.locals = I.2.2.2.2.2.2 ∧ l.flags = flags0 ∧ gK G h0 s
/-- a method meets a result -/
def gMet (G : gG) (l : Launch) (I : gMI) (as : List Value) (h : zH) (r : zR) : Prop :=
  vx_Met l I.1 (gWs I) (gRm I (r.2.2.1 - h.2.1) (r.2.2.2.1 - h.2.2.1)) (va_Pc as (fun U => gInv G h U.heap ∧ gK G h U)) (gQc G h r) (gXC G h r) (r.2.2.1 - h.2.1) (r.2.2.2.1 - h.2.2.1) (gWr h)
theorem gPc_blind {G : gG} {h : zH} {as : List Value} : FrameBlind (va_Pc as (fun U => gInv G h U.heap ∧ gK G h U)) := fun a U g mk q => ⟨q.1, q.2.1, q.2.2.blind g mk a⟩
theorem gPc_at {G : gG} {h0 h : zH} {s : State} {H : Heap} {locs : List Loc} {as : List Value} (hK : gK G h0 s) (hI : gInv G h H) (hF : gFr h0 s.heap H locs h) : PreS s H (va_Pc as (fun U => gInv G h U.heap ∧ gK G h U)) as :=
  ⟨gPc_blind, fun U hU hW => ⟨rfl, by rw [hU]; exact hI, hK.move hF hU hW⟩⟩
/-- an instruction that calls -/
def gCd (T : List gMI) (G : gG) (p : Program) (l : Launch) (e : Env) (R : Room) (s : State) (m : MethodId) (args : Array Value) (below : List Frame) (meth : Method) (c : Code) (nL : Nat) (h0 : zH) (pc : Nat) (f : zI) : Prop :=
  ∀ (ls st : List Value) (h : zH) (k : Nat) (as : List Value) (hd : Option (Nat × Nat × Nat)) (g : zF), f ls st h = some (.inr (.inr (k, as, hd, g))) → ∀ (I : gMI), znth T k = some I → ∀ r res : zR, gMon g.2.2.2 r.2 → gMet G l I as g.2.2.2 r → r.2.2.1 - h0.2.1 ≤ R.cells → r.2.2.2.1 - h0.2.2.1 ≤ R.slots →
    (∀ v, r.1 = .inl v → gOK G p l e R s m args below meth c nL h0 (gQ G below args s h0 res) (g.1, g.2.1, v.toList ++ g.2.2.1, r.2)) →
    (∀ x, r.1 = .inr x → (zhnd hd x g.2.1 = some none ∧ res = r) ∨ ∃ j l', zhnd hd x g.2.1 = some (some (j, l')) ∧ gOK G p l e R s m args below meth c nL h0 (gQ G below args s h0 res) (j, l', [], r.2)) →
    gOK G p l e R s m args below meth c nL h0 (gQ G below args s h0 res) (pc, ls, st, h)
/-- an instruction is sound where it stands -/
def gSd (T : List gMI) (G : gG) (I : gMI) (pc : Nat) (f : zI) : Prop := ∀ (p : Program) (l : Launch) (e : Env) (R : Room) (s : State) (m : MethodId) (args : Array Value) (below : List Frame) (meth : Method) (c : Code) (h0 : zH), gCx G I p l e R s m args below meth c h0 →
  gN G p l e R s m args below meth c I.2.2.2.1 h0 pc f ∧ gEd G p l e R s m args below meth c I.2.2.2.1 h0 pc f ∧ gCd T G p l e R s m args below meth c I.2.2.2.1 h0 pc f
theorem zsl_one (a : Value) (as : List Value) : zsl (a :: as) = a :: zsl as ∧ lg_sl (a :: as) = .val a :: lg_sl as ∨ zsl (a :: as) = a :: zJ :: zsl as ∧ lg_sl (a :: as) = .val a :: .second :: lg_sl as := by
  cases a <;> simp [zsl, lg_sl, Value.category]
/-- the locals at entry -/
theorem gL_entry (as : List Value) : ∀ (k : Nat) (v : Value) (j1 j2 : Nat), znth (zsl as ++ List.replicate j1 zJ) k = some v → v ≠ zJ → (lg_sl as ++ List.replicate j2 Slot.unset)[k]? = some (.val v) := by
  have hrep : ∀ (j k : Nat) (v : Value), znth (List.replicate j zJ) k = some v → v = zJ := by
    intro j
    induction j with
    | zero => intro k v h; cases h
    | succ j ih =>
      intro k v h
      cases k with
      | zero => cases h; rfl
      | succ k => exact ih k v h
  induction as with
  | nil => intro k v j1 j2 h hv; exact absurd (hrep _ _ _ h) hv
  | cons a as ih =>
    intro k v j1 j2 h hv
    rcases zsl_one a as with ⟨e1, e2⟩ | ⟨e1, e2⟩
    · rw [e1] at h
      rw [e2]
      cases k with
      | zero => cases h; rfl
      | succ k => exact ih k v j1 j2 h hv
    · rw [e1] at h
      rw [e2]
      match k, h with
      | 0, h => cases h; rfl
      | 1, h => cases h; exact absurd rfl hv
      | k + 2, h => exact ih k v j1 j2 h hv
theorem zsl_len (as : List Value) : (zsl as).length = (lg_sl as).length := by
  induction as with
  | nil => rfl
  | cons a as ih =>
    rcases zsl_one a as with ⟨e1, e2⟩ | ⟨e1, e2⟩
    · rw [e1, e2, List.length_cons, List.length_cons, ih]
    · rw [e1, e2, List.length_cons, List.length_cons, List.length_cons, List.length_cons, ih]
theorem gMain (T : List gMI) (G : gG) (l : Launch) (hfl : l.flags = flags0) (hM : ∀ M pc f, zat PG M pc = some f → zMn f) (hS : ∀ M pc f I, zat PG M pc = some f → znth T M = some I → gSd T G I pc f) (hT : ∀ k q, znth PG k = some q → ∃ I, znth T k = some I ∧ q.1 = I.2.2.2.1)
    (hent : ∀ k I as h r, znth T k = some I → (zsl as).length ≤ I.2.2.2.1 → (∀ (p : Program) (e : Env) (R : Room) (s : State) (m : MethodId) (args : Array Value) (below : List Frame) (meth : Method) (c : Code), gCx G I p l e R s m args below meth c h → r.2.2.1 - h.2.1 ≤ R.cells → r.2.2.2.1 - h.2.2.1 ≤ R.slots → gOK G p l e R s m args below meth c I.2.2.2.1 h (gQ G below args s h r) (0, zent I.2.2.2.1 as, [], h)) → gMet G l I as h r) :
    ∀ n M g r, zrun PG n M g = some r → ∀ I, znth T M = some I → ∀ (p : Program) (e : Env) (R : Room) (s : State) (m : MethodId) (args : Array Value) (below : List Frame) (meth : Method) (c : Code) (h0 : zH), gCx G I p l e R s m args below meth c h0 → r.2.2.1 - h0.2.1 ≤ R.cells → r.2.2.2.1 - h0.2.2.1 ≤ R.slots → gOK G p l e R s m args below meth c I.2.2.2.1 h0 (gQ G below args s h0 r) g := by
  intro n
  induction n with
  | zero => intro M g r e; cases e
  | succ n ih =>
    intro M g r e I hI p e' R s m args below meth c h0 hC hc hs
    have hmon : ∀ {M g r}, zrun PG n M g = some r → gMon g.2.2.2 r.2 := fun {M g r} h => zrun_mon hM n M g r h
    have bd : ∀ {h : zH}, gMon h r.2 → h.2.1 - h0.2.1 ≤ R.cells ∧ h.2.2.1 - h0.2.2.1 ≤ R.slots := fun {h} q => by
      have q1 := q.2.1
      have q2 := q.2.2.1
      omega
    have hin : ∀ k as h r2, zin PG (zrun PG n) k as h = some r2 → ∃ I2, znth T k = some I2 ∧ gMet G l I2 as h r2 ∧ gMon h r2.2 := by
      intro k as h r2 e2
      unfold zin at e2
      split at e2
      · rename_i hlen
        cases hq : znth PG k with
        | none =>
          exfalso
          cases n with
          | zero => cases e2
          | succ n =>
            have e3 : zstep PG (zrun PG n) k (0, zent (zN PG k) as, [], h) = some r2 := e2
            unfold zstep at e3
            rw [hq] at e3
            cases e3
        | some q =>
          obtain ⟨I2, h1, h2⟩ := hT k q hq
          have hN : zN PG k = I2.2.2.2.1 := by unfold zN; rw [hq]; exact h2
          rw [hN] at e2 hlen
          exact ⟨I2, h1, hent k I2 as h r2 h1 hlen (fun p e R s m args below meth c hC hc hs => ih _ _ _ e2 I2 h1 p e R s m args below meth c h hC hc hs), hmon e2⟩
      · cases e2
    have e : zstep PG (zrun PG n) M g = some r := e
    obtain ⟨pc, ls, st, h⟩ := g
    unfold zstep at e
    split at e
    · cases e
    · rename_i f hf
      obtain ⟨hN, hE, hCd⟩ := hS M pc f I hf hI p l e' R s m args below meth c h0 hC
      split at e
      · cases e
      · rename_i g' hg
        have hk := ih _ _ _ e I hI p e' R s m args below meth c h0 hC hc hs
        obtain ⟨b1, b2⟩ := bd (hmon e)
        exact hN _ ls st h g' hg b1 b2 hk
      · rename_i r' hg
        cases e
        exact hE ls st h r hg hc hs
      · rename_i k as hd n' ls' st' h' hg
        split at e
        · cases e
        · rename_i v h2 hcall
          obtain ⟨I2, q1, q2, q3⟩ := hin _ _ _ _ hcall
          obtain ⟨b1, b2⟩ := bd (hmon e)
          refine hCd ls st h k as hd _ hg I2 q1 _ r q3 q2 b1 b2 (fun v' hv => ?_) (fun x hx => by cases hx)
          cases hv
          exact ih _ _ _ e I hI p e' R s m args below meth c h0 hC hc hs
        · rename_i x h2 hcall
          obtain ⟨I2, q1, q2, q3⟩ := hin _ _ _ _ hcall
          split at e
          · cases e
          · rename_i hz
            cases e
            exact hCd ls st h k as hd _ hg I2 q1 _ _ q3 q2 hc hs (fun v' hv => by cases hv) (fun x hx => by cases hx; exact Or.inl ⟨hz, rfl⟩)
          · rename_i j l' hz
            obtain ⟨b1, b2⟩ := bd (hmon e)
            exact hCd ls st h k as hd _ hg I2 q1 _ r q3 q2 b1 b2 (fun v' hv => by cases hv) (fun x hx => by cases hx; exact Or.inr ⟨j, l', hz, ih _ _ _ e I hI p e' R s m args below meth c h0 hC hc hs⟩)
