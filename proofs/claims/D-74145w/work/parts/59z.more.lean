/-! SOUNDNESS ROWS: switches, Object's constructor, statics, the text -/
theorem zn_oi (n : Nat) : zNx (zi_oi n) := by
  intro ls st h o e
  unfold zi_oi at e
  split at e
  · cases e; exact ⟨_, rfl⟩
  · cases e
theorem znth_get {α : Type} : ∀ (l : List α) (k : Nat), znth l k = l[k]?
  | [], k => by cases k <;> rfl
  | a :: l, 0 => rfl
  | a :: l, k + 1 => by rw [List.getElem?_cons_succ]; exact znth_get l k
section GR
variable {G : gG} {p : Program} {l : Launch} {e : Env} {R : Room} {s : State} {m : MethodId} {args : Array Value} {below : List Frame} {meth : Method} {c : Code} {nL : Nat} {h0 : zH} {cc : ByteArray} {pc n : Nat}
theorem gn_sw {dflt lo hi : Int} {offs : Array Int} {len d lo' : Nat} {ts : List Nat} (hx : p.tables.exec = Jvm.exec) (hb : c.code = cc) (hd : decode cc pc = .ok (.tableswitch dflt lo hi offs, len)) (hlo : lo = (lo' : Int)) (hhi : hi = (lo' : Int) + (ts.length : Int) - 1) (hdd : (pc : Int) + dflt = (d : Int)) (hof : offs.toList = ts.map (fun t : Nat => (t : Int) - (pc : Int))) : gN G p l e R s m args below meth c nL h0 pc (zi_sw (zsw lo' ts d)) := by
  subst hlo
  intro Q ls st h g hf h1 h2 hk H locs la hI hL hF
  unfold zi_sw at hf
  split at hf
  · rename_i x st
    cases hf
    have hk := hk H locs la hI hL hF
    dsimp only at hk
    by_cases hx1 : x.toInt < (lo' : Int)
    · have ez : zsw lo' ts d x = d := if_pos hx1
      rw [ez] at hk
      exact lv_tableOut hx hb hd (Or.inl hx1) hdd hk
    · have ez : zsw lo' ts d x = (znth ts (x.toInt - lo').toNat).getD d := if_neg hx1
      rw [ez, znth_get] at hk
      by_cases hx2 : (x.toInt - lo').toNat < ts.length
      · rw [List.getElem?_eq_getElem hx2, Option.getD_some] at hk
        refine lv_tableIn hx hb hd hx1 (by omega) (off := (ts[(x.toInt - lo').toNat] : Int) - pc) ?_ (by omega) hk
        rw [← Array.getElem?_toList, hof, List.getElem?_map, List.getElem?_eq_getElem hx2]
        rfl
      · rw [List.getElem?_eq_none (by omega), Option.getD_none] at hk
        exact lv_tableOut hx hb hd (Or.inr (by omega)) hdd hk
  · cases hf
theorem gn_oi {own : String} {index : Nat} (hx : p.tables.exec = Jvm.exec) (hb : c.code = cc) (hml : c.maxLocals = nL) (hown : s.vm.findClass own = some m.cls) (hlink : (Cond.methodLink own index Lib.objectInit).before args s = true) (hinst : (Cond.instanceMethod Lib.objectInit).before args s = true) (hcode : (Cond.code Lib.objectInit ⟨#[0xb1]⟩ 1 none).before args s = true) (hfr : 1 ≤ R.frames) (hlo : 12 ≤ R.locals) (hd : decode cc pc = .ok (.invokespecial index, 3)) (hn : pc + 3 = n) : gN G p l e R s m args below meth c nL h0 pc (zi_oi n) := by
  subst hn
  intro Q ls st h g hf h1 h2 hk H locs la hI hL hF
  unfold zi_oi at hf
  split at hf
  · cases hf
    exact W.objInit hx hb hown hlink hinst hcode rfl (hL.1.trans hml.symm) rfl hd hfr hlo (hk H locs la hI hL hF)
  · cases hf
theorem gn_stk {C nm ds own : String} {v : Value} {index : Nat} (hx : p.tables.exec = Jvm.exec) (hb : c.code = cc) (hown : s.vm.findClass own = some m.cls) (hZ : va_Z C nm ds v (gWr h0) s s.heap) (hlink : (Cond.fieldLink own index C nm ds).before args s = true) (hd : decode cc pc = .ok (.getstatic index, 3)) {w : Value} (hv : v = w) (hn : pc + 3 = n) : gN G p l e R s m args below meth c nL h0 pc (zi_p (zo_k w) n) := by
  subst hn
  subst hv
  intro Q ls st h g hf h1 h2 hk H locs la hI hL hF
  cases hf
  exact va_gets hx hb hZ hF.1 hown hlink (fun _ h => h) hd (hk H locs la hI hL hF)
theorem gn_ste {C nm ds own : String} {index j : Nat} (hx : p.tables.exec = Jvm.exec) (hb : c.code = cc) (hown : s.vm.findClass own = some m.cls) (hZ : va_Z C nm ds (h0.2.2.2 j) (gWr h0) s s.heap) (hlink : (Cond.fieldLink own index C nm ds).before args s = true) (hd : decode cc pc = .ok (.getstatic index, 3)) (hn : pc + 3 = n) : gN G p l e R s m args below meth c nL h0 pc (zi_env j n) := by
  subst hn
  intro Q ls st h g hf h1 h2 hk H locs la hI hL hF
  cases hf
  have hk := hk H locs la hI hL hF
  dsimp only at hk
  rw [hF.2.2.2.2.1] at hk
  exact va_gets hx hb hZ hF.1 hown hlink (fun _ h => h) hd hk
theorem gn_ldcWs {T : State} {locs : List Loc} {cells slots : Nat} (X : Stand p l e R s m args below meth c T locs cells slots) (hexec : p.tables.exec = Jvm.exec) {own text : String} {index : Nat} {a : Addr} (hown : s.vm.findClass own = some m.cls)
    (hconst : (Cond.stringRef own index text).before #[] s = true) (hev : (Term.string own index).eval #[] s none [] s = some (.ref a)) {g : JFrame} (hg : g.method = m) (hdg : decode c.code g.pc = .ok (.ldc_w index, 3)) :
    ∀ target, Steps p.tables e below (T.setTop { g with pc := g.pc + 3, stack := .ref a :: g.stack }) target → Steps p.tables e below (T.setTop g) target := by
  obtain ⟨k, cf, i, a', hk, hcf, hcp, -, hr, hev'⟩ := Cond.stringRef_spec hown hconst
  cases hev.symm.trans hev'
  obtain ⟨k', hk', he⟩ := X.warmed.alike.2.2 _ _ hk
  have hr' : k'.resolved[index]? = some (some (.string a)) := by
    rcases X.warmed.entry hk hk' index with h | ⟨h, -⟩
    · rw [h]; exact hr
    · rw [hr] at h; cases h
  intro target hrest
  subst hg
  jvm_step X.here [hexec, hdg, ldc_w.wp_string (e := e) (s := T) (f := g) X.here.top hk' (by rw [he]; exact hcf) hcp hr']
  exact hrest
theorem gn_str (hx : p.tables.exec = Jvm.exec) (hb : c.code = cc) (hown : s.vm.findClass "DistinctMarks" = some m.cls) (hT : gTx h0 s) (hd : decode cc pc = .ok (.ldc_w 341, 3)) (hn : pc + 3 = n) : gN G p l e R s m args below meth c nL h0 pc (zi_env 0 n) := by
  subst hn
  intro Q ls st h g hf h1 h2 hk H locs la hI hL hF
  cases hf
  have hk := hk H locs la hI hL hF
  dsimp only at hk
  obtain ⟨a, h3, h4, h5⟩ := hT
  rw [hF.2.2.2.2.1, h3] at hk
  intro T hTt X
  obtain ⟨t, a1, b1⟩ := hk T hTt X
  exact ⟨t, gn_ldcWs X hx hown h4 h5 (g := F0 m pc la st) rfl (by rw [hb]; exact hd) t a1, b1⟩
theorem gn_cp {own : String} {index : Nat} (hx : p.tables.exec = Jvm.exec) (hb : c.code = cc) (hml : c.maxLocals = nL) (hown : s.vm.findClass own = some m.cls) (hK : gV G s) (hlink : (Cond.methodLink own index arraycopyName).before args s = true) (hnat : (Cond.native arraycopyName).before args s = true) (hstat : (Cond.static arraycopyName).before args s = true) (hini : (Cond.initialized "java/lang/System").before args s = true) (hfr : 1 ≤ R.frames) (hlo : 8 + (nativeFrameWords "java/lang/System" "arraycopy" 5 + 11) ≤ R.locals) (hd : decode cc pc = .ok (.invokestatic index, 3)) (hn : pc + 3 = n) : gN G p l e R s m args below meth c nL h0 pc (zi_cp n) := by
  subst hn
  intro Q ls st0 h g0 hf h1 h2 hkk H locs la hI hL hF
  unfold zi_cp at hf
  split at hf
  · split at hf
    · rename_i x j b i a _ h' hv
      cases hf
      unfold zcp at hv
      split at hv
      · rename_i fl t na f t' nb gf ha hb0
        split at hv
        · rename_i hc
          obtain ⟨rfl, ht, c1, c2, c3, c4, c5⟩ := hc
          cases hv
          have hkk := fun H1 locs1 hI1 hF1 => hkk H1 locs1 la hI1 hL hF1
          obtain ⟨q1, q2, q3, q4⟩ := hI.2 _ _ _ ha
          obtain ⟨r1, r2, r3, r4⟩ := hI.2 _ _ _ hb0
          have nn : ∀ z : Int32, ¬ z < 0 → z.toInt = (z.toNatClampNeg : Int) := by
            intro z hz
            have hz0 : (0 : Int) ≤ z.toInt := by
              have := Int32.not_lt.mp hz
              simpa using Int32.le_iff_toInt_le.mp this
            show z.toInt = ((z.toInt.toNat : Nat) : Int)
            omega
          have hty : ∃ ty, ArrOfT s (G.2.2 t') ty ∧ refKind ty = false ∧ ∀ v, gFit t' v = true → fits ty v = true := by
            rcases ht with rfl | rfl
            · exact ⟨.int, (gV_ty hK (t := 0) rfl).1, rfl, fun v hv => by cases v <;> simp [gFit] at hv; rfl⟩
            · refine ⟨.byte, (gV_ty hK (t := 4) rfl).1, rfl, fun v hv => ?_⟩
              cases v <;> simp [gFit] at hv
              rw [← hv]
              exact pk_fb _
          obtain ⟨ty, hA, hprim, hfit⟩ := hty
          intro T hT X
          obtain ⟨-, k0, hk0, cm0, hkk0⟩ := hA na f
          obtain ⟨-, k1, hk1, cm1, hkk1⟩ := hA nb gf
          obtain ⟨vm', X', step⟩ := X.arraycopy hx hown hlink hnat hstat hini (src := a) (dst := b) (cs := arrV (G.2.2 t') na f) (cd := arrV (G.2.2 t') nb gf) (srcPos := i) (destPos := j) (n := x) (by rw [hT]; exact q1) (by rw [hT]; exact r1)
            (fun _ h => by cases h) (fun _ h => by cases h) (fun h => by cases h) (fun h => by cases h) hk0 hk1 hkk0 hkk1 (by simp [hprim]) c1 c2 c3
            (by rw [nn i c1, nn x c3, arrV_size]; omega)
            (by rw [nn j c2, nn x c3, arrV_size]; omega)
            (fun vm₁ _ z hz => by
              have e9 : (arrV (G.2.2 t') na f).slots.getD (i.toNatClampNeg + z) .null = f (i.toNatClampNeg + z) := by
                rw [Array.getD_eq_getD_getElem?, arrV_read _ _ (by omega)]
                rfl
              have e8 := q3 (i.toNatClampNeg + z) (by omega)
              refine ⟨by rw [e9]; exact hfit _ e8, ?_⟩
              rw [e9]
              rcases ht with rfl | rfl
              · cases hfz : f (i.toNatClampNeg + z) <;> simp [gFit, hfz] at e8 <;> trivial
              · cases hfz : f (i.toNatClampNeg + z) <;> simp [gFit, hfz] at e8 <;> trivial)
            (g := F0 m pc la [.int x, .int j, .ref b, .int i, .ref a]) rfl (by rw [hml]; exact hL.1) (rest := []) rfl (by rw [hb]; exact hd) hfr (by show 2 * 0 + 0 + _ ≤ _; omega)
          have e1 : copied (arrV (G.2.2 t') na f) (arrV (G.2.2 t') nb gf) i j x = arrV (G.2.2 t') nb (va_cpy f gf i.toNatClampNeg j.toNatClampNeg x.toNatClampNeg) := va_copied (fun z => z) (G.2.2 t') (G.2.2 t') f gf c4
          rw [e1] at X' step
          have hl : b < H.size := (Array.getElem?_eq_some_iff.mp r1).1
          have hheap : ((T.setVm vm').setCell b (arrV (G.2.2 t') nb (va_cpy f gf i.toNatClampNeg j.toNatClampNeg x.toNatClampNeg))).heap = H.setIfInBounds b (arrV (G.2.2 t') nb (va_cpy f gf i.toNatClampNeg j.toNatClampNeg x.toNatClampNeg)) := by rw [← hT]; rfl
          have oq : ∀ q : Nat, q ≠ b → (H.setIfInBounds b (arrV (G.2.2 t') nb (va_cpy f gf i.toNatClampNeg j.toNatClampNeg x.toNatClampNeg)))[q]? = H[q]? := fun q hq => by simp [Array.getElem?_setIfInBounds, Ne.symm hq]
          have hbw := hF.2.1 b (Or.inl ⟨_, hb0⟩)
          obtain ⟨t2, a1, b1⟩ := hkk _ _ (hI.set (e0 := .inl (t', nb, gf)) (by simp) oq ⟨by simp [Array.getElem?_setIfInBounds, hl], r2, fun z hz => by
              unfold va_cpy
              split
              · exact q3 _ (by omega)
              · exact r3 z hz, r4⟩) ⟨⟨by simp; exact hF.1.1, fun q g1 g2 => by
              rw [oq q (fun e => g2 (by rw [e]; exact hbw))]
              exact hF.1.2.1 q g1 g2, fun q hq => by
              rcases List.mem_append.mp hq with h | h
              · exact hF.1.2.2 q h
              · obtain ⟨z, -, hz⟩ := List.mem_map.mp h
                rw [← hz]
                exact hbw⟩, fun q hq => hF.2.1 q ((gWr_zup hb0 q).mp hq), hF.2.2.1, hF.2.2.2.1, hF.2.2.2.2⟩ _ hheap X'
          exact ⟨t2, step t2 a1, b1⟩
        · cases hv
      · cases hv
    · cases hf
  · cases hf
end GR
/-- every instruction of a list, from the pc o on, is sound and lets heaps grow -/
def gAll (T : List gMI) (G : gG) (I : gMI) : List zI → Nat → Prop
  | [], _ => True
  | f :: l, o => (gSd T G I o f ∧ zMn f) ∧ gAll T G I l (o + 1)
theorem gA {T : List gMI} {G : gG} {I : gMI} {f : zI} {l : List zI} {o : Nat} (h1 : gSd T G I o f) (h2 : zMn f) (h3 : gAll T G I l (o + 1)) : gAll T G I (f :: l) o := ⟨⟨h1, h2⟩, h3⟩
theorem gAX {T : List gMI} {G : gG} {I : gMI} {l : List zI} {o : Nat} (h3 : gAll T G I l (o + 1)) : gAll T G I (zX :: l) o := ⟨⟨gSd_X, zm_X⟩, h3⟩
theorem gA0 {T : List gMI} {G : gG} {I : gMI} {o : Nat} : gAll T G I [] o := trivial
theorem gAll_at {T : List gMI} {G : gG} {I : gMI} : ∀ (l : List zI) (o : Nat), gAll T G I l o → ∀ i f, znth l i = some f → gSd T G I (o + i) f ∧ zMn f
  | [], _, _, i, f, h => by cases h
  | g :: l, o, h, 0, f, hf => by cases hf; exact h.1
  | g :: l, o, h, i + 1, f, hf => by
    have := gAll_at l (o + 1) h.2 i f hf
    rw [show o + (i + 1) = o + 1 + i by omega]
    exact this
theorem gAll_app {T : List gMI} {G : gG} {I : gMI} : ∀ (l1 l2 : List zI) (o : Nat), gAll T G I l1 o → gAll T G I l2 (o + l1.length) → gAll T G I (l1 ++ l2) o
  | [], l2, o, _, h => h
  | g :: l, l2, o, h, h2 => ⟨h.1, gAll_app l l2 (o + 1) h.2 (by rw [show o + 1 + l.length = o + (g :: l).length by simp; omega]; exact h2)⟩
/-- the whole program -/
def gPr (T : List gMI) (G : gG) : List zM → List gMI → Prop
  | [], _ => True
  | _ :: _, [] => False
  | q :: l, I :: t => (gAll T G I q.2 0 ∧ q.1 = I.2.2.2.1) ∧ gPr T G l t
theorem gB {T : List gMI} {G : gG} {n : Nat} {c : List zI} {l : List zM} {I : gMI} {t : List gMI} (h1 : gAll T G I c 0) (h2 : n = I.2.2.2.1) (h3 : gPr T G l t) : gPr T G ((n, c) :: l) (I :: t) := ⟨⟨h1, h2⟩, h3⟩
theorem gB0 {T : List gMI} {G : gG} {t : List gMI} : gPr T G [] t := trivial
theorem gPr_at {T : List gMI} {G : gG} : ∀ (l : List zM) (t : List gMI), gPr T G l t → ∀ k q, znth l k = some q → ∃ I, znth t k = some I ∧ gAll T G I q.2 0 ∧ q.1 = I.2.2.2.1
  | [], _, _, k, q, h => by cases h
  | _ :: _, [], h, _, _, _ => h.elim
  | q0 :: l, I :: t, h, 0, q, hq => by cases hq; exact ⟨I, rfl, h.1⟩
  | q0 :: l, I :: t, h, k + 1, q, hq => gPr_at l t h.2 k q hq
theorem gPr_all {T : List gMI} {G : gG} {pg : List zM} (h : gPr T G pg T) {M pc : Nat} {f : zI} (e : zat pg M pc = some f) : ∃ I, znth T M = some I ∧ gSd T G I pc f ∧ zMn f := by
  cases hq : znth pg M with
  | none => unfold zat at e; rw [hq] at e; cases e
  | some q =>
    unfold zat at e
    rw [hq] at e
    obtain ⟨I, h1, h2, -⟩ := gPr_at pg T h M q hq
    have := gAll_at q.2 0 h2 pc f e
    rw [Nat.zero_add] at this
    exact ⟨I, h1, this⟩
/-- a private method is selected, whatever the receiver's class -/
theorem gSel {y : MethodName} {C : String} {s : State} {args : Array Value} {c : ClassId} (hy : y.cls ≠ "java/lang/invoke/MethodHandle" ∧ y.cls ≠ "java/lang/invoke/VarHandle") (hC : s.vm.findClass C = some c) (hpriv : (Cond.privateMethod y).before args s = true) (hinst : (Cond.instanceMethod y).before args s = true) (hsame : (Cond.sameMethod y.cls y.cls y.name y.desc).before args s = true) : (Cond.selects C y y).before args s = true := by
  obtain ⟨mk, methM, hnamed, hmethM, -, -⟩ := Cond.instanceMethod_spec hinst
  have hfound : s.methodFound? y.cls y.name y.desc = some mk := State.methodFound?_of_named hnamed hy
  have hcls : s.vm.findClass y.cls = some mk.cls := findClass_of_methodNamed hnamed
  have hsel : selectMethod {} s.vm c mk = .method mk := selectMethod_private hmethM (Cond.privateMethod_at hpriv mk methM hnamed hmethM)
  have hni : (s.vm.classes[mk.cls]?).any (!·.isInterface) = true := by
    simp only [Cond.before, Cond.holds, Cond.value, hcls, hfound, hnamed] at hsame
    simp at hsame
    simpa using hsame
  simp only [Cond.before, Cond.holds, Cond.value, hC, hfound, hnamed, hsel, hni]
  simp
