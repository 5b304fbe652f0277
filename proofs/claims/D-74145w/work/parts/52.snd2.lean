/-! SOUNDNESS ROWS of what reads and writes the heap -/
def gTys (G : gG) : List (ClassId × FieldType) := [(G.2.2 0, .int), (G.2.2 1, .boolean), (G.2.2 2, .long), (G.2.2 3, .object "DistinctMarks$Counter"), (G.2.2 4, .byte), (G.2.2 5, .array .int)]
/-- the classes and array classes are known -/
def gV (G : gG) (s : State) : Prop := va_K (G.1, G.2.1) gCl (gTys G) s
theorem zget_spec {h : zH} {a c k : Nat} {v : Value} (e : zget h a c k = some v) : ∃ b fs, h.1 a = some (b, .inr (c, fs)) ∧ fs[k]? = some v := by
  unfold zget at e
  split at e
  · rename_i b c' fs hh
    by_cases hc : c' = c
    · rw [if_pos hc] at e
      subst hc
      exact ⟨b, fs, hh, e⟩
    · rw [if_neg hc] at e
      cases e
  · cases e
theorem zput_spec {h h' : zH} {a c k ty : Nat} {v : Value} (e : zput h a c k ty v = some h') : ∃ fs, h.1 a = some (true, .inr (c, fs)) ∧ k < fs.length ∧ zkind ty v = true ∧ h' = zup h a (.inr (c, fs.set k v)) := by
  unfold zput at e
  split at e
  · rename_i c' fs hh
    split at e
    · rename_i hc
      obtain ⟨rfl, h1, h2⟩ := hc
      cases e
      exact ⟨fs, hh, h1, h2, rfl⟩
    · cases e
  · cases e
theorem zald_spec {h : zH} {a t : Nat} {i : Int32} {v : Value} (e : zald h a t i = some v) : ∃ b n f, h.1 a = some (b, .inl (t, n, f)) ∧ ¬ (i < 0 ∨ n ≤ i.toNatClampNeg) ∧ v = f i.toNatClampNeg := by
  unfold zald at e
  split at e
  · rename_i b t' n f hh
    split at e
    · rename_i hc
      obtain ⟨rfl, h1⟩ := hc
      cases e
      exact ⟨b, n, f, hh, h1, rfl⟩
    · cases e
  · cases e
theorem zast_spec {h h' : zH} {a t : Nat} {i : Int32} {v : Value} (e : zast h a t i v = some h') : ∃ n f w, h.1 a = some (true, .inl (t, n, f)) ∧ ¬ (i < 0 ∨ n ≤ i.toNatClampNeg) ∧ zasg h t v = true ∧ znar t v = some w ∧ h' = zup h a (.inl (t, n, zfu f i.toNatClampNeg w)) := by
  unfold zast at e
  split at e
  · rename_i t' n f hh
    split at e
    · rename_i hc
      obtain ⟨rfl, h1, h2⟩ := hc
      cases hw : znar t' v with
      | none => rw [hw] at e; cases e
      | some w =>
        rw [hw] at e
        cases e
        exact ⟨n, f, w, hh, h1, h2, rfl, rfl⟩
    · cases e
  · cases e
theorem gWr_zup {h : zH} {a : Nat} {e e0 : zE} (ha : h.1 a = some (true, e0)) (q : Nat) : gWr (zup h a e) q ↔ gWr h q := by
  unfold gWr zup
  dsimp only
  by_cases hq : q = a
  · subst hq
    simp [ha]
  · simp [hq]
theorem gInv.set {G : gG} {h : zH} {H H1 : Heap} {a : Nat} {e e0 : zE} (hI : gInv G h H) (hz : H1.size = H.size) (oq : ∀ q : Nat, q ≠ a → H1[q]? = H[q]?) (he : gCell G a e H1) : gInv G (zup h a e) H1 := by
  refine ⟨hz.trans hI.1, fun q b e2 hq => ?_⟩
  unfold zup at hq
  dsimp only at hq
  by_cases hqa : q = a
  · rw [if_pos hqa] at hq
    cases hq
    rw [hqa]
    exact he
  · rw [if_neg hqa] at hq
    exact (hI.2 q b e2 hq).kept (oq q hqa)
theorem gFr.set {h0 h : zH} {H0 H H1 : Heap} {locs : List Loc} {a k : Nat} {e e0 : zE} (hF : gFr h0 H0 H locs h) (ha : h.1 a = some (true, e0)) (hz : H1.size = H.size) (oq : ∀ q : Nat, q ≠ a → H1[q]? = H[q]?) : gFr h0 H0 H1 (locs ++ [⟨a, k⟩]) (zup h a e) :=
  ⟨hF.1.put hz oq (hF.2.1 a (Or.inl ⟨_, ha⟩)), fun q hq => hF.2.1 q ((gWr_zup ha q).mp hq), hF.2.2.1, hF.2.2.2.1, hF.2.2.2.2⟩
/-- a kind's types -/
def gKf : Nat → FieldType → Bool
  | 0, .int => true
  | 1, .boolean => true
  | 2, .long => true
  | 3, .object _ => true
  | 3, .array _ => true
  | 4, .byte => true
  | _, _ => false
theorem gKf_ok {ty : Nat} {ft : FieldType} {v : Value} (h1 : gKf ty ft = true) (h2 : zkind ty v = true) : narrow ft v = v ∧ fits ft v = true := by
  unfold gKf at h1
  split at h1
  · cases v <;> simp [zkind] at h2 <;> simp [narrow, fits]
  · cases v <;> simp [zkind] at h2
    rcases h2 with rfl | rfl <;> decide
  · cases v <;> simp [zkind] at h2 <;> simp [narrow, fits]
  · cases v <;> simp [zkind] at h2 <;> simp [narrow, fits]
  · cases v <;> simp [zkind] at h2 <;> simp [narrow, fits]
  · cases v <;> simp [zkind] at h2
    rename_i x
    rw [← h2]
    exact ⟨pk_nb x, pk_fb x⟩
  · cases h1
section GR
variable {G : gG} {p : Program} {l : Launch} {e : Env} {R : Room} {s : State} {m : MethodId} {args : Array Value} {below : List Frame} {meth : Method} {c : Code} {nL : Nat} {h0 : zH} {cc : ByteArray} {pc n : Nat}
theorem gn_get {own ref C : String} {T : u_T} {N ci k index : Nat} (hx : p.tables.exec = Jvm.exec) (hb : c.code = cc) (hts : ∀ w ∈ lw_all, w.before args s = true) (hown : s.vm.findClass own = some m.cls) (hK : gV G s) (hin : ∀ w ∈ u_ws C T N, w ∈ lw_all) (hc : gCl[ci]? = some (C, T, N)) (hk : k < N)
    (hlink : (∃ host, (Cond.fieldLinkNest own index ref (T k).2.1 (T k).2.2.1 host).before args s = true) ∨ (Cond.fieldLink own index ref (T k).2.1 (T k).2.2.1).before args s = true) (href : (T k).1 = ref) (hd : decode cc pc = .ok (.getfield index, 3)) (hn : pc + 3 = n) : gN G p l e R s m args below meth c nL h0 pc (zi_get ci k n) := by
  subst hn
  intro Q ls st h g hf h1 h2 hkk H locs la hI hL hF
  unfold zi_get at hf
  split at hf
  · split at hf
    · rename_i a st _ v hv
      cases hf
      obtain ⟨b, fs, hh, hv⟩ := zget_spec hv
      obtain ⟨cell, q1, q2, q3, q4, -⟩ := hI.2 _ _ _ hh
      obtain ⟨hS, hfc, kC, hkC, hkind⟩ := hK.1 ci _ hc
      obtain ⟨cf, kf, fi, f, hi, hsl⟩ := hS k hk
      have hst := (u_facts hfc hkC (u_lays hts hin hk) hi).1
      have hslot : cell.slots[f.slot]? = some v := by rw [hsl]; exact q4 k v hv
      rw [href] at hi
      rcases hlink with ⟨host, hlink⟩ | hlink
      · exact va_Wgetf hx hb hown hlink hi hst q1 (by rw [q3]; exact fun h => by cases h) hslot rfl rfl hd (hkk H locs la hI hL hF)
      · exact W.getf hx hb hown hlink hi hst q1 (by rw [q3]; exact fun h => by cases h) hslot rfl rfl hd (hkk H locs la hI hL hF)
    · cases hf
  · cases hf
/-- an object's cell with a field written -/
theorem gObj_set {cell : Cell} {H1 : Heap} {a ci k i N : Nat} {fs : List Value} {v : Value} (q1 : cell.cls = G.1 ci) (q2 : cell.vm = .none) (q4 : ∀ k v, fs[k]? = some v → cell.slots[G.2.1 ci k]? = some v) (hi : G.2.1 ci k = i) (hN : fs.length ≤ N) (hk : k < fs.length) (hap : ∀ x y, x < N → y < N → x ≠ y → G.2.1 ci x ≠ G.2.1 ci y) (e1 : H1[a]? = some (cell.setSlot i v)) (q5 : ∀ r, gCl[ci]? = some r → fs.length ≤ r.2.2) : gCell G a (.inr (ci, fs.set k v)) H1 := by
  refine ⟨_, e1, q1, q2, fun j w hj => ?_, fun r hr => by rw [List.length_set]; exact q5 r hr⟩
  subst hi
  have hjl : j < fs.length := by
    have := (List.getElem?_eq_some_iff.mp hj).1
    simpa using this
  by_cases hjk : j = k
  · subst hjk
    rw [List.getElem?_set_self hk] at hj
    cases hj
    have hlt : G.2.1 ci j < cell.slots.size := by
      have := q4 j fs[j] (List.getElem?_eq_getElem hk)
      exact (Array.getElem?_eq_some_iff.mp this).1
    simp [Cell.setSlot, hlt]
  · rw [List.getElem?_set_ne (Ne.symm hjk)] at hj
    have h3 := q4 j w hj
    have h4 := hap k j (by omega) (by omega) (Ne.symm hjk)
    simp [Cell.setSlot, Array.getElem?_setIfInBounds, h4, h3]
theorem gn_put {own ref C : String} {T : u_T} {N ci k index ty : Nat} {ty0 : Nat → FieldType} {ft : FieldType} (hx : p.tables.exec = Jvm.exec) (hb : c.code = cc) (hts : ∀ w ∈ lw_all, w.before args s = true) (hown : s.vm.findClass own = some m.cls) (hK : gV G s) (hin : ∀ w ∈ u_ws C T N, w ∈ lw_all) (hty : ∀ k, k < N → parseFieldDescriptor (T k).2.2.1 = some (ty0 k)) (hnm : ∀ a, a < N → ∀ b, b < N → a ≠ b → (T a).2.1 ≠ (T b).2.1) (hc : gCl[ci]? = some (C, T, N)) (hk : k < N)
    (hlink : (∃ host, (Cond.fieldLinkNest own index ref (T k).2.1 (T k).2.2.1 host).before args s = true ∧ (T k).2.2.2 = false) ∨ ((Cond.fieldLink own index ref (T k).2.1 (T k).2.2.1).before args s = true ∧ ((T k).2.2.2 = false ∨ ((T k).2.2.2 = true ∧ meth.name = "<init>" ∧ (T k).1 = own)))) (href : (T k).1 = ref)
    (hft : parseFieldDescriptor (T k).2.2.1 = some ft) (hkf : gKf ty ft = true) (hd : decode cc pc = .ok (.putfield index, 3)) (hn : pc + 3 = n) : gN G p l e R s m args below meth c nL h0 pc (zi_put ci k ty n) := by
  subst hn
  intro Q ls st h g hf h1 h2 hkk H locs la hI hL hF
  unfold zi_put at hf
  split at hf
  · split at hf
    · rename_i v a st _ h' hv
      cases hf
      obtain ⟨fs, hh, hkl, hkd, rfl⟩ := zput_spec hv
      obtain ⟨cell, q1, q2, q3, q4, q5⟩ := hI.2 _ _ _ hh
      have hap := va_apart (D := (G.1, G.2.1)) (own := own) hts hin ty0 hty hnm hK hc
      obtain ⟨hS, hfc, kC, hkC, hkind⟩ := hK.1 ci _ hc
      obtain ⟨cf, kf, fi, f, hi, hsl⟩ := hS k hk
      have hlay := hts _ (hin _ (u_in_lay hk))
      unfold u_lay at hlay
      have hst := (u_facts hfc hkC (u_lays hts hin hk) hi).1
      obtain ⟨hna, hfi⟩ := gKf_ok hkf hkd
      have hslt : f.slot < cell.slots.size := by
        rw [hsl]
        exact (Array.getElem?_eq_some_iff.mp (q4 k fs[k] (List.getElem?_eq_getElem hkl))).1
      have fin : ∀ H' : Heap, H'[a]? = some (cell.setSlot f.slot v) → H'.size = H.size → (∀ q, q ≠ a → H'[q]? = H[q]?) → W p l e R s m args below meth c H' (locs ++ [⟨a, f.slot⟩]) _ _ Q (F0 m (pc + 3) la st) := fun H' e1 e2 e3 => by
        refine hkk H' _ la (hI.set (e0 := .inr (ci, fs)) e2 e3 ?_) hL (hF.set hh e2 e3)
        exact gObj_set q2 q3 q4 hsl.symm (q5 _ hc) hkl hap e1 (fun r hr => by rw [hc] at hr; cases hr; exact q5 _ hc)
      rcases hlink with ⟨host, hlink, hfin⟩ | ⟨hlink, hfin⟩
      · rw [if_neg (by rw [hfin]; decide)] at hlay
        have h6 := u_store hfc hkC hkind hlay hi hft hna hfi
        rw [href] at hi
        exact va_WputK hx hb hown hlink hi hst (by rw [q2]; exact h6) q1 q3 hslt rfl rfl hd fin
      · rcases hfin with hfin | ⟨hfin, hin2, hdecl⟩
        · rw [if_neg (by rw [hfin]; decide)] at hlay
          have h6 := u_store hfc hkC hkind hlay hi hft hna hfi
          rw [href] at hi
          exact W.putK hx hb (f := f) ⟨hown, hlink, ⟨_, _, _, hi⟩, hst⟩ (by rw [q2]; exact h6) q1 q3 hslt rfl rfl hd fin
        · rw [if_pos hfin] at hlay
          have hcf : m.cls = cf := by
            obtain ⟨_, _, c', _, _, _, -, -, hf', -, -, -, hown2, -⟩ := Cond.laysFinal_spec hlay
            have e1 : c' = cf := by have := hi.symm.trans hf'; simp at this; exact this.1.symm
            rw [hdecl] at hown2
            rw [← e1]; exact Option.some.inj (hown.symm.trans hown2)
          have h6 := u_fits hfc hkC hkind (Or.inr hlay) hi hft hna hfi
          rw [href] at hi
          exact W.putFinK hx hb hown hlink hi hst hcf hin2 (by rw [q2]; exact h6) q1 q3 hslt rfl rfl hd fin
    · cases hf
  · cases hf
end GR
