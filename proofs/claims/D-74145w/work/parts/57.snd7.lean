/-! SOUNDNESS ROWS of calls -/
theorem lw5 {a b c d e : Cond} (h1 : a ∈ lw_all) (h2 : b ∈ lw_all) (h3 : c ∈ lw_all) (h4 : d ∈ lw_all) (h5 : e ∈ lw_all) : ∀ w ∈ [a, b, c, d, e], w ∈ lw_all := by
  intro w hw
  simp only [List.mem_cons, List.not_mem_nil, or_false] at hw
  rcases hw with rfl | rfl | rfl | rfl | rfl <;> assumption
theorem lw6 {a b c d e f : Cond} (h1 : a ∈ lw_all) (h2 : b ∈ lw_all) (h3 : c ∈ lw_all) (h4 : d ∈ lw_all) (h5 : e ∈ lw_all) (h6 : f ∈ lw_all) : ∀ w ∈ [a, b, c, d, e, f], w ∈ lw_all := by
  intro w hw
  simp only [List.mem_cons, List.not_mem_nil, or_false] at hw
  rcases hw with rfl | rfl | rfl | rfl | rfl | rfl <;> assumption
section GR
variable {T : List gMI} {G : gG} {p : Program} {l : Launch} {e : Env} {R : Room} {s : State} {m : MethodId} {args : Array Value} {below : List Frame} {meth : Method} {c : Code} {nL : Nat} {h0 : zH} {cc : ByteArray} {pc n : Nat}
/-- what a call's place says of handlers -/
def gHd (p : Program) (l : Launch) (e : Env) (R : Room) (s : State) (m : MethodId) (args : Array Value) (below : List Frame) (meth : Method) (c : Code) (nL pc : Nat) (hd : Option (Nat × Nat × Nat)) : Prop :=
  (hd = none ∧ ∀ z ∈ c.exceptionTable.toList, covers z pc = false) ∨ ∃ j k x, hd = some (j, k, x) ∧ ∀ (E : String) (ce : Cell) (q : Addr) (Q : State → Prop) (H : Heap) (locs : List Loc) (cells slots : Nat) (la : Array Slot) (ls l' rest : List Value), gName x = some E → H[q]? = some ce → ce.vm = .none → s.vm.findClass E = some ce.cls → gL la nL ls → zst1 false ls k zJ = some l' → (∀ la', gL la' nL l' → W p l e R s m args below meth c H locs cells slots Q (F0 m j la' [])) → vx_W p l e R s m args below meth c H locs cells slots Q (F0 m pc la rest) q
theorem gHd.none (h : c.exceptionTable.toList = tableOf []) : gHd p l e R s m args below meth c nL pc none := Or.inl ⟨rfl, fun z hz => by rw [h] at hz; cases hz⟩
theorem gHd.catch {j k x hp ct : Nat} {E nm own : String} {a b : Nat} (hx : p.tables.exec = Jvm.exec) (hb : c.code = cc) (hown : s.vm.findClass own = some m.cls) (ht : c.exceptionTable.toList = tableOf [(a, b, hp, ct)]) (hcov : a ≤ pc ∧ pc < b) (hct : ct ≠ 0) (hlink : (Cond.classLink own ct nm).before args s = true) (hE : gName x = some E) (hcast : va_Nw (.castable E nm) s) (hkn : k < nL)
    (hd : (∃ q : Fin 4, (q : Nat) = k ∧ decode cc hp = .ok (.astore_n q, 1) ∧ hp + 1 = j) ∨ (decode cc hp = .ok (.astore k, 2) ∧ hp + 2 = j)) : gHd p l e R s m args below meth c nL pc (some (j, k, x)) := by
  refine Or.inr ⟨j, k, x, rfl, fun E' ce q Q H locs cells slots la ls l' rest hnm hce hcv hcl hL hz hk => ?_⟩
  cases hE.symm.trans hnm
  refine vx_catch hown [] ⟨a, b, hp, ct⟩ [] ht (fun z hz => by cases hz) (by simp [covers, hcov.1, hcov.2]) hct hlink (va_Nw.use rfl hcast) hce hcv hcl ?_
  rcases hd with ⟨q4, rfl, hd, rfl⟩ | ⟨hd, rfl⟩
  · exact lv_astore_n hx hb hd rfl hL.has hkn rfl (fun la' h' => hk la' (gL.st1 hL.2.2.1 h' hz (Or.inr rfl)))
  · exact lv_astore hx hb hd hL.has hkn rfl (fun la' h' => hk la' (gL.st1 hL.2.2.1 h' hz (Or.inr rfl)))
theorem gk_go {h : zH} {ls st rest : List Value} {hd : Option (Nat × Nat × Nat)} {r res : zR} {a : Array Value} (hlk : meth.locks = false) (hH : gHd p l e R s m args below meth c nL pc hd)
    (hrun : ∀ (H : Heap) (locs : List Loc) (la : Array Slot), gInv G h H → gFr h0 s.heap H locs h → la.size = nL → vx_Run p l e R s m args below meth c H locs (h.2.1 - h0.2.1) (h.2.2.1 - h0.2.2.1) (r.2.2.1 - h.2.1) (r.2.2.2.1 - h.2.2.1) (F0 m pc la st) rest (gQc G h r a) (gXC G h r) (gWr h)) (hm : gMon h r.2)
    (k1 : ∀ v, r.1 = .inl v → gOK G p l e R s m args below meth c nL h0 (gQ G below args s h0 res) (pc + 3, ls, v.toList ++ rest, r.2))
    (k2 : ∀ x, r.1 = .inr x → (zhnd hd x ls = some none ∧ res = r) ∨ ∃ j l', zhnd hd x ls = some (some (j, l')) ∧ gOK G p l e R s m args below meth c nL h0 (gQ G below args s h0 res) (j, l', [], r.2)) :
    gOK G p l e R s m args below meth c nL h0 (gQ G below args s h0 res) (pc, ls, st, h) := by
  intro H locs la hI hL hF
  refine gc_go (hrun H locs la hI hF hL.1) hL hF hm k1 ?_
  intro x hx H1 locs1 q E ce hI1 hF1 hce hcv hcl hnm
  rcases k2 x hx with ⟨hz, rfl⟩ | ⟨j, l', hz, hok⟩
  · rcases hH with ⟨rfl, hout⟩ | ⟨j, k, x', rfl, -⟩
    · exact vx_out hout hlk hce hcv hcl (fun t ht _ => ⟨x, hx, hnm, by rw [ht]; exact hI1, hF1.1.F ht⟩) hF1.1.2.2 (Nat.le_refl _) (Nat.le_refl _)
    · unfold zhnd at hz
      dsimp only at hz
      split at hz
      · split at hz <;> cases hz
      · cases hz
  · rcases hH with ⟨rfl, hout⟩ | ⟨j', k, x', rfl, hcat⟩
    · cases hz
    · unfold zhnd at hz
      dsimp only at hz
      split at hz
      · rename_i hxx
        split at hz
        · rename_i l2 hl2
          cases hz
          subst hxx
          exact hcat E ce q _ H1 locs1 _ _ la ls l' rest hnm hce hcv hcl hL hl2 (fun la' hL' => hok H1 locs1 la' hI1 hL' hF1)
        · cases hz
      · cases hz
/-- room for a call -/
theorem gk_room {h : zH} {r : zR} {H0 H : Heap} {locs : List Loc} (hF : gFr h0 H0 H locs h) (hm : gMon h r.2) (hc : r.2.2.1 - h0.2.1 ≤ R.cells) (hs : r.2.2.2.1 - h0.2.2.1 ≤ R.slots) : h.2.1 - h0.2.1 + (r.2.2.1 - h.2.1) ≤ R.cells ∧ h.2.2.1 - h0.2.2.1 + (r.2.2.2.1 - h.2.2.1) ≤ R.slots := by
  have q1 := hF.2.2.1
  have q2 := hF.2.2.2.1
  have q3 := hm.2.1
  have q4 := hm.2.2.1
  omega
theorem zi_c_spec {k na n' k' : Nat} {hd hd' : Option (Nat × Nat × Nat)} {ls st as : List Value} {h : zH} {g : zF} (e : zi_c k na hd n' ls st h = some (.inr (.inr (k', as, hd', g)))) : k' = k ∧ hd' = hd ∧ g = (n', ls, st.drop na, h) ∧ as = (st.take na).reverse ∧ na ≤ st.length ∧ zcat (st.drop na) ≤ 8 := by
  unfold zi_c at e
  split at e
  · rename_i hc
    cases e
    exact ⟨rfl, rfl, rfl, rfl, hc.1, hc.2⟩
  · cases e
theorem zi_v_spec {cn k na n' k' : Nat} {hd hd' : Option (Nat × Nat × Nat)} {ls st as : List Value} {h : zH} {g : zF} (e : zi_v cn k na hd n' ls st h = some (.inr (.inr (k', as, hd', g)))) : ∃ b as', k' = k ∧ hd' = hd ∧ g = (n', ls, st.drop na, h) ∧ as = .ref b :: as' ∧ (st.take na).reverse = .ref b :: as' ∧ na ≤ st.length ∧ zcat (st.drop na) ≤ 8 ∧ zis h b cn = true := by
  unfold zi_v at e
  split at e
  · rename_i b as' hb
    split at e
    · rename_i hc
      cases e
      exact ⟨b, as', rfl, rfl, rfl, rfl, hb, hc.2.1, hc.2.2, hc.1⟩
    · cases e
  · cases e
theorem zi_r_spec {k na n' k' : Nat} {hd hd' : Option (Nat × Nat × Nat)} {ls st as : List Value} {h : zH} {g : zF} (e : zi_r k na hd n' ls st h = some (.inr (.inr (k', as, hd', g)))) : ∃ b as', k' = k ∧ hd' = hd ∧ g = (n', ls, st.drop na, h) ∧ as = .ref b :: as' ∧ (st.take na).reverse = .ref b :: as' ∧ na ≤ st.length ∧ zcat (st.drop na) ≤ 8 := by
  unfold zi_r at e
  split at e
  · rename_i b as' hb
    split at e
    · rename_i hc
      cases e
      exact ⟨b, as', rfl, rfl, rfl, rfl, hb, hc.1, hc.2⟩
    · cases e
  · cases e
theorem zis_spec {h : zH} {b cn : Nat} (e : zis h b cn = true) : ∃ fl fs, h.1 b = some (fl, .inr (cn, fs)) := by
  unfold zis at e
  split at e
  · rename_i fl c' fs hh
    have : c' = cn := of_decide_eq_true e
    subst this
    exact ⟨fl, fs, hh⟩
  · cases e
theorem gPreV {h : zH} {H : Heap} {locs : List Loc} {C : String} {Tt : u_T} {N b cn : Nat} {as : List Value} (hK : gK G h0 s) (hc : gCl[cn]? = some (C, Tt, N)) (hI : gInv G h H) (hF : gFr h0 s.heap H locs h) (hz : zis h b cn = true) : PreV s H C b (va_Pc (.ref b :: as) (fun U => gInv G h U.heap ∧ gK G h U)) as := by
  obtain ⟨fl, fs, hh⟩ := zis_spec hz
  obtain ⟨cell, q1, q2, q3, -⟩ := hI.2 _ _ _ hh
  have hcls := (hK.1.1 cn _ hc).2.1
  exact ⟨gPc_blind, ⟨cell, q1, by rw [q3]; rfl, by rw [q2]; exact hcls⟩, fun U hU hW => ⟨rfl, by rw [hU]; exact hI, hK.move hF hU hW⟩⟩
theorem gk_len {st : List Value} {na : Nat} {as : List Value} (h1 : as = (st.take na).reverse) (h2 : na ≤ st.length) : as.length = na ∧ st = as.reverse ++ st.drop na := by
  subst h1
  refine ⟨by simp; omega, by simp⟩
/-- a static call -/
theorem gk_S {I : gMI} {own : String} {index kc na : Nat} {hd : Option (Nat × Nat × Nat)} (hx : p.tables.exec = Jvm.exec) (hb : c.code = cc) (hml : c.maxLocals = nL) (hown : s.vm.findClass own = some m.cls) (hts : ∀ w ∈ lw_all, w.before args s = true) (hlk : meth.locks = false) (hK : gK G h0 s) (hI : znth T kc = some I) (hH : gHd p l e R s m args below meth c nL pc hd)
    (cw : ∀ mc ms, CallB R s args own index I.1 I.2.1 I.2.2.2.1 I.2.2.1 (gWs I) (gRm I mc ms) mc ms na ∧ (Cond.static I.1).before args s = true) (hd0 : decode cc pc = .ok (.invokestatic index, 3)) (hn : pc + 3 = n) : gCd T G p l e R s m args below meth c nL h0 pc (zi_c kc na hd n) := by
  subst hn
  intro ls st h k as hd' g hf I' hI' r res hm hM hc hs k1 k2
  obtain ⟨rfl, rfl, rfl, has, hle, hcat⟩ := zi_c_spec hf
  cases hI.symm.trans hI'
  obtain ⟨hln, hst⟩ := gk_len has hle
  refine gk_go (a := as.toArray) (rest := st.drop na) hlk hH (fun H locs la hInv hF hsz => ?_) hm k1 k2
  exact vx_runS (Ts := lw_all) (own := own) (As := as) (rest := st.drop na) ⟨hx, hb, hml, hown, hts⟩ hM (cw _ _) (gPc_at hK hInv hF) rfl hln hsz hst (lv_room hcat) hd0 (gk_room hF hm hc hs)
/-- a static call of a method with handlers -/
theorem gk_SX {I : gMI} {own : String} {index kc na : Nat} {hd : Option (Nat × Nat × Nat)} (hx : p.tables.exec = Jvm.exec) (hb : c.code = cc) (hml : c.maxLocals = nL) (hown : s.vm.findClass own = some m.cls) (hts : ∀ w ∈ lw_all, w.before args s = true) (hlk : meth.locks = false) (hK : gK G h0 s) (hI : znth T kc = some I) (hH : gHd p l e R s m args below meth c nL pc hd)
    (cw : ∀ mc ms, vx_CSW R s args own index I.1 I.2.1 I.2.2.2.1 I.2.2.1 I.2.2.2.2.1 (gWs I) (gRm I mc ms) mc ms na) (hd0 : decode cc pc = .ok (.invokestatic index, 3)) (hn : pc + 3 = n) : gCd T G p l e R s m args below meth c nL h0 pc (zi_c kc na hd n) := by
  subst hn
  intro ls st h k as hd' g hf I' hI' r res hm hM hc hs k1 k2
  obtain ⟨rfl, rfl, rfl, has, hle, hcat⟩ := zi_c_spec hf
  cases hI.symm.trans hI'
  obtain ⟨hln, hst⟩ := gk_len has hle
  refine gk_go (a := as.toArray) (rest := st.drop na) hlk hH (fun H locs la hInv hF hsz => ?_) hm k1 k2
  exact vx_runSX (Ts := lw_all) (own := own) (As := as) (rest := st.drop na) ⟨hx, hb, hml, hown, hts⟩ hM (cw _ _) (gPc_at hK hInv hF) rfl hln hsz hst (lv_room hcat) hd0 (gk_room hF hm hc hs)
/-- a static call of a nest mate -/
theorem gk_SN {I : gMI} {own : String} {index kc na : Nat} {hd : Option (Nat × Nat × Nat)} {host : String} (hx : p.tables.exec = Jvm.exec) (hb : c.code = cc) (hml : c.maxLocals = nL) (hown : s.vm.findClass own = some m.cls) (hts : ∀ w ∈ lw_all, w.before args s = true) (hlk : meth.locks = false) (hK : gK G h0 s) (hI : znth T kc = some I) (hH : gHd p l e R s m args below meth c nL pc hd)
    (cw : ∀ mc ms, va_CN R s args own index I.1 host I.2.1 I.2.2.2.1 I.2.2.1 (gWs I) (gRm I mc ms) mc ms na ∧ (Cond.static I.1).before args s = true ∧ True) (hd0 : decode cc pc = .ok (.invokestatic index, 3)) (hn : pc + 3 = n) : gCd T G p l e R s m args below meth c nL h0 pc (zi_c kc na hd n) := by
  subst hn
  intro ls st h k as hd' g hf I' hI' r res hm hM hc hs k1 k2
  obtain ⟨rfl, rfl, rfl, has, hle, hcat⟩ := zi_c_spec hf
  cases hI.symm.trans hI'
  obtain ⟨hln, hst⟩ := gk_len has hle
  refine gk_go (a := as.toArray) (rest := st.drop na) hlk hH (fun H locs la hInv hF hsz => ?_) hm k1 k2
  exact vx_runSN (Ts := lw_all) (own := own) (As := as) (rest := st.drop na) ⟨hx, hb, hml, hown, hts⟩ hM (cw _ _) (gPc_at hK hInv hF) rfl hln hsz hst (lv_room hcat) hd0 (gk_room hF hm hc hs)
/-- a call on an object of a class of ours -/
theorem gk_V {I : gMI} {own C : String} {Tt : u_T} {N cn index kc na : Nat} {hd : Option (Nat × Nat × Nat)} (hx : p.tables.exec = Jvm.exec) (hb : c.code = cc) (hml : c.maxLocals = nL) (hown : s.vm.findClass own = some m.cls) (hts : ∀ w ∈ lw_all, w.before args s = true) (hlk : meth.locks = false) (hK : gK G h0 s) (hI : znth T kc = some I) (hH : gHd p l e R s m args below meth c nL pc hd) (hc0 : gCl[cn]? = some (C, Tt, N))
    (cw : ∀ mc ms, CallW R s args own C index I.1 I.2.1 I.2.2.2.1 I.2.2.1 (gWs I) (gRm I mc ms) mc ms na) (hd0 : decode cc pc = .ok (.invokevirtual index, 3)) (hn : pc + 3 = n) : gCd T G p l e R s m args below meth c nL h0 pc (zi_v cn kc (na + 1) hd n) := by
  subst hn
  intro ls st h k as hd' g hf I' hI' r res hm hM hc hs k1 k2
  obtain ⟨b, as', rfl, rfl, rfl, has, hrev, hle, hcat, hz⟩ := zi_v_spec hf
  cases hI.symm.trans hI'
  obtain ⟨hln, hst⟩ := gk_len hrev.symm hle
  subst has
  have hln' : as'.length = na := by simpa using hln
  have hst' : st = as'.reverse ++ .ref b :: st.drop (na + 1) := hst.trans (by simp)
  refine gk_go (a := (Value.ref b :: as').toArray) (rest := st.drop (na + 1)) hlk hH (fun H locs la hInv hF hsz => ?_) hm k1 k2
  exact vx_runV (Ts := lw_all) (own := own) (C := C) (b := b) (As := as') (rest := st.drop (na + 1)) ⟨hx, hb, hml, hown, hts⟩ hM (cw _ _) (gPreV hK hc0 hInv hF hz) rfl hln' hsz hst' (lv_room hcat) hd0 (gk_room hF hm hc hs)
/-- of a method with handlers -/
theorem gk_VX {I : gMI} {own C : String} {Tt : u_T} {N cn index kc na : Nat} {hd : Option (Nat × Nat × Nat)} (hx : p.tables.exec = Jvm.exec) (hb : c.code = cc) (hml : c.maxLocals = nL) (hown : s.vm.findClass own = some m.cls) (hts : ∀ w ∈ lw_all, w.before args s = true) (hlk : meth.locks = false) (hK : gK G h0 s) (hI : znth T kc = some I) (hH : gHd p l e R s m args below meth c nL pc hd) (hc0 : gCl[cn]? = some (C, Tt, N))
    (cw : ∀ mc ms, vx_CVW R s args own C index I.1 I.2.1 I.2.2.2.1 I.2.2.1 I.2.2.2.2.1 (gWs I) (gRm I mc ms) mc ms na) (hd0 : decode cc pc = .ok (.invokevirtual index, 3)) (hn : pc + 3 = n) : gCd T G p l e R s m args below meth c nL h0 pc (zi_v cn kc (na + 1) hd n) := by
  subst hn
  intro ls st h k as hd' g hf I' hI' r res hm hM hc hs k1 k2
  obtain ⟨b, as', rfl, rfl, rfl, has, hrev, hle, hcat, hz⟩ := zi_v_spec hf
  cases hI.symm.trans hI'
  obtain ⟨hln, hst⟩ := gk_len hrev.symm hle
  subst has
  have hln' : as'.length = na := by simpa using hln
  have hst' : st = as'.reverse ++ .ref b :: st.drop (na + 1) := hst.trans (by simp)
  refine gk_go (a := (Value.ref b :: as').toArray) (rest := st.drop (na + 1)) hlk hH (fun H locs la hInv hF hsz => ?_) hm k1 k2
  exact vx_runVX (Ts := lw_all) (own := own) (C := C) (b := b) (As := as') (rest := st.drop (na + 1)) ⟨hx, hb, hml, hown, hts⟩ hM (cw _ _) (gPreV hK hc0 hInv hF hz) rfl hln' hsz hst' (lv_room hcat) hd0 (gk_room hF hm hc hs)
/-- of a nest mate -/
theorem gk_VN {I : gMI} {own C : String} {Tt : u_T} {N cn index kc na : Nat} {hd : Option (Nat × Nat × Nat)} {host : String} (hx : p.tables.exec = Jvm.exec) (hb : c.code = cc) (hml : c.maxLocals = nL) (hown : s.vm.findClass own = some m.cls) (hts : ∀ w ∈ lw_all, w.before args s = true) (hlk : meth.locks = false) (hK : gK G h0 s) (hI : znth T kc = some I) (hH : gHd p l e R s m args below meth c nL pc hd) (hc0 : gCl[cn]? = some (C, Tt, N))
    (cw : ∀ mc ms, va_CN R s args own index I.1 host I.2.1 I.2.2.2.1 I.2.2.1 (gWs I) (gRm I mc ms) mc ms na ∧ (Cond.instanceMethod I.1).before args s = true ∧ (Cond.selects C I.1 I.1).before args s = true) (hd0 : decode cc pc = .ok (.invokevirtual index, 3)) (hn : pc + 3 = n) : gCd T G p l e R s m args below meth c nL h0 pc (zi_v cn kc (na + 1) hd n) := by
  subst hn
  intro ls st h k as hd' g hf I' hI' r res hm hM hc hs k1 k2
  obtain ⟨b, as', rfl, rfl, rfl, has, hrev, hle, hcat, hz⟩ := zi_v_spec hf
  cases hI.symm.trans hI'
  obtain ⟨hln, hst⟩ := gk_len hrev.symm hle
  subst has
  have hln' : as'.length = na := by simpa using hln
  have hst' : st = as'.reverse ++ .ref b :: st.drop (na + 1) := hst.trans (by simp)
  refine gk_go (a := (Value.ref b :: as').toArray) (rest := st.drop (na + 1)) hlk hH (fun H locs la hInv hF hsz => ?_) hm k1 k2
  exact vx_runVN (Ts := lw_all) (own := own) (C := C) (b := b) (As := as') (rest := st.drop (na + 1)) ⟨hx, hb, hml, hown, hts⟩ hM (cw _ _) (gPreV hK hc0 hInv hF hz) rfl hln' hsz hst' (lv_room hcat) hd0 (gk_room hF hm hc hs)
/-- of an inherited method -/
theorem gk_U {I : gMI} {own C : String} {Tt : u_T} {N cn index kc na : Nat} {hd : Option (Nat × Nat × Nat)} {owner : String} {x : MethodName} (hx : p.tables.exec = Jvm.exec) (hb : c.code = cc) (hml : c.maxLocals = nL) (hown : s.vm.findClass own = some m.cls) (hts : ∀ w ∈ lw_all, w.before args s = true) (hlk : meth.locks = false) (hK : gK G h0 s) (hI : znth T kc = some I) (hH : gHd p l e R s m args below meth c nL pc hd) (hc0 : gCl[cn]? = some (C, Tt, N))
    (cw : ∀ mc ms, va_CU R s args own C owner index x I.1 I.2.1 I.2.2.2.1 I.2.2.1 (gWs I) (gRm I mc ms) mc ms na) (hd0 : decode cc pc = .ok (.invokevirtual index, 3)) (hn : pc + 3 = n) : gCd T G p l e R s m args below meth c nL h0 pc (zi_v cn kc (na + 1) hd n) := by
  subst hn
  intro ls st h k as hd' g hf I' hI' r res hm hM hc hs k1 k2
  obtain ⟨b, as', rfl, rfl, rfl, has, hrev, hle, hcat, hz⟩ := zi_v_spec hf
  cases hI.symm.trans hI'
  obtain ⟨hln, hst⟩ := gk_len hrev.symm hle
  subst has
  have hln' : as'.length = na := by simpa using hln
  have hst' : st = as'.reverse ++ .ref b :: st.drop (na + 1) := hst.trans (by simp)
  refine gk_go (a := (Value.ref b :: as').toArray) (rest := st.drop (na + 1)) hlk hH (fun H locs la hInv hF hsz => ?_) hm k1 k2
  exact vx_runU (Ts := lw_all) (own := own) (C := C) (b := b) (As := as') (rest := st.drop (na + 1)) ⟨hx, hb, hml, hown, hts⟩ hM (cw _ _) (gPreV hK hc0 hInv hF hz) rfl hln' hsz hst' (lv_room hcat) hd0 (gk_room hF hm hc hs)
/-- super.m(..) -/
theorem gk_SU {I : gMI} {own C : String} {Tt : u_T} {N cn index kc na : Nat} {hd : Option (Nat × Nat × Nat)} (hx : p.tables.exec = Jvm.exec) (hb : c.code = cc) (hml : c.maxLocals = nL) (hown : s.vm.findClass own = some m.cls) (hts : ∀ w ∈ lw_all, w.before args s = true) (hlk : meth.locks = false) (hK : gK G h0 s) (hI : znth T kc = some I) (hH : gHd p l e R s m args below meth c nL pc hd) (hc0 : gCl[cn]? = some (C, Tt, N))
    (cw : ∀ mc ms, va_CS R s args own index I.1 I.2.1 I.2.2.2.1 I.2.2.1 (gWs I) (gRm I mc ms) mc ms na) (hd0 : decode cc pc = .ok (.invokespecial index, 3)) (hn : pc + 3 = n) : gCd T G p l e R s m args below meth c nL h0 pc (zi_v cn kc (na + 1) hd n) := by
  subst hn
  intro ls st h k as hd' g hf I' hI' r res hm hM hc hs k1 k2
  obtain ⟨b, as', rfl, rfl, rfl, has, hrev, hle, hcat, hz⟩ := zi_v_spec hf
  cases hI.symm.trans hI'
  obtain ⟨hln, hst⟩ := gk_len hrev.symm hle
  subst has
  have hln' : as'.length = na := by simpa using hln
  have hst' : st = as'.reverse ++ .ref b :: st.drop (na + 1) := hst.trans (by simp)
  refine gk_go (a := (Value.ref b :: as').toArray) (rest := st.drop (na + 1)) hlk hH (fun H locs la hInv hF hsz => ?_) hm k1 k2
  exact vx_runSU (Ts := lw_all) (own := own) (C := C) (b := b) (As := as') (rest := st.drop (na + 1)) (hK.1.1 cn _ hc0).2 ⟨hx, hb, hml, hown, hts⟩ hM (cw _ _) (gPreV hK hc0 hInv hF hz) rfl hln' hsz hst' (lv_room hcat) hd0 (gk_room hF hm hc hs)
/-- a constructor -/
theorem gk_I {I : gMI} {own : String} {index kc na : Nat} {hd : Option (Nat × Nat × Nat)} (hx : p.tables.exec = Jvm.exec) (hb : c.code = cc) (hml : c.maxLocals = nL) (hown : s.vm.findClass own = some m.cls) (hts : ∀ w ∈ lw_all, w.before args s = true) (hlk : meth.locks = false) (hK : gK G h0 s) (hI : znth T kc = some I) (hH : gHd p l e R s m args below meth c nL pc hd) 
    (cw : ∀ mc ms, CallB R s args own index I.1 I.2.1 I.2.2.2.1 none (gWs I) (gRm I mc ms) mc ms na ∧ I.1.name = "<init>" ∧ (Cond.instanceMethod I.1).before args s = true) (hd0 : decode cc pc = .ok (.invokespecial index, 3)) (hn : pc + 3 = n) : gCd T G p l e R s m args below meth c nL h0 pc (zi_r kc (na + 1) hd n) := by
  subst hn
  intro ls st h k as hd' g hf I' hI' r res hm hM hc hs k1 k2
  obtain ⟨b, as', rfl, rfl, rfl, has, hrev, hle, hcat⟩ := zi_r_spec hf
  cases hI.symm.trans hI'
  obtain ⟨hln, hst⟩ := gk_len hrev.symm hle
  subst has
  have hln' : as'.length = na := by simpa using hln
  have hst' : st = as'.reverse ++ .ref b :: st.drop (na + 1) := hst.trans (by simp)
  refine gk_go (a := (Value.ref b :: as').toArray) (rest := st.drop (na + 1)) hlk hH (fun H locs la hInv hF hsz => ?_) hm k1 k2
  exact vx_runI (Ts := lw_all) (own := own) (b := b) (As := as') (rest := st.drop (na + 1)) ⟨hx, hb, hml, hown, hts⟩ hM (cw _ _) (gPc_at hK hInv hF) rfl hln' hsz hst' (lv_room hcat) hd0 (gk_room hF hm hc hs)
end GR
