/-! SOUNDNESS ROWS of arrays and of what is made -/
theorem gV_ty {G : gG} {s : State} (hK : gV G s) {t : Nat} {ft : FieldType} (ht : (gTys G)[t]? = some (G.2.2 t, ft)) : ArrOfT s (G.2.2 t) ft ∧ va_RA s (G.2.2 t) ft := hK.2 t _ ht
theorem gn_in {i : Int32} {cA : ClassId} {n : Nat} {f : Nat → Value} (h : ¬ (i < 0 ∨ n ≤ i.toNatClampNeg)) : ¬ (i < 0 ∨ (arrV cA n f).slots.size ≤ i.toNatClampNeg) := by
  rw [arrV_size]; exact h
theorem gn_rd {i : Int32} {cA : ClassId} {n : Nat} {f : Nat → Value} (h : ¬ (i < 0 ∨ n ≤ i.toNatClampNeg)) : (arrV cA n f).slots[i.toNatClampNeg]? = some (f i.toNatClampNeg) := arrV_read _ _ (Nat.not_le.mp fun q => h (Or.inr q))
theorem updV_zfu (f : Nat → Value) (k : Nat) (v : Value) : updV f k v = zfu f k v := by
  funext j
  simp [updV, zfu]
section GR
variable {G : gG} {p : Program} {l : Launch} {e : Env} {R : Room} {s : State} {m : MethodId} {args : Array Value} {below : List Frame} {meth : Method} {c : Code} {nL : Nat} {h0 : zH} {cc : ByteArray} {pc n : Nat}
theorem gn_ald {t : Nat} (k : ∀ (Q : State → Prop) (H : Heap) (locs : List Loc) (cells slots : Nat) (la : Array Slot) (i : Int32) (a n' : Nat) (f : Nat → Value) (st : List Value), H[a]? = some (arrV (G.2.2 t) n' f) → ¬ (i < 0 ∨ n' ≤ i.toNatClampNeg) → W p l e R s m args below meth c H locs cells slots Q (F0 m n la (f i.toNatClampNeg :: st)) → W p l e R s m args below meth c H locs cells slots Q (F0 m pc la (.int i :: .ref a :: st))) : gN G p l e R s m args below meth c nL h0 pc (zi_ald t n) := by
  intro Q ls st h g hf h1 h2 hkk H locs la hI hL hF
  unfold zi_ald at hf
  split at hf
  · split at hf
    · rename_i i a st _ v hv
      cases hf
      obtain ⟨b, n', f, hh, hin, rfl⟩ := zald_spec hv
      obtain ⟨q1, -⟩ := hI.2 _ _ _ hh
      exact k Q H locs _ _ la i a n' f st q1 hin (hkk H locs la hI hL hF)
    · cases hf
  · cases hf
theorem gn_iald (hx : p.tables.exec = Jvm.exec) (hb : c.code = cc) (hK : gV G s) (hd : decode cc pc = .ok (.iaload, 1)) (hn : pc + 1 = n) : gN G p l e R s m args below meth c nL h0 pc (zi_ald 0 n) := by
  subst hn
  exact gn_ald fun Q H locs cells slots la i a n' f st q1 hin hk => W.iald hx hb q1 ((gV_ty hK (t := 0) rfl).1 n' f) (fun q => by cases q) (gn_in hin) (gn_rd hin) rfl rfl hd hk
theorem gn_zald (hx : p.tables.exec = Jvm.exec) (hb : c.code = cc) (hK : gV G s) (hd : decode cc pc = .ok (.baload, 1)) (hn : pc + 1 = n) : gN G p l e R s m args below meth c nL h0 pc (zi_ald 1 n) := by
  subst hn
  exact gn_ald fun Q H locs cells slots la i a n' f st q1 hin hk => W.zald hx hb q1 ((gV_ty hK (t := 1) rfl).1 n' f) (fun q => by cases q) (gn_in hin) (gn_rd hin) rfl rfl hd hk
theorem gn_lald (hx : p.tables.exec = Jvm.exec) (hb : c.code = cc) (hK : gV G s) (hd : decode cc pc = .ok (.laload, 1)) (hn : pc + 1 = n) : gN G p l e R s m args below meth c nL h0 pc (zi_ald 2 n) := by
  subst hn
  exact gn_ald fun Q H locs cells slots la i a n' f st q1 hin hk => W.lald hx hb q1 ((gV_ty hK (t := 2) rfl).1 n' f) (fun q => by cases q) (gn_in hin) (gn_rd hin) rfl rfl hd hk
theorem gn_bald (hx : p.tables.exec = Jvm.exec) (hb : c.code = cc) (hK : gV G s) (hd : decode cc pc = .ok (.baload, 1)) (hn : pc + 1 = n) : gN G p l e R s m args below meth c nL h0 pc (zi_ald 4 n) := by
  subst hn
  exact gn_ald fun Q H locs cells slots la i a n' f st q1 hin hk => W.bald hx hb q1 ((gV_ty hK (t := 4) rfl).1 n' f) (fun q => by cases q) (gn_in hin) (gn_rd hin) rfl rfl hd hk
theorem gn_aald3 (hx : p.tables.exec = Jvm.exec) (hb : c.code = cc) (hK : gV G s) (hd : decode cc pc = .ok (.aaload, 1)) (hn : pc + 1 = n) : gN G p l e R s m args below meth c nL h0 pc (zi_ald 3 n) := by
  subst hn
  exact gn_ald fun Q H locs cells slots la i a n' f st q1 hin hk => W.aald hx hb q1 ((gV_ty hK (t := 3) rfl).1 n' f) rfl (fun q => by cases q) (gn_in hin) (gn_rd hin) rfl rfl hd hk
theorem gn_aald5 (hx : p.tables.exec = Jvm.exec) (hb : c.code = cc) (hK : gV G s) (hd : decode cc pc = .ok (.aaload, 1)) (hn : pc + 1 = n) : gN G p l e R s m args below meth c nL h0 pc (zi_ald 5 n) := by
  subst hn
  exact gn_ald fun Q H locs cells slots la i a n' f st q1 hin hk => W.aald hx hb q1 ((gV_ty hK (t := 5) rfl).1 n' f) rfl (fun q => by cases q) (gn_in hin) (gn_rd hin) rfl rfl hd hk
theorem gFit_up {t : Nat} {n : Nat} {f : Nat → Value} {k : Nat} {v w : Value} (h : ∀ i, i < n → gFit t (f i) = true) (hv : znar t v = some w) : ∀ i, i < n → gFit t (zfu f k w i) = true := by
  intro i hi
  unfold zfu
  by_cases hik : i = k
  · rw [if_pos hik]
    unfold znar at hv
    split at hv
    · cases hv; rfl
    · split at hv
      · rename_i hx
        cases hv
        simp [gFit, hx]
      · cases hv
    · cases hv; rfl
    · cases hv; rfl
    · cases hv
      simp [gFit]
    · cases hv; rfl
    · cases hv
  · rw [if_neg hik]
    exact h i hi
theorem gn_ast {t : Nat} (k : ∀ (Q : State → Prop) (H : Heap) (locs : List Loc) (cells slots : Nat) (la : Array Slot) (i : Int32) (a n' : Nat) (f : Nat → Value) (v w : Value) (h : zH) (st : List Value), gInv G h H → H[a]? = some (arrV (G.2.2 t) n' f) → ¬ (i < 0 ∨ n' ≤ i.toNatClampNeg) → zasg h t v = true → znar t v = some w → (∀ H1 : Heap, H1[a]? = some ((arrV (G.2.2 t) n' f).setSlot i.toNatClampNeg w) → H1.size = H.size → (∀ q : Nat, q ≠ a → H1[q]? = H[q]?) → W p l e R s m args below meth c H1 (locs ++ [⟨a, i.toNatClampNeg⟩]) cells slots Q (F0 m n la st)) → W p l e R s m args below meth c H locs cells slots Q (F0 m pc la (v :: .int i :: .ref a :: st))) : gN G p l e R s m args below meth c nL h0 pc (zi_ast t n) := by
  intro Q ls st h g hf h1 h2 hkk H locs la hI hL hF
  unfold zi_ast at hf
  split at hf
  · split at hf
    · rename_i v i a st _ h' hv
      cases hf
      obtain ⟨n', f, w, hh, hin, hasg, hnar, rfl⟩ := zast_spec hv
      obtain ⟨q1, q2, q3, q4⟩ := hI.2 _ _ _ hh
      refine k Q H locs _ _ la i a n' f v w h st hI q1 hin hasg hnar (fun H1 e1 e2 e3 => ?_)
      refine hkk H1 _ la (hI.set (e0 := .inl (t, n', f)) e2 e3 ⟨?_, q2, gFit_up q3 hnar, q4⟩) hL (hF.set hh e2 e3)
      rw [e1, arrV_store, updV_zfu]
    · cases hf
  · cases hf
theorem gn_iast (hx : p.tables.exec = Jvm.exec) (hb : c.code = cc) (hK : gV G s) (hd : decode cc pc = .ok (.iastore, 1)) (hn : pc + 1 = n) : gN G p l e R s m args below meth c nL h0 pc (zi_ast 0 n) := by
  subst hn
  refine gn_ast fun Q H locs cells slots la i a n' f v w h st hI q1 hin hasg hnar hk => ?_
  unfold znar at hnar
  cases v <;> simp at hnar
  subst hnar
  exact W.iast hx hb q1 ((gV_ty hK (t := 0) rfl).1 n' f) (fun q => by cases q) (gn_in hin) rfl rfl hd hk
theorem gn_zast (hx : p.tables.exec = Jvm.exec) (hb : c.code = cc) (hK : gV G s) (hd : decode cc pc = .ok (.bastore, 1)) (hn : pc + 1 = n) : gN G p l e R s m args below meth c nL h0 pc (zi_ast 1 n) := by
  subst hn
  refine gn_ast fun Q H locs cells slots la i a n' f v w h st hI q1 hin hasg hnar hk => ?_
  unfold znar at hnar
  cases v <;> simp at hnar
  rename_i x
  obtain ⟨hx1, rfl⟩ := hnar
  refine W.zast hx hb q1 ((gV_ty hK (t := 1) rfl).1 n' f) (fun q => by cases q) (gn_in hin) rfl rfl hd ?_
  have e1 : narrow .boolean (.int x) = .int x := by rcases hx1 with rfl | rfl <;> decide
  rw [e1]
  exact hk
theorem gn_last (hx : p.tables.exec = Jvm.exec) (hb : c.code = cc) (hK : gV G s) (hd : decode cc pc = .ok (.lastore, 1)) (hn : pc + 1 = n) : gN G p l e R s m args below meth c nL h0 pc (zi_ast 2 n) := by
  subst hn
  refine gn_ast fun Q H locs cells slots la i a n' f v w h st hI q1 hin hasg hnar hk => ?_
  unfold znar at hnar
  cases v <;> simp at hnar
  subst hnar
  exact W.last hx hb q1 ((gV_ty hK (t := 2) rfl).1 n' f) (fun q => by cases q) (gn_in hin) rfl rfl hd hk
theorem gn_bast (hx : p.tables.exec = Jvm.exec) (hb : c.code = cc) (hK : gV G s) (hd : decode cc pc = .ok (.bastore, 1)) (hn : pc + 1 = n) : gN G p l e R s m args below meth c nL h0 pc (zi_ast 4 n) := by
  subst hn
  refine gn_ast fun Q H locs cells slots la i a n' f v w h st hI q1 hin hasg hnar hk => ?_
  unfold znar at hnar
  cases v <;> simp at hnar
  subst hnar
  exact W.bast hx hb q1 ((gV_ty hK (t := 4) rfl).1 n' f) (fun q => by cases q) (gn_in hin) rfl rfl hd hk
theorem gn_aast (hx : p.tables.exec = Jvm.exec) (hb : c.code = cc) (hK : gV G s) (hd : decode cc pc = .ok (.aastore, 1)) (hn : pc + 1 = n) : gN G p l e R s m args below meth c nL h0 pc (zi_ast 3 n) := by
  subst hn
  refine gn_ast fun Q H locs cells slots la i a n' f v w h st hI q1 hin hasg hnar hk => ?_
  unfold znar at hnar
  cases v <;> simp at hnar
  subst hnar
  rename_i b
  have hb2 : ∃ fl fs, h.1 b = some (fl, .inr (2, fs)) := by
    have h9 : zasg h 3 (.ref b) = (match h.1 b with | some (_, .inr (2, _)) => true | _ => false) := rfl
    rw [h9] at hasg
    split at hasg
    · exact ⟨_, _, by assumption⟩
    · cases hasg
  obtain ⟨fl, fs, hh⟩ := hb2
  obtain ⟨cell, g1, g2, g3, -⟩ := hI.2 _ _ _ hh
  have hcls := (hK.1 2 (RX2, TX2, 7) rfl).2
  obtain ⟨kA, comp, k1, k2, k3, -⟩ := (gV_ty hK (t := 3) rfl).2
  have hcomp : comp = G.1 2 := Option.some.inj (k3.symm.trans hcls.1)
  subst hcomp
  obtain ⟨kC, hkC, -⟩ := hcls.2
  have hlt : i.toNatClampNeg < n' := Nat.not_le.mp fun q => hin (Or.inr q)
  exact W.aast hx hb q1 (fun q h => by cases h) (fun h => by cases h) k1 k2 rfl hkC ⟨fun q => hin (Or.inl q), by rw [arrV_size]; exact hlt⟩ g1 (fun q h => by rw [g3] at h; cases h) (by rw [g2]; exact hkC) (by rw [g2]; exact va_assign hcls) rfl rfl hd hk
theorem gn_len (hx : p.tables.exec = Jvm.exec) (hb : c.code = cc) (hK : gV G s) (hd : decode cc pc = .ok (.arraylength, 1)) (hn : pc + 1 = n) : gN G p l e R s m args below meth c nL h0 pc (zi_len n) := by
  subst hn
  intro Q ls st h g hf h1 h2 hkk H locs la hI hL hF
  unfold zi_len at hf
  split at hf
  · split at hf
    · rename_i a st _ v hv
      cases hf
      unfold zlen at hv
      split at hv
      · rename_i b t n' f hh
        cases hv
        obtain ⟨q1, -, -, q4⟩ := hI.2 _ _ _ hh
        have ht : ∃ ft, ArrOfT s (G.2.2 t) ft := by
          match t, q4 with
          | 0, _ => exact ⟨_, (gV_ty hK (t := 0) rfl).1⟩
          | 1, _ => exact ⟨_, (gV_ty hK (t := 1) rfl).1⟩
          | 2, _ => exact ⟨_, (gV_ty hK (t := 2) rfl).1⟩
          | 3, _ => exact ⟨_, (gV_ty hK (t := 3) rfl).1⟩
          | 4, _ => exact ⟨_, (gV_ty hK (t := 4) rfl).1⟩
          | 5, _ => exact ⟨_, (gV_ty hK (t := 5) rfl).1⟩
        obtain ⟨ft, hft⟩ := ht
        exact W.alen hx hb q1 (hft n' f) (by rw [arrV_size]; rfl) rfl rfl hd (hkk H locs la hI hL hF)
      · cases hv
    · cases hf
  · cases hf
/-- a cell more -/
theorem gInv.push {h : zH} {H H1 : Heap} {e2 : zE} {k : Nat} (hI : gInv G h H) (hz : H1.size = H.size + 1) (o1 : ∀ q : Nat, q < H.size → H1[q]? = H[q]?) (he : gCell G H.size e2 H1) : gInv G (zpush h e2 k) H1 := by
  refine ⟨by rw [hz, hI.1]; rfl, fun q b e3 hq => ?_⟩
  unfold zpush at hq
  dsimp only at hq
  by_cases hqa : q = h.2.1
  · rw [if_pos hqa] at hq
    cases hq
    rw [hqa, ← hI.1]
    exact he
  · rw [if_neg hqa] at hq
    have h4 := hI.2 q b e3 hq
    exact h4.kept (o1 q h4.lt)
theorem gWr_push {h : zH} {e2 : zE} {k q : Nat} (hq : gWr (zpush h e2 k) q) : gWr h q := by
  unfold gWr zpush at hq
  unfold gWr
  dsimp only at hq
  rcases hq with ⟨e3, hq⟩ | hq
  · by_cases hqa : q = h.2.1
    · exact Or.inr (by omega)
    · rw [if_neg hqa] at hq
      exact Or.inl ⟨e3, hq⟩
  · exact Or.inr (by omega)
theorem gFr.push {h0 h : zH} {H0 H H1 : Heap} {locs : List Loc} {e2 : zE} {k : Nat} (hF : gFr h0 H0 H locs h) (hI : H.size = h.2.1) (hz : H1.size = H.size + 1) (o1 : ∀ q : Nat, q < H.size → H1[q]? = H[q]?) : gFr h0 H0 H1 locs (zpush h e2 k) := by
  obtain ⟨hS, h1, h2, h3, h4, h5⟩ := hF
  refine ⟨⟨by omega, fun q hq hn => ?_, hS.2.2⟩, fun q hq => h1 q (gWr_push hq), ?_, ?_, h4, h5⟩
  · rw [o1 q (Nat.lt_of_lt_of_le hq hS.1)]
    exact hS.2.1 q hq hn
  · show h0.2.1 ≤ h.2.1 + 1
    omega
  · show h0.2.2.1 ≤ h.2.2.1 + k
    omega
theorem gn_newa {t : Nat} {atype : ArrayType} {ft : FieldType} (hx : p.tables.exec = Jvm.exec) (hb : c.code = cc) (hK : gV G s) (harr : (Cond.arrayClass (newarray.typeOf atype)).before args s = true) (hat : newarray.typeOf atype = ft) (ht : (gTys G)[t]? = some (G.2.2 t, ft)) (hra : va_RA s (G.2.2 t) ft → s.vm.findClass ("[" ++ ft.toString) = some (G.2.2 t)) (hdf : defaultValue ft = zdef t) (hfit : gFit t (zdef t) = true) (htl : t < 6) (hby : componentBytes ft ≤ 8)
    (hd : decode cc pc = .ok (.newarray atype, 2)) (hn : pc + 2 = n) : gN G p l e R s m args below meth c nL h0 pc (zi_newa t n) := by
  subst hn
  subst hat
  intro Q ls st h g hf h1 h2 hkk H locs la hI hL hF
  unfold zi_newa at hf
  split at hf
  · split at hf
    · rename_i x st _ h' hv
      cases hf
      unfold znew at hv
      split at hv
      · cases hv
      · rename_i hc
        cases hv
        have hc1 : ¬ x < 0 := fun q => hc (Or.inl q)
        have hc2 : x.toNatClampNeg < 60000000 := Nat.not_le.mp fun q => hc (Or.inr q)
        dsimp only [zpush] at h1 h2
        have ec : h.2.1 + 1 - h0.2.1 = h.2.1 - h0.2.1 + 1 := by have q9 : h0.2.1 ≤ h.2.1 := hF.2.2.1; omega
        have es : h.2.2.1 + x.toNatClampNeg - h0.2.2.1 = h.2.2.1 - h0.2.2.1 + x.toNatClampNeg := by have q9 : h0.2.2.1 ≤ h.2.2.1 := hF.2.2.2.1; omega
        have hby2 : x.toNatClampNeg * componentBytes (newarray.typeOf atype) ≤ 536870912 := Nat.le_trans (Nat.mul_le_mul (Nat.le_of_lt hc2) hby) (by decide)
        refine va_newaK hx hb harr rfl hd rfl hc1 rfl hby2 (by rw [← ec]; exact h1) (by rw [← es]; exact h2) rfl fun H' cA e1 z1 o1 hAr hNm => ?_
        have hcA : cA = G.2.2 t := Option.some.inj (hNm.symm.trans (hra (gV_ty hK ht).2))
        subst hcA
        have k := hkk H' locs la (hI.push (e2 := .inl (t, x.toNatClampNeg, fun _ => zdef t)) (k := x.toNatClampNeg) z1 o1 ⟨by rw [e1, hdf], by omega, fun i _ => hfit, htl⟩) hL (hF.push hI.1 z1 o1)
        dsimp only [zpush] at k
        rw [ec, es] at k
        rw [hI.1]
        exact k
    · cases hf
  · cases hf
theorem gn_newq {index : Nat} {own : String} (hx : p.tables.exec = Jvm.exec) (hb : c.code = cc) (hown : s.vm.findClass own = some m.cls) (hK : gV G s) (hclink : (Cond.classLink own index "DistinctMarks$Counter").before args s = true) (hover : va_AO "DistinctMarks$Counter" s) (hd : decode cc pc = .ok (.anewarray index, 3)) (hn : pc + 3 = n) : gN G p l e R s m args below meth c nL h0 pc (zi_newa 3 n) := by
  subst hn
  intro Q ls st h g hf h1 h2 hkk H locs la hI hL hF
  unfold zi_newa at hf
  split at hf
  · split at hf
    · rename_i x st _ h' hv
      cases hf
      unfold znew at hv
      split at hv
      · cases hv
      · rename_i hc
        cases hv
        have hc1 : ¬ x < 0 := fun q => hc (Or.inl q)
        have hc2 : x.toNatClampNeg < 60000000 := Nat.not_le.mp fun q => hc (Or.inr q)
        dsimp only [zpush] at h1 h2
        have ec : h.2.1 + 1 - h0.2.1 = h.2.1 - h0.2.1 + 1 := by have q9 : h0.2.1 ≤ h.2.1 := hF.2.2.1; omega
        have es : h.2.2.1 + x.toNatClampNeg - h0.2.2.1 = h.2.2.1 - h0.2.2.1 + x.toNatClampNeg := by have q9 : h0.2.2.1 ≤ h.2.2.1 := hF.2.2.2.1; omega
        refine W.anew hx hb hown hclink (va_AO.use hover) rfl hd rfl hc1 (by omega) (by rw [← ec]; exact h1) (by rw [← es]; exact h2) fun cA kA comp f1 f2 f3 f4 => ?_
        obtain ⟨kA', comp', k1, k2, k3, k4⟩ := (gV_ty hK (t := 3) rfl).2
        have hcA : cA = G.2.2 3 := Option.some.inj (f1.symm.trans k4)
        subst hcA
        generalize hH1 : H.push ({ cls := G.2.2 3, slots := Array.replicate x.toNatClampNeg .null, vm := .none } : Cell) = H1
        have z1 : H1.size = H.size + 1 := by rw [← hH1, Array.size_push]
        have e1 : H1[H.size]? = some (arrV (G.2.2 3) x.toNatClampNeg (fun _ => .null)) := by rw [← hH1, Array.getElem?_push_size, ← arrV_new]
        have o1 : ∀ q : Nat, q < H.size → H1[q]? = H[q]? := fun q hq => by rw [← hH1, Array.getElem?_push, if_neg (Nat.ne_of_lt hq)]
        have k := hkk H1 locs la (hI.push (e2 := .inl (3, x.toNatClampNeg, fun _ => zdef 3)) (k := x.toNatClampNeg) z1 o1 ⟨e1, by omega, fun i _ => rfl, by decide⟩) hL (hF.push hI.1 z1 o1)
        dsimp only [zpush] at k
        rw [ec, es] at k
        rw [hI.1]
        exact k
    · cases hf
  · cases hf
theorem gn_new {own C : String} {T : u_T} {N ci index : Nat} {ty0 : Nat → FieldType} {fs : List Value} (hx : p.tables.exec = Jvm.exec) (hb : c.code = cc) (hts : ∀ w ∈ lw_all, w.before args s = true) (hown : s.vm.findClass own = some m.cls) (hK : gV G s) (hin : ∀ w ∈ u_ws C T N, w ∈ lw_all) (hty : ∀ k, k < N → parseFieldDescriptor (T k).2.2.1 = some (ty0 k)) (hc : gCl[ci]? = some (C, T, N)) (hcl : (Cond.classLink own index C).before args s = true) (hinst : (Cond.instantiable C N).before args s = true) (hini : (Cond.initialized C).before args s = true) (hfs : ∀ j, j < N → fs[j]? = some (defaultValue (ty0 j))) (hfl : fs.length = N)
    (hd : decode cc pc = .ok (.new index, 3)) (hn : pc + 3 = n) : gN G p l e R s m args below meth c nL h0 pc (zi_new ci fs n) := by
  subst hn
  intro Q ls st h g hf h1 h2 hkk H locs la hI hL hF
  cases hf
  dsimp only [zpush] at h1 h2
  have ec : h.2.1 + 1 - h0.2.1 = h.2.1 - h0.2.1 + 1 := by have q9 : h0.2.1 ≤ h.2.1 := hF.2.2.1; omega
  have es : h.2.2.1 + fs.length - h0.2.2.1 = h.2.2.1 - h0.2.2.1 + N := by have q9 : h0.2.2.1 ≤ h.2.2.1 := hF.2.2.2.1; omega
  have hKn := hK.1 ci _ hc
  refine W.newcK hx hb hown hcl hinst hini rfl hd (by rw [← ec]; exact h1) (by rw [← es]; exact h2) hKn.2.1 rfl fun H1 kC hkC e1 z1 o1 => ?_
  obtain ⟨cell, r1, r2, r3, r4⟩ := u_born ty0 hts hin hKn hkC e1 hty
  have k := hkk H1 locs la (hI.push (e2 := .inr (ci, fs)) (k := fs.length) z1 o1 ⟨cell, r1, r2, r3, fun j v hj => ?_, fun r hr => by rw [hc] at hr; cases hr; exact Nat.le_of_eq hfl⟩) hL (hF.push hI.1 z1 o1)
  · dsimp only [zpush] at k
    rw [ec, es] at k
    rw [hI.1]
    exact k
  · have hjl : j < N := by rw [← hfl]; exact (List.getElem?_eq_some_iff.mp hj).1
    rw [hfs j hjl] at hj
    cases hj
    exact r4 j hjl
end GR
