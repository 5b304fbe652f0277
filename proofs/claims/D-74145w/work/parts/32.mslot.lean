/-! THE MODEL's SLOTS -/
def mblk (a : Nat → Nat) (c : Nat) (r : Nat → Nat) : Nat → Nat := fun j => if 256 * c ≤ j ∧ j < 256 * c + 256 then r (j - 256 * c) else a j
def mmb (a : Nat → Nat) (c : Nat) (r : Nat → Nat) : Nat → Nat := fun j => if 64 * c ≤ j ∧ j < 64 * c + 64 then r (j - 64 * c) else a j
theorem mblk_s {a r : Nat → Nat} {c x : Nat} (h : x < 256) : mblk a c r (256 * c + x) = r x := by
  unfold mblk
  rw [if_pos ⟨by omega, by omega⟩, show 256 * c + x - 256 * c = x by omega]
theorem mblk_o {a r : Nat → Nat} {c d x : Nat} (hd : d ≠ c) (h : x < 256) : mblk a c r (256 * d + x) = a (256 * d + x) := by
  unfold mblk
  rw [if_neg (by omega)]
theorem mmb_s {a r : Nat → Nat} {c x : Nat} (h : x < 64) : mmb a c r (64 * c + x) = r x := by
  unfold mmb
  rw [if_pos ⟨by omega, by omega⟩, show 64 * c + x - 64 * c = x by omega]
theorem mmb_o {a r : Nat → Nat} {c d x : Nat} (hd : d ≠ c) (h : x < 64) : mmb a c r (64 * d + x) = a (64 * d + x) := by
  unfold mmb
  rw [if_neg (by omega)]
theorem mblk_self (a : Nat → Nat) (c : Nat) : mblk a c (fun x => a (256 * c + x)) = a := by
  funext j
  unfold mblk
  by_cases h : 256 * c ≤ j ∧ j < 256 * c + 256
  · rw [if_pos h]
    exact congrArg a (by omega)
  · rw [if_neg h]
theorem mmb_self (a : Nat → Nat) (c : Nat) : mmb a c (fun x => a (64 * c + x)) = a := by
  funext j
  unfold mmb
  by_cases h : 64 * c ≤ j ∧ j < 64 * c + 64
  · rw [if_pos h]
    exact congrArg a (by omega)
  · rw [if_neg h]
theorem mblk_up {a r : Nat → Nat} {c x v : Nat} (h : x < 256) : va_up (mblk a c r) (256 * c + x) v = mblk a c (va_up r x v) := by
  funext j
  unfold mblk va_up
  by_cases e : j = 256 * c + x
  · rw [if_pos e, if_pos (by omega), if_pos (by omega)]
  · rw [if_neg e]
    dsimp only
    by_cases e2 : 256 * c ≤ j ∧ j < 256 * c + 256
    · rw [if_pos e2, if_pos e2, if_neg (by omega)]
    · rw [if_neg e2, if_neg e2]
theorem mmb_up {a r : Nat → Nat} {c x v : Nat} (h : x < 64) : va_up (mmb a c r) (64 * c + x) v = mmb a c (va_up r x v) := by
  funext j
  unfold mmb va_up
  by_cases e : j = 64 * c + x
  · rw [if_pos e, if_pos (by omega), if_pos (by omega)]
  · rw [if_neg e]
    dsimp only
    by_cases e2 : 64 * c ≤ j ∧ j < 64 * c + 64
    · rw [if_pos e2, if_pos e2, if_neg (by omega)]
    · rw [if_neg e2, if_neg e2]
theorem mblk_ext {a r s : Nat → Nat} {c : Nat} (h : ∀ x, x < 256 → r x = s x) : mblk a c r = mblk a c s := by
  funext j
  unfold mblk
  by_cases e : 256 * c ≤ j ∧ j < 256 * c + 256
  · rw [if_pos e, if_pos e, h _ (by omega)]
  · rw [if_neg e, if_neg e]
theorem mmb_ext {a r s : Nat → Nat} {c : Nat} (h : ∀ x, x < 64 → r x = s x) : mmb a c r = mmb a c s := by
  funext j
  unfold mmb
  by_cases e : 64 * c ≤ j ∧ j < 64 * c + 64
  · rw [if_pos e, if_pos e, h _ (by omega)]
  · rw [if_neg e, if_neg e]
theorem mblk_twice (a r s : Nat → Nat) (c : Nat) : mblk (mblk a c r) c s = mblk a c s := by
  funext j
  unfold mblk
  by_cases e : 256 * c ≤ j ∧ j < 256 * c + 256
  · rw [if_pos e, if_pos e]
  · rw [if_neg e, if_neg e, if_neg e]
/-- the first x of src, then r -/
def kpf (src r : Nat → Nat) (x : Nat) : Nat → Nat := fun y => if y < x then src y else r y
theorem kpf_0 (src r : Nat → Nat) : kpf src r 0 = r := by
  funext y
  unfold kpf
  rw [if_neg (by omega)]
theorem kpf_up (src r : Nat → Nat) (x : Nat) : va_up (kpf src r x) x (src x) = kpf src r (x + 1) := by
  funext y
  unfold kpf va_up
  by_cases e : y = x
  · rw [if_pos e, if_pos (by omega), e]
  · rw [if_neg e]
    dsimp only
    by_cases e2 : y < x
    · rw [if_pos e2, if_pos (by omega)]
    · rw [if_neg e2, if_neg (by omega)]
theorem mblk_pf (a src r : Nat → Nat) (c : Nat) : mblk a c (kpf src r 256) = mblk a c src := mblk_ext fun x hx => by unfold kpf; rw [if_pos hx]
theorem mmb_pf (a src r : Nat → Nat) (c : Nat) : mmb a c (kpf src r 64) = mmb a c src := mmb_ext fun x hx => by unfold kpf; rw [if_pos hx]
/-- a slot holds a counter -/
def mSl (σ : mS) (c : Nat) (C : kC) : Prop := σ.bi c = C.p ∧ σ.li c = C.l ∧ σ.de c = C.d ∧ σ.mm c = C.m.length ∧ (∀ k, k < C.m.length → σ.ma (64 * c + k) = C.m.getD k 0) ∧ (∀ x, x < 256 → σ.ra (256 * c + x) = C.r x) ∧ C.m.length ≤ 64
def mSc (σ σ' : mS) : Prop := σ'.tm = σ.tm ∧ σ'.mo = σ.mo ∧ σ'.tx = σ.tx ∧ σ'.ty = σ.ty ∧ σ'.ro = σ.ro ∧ σ'.rm = σ.rm ∧ σ'.th = σ.th ∧ σ'.tg = σ.tg ∧ σ'.tn = σ.tn ∧ σ'.sz = σ.sz ∧ σ'.hr = σ.hr
def mSe (σ σ' : mS) (c : Nat) : Prop := σ'.bi c = σ.bi c ∧ σ'.li c = σ.li c ∧ σ'.de c = σ.de c ∧ σ'.mm c = σ.mm c ∧ (∀ k, k < 64 → σ'.ma (64 * c + k) = σ.ma (64 * c + k)) ∧ (∀ x, x < 256 → σ'.ra (256 * c + x) = σ.ra (256 * c + x))
/-- nothing has changed but slots in A -/
def mFr (A : Nat → Prop) (σ σ' : mS) : Prop := mSc σ σ' ∧ ∀ c, ¬ A c → mSe σ σ' c
theorem mSc.rf (σ : mS) : mSc σ σ := ⟨rfl, rfl, rfl, rfl, rfl, rfl, rfl, rfl, rfl, rfl, rfl⟩
theorem mSc.trans {a b c : mS} (h : mSc a b) (g : mSc b c) : mSc a c := by
  obtain ⟨h1, h2, h3, h4, h5, h6, h7, h8, h9, h10, h11⟩ := h
  obtain ⟨g1, g2, g3, g4, g5, g6, g7, g8, g9, g10, g11⟩ := g
  exact ⟨g1.trans h1, g2.trans h2, g3.trans h3, g4.trans h4, g5.trans h5, g6.trans h6, g7.trans h7, g8.trans h8, g9.trans h9, g10.trans h10, g11.trans h11⟩
theorem mSe.rf (σ : mS) (c : Nat) : mSe σ σ c := ⟨rfl, rfl, rfl, rfl, fun _ _ => rfl, fun _ _ => rfl⟩
theorem mSe.trans {a b d : mS} {c : Nat} (h : mSe a b c) (g : mSe b d c) : mSe a d c := by
  obtain ⟨h1, h2, h3, h4, h5, h6⟩ := h
  obtain ⟨g1, g2, g3, g4, g5, g6⟩ := g
  exact ⟨g1.trans h1, g2.trans h2, g3.trans h3, g4.trans h4, fun k hk => (g5 k hk).trans (h5 k hk), fun x hx => (g6 x hx).trans (h6 x hx)⟩
theorem mFr.rf (A : Nat → Prop) (σ : mS) : mFr A σ σ := ⟨mSc.rf σ, fun c _ => mSe.rf σ c⟩
theorem mFr.trans {A : Nat → Prop} {a b c : mS} (h : mFr A a b) (g : mFr A b c) : mFr A a c := ⟨h.1.trans g.1, fun d hd => (h.2 d hd).trans (g.2 d hd)⟩
theorem mFr.mono {A B : Nat → Prop} {a b : mS} (h : mFr A a b) (hAB : ∀ c, A c → B c) : mFr B a b := ⟨h.1, fun d hd => h.2 d (fun q => hd (hAB d q))⟩
theorem mSl.keep {A : Nat → Prop} {σ σ' : mS} {c : Nat} {C : kC} (h : mSl σ c C) (g : mFr A σ σ') (hA : ¬ A c) : mSl σ' c C := by
  obtain ⟨h1, h2, h3, h4, h5, h6, h7⟩ := h
  obtain ⟨g1, g2, g3, g4, g5, g6⟩ := g.2 c hA
  exact ⟨g1.trans h1, g2.trans h2, g3.trans h3, g4.trans h4, fun k hk => (g5 k (by omega)).trans (h5 k hk), fun x hx => (g6 x hx).trans (h6 x hx), h7⟩
/-- a slot's ranks written -/
theorem mFr_ra (σ : mS) (c : Nat) (r : Nat → Nat) : mFr (fun d => d = c) σ (σ.s_ra (mblk σ.ra c r)) := by
  refine ⟨⟨rfl, rfl, rfl, rfl, rfl, rfl, rfl, rfl, rfl, rfl, rfl⟩, fun d hd => ⟨rfl, rfl, rfl, rfl, fun _ _ => rfl, fun x hx => ?_⟩⟩
  exact mblk_o hd hx
theorem mFr_bi (σ : mS) (c : Nat) (v : Nat) : mFr (fun d => d = c) σ (σ.s_bi (va_up σ.bi c v)) := ⟨⟨rfl, rfl, rfl, rfl, rfl, rfl, rfl, rfl, rfl, rfl, rfl⟩, fun d hd => ⟨va_up_ne _ _ hd, rfl, rfl, rfl, fun _ _ => rfl, fun _ _ => rfl⟩⟩
theorem mFr_li (σ : mS) (c : Nat) (v : Nat) : mFr (fun d => d = c) σ (σ.s_li (va_up σ.li c v)) := ⟨⟨rfl, rfl, rfl, rfl, rfl, rfl, rfl, rfl, rfl, rfl, rfl⟩, fun d hd => ⟨rfl, va_up_ne _ _ hd, rfl, rfl, fun _ _ => rfl, fun _ _ => rfl⟩⟩
theorem mFr_de (σ : mS) (c : Nat) (v : Bool) : mFr (fun d => d = c) σ (σ.s_de (va_up σ.de c v)) := ⟨⟨rfl, rfl, rfl, rfl, rfl, rfl, rfl, rfl, rfl, rfl, rfl⟩, fun d hd => ⟨rfl, rfl, va_up_ne _ _ hd, rfl, fun _ _ => rfl, fun _ _ => rfl⟩⟩
theorem mFr_mm (σ : mS) (c : Nat) (v : Nat) : mFr (fun d => d = c) σ (σ.s_mm (va_up σ.mm c v)) := ⟨⟨rfl, rfl, rfl, rfl, rfl, rfl, rfl, rfl, rfl, rfl, rfl⟩, fun d hd => ⟨rfl, rfl, rfl, va_up_ne _ _ hd, fun _ _ => rfl, fun _ _ => rfl⟩⟩
theorem mFr_ma (σ : mS) (c : Nat) (r : Nat → Nat) : mFr (fun d => d = c) σ (σ.s_ma (mmb σ.ma c r)) := by
  refine ⟨⟨rfl, rfl, rfl, rfl, rfl, rfl, rfl, rfl, rfl, rfl, rfl⟩, fun d hd => ⟨rfl, rfl, rfl, rfl, fun x hx => ?_, fun _ _ => rfl⟩⟩
  exact mmb_o hd hx
theorem mFr_hw (A : Nat → Prop) (σ : mS) (v : Nat) : mFr A σ (σ.s_hw v) := ⟨⟨rfl, rfl, rfl, rfl, rfl, rfl, rfl, rfl, rfl, rfl, rfl⟩, fun d hd => ⟨rfl, rfl, rfl, rfl, fun _ _ => rfl, fun _ _ => rfl⟩⟩
theorem mFr_fo (A : Nat → Prop) (σ : mS) (v : Nat → Nat) : mFr A σ (σ.s_fo v) := ⟨⟨rfl, rfl, rfl, rfl, rfl, rfl, rfl, rfl, rfl, rfl, rfl⟩, fun d hd => ⟨rfl, rfl, rfl, rfl, fun _ _ => rfl, fun _ _ => rfl⟩⟩
theorem mSl_ra {σ : mS} {c : Nat} {C : kC} (h : mSl σ c C) (r : Nat → Nat) : mSl (σ.s_ra (mblk σ.ra c r)) c (C.p, C.l, C.d, C.m, r) := by
  obtain ⟨h1, h2, h3, h4, h5, h6, h7⟩ := h
  exact ⟨h1, h2, h3, h4, h5, fun x hx => mblk_s hx, h7⟩
/-- a field set twice -/
theorem mss : (∀ (σ : mS) (a b : Nat → Nat), (σ.s_bi a).s_bi b = σ.s_bi b) ∧ (∀ (σ : mS) (a b : Nat → Nat), (σ.s_li a).s_li b = σ.s_li b) ∧ (∀ (σ : mS) (a b : Nat → Bool), (σ.s_de a).s_de b = σ.s_de b) ∧ (∀ (σ : mS) (a b : Nat → Nat), (σ.s_ma a).s_ma b = σ.s_ma b) ∧ (∀ (σ : mS) (a b : Nat → Nat), (σ.s_mm a).s_mm b = σ.s_mm b) ∧ (∀ (σ : mS) (a b : Nat → Nat), (σ.s_ra a).s_ra b = σ.s_ra b) ∧ (∀ (σ : mS) (a b : Int32), (σ.s_tm a).s_tm b = σ.s_tm b) ∧ (∀ (σ : mS) (a b : Int32), (σ.s_mo a).s_mo b = σ.s_mo b) ∧ (∀ (σ : mS) (a b : Nat → Nat), (σ.s_tx a).s_tx b = σ.s_tx b) ∧ (∀ (σ : mS) (a b : Nat), (σ.s_ty a).s_ty b = σ.s_ty b) ∧ (∀ (σ : mS) (a b : Nat → Int64), (σ.s_ro a).s_ro b = σ.s_ro b) ∧ (∀ (σ : mS) (a b : Nat), (σ.s_rm a).s_rm b = σ.s_rm b) ∧ (∀ (σ : mS) (a b : Nat), (σ.s_th a).s_th b = σ.s_th b) ∧ (∀ (σ : mS) (a b : Nat → Int32), (σ.s_tg a).s_tg b = σ.s_tg b) ∧ (∀ (σ : mS) (a b : Nat), (σ.s_tn a).s_tn b = σ.s_tn b) ∧ (∀ (σ : mS) (a b : Nat), (σ.s_sz a).s_sz b = σ.s_sz b) ∧ (∀ (σ : mS) (a b : Nat), (σ.s_hr a).s_hr b = σ.s_hr b) ∧ (∀ (σ : mS) (a b : Nat → Nat), (σ.s_fo a).s_fo b = σ.s_fo b) ∧ (∀ (σ : mS) (a b : Nat), (σ.s_hw a).s_hw b = σ.s_hw b) := ⟨fun _ _ _ => rfl, fun _ _ _ => rfl, fun _ _ _ => rfl, fun _ _ _ => rfl, fun _ _ _ => rfl, fun _ _ _ => rfl, fun _ _ _ => rfl, fun _ _ _ => rfl, fun _ _ _ => rfl, fun _ _ _ => rfl, fun _ _ _ => rfl, fun _ _ _ => rfl, fun _ _ _ => rfl, fun _ _ _ => rfl, fun _ _ _ => rfl, fun _ _ _ => rfl, fun _ _ _ => rfl, fun _ _ _ => rfl, fun _ _ _ => rfl⟩
theorem msi : (∀ (σ : mS), σ.s_bi σ.bi = σ) ∧ (∀ (σ : mS), σ.s_li σ.li = σ) ∧ (∀ (σ : mS), σ.s_de σ.de = σ) ∧ (∀ (σ : mS), σ.s_ma σ.ma = σ) ∧ (∀ (σ : mS), σ.s_mm σ.mm = σ) ∧ (∀ (σ : mS), σ.s_ra σ.ra = σ) ∧ (∀ (σ : mS), σ.s_tm σ.tm = σ) ∧ (∀ (σ : mS), σ.s_mo σ.mo = σ) ∧ (∀ (σ : mS), σ.s_tx σ.tx = σ) ∧ (∀ (σ : mS), σ.s_ty σ.ty = σ) ∧ (∀ (σ : mS), σ.s_ro σ.ro = σ) ∧ (∀ (σ : mS), σ.s_rm σ.rm = σ) ∧ (∀ (σ : mS), σ.s_th σ.th = σ) ∧ (∀ (σ : mS), σ.s_tg σ.tg = σ) ∧ (∀ (σ : mS), σ.s_tn σ.tn = σ) ∧ (∀ (σ : mS), σ.s_sz σ.sz = σ) ∧ (∀ (σ : mS), σ.s_hr σ.hr = σ) ∧ (∀ (σ : mS), σ.s_fo σ.fo = σ) ∧ (∀ (σ : mS), σ.s_hw σ.hw = σ) := ⟨fun _ => rfl, fun _ => rfl, fun _ => rfl, fun _ => rfl, fun _ => rfl, fun _ => rfl, fun _ => rfl, fun _ => rfl, fun _ => rfl, fun _ => rfl, fun _ => rfl, fun _ => rfl, fun _ => rfl, fun _ => rfl, fun _ => rfl, fun _ => rfl, fun _ => rfl, fun _ => rfl, fun _ => rfl⟩
/-- booleans written as numbers -/
theorem mWb {α : Nat → Nat} (hα : mD α) : (∀ (σ : mS) (h : zH) (k : Nat), k < 10 → zast (mH α σ h) (α 3) 1 (nI k) (.int (nI 0)) = some (mH α (σ.s_de (va_up σ.de k false)) h)) ∧ (∀ (σ : mS) (h : zH) (k : Nat), k < 10 → zast (mH α σ h) (α 3) 1 (nI k) (.int (nI 1)) = some (mH α (σ.s_de (va_up σ.de k true)) h)) :=
  ⟨fun σ h k hk => ((mW hα).2.2.1 σ h k false hk), fun σ h k hk => ((mW hα).2.2.1 σ h k true hk)⟩
theorem t_opensSlot_loop {α : Nat → Nat} (hα : mD α) (σ : mS) (h : zH) (c : Nat) (hc : c < 10) (a2 a3 : Int32) (k : Nat) : ∀ x, x + k = 256 → zs PG mX3_opensSlot 31 [.ref (α 0), .int (nI c), .int a2, .int a3, .int (nI x)] [] (mH α (σ.s_ra (mblk σ.ra c (kpf (fun _ => 0) (fun y => σ.ra (256 * c + y)) x))) h) = some (.inl none, mH α (σ.s_ra (mblk σ.ra c (fun _ => 0))) h) := by
  induction k with
  | zero =>
    intro x hx
    have hx : x = 256 := by omega
    subst hx
    rw [uX3_opensSlot_at31]
    simp (disch := omega) only [uX3_opensSlot, mG, mP hα, mR hα, mW hα, mgs, zKK, zB, zBl, zBb, zlg, zA, zA3, zL3, km31, km63, klshr, kishr, k2p, kl1shl, klmask, kland1, kiand1, k_l2i, zrt_b, zrt_0, zrt_1, zdv_n, zdv_l, mblk_pf]
  | succ k ih =>
    intro x hx
    rw [uX3_opensSlot_at31, ← ih (x + 1) (by omega), ← kpf_up]
    simp (disch := omega) only [uX3_opensSlot, mG, mP hα, mR hα, mW hα, mgs, zKK, zB, zBl, zBb, zlg, zA, zA3, zL3, km31, km63, klshr, kishr, k2p, kl1shl, klmask, kland1, kiand1, k_l2i, zrt_b, zrt_0, zrt_1, zdv_n, zdv_l, t_at, mblk_up, mss]
theorem t_opensSlot_l0 {α : Nat → Nat} (hα : mD α) (σ : mS) (h : zH) (c : Nat) (hc : c < 10) (a2 a3 : Int32) : zs PG mX3_opensSlot 31 [.ref (α 0), .int (nI c), .int a2, .int a3, .int (nI 0)] [] (mH α σ h) = some (.inl none, mH α (σ.s_ra (mblk σ.ra c (fun _ => 0))) h) := by
  have e := t_opensSlot_loop hα σ h c hc a2 a3 256 0 rfl
  rw [kpf_0, mblk_self] at e
  exact e
theorem t_opensSlot {α : Nat → Nat} (hα : mD α) (σ : mS) (h : zH) (c : Nat) (hc : c < 10) (p l : Nat) : ∃ σ', zc PG mX3_opensSlot [.ref (α 0), .int (nI c), .int (nI p), .int (nI l)] (mH α σ h) = some (.inl none, mH α σ' h) ∧ mSl σ' c (kopen p l) ∧ mFr (fun d => d = c) σ σ' := by
  refine ⟨((((σ.s_bi (va_up σ.bi c p)).s_li (va_up σ.li c l)).s_de (va_up σ.de c false)).s_mm (va_up σ.mm c 0)).s_ra (mblk σ.ra c (fun _ => 0)), ?_, ?_, ?_⟩
  · simp (disch := omega) only [eX3_opensSlot, uX3_opensSlot, mG, mP hα, mR hα, mW hα, mgs, zKK, zB, zBl, zBb, zlg, zA, zA3, zL3, km31, km63, klshr, kishr, k2p, kl1shl, klmask, kland1, kiand1, k_l2i, zrt_b, zrt_0, zrt_1, zdv_n, zdv_l, mWb hα, t_opensSlot_l0 hα]
  · unfold mSl
    simp only [mgs, va_up_self]
    exact ⟨rfl, rfl, rfl, rfl, fun k hk => absurd hk (Nat.not_lt_zero _), fun x hx => mblk_s hx, Nat.zero_le _⟩
  · exact ((((mFr_bi σ c p).trans (mFr_li _ c l)).trans (mFr_de _ c false)).trans (mFr_mm _ c 0)).trans (mFr_ra _ c _)
