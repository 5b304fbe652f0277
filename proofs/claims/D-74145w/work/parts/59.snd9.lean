/-! SOUNDNESS: an instruction's three laws in one -/
theorem gCx.x {G : gG} {I : gMI} {p : Program} {l : Launch} {e : Env} {R : Room} {s : State} {m : MethodId} {args : Array Value} {below : List Frame} {meth : Method} {c : Code} {h0 : zH} (C : gCx G I p l e R s m args below meth c h0) : p.tables.exec = Jvm.exec := C.1
theorem gCx.b {G : gG} {I : gMI} {p : Program} {l : Launch} {e : Env} {R : Room} {s : State} {m : MethodId} {args : Array Value} {below : List Frame} {meth : Method} {c : Code} {h0 : zH} (C : gCx G I p l e R s m args below meth c h0) : c.code = I.2.1 := C.2.1
theorem gCx.r {G : gG} {I : gMI} {p : Program} {l : Launch} {e : Env} {R : Room} {s : State} {m : MethodId} {args : Array Value} {below : List Frame} {meth : Method} {c : Code} {h0 : zH} (C : gCx G I p l e R s m args below meth c h0) : meth.sig.returnType = I.2.2.1 := C.2.2.1
theorem gCx.k {G : gG} {I : gMI} {p : Program} {l : Launch} {e : Env} {R : Room} {s : State} {m : MethodId} {args : Array Value} {below : List Frame} {meth : Method} {c : Code} {h0 : zH} (C : gCx G I p l e R s m args below meth c h0) : meth.locks = false := C.2.2.2.1
theorem gCx.ml {G : gG} {I : gMI} {p : Program} {l : Launch} {e : Env} {R : Room} {s : State} {m : MethodId} {args : Array Value} {below : List Frame} {meth : Method} {c : Code} {h0 : zH} (C : gCx G I p l e R s m args below meth c h0) : c.maxLocals = I.2.2.2.1 := C.2.2.2.2.1
theorem gCx.own {G : gG} {I : gMI} {p : Program} {l : Launch} {e : Env} {R : Room} {s : State} {m : MethodId} {args : Array Value} {below : List Frame} {meth : Method} {c : Code} {h0 : zH} (C : gCx G I p l e R s m args below meth c h0) : s.vm.findClass I.1.cls = some m.cls := C.2.2.2.2.2.1
theorem gCx.nm {G : gG} {I : gMI} {p : Program} {l : Launch} {e : Env} {R : Room} {s : State} {m : MethodId} {args : Array Value} {below : List Frame} {meth : Method} {c : Code} {h0 : zH} (C : gCx G I p l e R s m args below meth c h0) : I.1.name ≠ "law" → meth.name = I.1.name ∧ s.methodNamed? I.1 = some m := C.2.2.2.2.2.2.1
theorem gCx.ts {G : gG} {I : gMI} {p : Program} {l : Launch} {e : Env} {R : Room} {s : State} {m : MethodId} {args : Array Value} {below : List Frame} {meth : Method} {c : Code} {h0 : zH} (C : gCx G I p l e R s m args below meth c h0) : ∀ w ∈ lw_all, w.before args s = true := C.2.2.2.2.2.2.2.1
theorem gCx.tb {G : gG} {I : gMI} {p : Program} {l : Launch} {e : Env} {R : Room} {s : State} {m : MethodId} {args : Array Value} {below : List Frame} {meth : Method} {c : Code} {h0 : zH} (C : gCx G I p l e R s m args below meth c h0) : c.exceptionTable.toList = tableOf I.2.2.2.2.1 := C.2.2.2.2.2.2.2.2.1
theorem gCx.fr {G : gG} {I : gMI} {p : Program} {l : Launch} {e : Env} {R : Room} {s : State} {m : MethodId} {args : Array Value} {below : List Frame} {meth : Method} {c : Code} {h0 : zH} (C : gCx G I p l e R s m args below meth c h0) : R.frames = I.2.2.2.2.2.1 ∧ R.locals = I.2.2.2.2.2.2 := ⟨C.2.2.2.2.2.2.2.2.2.1, C.2.2.2.2.2.2.2.2.2.2.1⟩
theorem gCx.fl {G : gG} {I : gMI} {p : Program} {l : Launch} {e : Env} {R : Room} {s : State} {m : MethodId} {args : Array Value} {below : List Frame} {meth : Method} {c : Code} {h0 : zH} (C : gCx G I p l e R s m args below meth c h0) : l.flags = flags0 := C.2.2.2.2.2.2.2.2.2.2.2.1
theorem gCx.K {G : gG} {I : gMI} {p : Program} {l : Launch} {e : Env} {R : Room} {s : State} {m : MethodId} {args : Array Value} {below : List Frame} {meth : Method} {c : Code} {h0 : zH} (C : gCx G I p l e R s m args below meth c h0) : gK G h0 s := C.2.2.2.2.2.2.2.2.2.2.2.2
def zNx (f : zI) : Prop := ∀ ls st h o, f ls st h = some o → ∃ g, o = .inl g
def zEx (f : zI) : Prop := ∀ ls st h o, f ls st h = some o → ∃ r, o = .inr (.inl r)
def zCx (f : zI) : Prop := ∀ ls st h o, f ls st h = some o → ∃ k, o = .inr (.inr k)
section GD
variable {T : List gMI} {G : gG} {I : gMI} {pc : Nat} {f : zI}
theorem gSd_n (hx : zNx f) (k : ∀ {p : Program} {l : Launch} {e : Env} {R : Room} {s : State} {m : MethodId} {args : Array Value} {below : List Frame} {meth : Method} {c : Code} {h0 : zH}, gCx G I p l e R s m args below meth c h0 → gN G p l e R s m args below meth c I.2.2.2.1 h0 pc f) : gSd T G I pc f := fun p l e R s m args below meth c h0 C =>
  ⟨k C, fun ls st h r hf => (by obtain ⟨g, hg⟩ := hx _ _ _ _ hf; cases hg), fun ls st h k as hd g hf => (by obtain ⟨g, hg⟩ := hx _ _ _ _ hf; cases hg)⟩
theorem gSd_e (hx : zEx f) (k : ∀ {p : Program} {l : Launch} {e : Env} {R : Room} {s : State} {m : MethodId} {args : Array Value} {below : List Frame} {meth : Method} {c : Code} {h0 : zH}, gCx G I p l e R s m args below meth c h0 → gEd G p l e R s m args below meth c I.2.2.2.1 h0 pc f) : gSd T G I pc f := fun p l e R s m args below meth c h0 C =>
  ⟨fun Q ls st h g hf => (by obtain ⟨g, hg⟩ := hx _ _ _ _ hf; cases hg), k C, fun ls st h k as hd g hf => (by obtain ⟨g, hg⟩ := hx _ _ _ _ hf; cases hg)⟩
theorem gSd_c (hx : zCx f) (k : ∀ {p : Program} {l : Launch} {e : Env} {R : Room} {s : State} {m : MethodId} {args : Array Value} {below : List Frame} {meth : Method} {c : Code} {h0 : zH}, gCx G I p l e R s m args below meth c h0 → gCd T G p l e R s m args below meth c I.2.2.2.1 h0 pc f) : gSd T G I pc f := fun p l e R s m args below meth c h0 C =>
  ⟨fun Q ls st h g hf => (by obtain ⟨g, hg⟩ := hx _ _ _ _ hf; cases hg), fun ls st h r hf => (by obtain ⟨g, hg⟩ := hx _ _ _ _ hf; cases hg), k C⟩
theorem gSd_X : gSd T G I pc zX := fun p l e R s m args below meth c h0 C => ⟨fun Q ls st h g hf => (by cases hf), fun ls st h r hf => (by cases hf), fun ls st h k as hd g hf => (by cases hf)⟩
end GD
theorem zn_p (f : zP) (n : Nat) : zNx (zi_p f n) := by
  intro ls st h o e
  unfold zi_p at e
  split at e
  · cases e; exact ⟨_, rfl⟩
  · cases e
theorem zn_il (k n : Nat) : zNx (zi_il k n) := by
  intro ls st h o e
  unfold zi_il at e
  split at e
  · cases e; exact ⟨_, rfl⟩
  · cases e
theorem zn_ll (k n : Nat) : zNx (zi_ll k n) := by
  intro ls st h o e
  unfold zi_ll at e
  split at e
  · cases e; exact ⟨_, rfl⟩
  · cases e
theorem zn_is (d : Bool) (k n : Nat) : zNx (zi_is d k n) := by
  intro ls st h o e
  unfold zi_is at e
  split at e
  · split at e
    · cases e; exact ⟨_, rfl⟩
    · cases e
  · cases e
theorem zn_as (d : Bool) (k n : Nat) : zNx (zi_as d k n) := by
  intro ls st h o e
  unfold zi_as at e
  split at e
  · split at e
    · cases e; exact ⟨_, rfl⟩
    · cases e
  · cases e
theorem zn_lst (d : Bool) (k n : Nat) : zNx (zi_lst d k n) := by
  intro ls st h o e
  unfold zi_lst at e
  split at e
  · split at e
    · cases e; exact ⟨_, rfl⟩
    · cases e
  · cases e
theorem zn_inc (k : Nat) (c : Int32) (n : Nat) : zNx (zi_inc k c n) := by
  intro ls st h o e
  unfold zi_inc at e
  split at e
  · split at e
    · cases e; exact ⟨_, rfl⟩
    · cases e
  · cases e
theorem zn_b1 (p : Int32 → Bool) (t n : Nat) : zNx (zi_b1 p t n) := by
  intro ls st h o e
  unfold zi_b1 at e
  split at e
  · cases e; exact ⟨_, rfl⟩
  · cases e
theorem zn_b2 (p : Int32 → Int32 → Bool) (t n : Nat) : zNx (zi_b2 p t n) := by
  intro ls st h o e
  unfold zi_b2 at e
  split at e
  · cases e; exact ⟨_, rfl⟩
  · cases e
theorem zn_sw (f : Int32 → Nat) : zNx (zi_sw f) := by
  intro ls st h o e
  unfold zi_sw at e
  split at e
  · cases e; exact ⟨_, rfl⟩
  · cases e
theorem zn_get (c k n : Nat) : zNx (zi_get c k n) := by
  intro ls st h o e
  unfold zi_get at e
  split at e
  · split at e
    · cases e; exact ⟨_, rfl⟩
    · cases e
  · cases e
theorem zn_put (c k ty n : Nat) : zNx (zi_put c k ty n) := by
  intro ls st h o e
  unfold zi_put at e
  split at e
  · split at e
    · cases e; exact ⟨_, rfl⟩
    · cases e
  · cases e
theorem zn_ald (t n : Nat) : zNx (zi_ald t n) := by
  intro ls st h o e
  unfold zi_ald at e
  split at e
  · split at e
    · cases e; exact ⟨_, rfl⟩
    · cases e
  · cases e
theorem zn_ast (t n : Nat) : zNx (zi_ast t n) := by
  intro ls st h o e
  unfold zi_ast at e
  split at e
  · split at e
    · cases e; exact ⟨_, rfl⟩
    · cases e
  · cases e
theorem zn_len (n : Nat) : zNx (zi_len n) := by
  intro ls st h o e
  unfold zi_len at e
  split at e
  · split at e
    · cases e; exact ⟨_, rfl⟩
    · cases e
  · cases e
theorem zn_newa (t n : Nat) : zNx (zi_newa t n) := by
  intro ls st h o e
  unfold zi_newa at e
  split at e
  · split at e
    · cases e; exact ⟨_, rfl⟩
    · cases e
  · cases e
theorem zn_grid (a b n : Nat) : zNx (zi_grid a b n) := by
  intro ls st h o e
  unfold zi_grid at e
  split at e
  · split at e
    · cases e; exact ⟨_, rfl⟩
    · cases e
  · cases e
theorem zn_cp (n : Nat) : zNx (zi_cp n) := by
  intro ls st h o e
  unfold zi_cp at e
  split at e
  · split at e
    · cases e; exact ⟨_, rfl⟩
    · cases e
  · cases e
theorem zn_lam (c na n : Nat) : zNx (zi_lam c na n) := by
  intro ls st h o e
  unfold zi_lam at e
  split at e
  · cases e; exact ⟨_, rfl⟩
  · cases e
theorem zn_al (k n : Nat) : zNx (zi_al k n) := by
  intro ls st h o e
  unfold zi_al at e
  split at e
  · cases e; exact ⟨_, rfl⟩
  · cases e; exact ⟨_, rfl⟩
  · cases e
theorem zn_dv (f : Int32 → Int32 → Int32) (n : Nat) : zNx (zi_dv f n) := by
  intro ls st h o e
  unfold zi_dv at e
  split at e
  · split at e
    · cases e
    · cases e; exact ⟨_, rfl⟩
  · cases e
theorem zn_ldv (f : Int64 → Int64 → Int64) (n : Nat) : zNx (zi_ldv f n) := by
  intro ls st h o e
  unfold zi_ldv at e
  split at e
  · split at e
    · cases e
    · cases e; exact ⟨_, rfl⟩
  · cases e
theorem zn_new (c : Nat) (fs : List Value) (n : Nat) : zNx (zi_new c fs n) := fun ls st h o e => by cases e; exact ⟨_, rfl⟩
theorem zn_env (j n : Nat) : zNx (zi_env j n) := fun ls st h o e => by cases e; exact ⟨_, rfl⟩
theorem zn_ret0 : zEx zi_ret0 := by
  intro ls st h o e
  unfold zi_ret0 at e
  split at e
  · cases e; exact ⟨_, rfl⟩
  · cases e
theorem zn_iret : zEx zi_iret := by
  intro ls st h o e
  unfold zi_iret at e
  split at e
  · cases e; exact ⟨_, rfl⟩
  · cases e
theorem zn_lret : zEx zi_lret := by
  intro ls st h o e
  unfold zi_lret at e
  split at e
  · cases e; exact ⟨_, rfl⟩
  · cases e
theorem zn_aret : zEx zi_aret := by
  intro ls st h o e
  unfold zi_aret at e
  split at e
  · cases e; exact ⟨_, rfl⟩
  · cases e
theorem zn_retz : zEx zi_retz := by
  intro ls st h o e
  unfold zi_retz at e
  split at e
  · split at e
    · cases e; exact ⟨_, rfl⟩
    · cases e
  · cases e
theorem zn_retc : zEx zi_retc := by
  intro ls st h o e
  unfold zi_retc at e
  split at e
  · split at e
    · cases e; exact ⟨_, rfl⟩
    · cases e
  · cases e
theorem zn_retb : zEx zi_retb := by
  intro ls st h o e
  unfold zi_retb at e
  split at e
  · split at e
    · cases e; exact ⟨_, rfl⟩
    · cases e
  · cases e
theorem zn_thr : zEx zi_thr := by
  intro ls st h o e
  unfold zi_thr at e
  split at e
  · split at e
    · cases e; exact ⟨_, rfl⟩
    · cases e
  · cases e
theorem zn_nse : zEx zi_nse := by
  intro ls st h o e
  unfold zi_nse at e
  split at e
  · cases e; exact ⟨_, rfl⟩
  · cases e
theorem zn_c (k na : Nat) (hd : Option (Nat × Nat × Nat)) (n : Nat) : zCx (zi_c k na hd n) := by
  intro ls st h o e
  unfold zi_c at e
  split at e
  · cases e; exact ⟨_, rfl⟩
  · cases e
theorem zn_v (c k na : Nat) (hd : Option (Nat × Nat × Nat)) (n : Nat) : zCx (zi_v c k na hd n) := by
  intro ls st h o e
  unfold zi_v at e
  split at e
  · split at e
    · cases e; exact ⟨_, rfl⟩
    · cases e
  · cases e
theorem zn_r (k na : Nat) (hd : Option (Nat × Nat × Nat)) (n : Nat) : zCx (zi_r k na hd n) := by
  intro ls st h o e
  unfold zi_r at e
  split at e
  · split at e
    · cases e; exact ⟨_, rfl⟩
    · cases e
  · cases e
theorem zn_f (l : List (Nat × Nat)) (na n : Nat) : zCx (zi_f l na n) := by
  intro ls st h o e
  unfold zi_f at e
  split at e
  · split at e
    · split at e
      · cases e; exact ⟨_, rfl⟩
      · cases e
    · cases e
  · cases e
