/-! SOUNDNESS: lambdas that hold nothing -/
theorem zn_lamc (j n : Nat) : zNx (zi_lamc j n) := by
  intro ls st h o e
  unfold zi_lamc at e
  split at e
  · cases e; exact ⟨_, rfl⟩
  · cases e
section GL
variable {G : gG} {p : Program} {l : Launch} {e : Env} {R : Room} {s : State} {m : MethodId} {args : Array Value} {below : List Frame} {meth : Method} {c : Code} {nL : Nat} {h0 : zH} {cc : ByteArray} {pc n : Nat}
theorem gn_lamc {x : MethodName} {index j : Nat} {σ : Lambda.Shape} {cK : ClassId} (hx : p.tables.exec = Jvm.exec) (hb : c.code = cc) (hml : c.maxLocals = nL) (hm : s.methodNamed? x = some m) (hS : gLm s (.lambdaSite x pc index σ) cK (h0.2.2.2 j)) (hcap : σ.captured = []) (hlo : 3080 ≤ R.locals) (hd : decode cc pc = .ok (.invokedynamic index, 5)) (hn : pc + 5 = n) : gN G p l e R s m args below meth c nL h0 pc (zi_lamc j n) := by
  subst hn
  subst hb
  intro Q ls st h g hf h1 h2 hkk H locs la hI hL hF T hT X
  unfold zi_lamc at hf
  split at hf
  · rename_i hz
    cases hf
    unfold gLm at hS
    dsimp only at hS
    obtain ⟨m', k, cf, i0, p0, lk, e1, e2, e3, e4, e5, e6, e7, e8⟩ := hS
    cases hm.symm.trans e1
    rcases e8 with ⟨a, rfl, q2, q3⟩ | ⟨-, q3⟩
    · have hE : h.2.2.2 j = .ref a := by rw [hF.2.2.2.2.1]; exact q2
      have k := hkk H locs la hI hL hF T hT X
      obtain ⟨t, a1, b1⟩ := k
      refine ⟨t, ?_, b1⟩
      refine X.lambdaConstant hx (g := F0 m pc la st) rfl (by rw [hml]; exact hL.1) hd e2 e5 ?_ ?_
      · have hp : e.platform.lambdaLinkWords = 3072 := by rw [X.admits.platform]
        have hz : (st.map fun v => v.category).sum ≤ 8 := hz
        rw [hp]
        show 2 * (F0 m pc la st).monitorRoom + (st.map fun v => v.category).sum + 3072 ≤ R.locals
        have h0 : (F0 m pc la st).monitorRoom = 0 := rfl
        omega
      · rw [hE] at a1
        exact a1
    · exact absurd hcap q3
  · cases hf
end GL
