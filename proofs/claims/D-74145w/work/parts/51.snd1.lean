/-! SOUNDNESS ROWS of the simple instructions (written by wip/gen/snd.py) -/
section GR
variable {G : gG} {p : Program} {l : Launch} {e : Env} {R : Room} {s : State} {m : MethodId} {args : Array Value} {below : List Frame} {meth : Method} {c : Code} {nL : Nat} {h0 : zH} {cc : ByteArray} {pc n t : Nat}
theorem gn_isub (hx : p.tables.exec = Jvm.exec) (hb : c.code = cc) (hd : decode cc pc = .ok (.isub, 1)) (hn : pc + 1 = n) : gN G p l e R s m args below meth c nL h0 pc (zi_p zo_isub n) := by
  subst hn
  refine gn_p fun Q st st' H locs cells slots la hf hk => ?_
  unfold zo_isub zo_i2 at hf
  split at hf
  · cases hf
    exact lv_isub hx hb hd hk
  · cases hf
theorem gn_imul (hx : p.tables.exec = Jvm.exec) (hb : c.code = cc) (hd : decode cc pc = .ok (.imul, 1)) (hn : pc + 1 = n) : gN G p l e R s m args below meth c nL h0 pc (zi_p zo_imul n) := by
  subst hn
  refine gn_p fun Q st st' H locs cells slots la hf hk => ?_
  unfold zo_imul zo_i2 at hf
  split at hf
  · cases hf
    exact lv_imul hx hb hd hk
  · cases hf
theorem gn_iand (hx : p.tables.exec = Jvm.exec) (hb : c.code = cc) (hd : decode cc pc = .ok (.iand, 1)) (hn : pc + 1 = n) : gN G p l e R s m args below meth c nL h0 pc (zi_p zo_iand n) := by
  subst hn
  refine gn_p fun Q st st' H locs cells slots la hf hk => ?_
  unfold zo_iand zo_i2 at hf
  split at hf
  · cases hf
    exact lv_iand hx hb hd hk
  · cases hf
theorem gn_ior (hx : p.tables.exec = Jvm.exec) (hb : c.code = cc) (hd : decode cc pc = .ok (.ior, 1)) (hn : pc + 1 = n) : gN G p l e R s m args below meth c nL h0 pc (zi_p zo_ior n) := by
  subst hn
  refine gn_p fun Q st st' H locs cells slots la hf hk => ?_
  unfold zo_ior zo_i2 at hf
  split at hf
  · cases hf
    exact lv_ior hx hb hd hk
  · cases hf
theorem gn_ixor (hx : p.tables.exec = Jvm.exec) (hb : c.code = cc) (hd : decode cc pc = .ok (.ixor, 1)) (hn : pc + 1 = n) : gN G p l e R s m args below meth c nL h0 pc (zi_p zo_ixor n) := by
  subst hn
  refine gn_p fun Q st st' H locs cells slots la hf hk => ?_
  unfold zo_ixor zo_i2 at hf
  split at hf
  · cases hf
    exact lv_ixor hx hb hd hk
  · cases hf
theorem gn_ishl (hx : p.tables.exec = Jvm.exec) (hb : c.code = cc) (hd : decode cc pc = .ok (.ishl, 1)) (hn : pc + 1 = n) : gN G p l e R s m args below meth c nL h0 pc (zi_p zo_ishl n) := by
  subst hn
  refine gn_p fun Q st st' H locs cells slots la hf hk => ?_
  unfold zo_ishl zo_i2 at hf
  split at hf
  · cases hf
    exact lv_ishl hx hb hd hk
  · cases hf
theorem gn_ishr (hx : p.tables.exec = Jvm.exec) (hb : c.code = cc) (hd : decode cc pc = .ok (.ishr, 1)) (hn : pc + 1 = n) : gN G p l e R s m args below meth c nL h0 pc (zi_p zo_ishr n) := by
  subst hn
  refine gn_p fun Q st st' H locs cells slots la hf hk => ?_
  unfold zo_ishr zo_i2 at hf
  split at hf
  · cases hf
    exact lv_ishr hx hb hd hk
  · cases hf
theorem gn_iushr (hx : p.tables.exec = Jvm.exec) (hb : c.code = cc) (hd : decode cc pc = .ok (.iushr, 1)) (hn : pc + 1 = n) : gN G p l e R s m args below meth c nL h0 pc (zi_p zo_iushr n) := by
  subst hn
  refine gn_p fun Q st st' H locs cells slots la hf hk => ?_
  unfold zo_iushr zo_i2 at hf
  split at hf
  · cases hf
    exact lv_iushr hx hb hd rfl hk
  · cases hf
theorem gn_ladd (hx : p.tables.exec = Jvm.exec) (hb : c.code = cc) (hd : decode cc pc = .ok (.ladd, 1)) (hn : pc + 1 = n) : gN G p l e R s m args below meth c nL h0 pc (zi_p zo_ladd n) := by
  subst hn
  refine gn_p fun Q st st' H locs cells slots la hf hk => ?_
  unfold zo_ladd zo_l2 at hf
  split at hf
  · cases hf
    exact lv_ladd hx hb hd hk
  · cases hf
theorem gn_lsub (hx : p.tables.exec = Jvm.exec) (hb : c.code = cc) (hd : decode cc pc = .ok (.lsub, 1)) (hn : pc + 1 = n) : gN G p l e R s m args below meth c nL h0 pc (zi_p zo_lsub n) := by
  subst hn
  refine gn_p fun Q st st' H locs cells slots la hf hk => ?_
  unfold zo_lsub zo_l2 at hf
  split at hf
  · cases hf
    exact lv_lsub hx hb hd hk
  · cases hf
theorem gn_lmul (hx : p.tables.exec = Jvm.exec) (hb : c.code = cc) (hd : decode cc pc = .ok (.lmul, 1)) (hn : pc + 1 = n) : gN G p l e R s m args below meth c nL h0 pc (zi_p zo_lmul n) := by
  subst hn
  refine gn_p fun Q st st' H locs cells slots la hf hk => ?_
  unfold zo_lmul zo_l2 at hf
  split at hf
  · cases hf
    exact lv_lmul hx hb hd hk
  · cases hf
theorem gn_land (hx : p.tables.exec = Jvm.exec) (hb : c.code = cc) (hd : decode cc pc = .ok (.land, 1)) (hn : pc + 1 = n) : gN G p l e R s m args below meth c nL h0 pc (zi_p zo_land n) := by
  subst hn
  refine gn_p fun Q st st' H locs cells slots la hf hk => ?_
  unfold zo_land zo_l2 at hf
  split at hf
  · cases hf
    exact lv_land hx hb hd hk
  · cases hf
theorem gn_lor (hx : p.tables.exec = Jvm.exec) (hb : c.code = cc) (hd : decode cc pc = .ok (.lor, 1)) (hn : pc + 1 = n) : gN G p l e R s m args below meth c nL h0 pc (zi_p zo_lor n) := by
  subst hn
  refine gn_p fun Q st st' H locs cells slots la hf hk => ?_
  unfold zo_lor zo_l2 at hf
  split at hf
  · cases hf
    exact lv_lor hx hb hd hk
  · cases hf
theorem gn_lshl (hx : p.tables.exec = Jvm.exec) (hb : c.code = cc) (hd : decode cc pc = .ok (.lshl, 1)) (hn : pc + 1 = n) : gN G p l e R s m args below meth c nL h0 pc (zi_p zo_lshl n) := by
  subst hn
  refine gn_p fun Q st st' H locs cells slots la hf hk => ?_
  unfold zo_lshl zo_lsh at hf
  split at hf
  · cases hf
    exact lv_lshl hx hb hd rfl hk
  · cases hf
theorem gn_lshr (hx : p.tables.exec = Jvm.exec) (hb : c.code = cc) (hd : decode cc pc = .ok (.lshr, 1)) (hn : pc + 1 = n) : gN G p l e R s m args below meth c nL h0 pc (zi_p zo_lshr n) := by
  subst hn
  refine gn_p fun Q st st' H locs cells slots la hf hk => ?_
  unfold zo_lshr zo_lsh at hf
  split at hf
  · cases hf
    exact lv_lshr hx hb hd rfl hk
  · cases hf
theorem gn_lushr (hx : p.tables.exec = Jvm.exec) (hb : c.code = cc) (hd : decode cc pc = .ok (.lushr, 1)) (hn : pc + 1 = n) : gN G p l e R s m args below meth c nL h0 pc (zi_p zo_lushr n) := by
  subst hn
  refine gn_p fun Q st st' H locs cells slots la hf hk => ?_
  unfold zo_lushr zo_lsh at hf
  split at hf
  · cases hf
    exact lv_lushr hx hb hd rfl hk
  · cases hf
theorem gn_ineg (hx : p.tables.exec = Jvm.exec) (hb : c.code = cc) (hd : decode cc pc = .ok (.ineg, 1)) (hn : pc + 1 = n) : gN G p l e R s m args below meth c nL h0 pc (zi_p zo_ineg n) := by
  subst hn
  refine gn_p fun Q st st' H locs cells slots la hf hk => ?_
  unfold zo_ineg zo_i1 at hf
  split at hf
  · cases hf
    exact lv_ineg hx hb hd hk
  · cases hf
theorem gn_i2b (hx : p.tables.exec = Jvm.exec) (hb : c.code = cc) (hd : decode cc pc = .ok (.i2b, 1)) (hn : pc + 1 = n) : gN G p l e R s m args below meth c nL h0 pc (zi_p zo_i2b n) := by
  subst hn
  refine gn_p fun Q st st' H locs cells slots la hf hk => ?_
  unfold zo_i2b zo_i1 at hf
  split at hf
  · cases hf
    exact lv_i2b hx hb hd rfl hk
  · cases hf
theorem gn_i2c (hx : p.tables.exec = Jvm.exec) (hb : c.code = cc) (hd : decode cc pc = .ok (.i2c, 1)) (hn : pc + 1 = n) : gN G p l e R s m args below meth c nL h0 pc (zi_p zo_i2c n) := by
  subst hn
  refine gn_p fun Q st st' H locs cells slots la hf hk => ?_
  unfold zo_i2c zo_i1 at hf
  split at hf
  · cases hf
    exact lv_i2c hx hb hd rfl hk
  · cases hf
theorem gn_i2l (hx : p.tables.exec = Jvm.exec) (hb : c.code = cc) (hd : decode cc pc = .ok (.i2l, 1)) (hn : pc + 1 = n) : gN G p l e R s m args below meth c nL h0 pc (zi_p zo_i2l n) := by
  subst hn
  refine gn_p fun Q st st' H locs cells slots la hf hk => ?_
  unfold zo_i2l at hf
  split at hf
  · cases hf
    exact lv_i2l hx hb hd rfl hk
  · cases hf
theorem gn_l2i (hx : p.tables.exec = Jvm.exec) (hb : c.code = cc) (hd : decode cc pc = .ok (.l2i, 1)) (hn : pc + 1 = n) : gN G p l e R s m args below meth c nL h0 pc (zi_p zo_l2i n) := by
  subst hn
  refine gn_p fun Q st st' H locs cells slots la hf hk => ?_
  unfold zo_l2i at hf
  split at hf
  · cases hf
    exact lv_l2i hx hb hd rfl hk
  · cases hf
theorem gn_lcmp (hx : p.tables.exec = Jvm.exec) (hb : c.code = cc) (hd : decode cc pc = .ok (.lcmp, 1)) (hn : pc + 1 = n) : gN G p l e R s m args below meth c nL h0 pc (zi_p zo_lcmp n) := by
  subst hn
  refine gn_p fun Q st st' H locs cells slots la hf hk => ?_
  unfold zo_lcmp at hf
  split at hf
  · cases hf
    exact W.lcmp hx hb hd hk
  · cases hf
theorem gn_dup2 (hx : p.tables.exec = Jvm.exec) (hb : c.code = cc) (hd : decode cc pc = .ok (.dup2, 1)) (hn : pc + 1 = n) : gN G p l e R s m args below meth c nL h0 pc (zi_p zo_dup2 n) := by
  subst hn
  refine gn_p fun Q st st' H locs cells slots la hf hk => ?_
  unfold zo_dup2 at hf
  split at hf
  · cases hf
    exact lv_dup2_11 hx hb hd rfl rfl hk
  · cases hf
theorem gn_dupx1 (hx : p.tables.exec = Jvm.exec) (hb : c.code = cc) (hd : decode cc pc = .ok (.dup_x1, 1)) (hn : pc + 1 = n) : gN G p l e R s m args below meth c nL h0 pc (zi_p zo_dupx1 n) := by
  subst hn
  refine gn_p fun Q st st' H locs cells slots la hf hk => ?_
  unfold zo_dupx1 at hf
  split at hf
  · cases hf
    exact lv_dup_x1 hx hb hd rfl rfl hk
  · cases hf
theorem gn_dup (hx : p.tables.exec = Jvm.exec) (hb : c.code = cc) (hd : decode cc pc = .ok (.dup, 1)) (hn : pc + 1 = n) : gN G p l e R s m args below meth c nL h0 pc (zi_p zo_dup n) := by
  subst hn
  refine gn_p fun Q st st' H locs cells slots la hf hk => ?_
  unfold zo_dup at hf
  split at hf
  · cases hf
    exact lv_dup hx hb hd rfl hk
  · cases hf
    exact lv_dup hx hb hd rfl hk
  · cases hf
theorem gn_pop (hx : p.tables.exec = Jvm.exec) (hb : c.code = cc) (hd : decode cc pc = .ok (.pop, 1)) (hn : pc + 1 = n) : gN G p l e R s m args below meth c nL h0 pc (zi_p zo_pop n) := by
  subst hn
  refine gn_p fun Q st st' H locs cells slots la hf hk => ?_
  unfold zo_pop at hf
  split at hf
  · cases hf
    exact lv_pop hx hb hd rfl hk
  · cases hf
    exact lv_pop hx hb hd rfl hk
  · cases hf
theorem gn_iconst (hx : p.tables.exec = Jvm.exec) (hb : c.code = cc) {k : Int} {v : Value} (hd : decode cc pc = .ok (.iconst k, 1)) (hv : .int (Int32.ofInt k) = v) (hn : pc + 1 = n) : gN G p l e R s m args below meth c nL h0 pc (zi_p (zo_k v) n) := by
  subst hn
  refine gn_p fun Q st st' H locs cells slots la hf hk => ?_
  cases hf
  subst hv; exact lv_iconst hx hb hd rfl hk
theorem gn_bipush (hx : p.tables.exec = Jvm.exec) (hb : c.code = cc) {k : Int} {v : Value} (hd : decode cc pc = .ok (.bipush k, 2)) (hv : .int (Int8.ofInt k).toInt32 = v) (hn : pc + 2 = n) : gN G p l e R s m args below meth c nL h0 pc (zi_p (zo_k v) n) := by
  subst hn
  refine gn_p fun Q st st' H locs cells slots la hf hk => ?_
  cases hf
  subst hv; exact lv_bipush hx hb hd rfl hk
theorem gn_sipush (hx : p.tables.exec = Jvm.exec) (hb : c.code = cc) {k : Int} {v : Value} (hd : decode cc pc = .ok (.sipush k, 3)) (hv : .int (Int16.ofInt k).toInt32 = v) (hn : pc + 3 = n) : gN G p l e R s m args below meth c nL h0 pc (zi_p (zo_k v) n) := by
  subst hn
  refine gn_p fun Q st st' H locs cells slots la hf hk => ?_
  cases hf
  subst hv; exact lv_sipush hx hb hd rfl hk
theorem gn_lconst (hx : p.tables.exec = Jvm.exec) (hb : c.code = cc) {k : Fin 2} {v : Value} (hd : decode cc pc = .ok (.lconst k, 1)) (hv : .long (Int64.ofNat (k : Nat)) = v) (hn : pc + 1 = n) : gN G p l e R s m args below meth c nL h0 pc (zi_p (zo_k v) n) := by
  subst hn
  refine gn_p fun Q st st' H locs cells slots la hf hk => ?_
  cases hf
  subst hv; exact lv_lconst hx hb hd rfl hk
theorem gn_ldc (hx : p.tables.exec = Jvm.exec) (hb : c.code = cc) {own : String} {index : Nat} {w : Int32} {v : Value} (hown : s.vm.findClass own = some m.cls) (hc : (Jvm.Cond.constant own index w).before args s = true) (hd : decode cc pc = .ok (.ldc index, 2)) (hv : .int w = v) (hn : pc + 2 = n) : gN G p l e R s m args below meth c nL h0 pc (zi_p (zo_k v) n) := by
  subst hn
  refine gn_p fun Q st st' H locs cells slots la hf hk => ?_
  cases hf
  subst hv; exact lv_ldc hx hb hown hc hd hk
theorem gn_ldcw (hx : p.tables.exec = Jvm.exec) (hb : c.code = cc) {own : String} {index : Nat} {w : Int32} {v : Value} (hown : s.vm.findClass own = some m.cls) (hc : (Jvm.Cond.constant own index w).before args s = true) (hd : decode cc pc = .ok (.ldc_w index, 3)) (hv : .int w = v) (hn : pc + 3 = n) : gN G p l e R s m args below meth c nL h0 pc (zi_p (zo_k v) n) := by
  subst hn
  refine gn_p fun Q st st' H locs cells slots la hf hk => ?_
  cases hf
  subst hv; exact lv_ldcw hx hb hown hc hd hk
theorem gn_ldc2 (hx : p.tables.exec = Jvm.exec) (hb : c.code = cc) {own : String} {index : Nat} {w : Int64} {v : Value} (hown : s.vm.findClass own = some m.cls) (hc : (Jvm.Cond.constantLong own index w).before args s = true) (hd : decode cc pc = .ok (.ldc2_w index, 3)) (hv : .long w = v) (hn : pc + 3 = n) : gN G p l e R s m args below meth c nL h0 pc (zi_p (zo_k v) n) := by
  subst hn
  refine gn_p fun Q st st' H locs cells slots la hf hk => ?_
  cases hf
  subst hv; exact lv_ldc2 hx hb hown hc hd hk
theorem gn_null (hx : p.tables.exec = Jvm.exec) (hb : c.code = cc) {v : Value} (hd : decode cc pc = .ok (.aconst_null, 1)) (hv : .null = v) (hn : pc + 1 = n) : gN G p l e R s m args below meth c nL h0 pc (zi_p (zo_k v) n) := by
  subst hn
  refine gn_p fun Q st st' H locs cells slots la hf hk => ?_
  cases hf
  subst hv; exact lv_null hx hb hd hk
theorem gn_goto (hx : p.tables.exec = Jvm.exec) (hb : c.code = cc) {off : Int} (hd : decode cc pc = .ok (.goto off, 3)) (hn : (pc : Int) + off = (n : Int)) : gN G p l e R s m args below meth c nL h0 pc (zi_p some n) := gn_p fun Q st st' H locs cells slots la hf hk => by
  cases hf
  exact lv_goto hx hb hd hn hk
theorem gn_q_ltt (hx : p.tables.exec = Jvm.exec) (hb : c.code = cc) {off : Int} (hd : decode cc pc = .ok (.if_icmp .lt off, 3)) (ht : (pc : Int) + off = (t : Int)) (hn : pc + 3 = n) : gN G p l e R s m args below meth c nL h0 pc (zi_b2 zq_lt t n) := by
  subst hn
  intro Q ls st h g hf h1 h2 hk H locs la hI hL hF
  unfold zi_b2 zq_lt at hf
  split at hf
  · cases hf
    rename_i y x st
    have ka : x < y → W p l e R s m args below meth c H locs _ _ Q (F0 m t la st) := fun q => by
      have hk := hk H locs la hI hL hF
      dsimp only at hk
      rw [if_pos (decide_eq_true q)] at hk
      exact hk
    have kb : ¬ (x < y) → W p l e R s m args below meth c H locs _ _ Q (F0 m (pc + 3) la st) := fun q => by
      have hk := hk H locs la hI hL hF
      dsimp only at hk
      rw [if_neg (fun z => q (of_decide_eq_true z))] at hk
      exact hk
    exact lv_icmp_lt hx hb hd ht (fun q => ka q) (fun q => kb q)
  · cases hf
theorem gn_q_ltf (hx : p.tables.exec = Jvm.exec) (hb : c.code = cc) {off : Int} (hd : decode cc pc = .ok (.if_icmp .ge off, 3)) (ht : (pc : Int) + off = (t : Int)) (hn : pc + 3 = n) : gN G p l e R s m args below meth c nL h0 pc (zi_b2 zq_lt n t) := by
  subst hn
  intro Q ls st h g hf h1 h2 hk H locs la hI hL hF
  unfold zi_b2 zq_lt at hf
  split at hf
  · cases hf
    rename_i y x st
    have ka : x < y → W p l e R s m args below meth c H locs _ _ Q (F0 m (pc + 3) la st) := fun q => by
      have hk := hk H locs la hI hL hF
      dsimp only at hk
      rw [if_pos (decide_eq_true q)] at hk
      exact hk
    have kb : ¬ (x < y) → W p l e R s m args below meth c H locs _ _ Q (F0 m t la st) := fun q => by
      have hk := hk H locs la hI hL hF
      dsimp only at hk
      rw [if_neg (fun z => q (of_decide_eq_true z))] at hk
      exact hk
    exact lv_icmp_ge hx hb hd ht (fun q => kb (Int32.not_lt.mpr q)) (fun q => ka (Int32.not_le.mp q))
  · cases hf
theorem gn_q_gtt (hx : p.tables.exec = Jvm.exec) (hb : c.code = cc) {off : Int} (hd : decode cc pc = .ok (.if_icmp .gt off, 3)) (ht : (pc : Int) + off = (t : Int)) (hn : pc + 3 = n) : gN G p l e R s m args below meth c nL h0 pc (zi_b2 zq_gt t n) := by
  subst hn
  intro Q ls st h g hf h1 h2 hk H locs la hI hL hF
  unfold zi_b2 zq_gt at hf
  split at hf
  · cases hf
    rename_i y x st
    have ka : y < x → W p l e R s m args below meth c H locs _ _ Q (F0 m t la st) := fun q => by
      have hk := hk H locs la hI hL hF
      dsimp only at hk
      rw [if_pos (decide_eq_true q)] at hk
      exact hk
    have kb : ¬ (y < x) → W p l e R s m args below meth c H locs _ _ Q (F0 m (pc + 3) la st) := fun q => by
      have hk := hk H locs la hI hL hF
      dsimp only at hk
      rw [if_neg (fun z => q (of_decide_eq_true z))] at hk
      exact hk
    exact lv_icmp_gt hx hb hd ht (fun q => ka q) (fun q => kb q)
  · cases hf
theorem gn_q_gtf (hx : p.tables.exec = Jvm.exec) (hb : c.code = cc) {off : Int} (hd : decode cc pc = .ok (.if_icmp .le off, 3)) (ht : (pc : Int) + off = (t : Int)) (hn : pc + 3 = n) : gN G p l e R s m args below meth c nL h0 pc (zi_b2 zq_gt n t) := by
  subst hn
  intro Q ls st h g hf h1 h2 hk H locs la hI hL hF
  unfold zi_b2 zq_gt at hf
  split at hf
  · cases hf
    rename_i y x st
    have ka : y < x → W p l e R s m args below meth c H locs _ _ Q (F0 m (pc + 3) la st) := fun q => by
      have hk := hk H locs la hI hL hF
      dsimp only at hk
      rw [if_pos (decide_eq_true q)] at hk
      exact hk
    have kb : ¬ (y < x) → W p l e R s m args below meth c H locs _ _ Q (F0 m t la st) := fun q => by
      have hk := hk H locs la hI hL hF
      dsimp only at hk
      rw [if_neg (fun z => q (of_decide_eq_true z))] at hk
      exact hk
    exact lv_icmp_le hx hb hd ht (fun q => kb (Int32.not_lt.mpr q)) (fun q => ka (Int32.not_le.mp q))
  · cases hf
theorem gn_q_eqt (hx : p.tables.exec = Jvm.exec) (hb : c.code = cc) {off : Int} (hd : decode cc pc = .ok (.if_icmp .eq off, 3)) (ht : (pc : Int) + off = (t : Int)) (hn : pc + 3 = n) : gN G p l e R s m args below meth c nL h0 pc (zi_b2 zq_eq t n) := by
  subst hn
  intro Q ls st h g hf h1 h2 hk H locs la hI hL hF
  unfold zi_b2 zq_eq at hf
  split at hf
  · cases hf
    rename_i y x st
    have ka : x = y → W p l e R s m args below meth c H locs _ _ Q (F0 m t la st) := fun q => by
      have hk := hk H locs la hI hL hF
      dsimp only at hk
      rw [if_pos (decide_eq_true q)] at hk
      exact hk
    have kb : ¬ (x = y) → W p l e R s m args below meth c H locs _ _ Q (F0 m (pc + 3) la st) := fun q => by
      have hk := hk H locs la hI hL hF
      dsimp only at hk
      rw [if_neg (fun z => q (of_decide_eq_true z))] at hk
      exact hk
    exact lv_icmp_eq hx hb hd ht (fun q => ka q) (fun q => kb q)
  · cases hf
theorem gn_q_eqf (hx : p.tables.exec = Jvm.exec) (hb : c.code = cc) {off : Int} (hd : decode cc pc = .ok (.if_icmp .ne off, 3)) (ht : (pc : Int) + off = (t : Int)) (hn : pc + 3 = n) : gN G p l e R s m args below meth c nL h0 pc (zi_b2 zq_eq n t) := by
  subst hn
  intro Q ls st h g hf h1 h2 hk H locs la hI hL hF
  unfold zi_b2 zq_eq at hf
  split at hf
  · cases hf
    rename_i y x st
    have ka : x = y → W p l e R s m args below meth c H locs _ _ Q (F0 m (pc + 3) la st) := fun q => by
      have hk := hk H locs la hI hL hF
      dsimp only at hk
      rw [if_pos (decide_eq_true q)] at hk
      exact hk
    have kb : ¬ (x = y) → W p l e R s m args below meth c H locs _ _ Q (F0 m t la st) := fun q => by
      have hk := hk H locs la hI hL hF
      dsimp only at hk
      rw [if_neg (fun z => q (of_decide_eq_true z))] at hk
      exact hk
    exact lv_icmp_ne hx hb hd ht (fun q => kb q) (fun q => ka q)
  · cases hf
theorem gn_r_ltt (hx : p.tables.exec = Jvm.exec) (hb : c.code = cc) {off : Int} (hd : decode cc pc = .ok (.ifCond .lt off, 3)) (ht : (pc : Int) + off = (t : Int)) (hn : pc + 3 = n) : gN G p l e R s m args below meth c nL h0 pc (zi_b1 zr_lt t n) := by
  subst hn
  intro Q ls st h g hf h1 h2 hk H locs la hI hL hF
  unfold zi_b1 zr_lt at hf
  split at hf
  · cases hf
    rename_i x st
    have ka : x < nI 0 → W p l e R s m args below meth c H locs _ _ Q (F0 m t la st) := fun q => by
      have hk := hk H locs la hI hL hF
      dsimp only at hk
      rw [if_pos (decide_eq_true q)] at hk
      exact hk
    have kb : ¬ (x < nI 0) → W p l e R s m args below meth c H locs _ _ Q (F0 m (pc + 3) la st) := fun q => by
      have hk := hk H locs la hI hL hF
      dsimp only at hk
      rw [if_neg (fun z => q (of_decide_eq_true z))] at hk
      exact hk
    exact lv_if_lt hx hb hd ht (fun q => ka q) (fun q => kb q)
  · cases hf
theorem gn_r_ltf (hx : p.tables.exec = Jvm.exec) (hb : c.code = cc) {off : Int} (hd : decode cc pc = .ok (.ifCond .ge off, 3)) (ht : (pc : Int) + off = (t : Int)) (hn : pc + 3 = n) : gN G p l e R s m args below meth c nL h0 pc (zi_b1 zr_lt n t) := by
  subst hn
  intro Q ls st h g hf h1 h2 hk H locs la hI hL hF
  unfold zi_b1 zr_lt at hf
  split at hf
  · cases hf
    rename_i x st
    have ka : x < nI 0 → W p l e R s m args below meth c H locs _ _ Q (F0 m (pc + 3) la st) := fun q => by
      have hk := hk H locs la hI hL hF
      dsimp only at hk
      rw [if_pos (decide_eq_true q)] at hk
      exact hk
    have kb : ¬ (x < nI 0) → W p l e R s m args below meth c H locs _ _ Q (F0 m t la st) := fun q => by
      have hk := hk H locs la hI hL hF
      dsimp only at hk
      rw [if_neg (fun z => q (of_decide_eq_true z))] at hk
      exact hk
    exact lv_if_ge hx hb hd ht (fun q => kb (Int32.not_lt.mpr q)) (fun q => ka (Int32.not_le.mp q))
  · cases hf
theorem gn_r_gtt (hx : p.tables.exec = Jvm.exec) (hb : c.code = cc) {off : Int} (hd : decode cc pc = .ok (.ifCond .gt off, 3)) (ht : (pc : Int) + off = (t : Int)) (hn : pc + 3 = n) : gN G p l e R s m args below meth c nL h0 pc (zi_b1 zr_gt t n) := by
  subst hn
  intro Q ls st h g hf h1 h2 hk H locs la hI hL hF
  unfold zi_b1 zr_gt at hf
  split at hf
  · cases hf
    rename_i x st
    have ka : nI 0 < x → W p l e R s m args below meth c H locs _ _ Q (F0 m t la st) := fun q => by
      have hk := hk H locs la hI hL hF
      dsimp only at hk
      rw [if_pos (decide_eq_true q)] at hk
      exact hk
    have kb : ¬ (nI 0 < x) → W p l e R s m args below meth c H locs _ _ Q (F0 m (pc + 3) la st) := fun q => by
      have hk := hk H locs la hI hL hF
      dsimp only at hk
      rw [if_neg (fun z => q (of_decide_eq_true z))] at hk
      exact hk
    exact lv_if_gt hx hb hd ht (fun q => ka q) (fun q => kb q)
  · cases hf
theorem gn_r_gtf (hx : p.tables.exec = Jvm.exec) (hb : c.code = cc) {off : Int} (hd : decode cc pc = .ok (.ifCond .le off, 3)) (ht : (pc : Int) + off = (t : Int)) (hn : pc + 3 = n) : gN G p l e R s m args below meth c nL h0 pc (zi_b1 zr_gt n t) := by
  subst hn
  intro Q ls st h g hf h1 h2 hk H locs la hI hL hF
  unfold zi_b1 zr_gt at hf
  split at hf
  · cases hf
    rename_i x st
    have ka : nI 0 < x → W p l e R s m args below meth c H locs _ _ Q (F0 m (pc + 3) la st) := fun q => by
      have hk := hk H locs la hI hL hF
      dsimp only at hk
      rw [if_pos (decide_eq_true q)] at hk
      exact hk
    have kb : ¬ (nI 0 < x) → W p l e R s m args below meth c H locs _ _ Q (F0 m t la st) := fun q => by
      have hk := hk H locs la hI hL hF
      dsimp only at hk
      rw [if_neg (fun z => q (of_decide_eq_true z))] at hk
      exact hk
    exact lv_if_le hx hb hd ht (fun q => kb (Int32.not_lt.mpr q)) (fun q => ka (Int32.not_le.mp q))
  · cases hf
theorem gn_r_eqt (hx : p.tables.exec = Jvm.exec) (hb : c.code = cc) {off : Int} (hd : decode cc pc = .ok (.ifCond .eq off, 3)) (ht : (pc : Int) + off = (t : Int)) (hn : pc + 3 = n) : gN G p l e R s m args below meth c nL h0 pc (zi_b1 zr_eq t n) := by
  subst hn
  intro Q ls st h g hf h1 h2 hk H locs la hI hL hF
  unfold zi_b1 zr_eq at hf
  split at hf
  · cases hf
    rename_i x st
    have ka : x = nI 0 → W p l e R s m args below meth c H locs _ _ Q (F0 m t la st) := fun q => by
      have hk := hk H locs la hI hL hF
      dsimp only at hk
      rw [if_pos (decide_eq_true q)] at hk
      exact hk
    have kb : ¬ (x = nI 0) → W p l e R s m args below meth c H locs _ _ Q (F0 m (pc + 3) la st) := fun q => by
      have hk := hk H locs la hI hL hF
      dsimp only at hk
      rw [if_neg (fun z => q (of_decide_eq_true z))] at hk
      exact hk
    exact lv_if_eq hx hb hd ht (fun q => ka q) (fun q => kb q)
  · cases hf
theorem gn_r_eqf (hx : p.tables.exec = Jvm.exec) (hb : c.code = cc) {off : Int} (hd : decode cc pc = .ok (.ifCond .ne off, 3)) (ht : (pc : Int) + off = (t : Int)) (hn : pc + 3 = n) : gN G p l e R s m args below meth c nL h0 pc (zi_b1 zr_eq n t) := by
  subst hn
  intro Q ls st h g hf h1 h2 hk H locs la hI hL hF
  unfold zi_b1 zr_eq at hf
  split at hf
  · cases hf
    rename_i x st
    have ka : x = nI 0 → W p l e R s m args below meth c H locs _ _ Q (F0 m (pc + 3) la st) := fun q => by
      have hk := hk H locs la hI hL hF
      dsimp only at hk
      rw [if_pos (decide_eq_true q)] at hk
      exact hk
    have kb : ¬ (x = nI 0) → W p l e R s m args below meth c H locs _ _ Q (F0 m t la st) := fun q => by
      have hk := hk H locs la hI hL hF
      dsimp only at hk
      rw [if_neg (fun z => q (of_decide_eq_true z))] at hk
      exact hk
    exact lv_if_ne hx hb hd ht (fun q => kb q) (fun q => ka q)
  · cases hf
theorem gn_idiv (hx : p.tables.exec = Jvm.exec) (hb : c.code = cc) (hd : decode cc pc = .ok (.idiv, 1)) (hn : pc + 1 = n) : gN G p l e R s m args below meth c nL h0 pc (zi_dv zf_idiv n) := by
  subst hn
  intro Q ls st h g hf h1 h2 hk H locs la hI hL hF
  unfold zi_dv at hf
  split at hf
  · split at hf
    · cases hf
    · rename_i hne
      cases hf
      exact lv_idiv hx hb hd hne (hk H locs la hI hL hF)
  · cases hf
theorem gn_irem (hx : p.tables.exec = Jvm.exec) (hb : c.code = cc) (hd : decode cc pc = .ok (.irem, 1)) (hn : pc + 1 = n) : gN G p l e R s m args below meth c nL h0 pc (zi_dv zf_irem n) := by
  subst hn
  intro Q ls st h g hf h1 h2 hk H locs la hI hL hF
  unfold zi_dv at hf
  split at hf
  · split at hf
    · cases hf
    · rename_i hne
      cases hf
      exact lv_irem hx hb hd hne (hk H locs la hI hL hF)
  · cases hf
theorem gn_ldiv (hx : p.tables.exec = Jvm.exec) (hb : c.code = cc) (hd : decode cc pc = .ok (.ldiv, 1)) (hn : pc + 1 = n) : gN G p l e R s m args below meth c nL h0 pc (zi_ldv zf_ldiv n) := by
  subst hn
  intro Q ls st h g hf h1 h2 hk H locs la hI hL hF
  unfold zi_ldv at hf
  split at hf
  · split at hf
    · cases hf
    · rename_i hne
      cases hf
      exact lv_ldiv hx hb hd hne (hk H locs la hI hL hF)
  · cases hf
theorem gn_ll {k : Nat} (hx : p.tables.exec = Jvm.exec) (hb : c.code = cc) (hd : (∃ q : Fin 4, (q : Nat) = k ∧ decode cc pc = .ok (.lload_n q, 1) ∧ pc + 1 = n) ∨ (decode cc pc = .ok (.lload k, 2) ∧ pc + 2 = n)) : gN G p l e R s m args below meth c nL h0 pc (zi_ll k n) := by
  intro Q ls st h g hf h1 h2 hk H locs la hI hL hF
  unfold zi_ll at hf
  split at hf
  · rename_i x hkx
    cases hf
    have hl := hL.2.2.2 k _ hkx (fun z => by cases z)
    rcases hd with ⟨q, rfl, hd, rfl⟩ | ⟨hd, rfl⟩
    · exact lv_lload_n hx hb hd rfl hl (hk H locs la hI hL hF)
    · exact lv_lload hx hb hd hl (hk H locs la hI hL hF)
  · cases hf
theorem gn_al {k : Nat} (hx : p.tables.exec = Jvm.exec) (hb : c.code = cc) (hd : (∃ q : Fin 4, (q : Nat) = k ∧ decode cc pc = .ok (.aload_n q, 1) ∧ pc + 1 = n) ∨ (decode cc pc = .ok (.aload k, 2) ∧ pc + 2 = n)) : gN G p l e R s m args below meth c nL h0 pc (zi_al k n) := by
  intro Q ls st h g hf h1 h2 hk H locs la hI hL hF
  unfold zi_al at hf
  split at hf
  · rename_i x hkx
    cases hf
    have hl := hL.2.2.2 k _ hkx (fun z => by cases z)
    rcases hd with ⟨q, rfl, hd, rfl⟩ | ⟨hd, rfl⟩
    · exact lv_aload_n hx hb hd rfl hl (hk H locs la hI hL hF)
    · exact lv_aload hx hb hd hl (hk H locs la hI hL hF)
  · rename_i hkx
    cases hf
    have hl := hL.2.2.2 k _ hkx (fun z => by cases z)
    rcases hd with ⟨q, rfl, hd, rfl⟩ | ⟨hd, rfl⟩
    · exact lv_aload_nN hx hb hd rfl hl (hk H locs la hI hL hF)
    · exact lv_aloadN hx hb hd hl (hk H locs la hI hL hF)
  · cases hf
theorem gn_as {k : Nat} {d : Bool} (hx : p.tables.exec = Jvm.exec) (hb : c.code = cc) (hkn : k < nL) (hd : (∃ q : Fin 4, (q : Nat) = k ∧ decode cc pc = .ok (.astore_n q, 1) ∧ pc + 1 = n) ∨ (decode cc pc = .ok (.astore k, 2) ∧ pc + 2 = n)) : gN G p l e R s m args below meth c nL h0 pc (zi_as d k n) := by
  intro Q ls st h g hf h1 h2 hk H locs la hI hL hF
  unfold zi_as at hf
  split at hf
  · split at hf
    · rename_i l hl
      cases hf
      rcases hd with ⟨q, rfl, hd, rfl⟩ | ⟨hd, rfl⟩
      · exact lv_astore_n hx hb hd rfl hL.has hkn rfl (fun la' h' => hk H locs la' hI (gL.st1 hL.2.2.1 h' hl (Or.inl rfl)) hF)
      · exact lv_astore hx hb hd hL.has hkn rfl (fun la' h' => hk H locs la' hI (gL.st1 hL.2.2.1 h' hl (Or.inl rfl)) hF)
    · cases hf
  · cases hf
theorem gL.st2 {la' : Array Slot} {nL i : Nat} {d : Bool} {ls ls' : List Value} {v : Value} (hn : ls.length = nL) (h : lv_has la' nL ((i, v) :: (gLs ls).filter (fun q => !(q.1 == i) && (!(q.1 == i + 1) && !(q.1 + 1 == i && q.2.category == 2))))) (hz : zst2 d ls i v = some ls') : gL la' nL ls' := by
  unfold zst2 at hz
  cases e : zpre d ls i with
  | none => rw [e] at hz; cases hz
  | some l =>
    rw [e] at hz
    dsimp only at hz
    cases e2 : zset l i v with
    | none => rw [e2] at hz; cases hz
    | some l2 =>
      rw [e2] at hz
      dsimp only at hz
      obtain ⟨h1, h2⟩ := zpre_nth e
      obtain ⟨h3, h4⟩ := zset_nth _ _ _ _ e2
      obtain ⟨h5, h6⟩ := zset_nth _ _ _ _ hz
      refine ⟨h.1, h.2.1, by rw [h6, h4, h1, hn], fun k x hk hx => ?_⟩
      rw [h5 k] at hk
      by_cases hki1 : k = i + 1
      · rw [if_pos hki1] at hk
        cases hk
        exact absurd rfl hx
      · rw [if_neg hki1, h3 k] at hk
        by_cases hki : k = i
        · rw [if_pos hki] at hk
          cases hk
          rw [hki]; exact h.2.2 _ List.mem_cons_self
        · rw [if_neg hki] at hk
          obtain ⟨h7, h8⟩ := h2 k x hk hx
          refine h.2.2 (k, x) (List.mem_cons_of_mem _ (List.mem_filter.mpr ⟨gLs_mem.mpr ⟨h7, hx⟩, ?_⟩))
          simp only [Bool.and_eq_true, Bool.not_eq_true', beq_eq_false_iff_ne, Bool.and_eq_false_iff, ne_eq]
          refine ⟨hki, hki1, ?_⟩
          by_cases h9 : k + 1 = i
          · exact Or.inr (fun q => h8 ⟨h9, q⟩)
          · exact Or.inl h9
theorem gn_lst {k : Nat} {d : Bool} (hx : p.tables.exec = Jvm.exec) (hb : c.code = cc) (hkn : k + 1 < nL) (hd : (∃ q : Fin 4, (q : Nat) = k ∧ decode cc pc = .ok (.lstore_n q, 1) ∧ pc + 1 = n) ∨ (decode cc pc = .ok (.lstore k, 2) ∧ pc + 2 = n)) : gN G p l e R s m args below meth c nL h0 pc (zi_lst d k n) := by
  intro Q ls st h g hf h1 h2 hk H locs la hI hL hF
  unfold zi_lst at hf
  split at hf
  · split at hf
    · rename_i l hl
      cases hf
      rcases hd with ⟨q, rfl, hd, rfl⟩ | ⟨hd, rfl⟩
      · exact lv_lstore_n hx hb hd rfl hL.has hkn rfl (fun la' h' => hk H locs la' hI (gL.st2 hL.2.2.1 h' hl) hF)
      · exact lv_lstore hx hb hd hL.has hkn rfl (fun la' h' => hk H locs la' hI (gL.st2 hL.2.2.1 h' hl) hF)
    · cases hf
  · cases hf
theorem gn_inc {k : Nat} {z : Int} {x : Int32} (hx : p.tables.exec = Jvm.exec) (hb : c.code = cc) (hkn : k < nL) (hd : decode cc pc = .ok (.iinc k z, 3)) (hz : Int32.ofInt z = x) (hn : pc + 3 = n) : gN G p l e R s m args below meth c nL h0 pc (zi_inc k x n) := by
  subst hn
  subst hz
  intro Q ls st h g hf h1 h2 hk H locs la hI hL hF
  unfold zi_inc at hf
  split at hf
  · rename_i y hy
    split at hf
    · rename_i l hl
      cases hf
      have hm : (k, Value.int y) ∈ gLs ls := gLs_mem.mpr ⟨hy, fun z => by cases z⟩
      obtain ⟨j, hj⟩ := List.getElem?_of_mem hm
      refine lv_iinc hx hb hd hL.has hj rfl hkn rfl (fun la' h' => hk H locs la' hI ?_ hF)
      obtain ⟨h3, h4⟩ := zset_nth _ _ _ _ hl
      refine ⟨h'.1, h'.2.1, by rw [h4, hL.2.2.1], fun k2 v2 hk2 hv2 => ?_⟩
      rw [h3 k2] at hk2
      by_cases hkk : k2 = k
      · rw [if_pos hkk] at hk2
        cases hk2
        rw [hkk]; exact h'.2.2 _ List.mem_cons_self
      · rw [if_neg hkk] at hk2
        refine h'.2.2 (k2, v2) (List.mem_cons_of_mem _ (List.mem_filter.mpr ⟨gLs_mem.mpr ⟨hk2, hv2⟩, ?_⟩))
        simp only [Bool.and_eq_true, Bool.not_eq_true', beq_eq_false_iff_ne, Bool.and_eq_false_iff, ne_eq]
        refine ⟨hkk, ?_⟩
        by_cases h9 : k2 + 1 = k
        · refine Or.inr (fun q => ?_)
          have hs := hL.2.1.1 k2 v2 (hL.2.2.2 k2 v2 hk2 hv2) q
          have hi := hL.2.2.2 k _ hy (fun z => by cases z)
          rw [h9, hi] at hs
          cases hs
        · exact Or.inl h9
    · cases hf
  · cases hf
end GR
