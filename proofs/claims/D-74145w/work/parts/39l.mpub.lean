/-! THE MODEL's PUBLIC METHODS: things that are told -/
/-- the text that is read -/
def mTx (T : List Nat) (σ : mS) : Prop := σ.sz = T.length ∧ (∀ k, k < T.length → σ.tx k = T.getD k 0) ∧ T.length ≤ 600 ∧ (∀ x ∈ T, x < 256)
/-- the same but for here, things and thrown -/
def mPe (σ τ : mS) : Prop := τ.bi = σ.bi ∧ τ.li = σ.li ∧ τ.de = σ.de ∧ τ.ma = σ.ma ∧ τ.mm = σ.mm ∧ τ.ra = σ.ra ∧ τ.tm = σ.tm ∧ τ.mo = σ.mo ∧ τ.tx = σ.tx ∧ τ.ty = σ.ty ∧ τ.ro = σ.ro ∧ τ.rm = σ.rm ∧ τ.sz = σ.sz
theorem mPe.rf (σ : mS) : mPe σ σ := ⟨rfl, rfl, rfl, rfl, rfl, rfl, rfl, rfl, rfl, rfl, rfl, rfl, rfl⟩
theorem mPe.trans {a b c : mS} (h : mPe a b) (g : mPe b c) : mPe a c := by
  obtain ⟨h1, h2, h3, h4, h5, h6, h7, h8, h9, h10, h11, h12, h13⟩ := h
  obtain ⟨g1, g2, g3, g4, g5, g6, g7, g8, g9, g10, g11, g12, g13⟩ := g
  exact ⟨g1.trans h1, g2.trans h2, g3.trans h3, g4.trans h4, g5.trans h5, g6.trans h6, g7.trans h7, g8.trans h8, g9.trans h9, g10.trans h10, g11.trans h11, g12.trans h12, g13.trans h13⟩
theorem mPe_hr (σ : mS) (v : Nat) : mPe σ (σ.s_hr v) := ⟨rfl, rfl, rfl, rfl, rfl, rfl, rfl, rfl, rfl, rfl, rfl, rfl, rfl⟩
theorem mPe_tg (σ : mS) (v : Nat → Int32) : mPe σ (σ.s_tg v) := ⟨rfl, rfl, rfl, rfl, rfl, rfl, rfl, rfl, rfl, rfl, rfl, rfl, rfl⟩
theorem mPe_tn (σ : mS) (v : Nat) : mPe σ (σ.s_tn v) := ⟨rfl, rfl, rfl, rfl, rfl, rfl, rfl, rfl, rfl, rfl, rfl, rfl, rfl⟩
theorem mTx.pe {T : List Nat} {σ τ : mS} (h : mTx T σ) (e : mPe σ τ) : mTx T τ := by
  obtain ⟨h1, h2, h3, h4⟩ := h
  obtain ⟨g1, g2, g3, g4, g5, g6, g7, g8, g9, g10, g11, g12, g13⟩ := e
  exact ⟨g13.trans h1, fun k hk => by rw [g9]; exact h2 k hk, h3, h4⟩
theorem mR6.pe {S : kS} {σ τ : mS} (h : mR6 S σ) (e : mPe σ τ) : mR6 S τ := by
  obtain ⟨h1, h2, h3, h4, h5, h6, h7⟩ := h
  obtain ⟨g1, g2, g3, g4, g5, g6, g7, g8, g9, g10, g11, g12, g13⟩ := e
  exact ⟨fun c hc => (h1 c hc).eqs g1 g2 g3 g5 g4 g6, g7.trans h2, g8.trans h3, g10.trans h4, fun k hk => by rw [g9]; exact h5 k hk, g12.trans h6, fun k hk => by rw [g11]; exact h7 k hk⟩
def ksee (T : List Nat) (i : Nat) : Int32 := if i < T.length then nI (T.getD i 0) else -1
theorem t_sees {α : Nat → Nat} (hα : mD α) (σ : mS) (h : zH) {T : List Nat} (hT : mTx T σ) (hh : σ.hr ≤ T.length) : zc PG mX3_sees [.ref (α 0)] (mH α σ h) = some (.inl (some (.int (ksee T σ.hr))), mH α σ h) := by
  obtain ⟨h1, h2, h3, h4⟩ := hT
  unfold ksee
  by_cases e : σ.hr < T.length
  · have hx := h2 σ.hr e
    have hb : T.getD σ.hr 0 < 256 := h4 _ (kget_mem e)
    have hm : sb_b (T.getD σ.hr 0) &&& nI 255 = nI (T.getD σ.hr 0) := (sb_byte _ hb).1
    rw [if_pos e]
    simp (disch := omega) only [eX3_sees, uX3_sees, mG, mP hα, mR hα, mW hα, mgs, zKK, zB, zBl, zBb, zlg, zA, zA3, zL3, km31, km63, klshr, kishr, k2p, kl1shl, klmask, kland1, kiand1, k_l2i, zrt_b, zrt_0, zrt_1, zdv_n, zdv_l, h1, hx, hm]
  · rw [if_neg e]
    simp (disch := omega) only [eX3_sees, uX3_sees, mG, mP hα, mR hα, mW hα, mgs, zKK, zB, zBl, zBb, zlg, zA, zA3, zL3, km31, km63, klshr, kishr, k2p, kl1shl, klmask, kland1, kiand1, k_l2i, zrt_b, zrt_0, zrt_1, zdv_n, zdv_l, h1]
def kisd (T : List Nat) (i : Nat) : Bool := decide (i < T.length ∧ 48 ≤ T.getD i 0 ∧ T.getD i 0 ≤ 57)
theorem kbd_n1 (lo hi : Nat) : kbd (-1) lo hi = false := kbd_f (fun q => by
  have h1 : ((-1 : Int32)).toInt = -1 := by decide
  have := q.1
  omega)
theorem ksee_in (T : List Nat) (i : Nat) (h4 : ∀ x ∈ T, x < 256) : kbd (ksee T i) 48 57 = kisd T i := by
  unfold ksee kisd
  by_cases e : i < T.length
  · have hb : T.getD i 0 < 256 := h4 _ (kget_mem e)
    rw [if_pos e]
    by_cases e2 : 48 ≤ T.getD i 0 ∧ T.getD i 0 ≤ 57
    · rw [kbd_nI e2.1 e2.2 (by omega), decide_eq_true ⟨e, e2⟩]
    · rw [kbd_f (kbt_n (by omega) (by omega)), decide_eq_false (fun q => e2 q.2)]
  · rw [if_neg e, kbd_n1, decide_eq_false (fun q => e q.1)]
def knm (T : List Nat) : Nat → Nat → Int32 → Nat × Int32
  | 0, i, v => (i, v)
  | n + 1, i, v => if kisd T i then knm T n (i + 1) (nI 10 * v + nI (T.getD i 0) - nI 48) else (i, v)
theorem knm_ge (T : List Nat) (n : Nat) : ∀ i v, i ≤ (knm T n i v).1 ∧ (knm T n i v).1 ≤ i + n ∧ (i ≤ T.length → (knm T n i v).1 ≤ T.length) := by
  induction n with
  | zero => intro i v; exact ⟨Nat.le_refl _, Nat.le_refl _, fun q => q⟩
  | succ n ih =>
    intro i v
    unfold knm
    cases e : kisd T i with
    | false => exact ⟨Nat.le_refl _, by simp, fun q => q⟩
    | true =>
      simp only [if_true]
      obtain ⟨h1, h2, h3⟩ := ih (i + 1) (nI 10 * v + nI (T.getD i 0) - nI 48)
      have hi : i < T.length := (of_decide_eq_true e).1
      exact ⟨by omega, by omega, fun _ => h3 (by omega)⟩
theorem t_num_loop {α : Nat → Nat} (hα : mD α) (h : zH) {T : List Nat} (b : Int32) (n : Nat) : ∀ (i : Nat) (v : Int32) (τ : mS), n ≤ 9 → mTx T τ → τ.hr = i → i ≤ T.length → ∃ τ', zs PG mX3_readsNumber 33 [.ref (α 0), .int b, .int v, .int (nI (9 - n))] [] (mH α τ h) = zs PG mX3_readsNumber 85 [.ref (α 0), .int b, .int (knm T n i v).2, .int (nI (9 - n + ((knm T n i v).1 - i)))] [] (mH α τ' h) ∧ mPe τ τ' ∧ τ'.hr = (knm T n i v).1 ∧ τ'.tn = τ.tn ∧ τ'.tg = τ.tg := by
  induction n with
  | zero =>
    intro i v τ hn hT hh hi
    refine ⟨τ, ?_, mPe.rf τ, hh, rfl, rfl⟩
    rw [uX3_readsNumber_at33, knm]
    simp (disch := omega) only [uX3_readsNumber_at34, uX3_readsNumber_at36, zKK, zB, Nat.sub_self, Nat.add_zero]
  | succ n ih =>
    intro i v τ hn hT hh hi
    have es := t_sees hα τ h hT (by rw [hh]; exact hi)
    rw [hh] at es
    have ek := ksee_in T i hT.2.2.2
    rw [uX3_readsNumber_at33]
    unfold knm
    cases e : kisd T i with
    | false =>
      rw [e] at ek
      simp only [Bool.false_eq_true, if_false]
      refine ⟨τ, ?_, mPe.rf τ, hh, rfl, rfl⟩
      simp (disch := omega) only [uX3_readsNumber_p0, uX3_readsNumber_p1, mG, mP hα, mR hα, mW hα, mgs, zKK, zB, zBl, zBb, zlg, zA, zA3, zL3, km31, km63, klshr, kishr, k2p, kl1shl, klmask, kland1, kiand1, k_l2i, zrt_b, zrt_0, zrt_1, zdv_n, zdv_l, es, t_ini, ek, Nat.sub_self, Nat.add_zero]
    | true =>
      rw [e] at ek
      have hi' : i < T.length := (of_decide_eq_true e).1
      have hs : ksee T i = nI (T.getD i 0) := if_pos hi'
      have hb : T.getD i 0 < 256 := hT.2.2.2 _ (kget_mem hi')
      rw [hs] at es ek
      simp only [if_true]
      obtain ⟨τ', r1, r2, r3, r4, r5⟩ := ih (i + 1) (nI 10 * v + nI (T.getD i 0) - nI 48) (τ.s_hr (i + 1)) (by omega) (hT.pe (mPe_hr τ _)) (by simp only [mgs]) (by omega)
      simp only [mgs] at r4 r5
      refine ⟨τ', ?_, (mPe_hr τ _).trans r2, r3, r4, r5⟩
      obtain ⟨k1, k2, k3⟩ := knm_ge T n (i + 1) (nI 10 * v + nI (T.getD i 0) - nI 48)
      rw [show 9 - (n + 1) + ((knm T n (i + 1) (nI 10 * v + nI (T.getD i 0) - nI 48)).1 - i) = 9 - n + ((knm T n (i + 1) (nI 10 * v + nI (T.getD i 0) - nI 48)).1 - (i + 1)) by omega, ← r1]
      rw [show 9 - n = 9 - (n + 1) + 1 by omega]
      simp (disch := omega) only [uX3_readsNumber_p0, uX3_readsNumber_p1, mG, mP hα, mgs, zKK, zB, zBb, zA, nI_l, es, t_inN, ek, hh]
def kneg (T : List Nat) (i : Nat) : Bool := decide (i < T.length ∧ T.getD i 0 = 45)
def ki1 (T : List Nat) (i : Nat) : Nat := if kneg T i then i + 1 else i
theorem ki1_le {T : List Nat} {i : Nat} (h : i ≤ T.length) : i ≤ ki1 T i ∧ ki1 T i ≤ T.length := by
  unfold ki1
  cases e : kneg T i with
  | false => exact ⟨Nat.le_refl _, h⟩
  | true =>
    have := (of_decide_eq_true e).1
    simp only [if_true]
    omega
theorem ksee_neg (T : List Nat) (i : Nat) (h4 : ∀ x ∈ T, x < 256) (c : Nat) (hc : c < 256) : (ksee T i = nI c) = (i < T.length ∧ T.getD i 0 = c) := by
  unfold ksee
  apply propext
  by_cases e : i < T.length
  · have hb : T.getD i 0 < 256 := h4 _ (kget_mem e)
    rw [if_pos e, nI_eq (by omega) (by omega)]
    exact ⟨fun q => ⟨e, q⟩, fun q => q.2⟩
  · rw [if_neg e]
    refine ⟨fun q => ?_, fun q => absurd q.1 e⟩
    have := congrArg Int32.toInt q
    rw [nI_toInt (by omega)] at this
    have h1 : ((-1 : Int32)).toInt = -1 := by decide
    omega
def kval (T : List Nat) (i : Nat) : Int32 := if kneg T i then -(knm T 9 (ki1 T i) (nI 0)).2 else (knm T 9 (ki1 T i) (nI 0)).2
theorem t_readsNumber {α : Nat → Nat} (hα : mD α) (σ : mS) (h : zH) {T : List Nat} (hT : mTx T σ) {i : Nat} (hh : σ.hr = i) (hi : i ≤ T.length) (htn : σ.tn < 600) : ∃ τ, zc PG mX3_readsNumber [.ref (α 0)] (mH α σ h) = some (.inl (some (.int (zb (kisd T (ki1 T i))))), mH α τ h) ∧ mPe σ τ ∧ τ.hr = (knm T 9 (ki1 T i) (nI 0)).1 ∧ τ.tn = σ.tn + 1 ∧ τ.tg = va_up σ.tg σ.tn (kval T i) := by
  have es := t_sees hα σ h hT (by rw [hh]; exact hi)
  rw [hh] at es
  have ek := ksee_neg T i hT.2.2.2 45 (by decide)
  obtain ⟨p1, p2⟩ := ki1_le hi
  have go : ∀ (b : Bool) (τ0 : mS), mPe σ τ0 → τ0.hr = ki1 T i → τ0.tn = σ.tn → τ0.tg = σ.tg → kneg T i = b → ∃ τ, zs PG mX3_readsNumber 33 [.ref (α 0), .int (zb b), .int (nI 0), .int (nI 0)] [] (mH α τ0 h) = some (.inl (some (.int (zb (kisd T (ki1 T i))))), mH α τ h) ∧ mPe σ τ ∧ τ.hr = (knm T 9 (ki1 T i) (nI 0)).1 ∧ τ.tn = σ.tn + 1 ∧ τ.tg = va_up σ.tg σ.tn (kval T i) := by
    intro b τ0 e0 q1 q2 q3 hb
    obtain ⟨τ1, r1, r2, r3, r4, r5⟩ := t_num_loop hα h (zb b) 9 (ki1 T i) (nI 0) τ0 (Nat.le_refl _) (hT.pe e0) q1 p2
    rw [Nat.sub_self, Nat.zero_add] at r1
    obtain ⟨k1, k2, k3⟩ := knm_ge T 9 (ki1 T i) (nI 0)
    have hpos : (0 < (knm T 9 (ki1 T i) (nI 0)).1 - ki1 T i) ↔ kisd T (ki1 T i) = true := by
      cases e : kisd T (ki1 T i) with
      | false => rw [knm, e]; simp
      | true =>
        rw [knm, e]
        simp only [if_true]
        have := (knm_ge T 8 (ki1 T i + 1) (nI 10 * nI 0 + nI (T.getD (ki1 T i) 0) - nI 48)).1
        exact ⟨fun _ => trivial, fun _ => by omega⟩
    have r4' : τ1.tn = σ.tn := r4.trans q2
    have r5' : τ1.tg = σ.tg := r5.trans q3
    refine ⟨(τ1.s_tg (va_up σ.tg σ.tn (kval T i))).s_tn (σ.tn + 1), ?_, ((e0.trans r2).trans (mPe_tg τ1 _)).trans (mPe_tn _ _), by simp only [mgs]; exact r3, by simp only [mgs], by simp only [mgs]⟩
    rw [r1]
    unfold kval
    rw [hb]
    cases hk : kisd T (ki1 T i) with
    | false =>
      have hz : (knm T 9 (ki1 T i) (nI 0)).1 - ki1 T i = 0 := by
        have : ¬ 0 < (knm T 9 (ki1 T i) (nI 0)).1 - ki1 T i := fun q => by have := hpos.mp q; rw [hk] at this; cases this
        omega
      cases b with
      | false => simp (disch := omega) only [uX3_readsNumber_p0, uX3_readsNumber_p1, mG, mP hα, mW hα, mgs, zKK, zB, zBb, zA, zrt_0, r4', r5', hz, zb_f, Bool.false_eq_true, if_false]
      | true => simp (disch := omega) only [uX3_readsNumber_p0, uX3_readsNumber_p1, mG, mP hα, mW hα, mgs, zKK, zB, zBb, zA, zrt_0, r4', r5', hz, zb_f, if_true]
    | true =>
      have hz := hpos.mpr hk
      cases b with
      | false => simp (disch := omega) only [uX3_readsNumber_p0, uX3_readsNumber_p1, mG, mP hα, mW hα, mgs, zKK, zB, zBb, zA, zrt_1, r4', r5', zb_t, Bool.false_eq_true, if_false]
      | true => simp (disch := omega) only [uX3_readsNumber_p0, uX3_readsNumber_p1, mG, mP hα, mW hα, mgs, zKK, zB, zBb, zA, zrt_1, r4', r5', zb_t, if_true]
  cases e : kneg T i with
  | false =>
    have e' : ¬ (i < T.length ∧ T.getD i 0 = 45) := of_decide_eq_false e
    rw [eq_false e'] at ek
    obtain ⟨τ, g1, g2⟩ := go false σ (mPe.rf σ) (by rw [hh]; unfold ki1; rw [e]; rfl) rfl rfl e
    refine ⟨τ, ?_, g2⟩
    rw [zb_f] at g1
    simp (disch := omega) only [eX3_readsNumber, uX3_readsNumber_p0, uX3_readsNumber_p1, mG, mP hα, mR hα, mW hα, mgs, zKK, zB, zBl, zBb, zlg, zA, zA3, zL3, km31, km63, klshr, kishr, k2p, kl1shl, klmask, kland1, kiand1, k_l2i, zrt_b, zrt_0, zrt_1, zdv_n, zdv_l, es, ek, g1]
  | true =>
    have e' : i < T.length ∧ T.getD i 0 = 45 := of_decide_eq_true e
    rw [eq_true e'] at ek
    obtain ⟨τ, g1, g2⟩ := go true (σ.s_hr (i + 1)) (mPe_hr σ _) (by simp only [mgs]; unfold ki1; rw [e]; rfl) (by simp only [mgs]) (by simp only [mgs]) e
    refine ⟨τ, ?_, g2⟩
    rw [zb_t] at g1
    simp (disch := omega) only [eX3_readsNumber, uX3_readsNumber_p0, uX3_readsNumber_p1, mG, mP hα, mR hα, mW hα, mgs, zKK, zB, zBl, zBb, zlg, zA, zA3, zL3, km31, km63, klshr, kishr, k2p, kl1shl, klmask, kland1, kiand1, k_l2i, zrt_b, zrt_0, zrt_1, zdv_n, zdv_l, es, ek, hh, g1]
/-- the things of a text from i on: all of them, or where it stops -/
def kth (T : List Nat) : Nat → Nat → List Int32 → Option (List Int32) × Nat
  | 0, i, _ => (none, i)
  | f + 1, i, L => if kisd T (ki1 T i) then (if (knm T 9 (ki1 T i) (nI 0)).1 = T.length then (some (L ++ [kval T i]), T.length) else if T.getD (knm T 9 (ki1 T i) (nI 0)).1 0 = 44 then kth T f ((knm T 9 (ki1 T i) (nI 0)).1 + 1) (L ++ [kval T i]) else (none, (knm T 9 (ki1 T i) (nI 0)).1)) else (none, ki1 T i)
def kpt (T : List Nat) : Option (List Int32) × Nat := if T.length = 0 then (some [], 0) else kth T (T.length + 1) 0 []
/-- the things read so far -/
def mTg (L : List Int32) (σ : mS) : Prop := σ.tn = L.length ∧ ∀ k, k < L.length → σ.tg k = L.getD k 0
theorem kapp_get32 (A : List Int32) (x : Int32) (k : Nat) : (A ++ [x]).getD k 0 = if k < A.length then A.getD k 0 else if k = A.length then x else 0 := by
  by_cases e : k < A.length
  · rw [if_pos e, List.getD_eq_getElem?_getD, List.getElem?_append_left e, List.getD_eq_getElem?_getD]
  · rw [if_neg e]
    by_cases e2 : k = A.length
    · rw [if_pos e2, e2, List.getD_eq_getElem?_getD, List.getElem?_append_right (Nat.le_refl _), Nat.sub_self]; rfl
    · rw [if_neg e2, List.getD_eq_getElem?_getD, List.getElem?_eq_none (by rw [List.length_append, List.length_singleton]; omega)]; rfl
theorem t_things_told {α : Nat → Nat} (hα : mD α) (h : zH) {T : List Nat} (f : Nat) : ∀ (i : Nat) (L : List Int32) (σ : mS), mTx T σ → σ.hr = i → i ≤ T.length → T.length + 1 ≤ f + i → 2 * L.length ≤ i → mTg L σ → ∃ τ, zs PG mX3_readsThings 14 [.ref (α 0)] [] (mH α σ h) = some (.inl (some (.int (zb (kth T f i L).1.isSome))), mH α τ h) ∧ mPe σ τ ∧ τ.hr = (kth T f i L).2 ∧ (∀ M, (kth T f i L).1 = some M → mTg M τ ∧ M.length ≤ 600) := by
  induction f with
  | zero => intro i L σ _ _ hi hf; omega
  | succ f ih =>
    intro i L σ hT hh hi hf hL hG
    have h600 := hT.2.2.1
    obtain ⟨τ, q1, q2, q3, q4, q5⟩ := t_readsNumber hα σ h hT hh hi (by rw [hG.1]; omega)
    have hT2 := hT.pe q2
    obtain ⟨p1, p2⟩ := ki1_le hi
    obtain ⟨k1, k2, k3⟩ := knm_ge T 9 (ki1 T i) (nI 0)
    have k3 := k3 p2
    have hsz : τ.sz = T.length := hT2.1
    have G2 : mTg (L ++ [kval T i]) τ := by
      refine ⟨by rw [q4, hG.1, List.length_append]; rfl, fun k hk => ?_⟩
      rw [List.length_append, List.length_singleton] at hk
      rw [q5, kapp_get32, hG.1]
      unfold va_up
      by_cases e : k = L.length
      · rw [if_pos e, if_neg (by omega), if_pos e]
      · rw [if_neg e, if_pos (by omega), hG.2 k (by omega)]
    rw [uX3_readsThings_at14]
    unfold kth
    cases e : kisd T (ki1 T i) with
    | false =>
      rw [e] at q1
      have hn : (knm T 9 (ki1 T i) (nI 0)).1 = ki1 T i := by rw [knm, e]; rfl
      rw [hn] at q3
      simp only [Bool.false_eq_true, if_false]
      refine ⟨τ, ?_, q2, q3, (fun M q => by cases q)⟩
      simp (disch := omega) only [uX3_readsThings, mG, mP hα, mR hα, mW hα, mgs, zKK, zB, zBl, zBb, zlg, zA, zA3, zL3, km31, km63, klshr, kishr, k2p, kl1shl, klmask, kland1, kiand1, k_l2i, zrt_b, zrt_0, zrt_1, zdv_n, zdv_l, q1, Option.isSome_none, zb_f]
    | true =>
      rw [e] at q1
      simp only [if_true]
      by_cases e2 : (knm T 9 (ki1 T i) (nI 0)).1 = T.length
      · rw [if_pos e2]
        rw [e2] at q3
        refine ⟨τ, ?_, q2, q3, fun M q => by cases q; exact ⟨G2, by rw [List.length_append, List.length_singleton]; omega⟩⟩
        simp (disch := omega) only [uX3_readsThings, mG, mP hα, mR hα, mW hα, mgs, zKK, zB, zBl, zBb, zlg, zA, zA3, zL3, km31, km63, klshr, kishr, k2p, kl1shl, klmask, kland1, kiand1, k_l2i, zrt_b, zrt_0, zrt_1, zdv_n, zdv_l, q1, q3, hsz, Option.isSome_some, zb_t]
      · rw [if_neg e2]
        have es := t_sees hα τ h hT2 (by rw [q3]; exact k3)
        rw [q3] at es
        have ek := ksee_neg T (knm T 9 (ki1 T i) (nI 0)).1 hT.2.2.2 44 (by decide)
        by_cases e3 : T.getD (knm T 9 (ki1 T i) (nI 0)).1 0 = 44
        · rw [if_pos e3]
          have e3' : (knm T 9 (ki1 T i) (nI 0)).1 < T.length ∧ T.getD (knm T 9 (ki1 T i) (nI 0)).1 0 = 44 := ⟨by omega, e3⟩
          rw [eq_true e3'] at ek
          have hlt : ki1 T i < (knm T 9 (ki1 T i) (nI 0)).1 := by
            rw [knm, e]
            simp only [if_true]
            have := (knm_ge T 8 (ki1 T i + 1) (nI 10 * nI 0 + nI (T.getD (ki1 T i) 0) - nI 48)).1
            omega
          obtain ⟨τ2, r1, r2, r3, r4⟩ := ih ((knm T 9 (ki1 T i) (nI 0)).1 + 1) (L ++ [kval T i]) (τ.s_hr ((knm T 9 (ki1 T i) (nI 0)).1 + 1)) (hT2.pe (mPe_hr τ _)) (by simp only [mgs]) (by omega) (by omega) (by rw [List.length_append, List.length_singleton]; omega) (by
            refine ⟨by simp only [mgs]; exact G2.1, fun k hk => by simp only [mgs]; exact G2.2 k hk⟩)
          refine ⟨τ2, ?_, (q2.trans (mPe_hr τ _)).trans r2, r3, r4⟩
          rw [← r1]
          simp (disch := omega) only [uX3_readsThings, mG, mP hα, mR hα, mW hα, mgs, zKK, zB, zBl, zBb, zlg, zA, zA3, zL3, km31, km63, klshr, kishr, k2p, kl1shl, klmask, kland1, kiand1, k_l2i, zrt_b, zrt_0, zrt_1, zdv_n, zdv_l, q1, q3, hsz, es, ek]
        · rw [if_neg e3]
          have e3' : ¬ ((knm T 9 (ki1 T i) (nI 0)).1 < T.length ∧ T.getD (knm T 9 (ki1 T i) (nI 0)).1 0 = 44) := fun q => e3 q.2
          rw [eq_false e3'] at ek
          refine ⟨τ, ?_, q2, q3, (fun M q => by cases q)⟩
          simp (disch := omega) only [uX3_readsThings, mG, mP hα, mR hα, mW hα, mgs, zKK, zB, zBl, zBb, zlg, zA, zA3, zL3, km31, km63, klshr, kishr, k2p, kl1shl, klmask, kland1, kiand1, k_l2i, zrt_b, zrt_0, zrt_1, zdv_n, zdv_l, q1, q3, hsz, es, ek, Option.isSome_none, zb_f]
theorem t_readsThings {α : Nat → Nat} (hα : mD α) (σ : mS) (h : zH) {T : List Nat} (hT : mTx T σ) (hh : σ.hr = 0) : ∃ τ, zc PG mX3_readsThings [.ref (α 0)] (mH α σ h) = some (.inl (some (.int (zb (kpt T).1.isSome))), mH α τ h) ∧ mPe σ τ ∧ τ.hr = (kpt T).2 ∧ (∀ M, (kpt T).1 = some M → mTg M τ ∧ M.length ≤ 600) := by
  have hsz : σ.sz = T.length := hT.1
  unfold kpt
  by_cases e : T.length = 0
  · rw [if_pos e]
    refine ⟨σ.s_tn 0, ?_, mPe_tn σ 0, by simp only [mgs]; exact hh, fun M q => by cases q; exact ⟨⟨by simp only [mgs]; rfl, fun k hk => absurd hk (Nat.not_lt_zero _)⟩, Nat.zero_le _⟩⟩
    simp (disch := omega) only [eX3_readsThings, uX3_readsThings, mG, mP hα, mR hα, mW hα, mgs, zKK, zB, zBl, zBb, zlg, zA, zA3, zL3, km31, km63, klshr, kishr, k2p, kl1shl, klmask, kland1, kiand1, k_l2i, zrt_b, zrt_0, zrt_1, zdv_n, zdv_l, hsz, e, Option.isSome_some, zb_t]
  · rw [if_neg e]
    have h600 := hT.2.2.1
    obtain ⟨τ, q1, q2, q3, q4⟩ := t_things_told hα h (T.length + 1) 0 [] (σ.s_tn 0) (hT.pe (mPe_tn σ 0)) (by simp only [mgs]; exact hh) (Nat.zero_le _) (by omega) (Nat.zero_le _) ⟨by simp only [mgs]; rfl, fun k hk => absurd hk (Nat.not_lt_zero _)⟩
    refine ⟨τ, ?_, (mPe_tn σ 0).trans q2, q3, q4⟩
    simp (disch := omega) only [eX3_readsThings, uX3_readsThings, mG, mP hα, mR hα, mW hα, mgs, zKK, zB, zBl, zBb, zlg, zA, zA3, zL3, km31, km63, klshr, kishr, k2p, kl1shl, klmask, kland1, kiand1, k_l2i, zrt_b, zrt_0, zrt_1, zdv_n, zdv_l, hsz, q1]
/-- the text is taken to be read -/
theorem t_begin {α : Nat → Nat} (hα : mD α) (σ : mS) (h : zH) {S : kS} (hR : mR6 S σ) (hI : kSI S) : ∃ τ, zc PG mX3_begin [.ref (α 0)] (mH α σ h) = some (.inl none, mH α τ h) ∧ mR6 (S.s_t []) τ ∧ mTx S.t τ ∧ τ.hr = 0 := by
  have h4 : σ.ty = S.t.length := hR.2.2.2.1
  refine ⟨((σ.s_sz S.t.length).s_ty 0).s_hr 0, ?_, ?_, ?_, by simp only [mgs]⟩
  · simp (disch := omega) only [eX3_begin, uX3_begin, mG, mP hα, mR hα, mW hα, mgs, zKK, zB, zBl, zBb, zlg, zA, zA3, zL3, km31, km63, klshr, kishr, k2p, kl1shl, klmask, kland1, kiand1, k_l2i, zrt_b, zrt_0, zrt_1, zdv_n, zdv_l, h4]
  · obtain ⟨h1, h2, h3, h4, h5, h6, h7⟩ := hR
    unfold mR6
    simp only [mgs]
    exact ⟨fun c hc => (h1 c hc).eqs (by simp only [mgs]) (by simp only [mgs]) (by simp only [mgs]) (by simp only [mgs]) (by simp only [mgs]) (by simp only [mgs]), h2, h3, rfl, fun k hk => absurd hk (Nat.not_lt_zero _), h6, h7⟩
  · unfold mTx
    simp only [mgs]
    exact ⟨trivial, hR.2.2.2.2.1, hI.2.1, hI.2.2.1⟩
theorem t_tells_loop {α : Nat → Nat} (hα : mD α) (h : zH) {c : Nat} (hc : c < 10) (L : List Int32) (hl : L.length ≤ 600) (tm mo : Int32) {C : kC} (hI : kI C) (j : Nat) : ∀ (k : Nat) (σ : mS), k + j = L.length → σ.tm = tm → σ.mo = mo → mTg L σ → mSl σ c (krn (fun k => kun (tm * L.getD k 0 + mo)) C k).1 → ∃ σ', zs PG mX3_tells 38 [.ref (α 0), .int (nI c), .int (nI (krn (fun k => kun (tm * L.getD k 0 + mo)) C k).2), .int (nI k)] [] (mH α σ h) = some (.inl (some (.int (nI (krn (fun k => kun (tm * L.getD k 0 + mo)) C L.length).2))), mH α σ' h) ∧ mSl σ' c (krn (fun k => kun (tm * L.getD k 0 + mo)) C L.length).1 ∧ mFr (fun d => d = c) σ σ' := by
  induction j with
  | zero =>
    intro k σ hk ht hm hG hs
    have hk : k = L.length := by omega
    subst hk
    have hn : σ.tn = L.length := hG.1
    refine ⟨σ, ?_, hs, mFr.rf _ _⟩
    rw [uX3_tells_at38]
    simp (disch := omega) only [uX3_tells, mG, mP hα, mR hα, mW hα, mgs, zKK, zB, zBl, zBb, zlg, zA, zA3, zL3, km31, km63, klshr, kishr, k2p, kl1shl, klmask, kland1, kiand1, k_l2i, zrt_b, zrt_0, zrt_1, zdv_n, zdv_l, hn]
  | succ j ih =>
    intro k σ hk ht hm hG hs
    have hn : σ.tn = L.length := hG.1
    have hg : σ.tg k = L.getD k 0 := hG.2 k (by omega)
    have hmk : mmk σ (L.getD k 0) = (fun k => kun (tm * L.getD k 0 + mo)) k := by unfold mmk; rw [ht, hm]
    obtain ⟨σ1, e1, s1, f1⟩ := t_comes hα σ h hc (kun_lt _ : (fun k => kun (tm * L.getD k 0 + mo)) k < 4294967296) hs (kI_rn (fun k => kun_lt _) hI k)
    obtain ⟨z1, z2, z3, z4, z5, z6, z7, z8, z9, z10, z11⟩ := f1.1
    obtain ⟨σ2, e2, s2, f2⟩ := ih (k + 1) σ1 (by omega) (z1.trans ht) (z2.trans hm) ⟨z9.trans hG.1, fun i hi => by rw [z8]; exact hG.2 i hi⟩ s1
    refine ⟨σ2, ?_, s2, f1.trans f2⟩
    rw [uX3_tells_at38, ← e2]
    rw [show (krn (fun k => kun (tm * L.getD k 0 + mo)) C (k + 1)).2 = (krn (fun k => kun (tm * L.getD k 0 + mo)) C k).2 + if kwould (krn (fun k => kun (tm * L.getD k 0 + mo)) C k).1 ((fun k => kun (tm * L.getD k 0 + mo)) k) then 1 else 0 from rfl]
    cases hw : kwould (krn (fun k => kun (tm * L.getD k 0 + mo)) C k).1 ((fun k => kun (tm * L.getD k 0 + mo)) k) with
    | true =>
      rw [hw] at e1
      simp (disch := omega) only [uX3_tells, mG, mP hα, mR hα, mW hα, mgs, zKK, zB, zBl, zBb, zlg, zA, zA3, zL3, km31, km63, klshr, kishr, k2p, kl1shl, klmask, kland1, kiand1, k_l2i, zrt_b, zrt_0, zrt_1, zdv_n, zdv_l, hn, hg, t_markOf hα, hmk, e1, if_true]
    | false =>
      rw [hw] at e1
      simp (disch := omega) only [uX3_tells, mG, mP hα, mR hα, mW hα, mgs, zKK, zB, zBl, zBb, zlg, zA, zA3, zL3, km31, km63, klshr, kishr, k2p, kl1shl, klmask, kland1, kiand1, k_l2i, zrt_b, zrt_0, zrt_1, zdv_n, zdv_l, hn, hg, t_markOf hα, hmk, e1, Bool.false_eq_true, if_false]
def q_tells (S : kS) (c : Int32) : Int32 × kS := match kpt S.t with
  | (none, p) => ((-2000) - nI p, S.s_t [])
  | (some L, _) => if kbd c 0 5 then (nI (krn (fun k => kun (S.a * L.getD k 0 + S.b)) (S.c (kN c)) L.length).2, (S.s_t []).s_c (kN c) (krn (fun k => kun (S.a * L.getD k 0 + S.b)) (S.c (kN c)) L.length).1) else (-1, S.s_t [])
theorem M_tells {α : Nat → Nat} (hα : mD α) (σ : mS) (h : zH) {S : kS} (hR : mR6 S σ) (hI : kSI S) (c : Int32) : ∃ σ', zc PG mX3_tells [.ref (α 0), .int c] (mH α σ h) = some (.inl (some (.int (q_tells S c).1)), mH α σ' h) ∧ mR6 (q_tells S c).2 σ' := by
  unfold q_tells
  obtain ⟨τ1, q1, R1, T1, hr1⟩ := t_begin hα (σ.s_th 0) h (hR.th 0) hI
  obtain ⟨τ2, q2, e2, hr2, hM⟩ := t_readsThings hα τ1 h T1 hr1
  have R2 := R1.pe e2
  cases ek : kpt S.t with
  | mk o p =>
    rw [ek] at q2 hr2 hM
    cases o with
    | none =>
      have hr2 : τ2.hr = p := hr2
      refine ⟨τ2, ?_, R2⟩
      simp (disch := omega) only [eX3_tells, uX3_tells, mG, mP hα, mR hα, mW hα, mgs, zKK, zB, zBl, zBb, zlg, zA, zA3, zL3, km31, km63, klshr, kishr, k2p, kl1shl, klmask, kland1, kiand1, k_l2i, zrt_b, zrt_0, zrt_1, zdv_n, zdv_l, q1, q2, Option.isSome_none, hr2]
    | some L =>
      obtain ⟨hG, hl⟩ := hM L rfl
      rcases kbd_cases c 0 5 with e1 | ⟨c, -, hc, rfl⟩
      · simp only [e1, Bool.false_eq_true, if_false]
        refine ⟨τ2, ?_, R2⟩
        simp (disch := omega) only [eX3_tells, uX3_tells, mG, mP hα, mR hα, mW hα, mgs, zKK, zB, zBl, zBb, zlg, zA, zA3, zL3, km31, km63, klshr, kishr, k2p, kl1shl, klmask, kland1, kiand1, k_l2i, zrt_b, zrt_0, zrt_1, zdv_n, zdv_l, q1, q2, Option.isSome_some, t_isCounter, e1]
      · have e1 := kbd_nI (Nat.zero_le c) hc (by omega)
        simp only [e1, if_true]
        rw [kN_nI (by omega)]
        obtain ⟨σ3, r1, r2, r3⟩ := t_tells_loop hα h (c := c) (by omega) L hl S.a S.b (hI.1 c (by omega)) L.length 0 τ2 (by omega) R2.2.1 R2.2.2.1 hG (R2.1 c (by omega))
        rw [show (krn (fun k => kun (S.a * L.getD k 0 + S.b)) (S.c c) 0).2 = 0 from rfl] at r1
        refine ⟨σ3, ?_, R2.one r3 r2⟩
        simp (disch := omega) only [eX3_tells, uX3_tells, mG, mP hα, mR hα, mW hα, mgs, zKK, zB, zBl, zBb, zlg, zA, zA3, zL3, km31, km63, klshr, kishr, k2p, kl1shl, klmask, kland1, kiand1, k_l2i, zrt_b, zrt_0, zrt_1, zdv_n, zdv_l, q1, q2, Option.isSome_some, t_isCounter, e1, r1]
