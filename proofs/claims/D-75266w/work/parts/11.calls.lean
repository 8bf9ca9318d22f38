/-! CONTRACTS over the pure heap; calls, returns, throws, branches -/
def jj_Qc (G : jj_G) (N : Option jj_AV → jj_H → Prop) : Array Value → State → Outcome → State → Prop := fun _ st o t => ∃ (v : Option jj_AV) (h' : jj_H), o = .returned (v.map jj_v) ∧ N v h' ∧ jj_R G h' t.heap ∧ va_F (fun q => jj_gb G ≤ q) st t
def jj_Xc (G : jj_G) (XN : String → Nat → jj_H → Prop) : String → Addr → State → State → Prop := fun E q st t => ∃ h' : jj_H, XN E q h' ∧ jj_R G h' t.heap ∧ va_F (fun q => jj_gb G ≤ q) st t
def jj_Pc (G : jj_G) (h : jj_H) : State → Prop := fun U => jj_K G U ∧ jj_R G h U.heap
/-- a method's contract at given arguments and heap: K credits are enough -/
def jj_Ct (G : jj_G) (l : Launch) (y : MethodName) (ws : List Cond) (fr lo : Nat) (As : List jj_AV) (h : jj_H) (K : Nat) (N : Option jj_AV → jj_H → Prop) (XN : String → Nat → jj_H → Prop) : Prop :=
  vx_Met l y ws { frames := fr, cells := K, slots := 4 * K, locals := lo } (va_Pc (As.map jj_v) (jj_Pc G h)) (jj_Qc G N) (jj_Xc G XN) K (4 * K) (fun q => jj_gb G ≤ q)
/-- what the frame's end owes -/
def jj_M (X : jj_X) (ret : Option FieldType) (fr lo : Nat) (N : Option jj_AV → jj_H → Prop) (XN : String → Nat → jj_H → Prop) : Prop := match X with
  | (G, p, l, e, R, s, m, args, below, meth, c, Q, A) => meth.sig.returnType = ret ∧ R.frames = fr ∧ R.locals = lo ∧ Q = vx_MQ below (jj_Qc G N) (jj_Xc G XN) args s R.cells R.slots (fun q => jj_gb G ≤ q) ∧ l.stackTraces = false
/-- no handler in this method -/
def jj_no (X : jj_X) : Prop := ∀ x ∈ X.2.2.2.2.2.2.2.2.2.2.1.exceptionTable.toList, False
def jj_ar : Nat → List jj_AV → List (Nat × jj_AV)
  | _, [] => []
  | i, v :: vs => (i, v) :: jj_ar (if jj_2 v = true then i + 2 else i + 1) vs
theorem jj_ar_lv (vs : List jj_AV) : ∀ i, lv_args i (vs.map jj_v) = jj_lv (jj_ar i vs) := by
  induction vs with
  | nil => intro i; rfl
  | cons v vs ih =>
    intro i
    show (i, jj_v v) :: lv_args _ _ = (i, jj_v v) :: jj_lv _
    rw [jj_2_cat, ih]
    cases jj_2 v <;> rfl
def jj_len : List jj_AV → Nat
  | [] => 0
  | v :: vs => (if jj_2 v = true then 2 else 1) + jj_len vs
theorem jj_len_lg (vs : List jj_AV) : (lg_sl (vs.map jj_v)).length = jj_len vs := by
  induction vs with
  | nil => rfl
  | cons v vs ih =>
    have e : lg_sl ((v :: vs).map jj_v) = (if (jj_v v).category = 2 then [Slot.val (jj_v v), .second] else [.val (jj_v v)]) ++ lg_sl (vs.map jj_v) := by simp [lg_sl]
    rw [e, List.length_append, ih, jj_2_cat]
    cases hv : jj_2 v <;> simp [jj_len, hv]
theorem jj_plus {A : Nat → Prop} {st t : State} {H : Heap} (hS : va_S A st.heap H []) (ht : t.heap = H) : va_F A st t := ⟨by rw [ht]; exact hS.1, fun q h1 h2 => by rw [ht]; exact hS.2.1 q h1 h2⟩
theorem jj_S_F {A : Nat → Prop} {st t : State} {H : Heap} {locs : List Loc} (hS : va_S A st.heap H locs) (ht : t.heap = H) : va_F A st t := ⟨by rw [ht]; exact hS.1, fun q h1 h2 => by rw [ht]; exact hS.2.1 q h1 h2⟩
/-- a contract out of a walk of the body -/
theorem jj_Ct.of {G : jj_G} {l : Launch} (hl : l.stackTraces = false) {y : MethodName} {cc : ByteArray} {maxL : Nat} {ret : Option FieldType} {fr lo : Nat} {As : List jj_AV} {h : jj_H} {K : Nat} {N : Option jj_AV → jj_H → Prop} {XN : String → Nat → jj_H → Prop} {vs : List (Nat × jj_AV)}
    (hy : plainName y.cls = true) (hlen : jj_len As ≤ maxL) (hvs : jj_ar 0 As = vs)
    (body : ∀ X : jj_X, X.1 = G → X.2.2.1 = l → jj_F X y.cls cc maxL → jj_M X ret fr lo N XN → jj_no X → (X.2.2.2.2.2.2.2.2.2.1.name = y.name) → jj_J X maxL 0 vs [] h K) : jj_Ct G l y (ws_ y cc maxL ret) fr lo As h K N XN := by
  subst hvs
  refine vx_ofW (cc := cc) (maxL := maxL) (ret := ret) hy rfl ?_
  intro p e s m args below meth c s₁ B hml hno hv
  obtain ⟨rfl, hK, hR⟩ := hv
  have hts := atoms_spec (ws := ws_ y cc maxL ret) B.pre
  have hts : ∀ w ∈ lw_all, w.before _ s = true := fun w h => hts w (List.mem_cons_of_mem _ h)
  have hown : s.vm.findClass y.cls = some m.cls := findClass_of_methodNamed B.named
  have hnm : meth.name = y.name := (name_of_methodNamed B.named B.method).1
  have hl := lv_entry (As.map jj_v) (n := maxL) (by rw [jj_len_lg]; exact hlen)
  rw [lg_entry_eq]
  rw [jj_ar_lv] at hl
  exact body (G, p, l, e, { frames := fr, cells := K, slots := 4 * K, locals := lo }, s, m, (As.map jj_v).toArray, below, meth, c, _, (fun _ => True)) rfl rfl ⟨B.exec, B.bytes, hml, hown, hts, hK, B.notSynchronized, hR.1, hR.2.1⟩ ⟨B.returns, rfl, rfl, rfl, by assumption⟩ (fun x hx => hno x hx) hnm s.heap [] 0 0 _ hR va_S.rf (by simp) (by simp) hl
section RC
variable {X : jj_X} {own : String} {cc : ByteArray} {nL pc : Nat} {vs : List (Nat × jj_AV)} {st : List jj_AV} {h : jj_H} {k : Nat} {ret : Option FieldType} {fr lo : Nat} {N : Option jj_AV → jj_H → Prop} {XN : String → Nat → jj_H → Prop}
theorem jr_iret (F : jj_F X own cc nL) (M : jj_M X (some .int) fr lo N XN) {x : Int} (hd : decode cc pc = .ok (.ireturn, 1)) (hN : N (some (.inl x)) h) : jj_J X nL pc vs [.inl x] h k := by
  obtain ⟨G, p, l, e, R, s, m, args, below, meth, c, Q, A⟩ := X
  obtain ⟨hx, hb, hml, ho, hts, hK, hlk, hz, hold⟩ := F
  obtain ⟨hr, -, -, rfl, -⟩ := M
  intro H locs cells slots ls hR hS hc hs hl
  refine W.widen (k := R.cells) (n := R.slots) (by show cells ≤ R.cells; have : cells + k ≤ R.cells := hc; omega) (by show slots ≤ R.slots; have : slots + 4 * k ≤ R.slots := hs; omega) (vx_ret ?_)
  exact W.zret hx hb hr rfl (fun t ht hW => ⟨some (.inl x), h, rfl, hN, by rw [ht]; exact hR, jj_S_F hS ht⟩) hS.2.2 hd hlk
theorem jr_zret (F : jj_F X own cc nL) (M : jj_M X (some .boolean) fr lo N XN) {x : Int} (hd : decode cc pc = .ok (.ireturn, 1)) (hx01 : x = 0 ∨ x = 1) (hN : N (some (.inl x)) h) : jj_J X nL pc vs [.inl x] h k := by
  obtain ⟨G, p, l, e, R, s, m, args, below, meth, c, Q, A⟩ := X
  obtain ⟨hx, hb, hml, ho, hts, hK, hlk, hz, hold⟩ := F
  obtain ⟨hr, -, -, rfl, -⟩ := M
  intro H locs cells slots ls hR hS hc hs hl
  refine W.widen (k := R.cells) (n := R.slots) (by show cells ≤ R.cells; have : cells + k ≤ R.cells := hc; omega) (by show slots ≤ R.slots; have : slots + 4 * k ≤ R.slots := hs; omega) (vx_ret ?_)
  exact W.zret hx hb hr (by rcases hx01 with rfl | rfl <;> rfl) (fun t ht hW => ⟨some (.inl x), h, rfl, hN, by rw [ht]; exact hR, jj_S_F hS ht⟩) hS.2.2 hd hlk
theorem jr_vret (F : jj_F X own cc nL) (M : jj_M X none fr lo N XN) (hd : decode cc pc = .ok (.return_, 1)) (hN : N none h) : jj_J X nL pc vs [] h k := by
  obtain ⟨G, p, l, e, R, s, m, args, below, meth, c, Q, A⟩ := X
  obtain ⟨hx, hb, hml, ho, hts, hK, hlk, hz, hold⟩ := F
  obtain ⟨hr, -, -, rfl, -⟩ := M
  intro H locs cells slots ls hR hS hc hs hl
  refine W.widen (k := R.cells) (n := R.slots) (by show cells ≤ R.cells; have : cells + k ≤ R.cells := hc; omega) (by show slots ≤ R.slots; have : slots + 4 * k ≤ R.slots := hs; omega) (vx_ret ?_)
  exact W.vret hx hb hr (fun t ht hW => ⟨none, h, rfl, hN, by rw [ht]; exact hR, jj_S_F hS ht⟩) hS.2.2 hd hlk
theorem jr_aret (F : jj_F X own cc nL) {rt : FieldType} (M : jj_M X (some rt) fr lo N XN) (hrt : (∃ n, rt = .object n) ∨ ∃ t, rt = .array t) {r : Option Nat} (hd : decode cc pc = .ok (.areturn, 1)) (hN : N (some (.inr (.inr (.inl r)))) h) : jj_J X nL pc vs [.inr (.inr (.inl r))] h k := by
  obtain ⟨G, p, l, e, R, s, m, args, below, meth, c, Q, A⟩ := X
  obtain ⟨hx, hb, hml, ho, hts, hK, hlk, hz, hold⟩ := F
  obtain ⟨hr, -, -, rfl, -⟩ := M
  intro H locs cells slots ls hR hS hc hs hl
  refine W.widen (k := R.cells) (n := R.slots) (by show cells ≤ R.cells; have : cells + k ≤ R.cells := hc; omega) (by show slots ≤ R.slots; have : slots + 4 * k ≤ R.slots := hs; omega) (vx_ret ?_)
  exact W.aret hx hb hr hrt (by cases r <;> simp [jj_v, va_rf]) (fun t ht hW => ⟨some (.inr (.inr (.inl r))), h, rfl, hN, by rw [ht]; exact hR, jj_S_F hS ht⟩) hS.2.2 hd hlk
theorem jr_lret (F : jj_F X own cc nL) (M : jj_M X (some .long) fr lo N XN) {x : Int} (hd : decode cc pc = .ok (.lreturn, 1)) (hN : N (some (.inr (.inl x))) h) : jj_J X nL pc vs [.inr (.inl x)] h k := by
  obtain ⟨G, p, l, e, R, s, m, args, below, meth, c, Q, A⟩ := X
  obtain ⟨hx, hb, hml, ho, hts, hK, hlk, hz, hold⟩ := F
  obtain ⟨hr, -, -, rfl, -⟩ := M
  intro H locs cells slots ls hR hS hc hs hl
  refine W.widen (k := R.cells) (n := R.slots) (by show cells ≤ R.cells; have : cells + k ≤ R.cells := hc; omega) (by show slots ≤ R.slots; have : slots + 4 * k ≤ R.slots := hs; omega) (vx_ret ?_)
  exact W.lret hx hb hr (fun t ht hW => ⟨some (.inr (.inl x)), h, rfl, hN, by rw [ht]; exact hR, jj_S_F hS ht⟩) hS.2.2 hd hlk
/-- an exception E at q is in flight over this frame -/
def jj_JX (X : jj_X) (nL pc : Nat) (vs : List (Nat × jj_AV)) (E : String) (q : Nat) (h : jj_H) (k : Nat) : Prop :=
  ∀ (H : Heap) (locs : List Loc) (cells slots : Nat) (ls : Array Slot) (rest : List Value) (ce : Cell), jj_R X.1 h H → va_S (fun q => jj_gb X.1 ≤ q) X.2.2.2.2.2.1.heap H locs → cells + k ≤ X.2.2.2.2.1.cells → slots + 4 * k ≤ X.2.2.2.2.1.slots → lv_has ls nL (jj_lv vs) → H[q]? = some ce → ce.vm = .none → X.2.2.2.2.2.1.vm.findClass E = some ce.cls →
    vx_W X.2.1 X.2.2.1 X.2.2.2.1 X.2.2.2.2.1 X.2.2.2.2.2.1 X.2.2.2.2.2.2.1 X.2.2.2.2.2.2.2.1 X.2.2.2.2.2.2.2.2.1 X.2.2.2.2.2.2.2.2.2.1 X.2.2.2.2.2.2.2.2.2.2.1 H locs cells slots X.2.2.2.2.2.2.2.2.2.2.2.1 (F0 X.2.2.2.2.2.2.1 pc ls rest) q
/-- it leaves a method without handlers -/
theorem jr_out (F : jj_F X own cc nL) (M : jj_M X ret fr lo N XN) (O : jj_no X) {E : String} {q : Nat} (hN : XN E q h) : jj_JX X nL pc vs E q h k := by
  obtain ⟨G, p, l, e, R, s, m, args, below, meth, c, Q, A⟩ := X
  obtain ⟨hx, hb, hml, ho, hts, hK, hlk, hz, hold⟩ := F
  obtain ⟨hr, -, -, rfl, -⟩ := M
  intro H locs cells slots ls rest ce hR hS hc hs hl h1 h2 h3
  exact vx_out (fun x hx => (O x hx).elim) hlk h1 h2 h3 (fun t ht hA => ⟨h, hN, by rw [ht]; exact hR, jj_S_F hS ht⟩) hS.2.2 (by have : cells + k ≤ R.cells := hc; omega) (by have : slots + 4 * k ≤ R.slots := hs; omega)
abbrev jj_Run (X : jj_X) (H : Heap) (locs : List Loc) (cells slots K : Nat) (g : JFrame) (rest : List Value) (as : Array Value) (N : Option jj_AV → jj_H → Prop) (XN : String → Nat → jj_H → Prop) : Prop := vx_Run X.2.1 X.2.2.1 X.2.2.2.1 X.2.2.2.2.1 X.2.2.2.2.2.1 X.2.2.2.2.2.2.1 X.2.2.2.2.2.2.2.1 X.2.2.2.2.2.2.2.2.1 X.2.2.2.2.2.2.2.2.2.1 X.2.2.2.2.2.2.2.2.2.2.1 H locs cells slots K (4 * K) g rest (jj_Qc X.1 N as) (jj_Xc X.1 XN) (fun q => jj_gb X.1 ≤ q)
/-- a call, of any kind -/
theorem jj_run {K : Nat} {st0 : List jj_AV} {as : Array Value} {N' : Option jj_AV → jj_H → Prop} {XN' : String → Nat → jj_H → Prop} (hk : K ≤ k)
    (hr : ∀ (H : Heap) (locs : List Loc) (cells slots : Nat) (ls : Array Slot), jj_R X.1 h H → cells + K ≤ X.2.2.2.2.1.cells → slots + 4 * K ≤ X.2.2.2.2.1.slots → lv_has ls nL (jj_lv vs) → jj_Run X H locs cells slots K (F0 X.2.2.2.2.2.2.1 pc ls (st0.map jj_v)) (st.map jj_v) as N' XN')
    (kn : ∀ v h', N' v h' → jj_J X nL (pc + 3) vs (v.toList ++ st) h' (k - K)) (kx : ∀ E q h', XN' E q h' → jj_JX X nL pc vs E q h' (k - K)) : jj_J X nL pc vs st0 h k := by
  obtain ⟨G, p, l, e, R, s, m, args, below, meth, c, Q, A⟩ := X
  intro H locs cells slots ls hR hS hc hs hl T hT Z
  have hc : cells + k ≤ R.cells := hc
  have hs : slots + 4 * k ≤ R.slots := hs
  have hw := hr H locs cells slots ls hR (by show cells + K ≤ R.cells; omega) (by show slots + 4 * K ≤ R.slots; omega) hl
  rcases hw T hT Z with ⟨v, st₀, t, T', L, h0, Z', hL, e1, e2, ⟨v', h', hv, hN, hR', hF⟩, sp⟩ | ⟨q, st₀, t, T', L, E, ce, h0, Z', hL, e1, e2, ⟨h', hN, hR', hF⟩, g1, g2, g3, sp⟩
  · cases hv
    have hk' := vx_keep (A1 := fun q => jj_gb G ≤ q) h0 e1 hS (fun q _ h => h) (fun q h => h) hL hF
    obtain ⟨t2, a1, b1⟩ := kn v' h' hN T'.heap (locs ++ L) (cells + K) (slots + 4 * K) ls (by rw [e1]; exact hR') hk'.2.2 (by show cells + K + (k - K) ≤ R.cells; omega) (by show slots + 4 * K + 4 * (k - K) ≤ R.slots; omega) hl T' rfl Z'
    refine ⟨t2, sp t2 ?_, b1⟩
    have es : (v'.toList ++ st).map jj_v = (v'.map jj_v).toList ++ st.map jj_v := by cases v' <;> rfl
    rw [es] at a1
    exact a1
  · have hk' := vx_keep (A1 := fun q => jj_gb G ≤ q) h0 e1 hS (fun q _ h => h) (fun q h => h) hL hF
    obtain ⟨t2, a1, b1⟩ := kx E q h' hN T'.heap (locs ++ L) (cells + K) (slots + 4 * K) ls (st.map jj_v) ce (by rw [e1]; exact hR') hk'.2.2 (by show cells + K + (k - K) ≤ R.cells; omega) (by show slots + 4 * K + 4 * (k - K) ≤ R.slots; omega) hl (by rw [e1]; exact g1) g2 g3 T' rfl Z'
    exact ⟨t2, Steps.trans sp a1, b1⟩
theorem jj_blind {G : jj_G} {As : List jj_AV} : FrameBlind (va_Pc (As.map jj_v) (jj_Pc G h)) := fun a U g mk q => ⟨q.1, jj_K.same (s := U) (U := U.calling g mk a) rfl q.2.1, q.2.2⟩
/-- the class of a cell that can be a receiver -/
def jj_cls : jj_C → Option Nat
  | .inl o => some o.1
  | .inr (.inl _) => none
  | .inr (.inr (.inl _)) => none
  | .inr (.inr (.inr (.inl _))) => some 0
  | .inr (.inr (.inr (.inr x))) => jj_ac x.1
theorem jj_recv {G : jj_G} {s : State} (hK : jj_K G s) {H : Heap} (hR : jj_R G h H) {b ci : Nat} {c : jj_C} {q : vw_C} (hb : h b = some c) (hc : jj_cls c = some ci) (hq : jj_cl[ci]? = some q) : ∃ cell : Cell, H[b]? = some cell ∧ cell.vm.isStatics = false ∧ s.vm.findClass q.1 = some cell.cls := by
  obtain ⟨h1, h2, own, h3⟩ := hR
  have h4 := h3 b c hb
  have hcl : s.vm.findClass q.1 = some ((jj_gD G).1 ci) := (hK.1.1 ci q hq).2.1
  have key : ∀ o : jj_O, jj_ob G H b o → o.1 = ci → ∃ cell : Cell, H[b]? = some cell ∧ cell.vm.isStatics = false ∧ s.vm.findClass q.1 = some cell.cls := by
    intro o ho e
    obtain ⟨r, -, -, cell, g1, g2, g3, -⟩ := ho
    exact ⟨cell, g1, by rw [g3]; rfl, by rw [g2, e]; exact hcl⟩
  obtain o | ⟨t, n, f⟩ | ⟨t, n, f⟩ | ms | x := c
  · exact key o h4.2.2 (Option.some.inj hc)
  · cases hc
  · cases hc
  · exact key _ h4.2.2.1 (Option.some.inj hc)
  · obtain ⟨⟨-, cell, g1, g2, g3⟩, -⟩ := hK.2.1 own H b x h4
    exact ⟨cell, g1, by rw [g2]; rfl, by rw [g3 ci hc]; exact hcl⟩
/-- invokevirtual of a method without handlers, that the receiver's class declares -/
theorem jr_callV (F : jj_F X own cc nL) (M : jj_M X ret fr lo N XN) {y : MethodName} {bytes : ByteArray} {maxL fr' lo' n idx ci : Nat} {ret' : Option FieldType} {As : List jj_AV} {b : Nat} {K : Nat} {cl : String} {T : u_T} {nT : Nat} {c : jj_C} {N' : Option jj_AV → jj_H → Prop} {XN' : String → Nat → jj_H → Prop}
    (g : GoodIn lw_all (wsV own idx cl y (ws_ y bytes maxL ret'))) (hd : decode cc pc = .ok (.invokevirtual idx, 3)) (hy : y.cls = cl ∧ y.cls ≠ "java/lang/invoke/MethodHandle" ∧ y.cls ≠ "java/lang/invoke/VarHandle" ∧ (parseMethodDescriptor y.desc).map (fun d => d.parameters.length) = some n) (hn : As.length = n) (hfr : fr' + 1 ≤ fr) (hlo : 8 + (maxL + 11) + lo' ≤ lo) (hst : (st.map fun v => if jj_2 v = true then 2 else 1).sum ≤ 8)
    (hb : h b = some c) (hc : jj_cls c = some ci) (hq : jj_cl[ci]? = some (cl, T, nT)) (hk : K ≤ k)
    (C : jj_Ct X.1 X.2.2.1 y (ws_ y bytes maxL ret') fr' lo' (.inr (.inr (.inl (some b))) :: As) h K N' XN')
    (kn : ∀ v h', N' v h' → jj_J X nL (pc + 3) vs (v.toList ++ st) h' (k - K)) (kx : ∀ E q h', XN' E q h' → jj_JX X nL pc vs E q h' (k - K)) : jj_J X nL pc vs (As.reverse ++ .inr (.inr (.inl (some b))) :: st) h k := by
  refine jj_run hk (as := ((Value.ref b :: As.map jj_v).toArray)) (fun H locs cells slots ls hR hc1 hs1 hl => ?_) kn kx
  obtain ⟨G, p, l, e, R, s, m, args, below, meth, c, Q, A⟩ := X
  obtain ⟨hx, hb', hml, ho, hts, hK, hlk, hz, hold⟩ := F
  obtain ⟨hr, hf1, hf2, -, -⟩ := M
  have hR : jj_R G h H := hR
  refine vx_runV (As := As.map jj_v) (rest := st.map jj_v) ⟨hx, hb', hml, ho, hts⟩ C (cwV n hts g rfl rfl rfl hy ⟨by rw [hf1]; exact hfr, by rw [hf2]; exact hlo⟩) ⟨jj_blind, jj_recv hK hR hb hc hq, fun U hU hW => ⟨rfl, jj_K.warm hW hK, by rw [hU]; exact hR⟩⟩ rfl (by simpa using hn) hl.1 (by simp [F0, jj_v, va_rf]) (lv_room ?_) hd ⟨hc1, hs1⟩
  rw [List.map_map]
  refine Nat.le_trans (Nat.le_of_eq (congrArg List.sum (List.map_congr_left fun v _ => ?_))) hst
  exact jj_2_cat v
/-- invokestatic of the own class's method without handlers (or another's, initialized) -/
theorem jr_callS (F : jj_F X own cc nL) (M : jj_M X ret fr lo N XN) {y : MethodName} {bytes : ByteArray} {maxL fr' lo' n idx : Nat} {ret' : Option FieldType} {As : List jj_AV} {K : Nat} {N' : Option jj_AV → jj_H → Prop} {XN' : String → Nat → jj_H → Prop}
    (g : GoodIn lw_all (va_wsS own idx y (ws_ y bytes maxL ret'))) (hd : decode cc pc = .ok (.invokestatic idx, 3)) (hy : y.cls ≠ "java/lang/invoke/MethodHandle" ∧ y.cls ≠ "java/lang/invoke/VarHandle" ∧ (parseMethodDescriptor y.desc).map (fun d => d.parameters.length) = some n) (hn : As.length = n) (hfr : fr' + 1 ≤ fr) (hlo : 8 + (maxL + 11) + lo' ≤ lo) (hst : (st.map fun v => if jj_2 v = true then 2 else 1).sum ≤ 8) (hk : K ≤ k)
    (C : jj_Ct X.1 X.2.2.1 y (ws_ y bytes maxL ret') fr' lo' As h K N' XN')
    (kn : ∀ v h', N' v h' → jj_J X nL (pc + 3) vs (v.toList ++ st) h' (k - K)) (kx : ∀ E q h', XN' E q h' → jj_JX X nL pc vs E q h' (k - K)) : jj_J X nL pc vs (As.reverse ++ st) h k := by
  refine jj_run hk (as := ((As.map jj_v).toArray)) (fun H locs cells slots ls hR hc1 hs1 hl => ?_) kn kx
  obtain ⟨G, p, l, e, R, s, m, args, below, meth, c, Q, A⟩ := X
  obtain ⟨hx, hb', hml, ho, hts, hK, hlk, hz, hold⟩ := F
  obtain ⟨hr, hf1, hf2, -, -⟩ := M
  have hR : jj_R G h H := hR
  refine vx_runS (As := As.map jj_v) (rest := st.map jj_v) ⟨hx, hb', hml, ho, hts⟩ C (va_cwS n hts g rfl rfl rfl hy ⟨by rw [hf1]; exact hfr, by rw [hf2]; exact hlo⟩) ⟨jj_blind, fun U hU hW => ⟨rfl, jj_K.warm hW hK, by rw [hU]; exact hR⟩⟩ rfl (by simpa using hn) hl.1 (by simp [F0]) (lv_room ?_) hd ⟨hc1, hs1⟩
  rw [List.map_map]
  refine Nat.le_trans (Nat.le_of_eq (congrArg List.sum (List.map_congr_left fun v _ => ?_))) hst
  exact jj_2_cat v
end RC
