/-! HANDLERS, interface calls -/
/-- the frame's exception table -/
def jj_tb (X : jj_X) (hh : List (Nat × Nat × Nat × Nat)) : Prop := X.2.2.2.2.2.2.2.2.2.2.1.exceptionTable.toList = tableOf hh
theorem jj_Ct.ofW {G : jj_G} {l : Launch} (hl : l.stackTraces = false) {y : MethodName} {cc : ByteArray} {maxL : Nat} {ret : Option FieldType} {hh : List (Nat × Nat × Nat × Nat)} {fr lo : Nat} {As : List jj_AV} {h : jj_H} {K : Nat} {N : Option jj_AV → jj_H → Prop} {XN : String → Nat → jj_H → Prop} {vs : List (Nat × jj_AV)}
    (hy : plainName y.cls = true) (hlen : jj_len As ≤ maxL) (hvs : jj_ar 0 As = vs)
    (body : ∀ X : jj_X, X.1 = G → X.2.2.1 = l → jj_F X y.cls cc maxL → jj_M X ret fr lo N XN → jj_tb X hh → (X.2.2.2.2.2.2.2.2.2.1.name = y.name) → jj_J X maxL 0 vs [] h K) : jj_Ct G l y (wsW_ y cc maxL ret hh) fr lo As h K N XN := by
  subst hvs
  refine vx_ofWH (cc := cc) (maxL := maxL) (ret := ret) (hh := hh) hy rfl ?_
  intro p e s m args below meth c s₁ B hml hv
  obtain ⟨rfl, hK, hR⟩ := hv
  have hts0 := atoms_spec (ws := wsW_ y cc maxL ret hh) B.pre
  have hts : ∀ w ∈ lw_all, w.before _ s = true := fun w h => hts0 w (List.mem_cons_of_mem _ h)
  have hown : s.vm.findClass y.cls = some m.cls := findClass_of_methodNamed B.named
  have hnm : meth.name = y.name := (name_of_methodNamed B.named B.method).1
  have htab := vx_table (x := y) B (hts0 _ List.mem_cons_self)
  have hl := lv_entry (As.map jj_v) (n := maxL) (by rw [jj_len_lg]; exact hlen)
  rw [lg_entry_eq]
  rw [jj_ar_lv] at hl
  exact body (G, p, l, e, { frames := fr, cells := K, slots := 4 * K, locals := lo }, s, m, (As.map jj_v).toArray, below, meth, c, _, (fun _ => True)) rfl rfl ⟨B.exec, B.bytes, hml, hown, hts, hK, B.notSynchronized, hR.1, hR.2.1⟩ ⟨B.returns, rfl, rfl, rfl, by assumption⟩ htab hnm s.heap [] 0 0 _ hR va_S.rf (by simp) (by simp) hl
/-- classes that are not one another's, as far as the handlers ask -/
def jj_ncs : List (String × String) := [("java/lang/IllegalArgumentException", "java/lang/IndexOutOfBoundsException"), ("java/lang/IllegalStateException", "java/lang/IndexOutOfBoundsException"), ("java/lang/IllegalStateException", "java/lang/IllegalArgumentException"), ("NoteImporter$CountException", "NoteImporter$WordException"), ("NoteImporter$ImportException", "NoteImporter$WordException")]
def jj_NC (G : jj_G) : Prop := ∀ q ∈ jj_ncs, ∀ U, jj_ge G U → va_Nc q.1 q.2 U
section RX2
variable {X : jj_X} {own : String} {cc : ByteArray} {nL pc : Nat} {vs : List (Nat × jj_AV)} {st : List jj_AV} {h : jj_H} {k : Nat} {ret : Option FieldType} {fr lo : Nat} {N : Option jj_AV → jj_H → Prop} {XN : String → Nat → jj_H → Prop} {hh : List (Nat × Nat × Nat × Nat)}
/-- caught by the table's row x, past the rows pre -/
theorem jr_catch (F : jj_F X own cc nL) (NC : jj_NC X.1) (Tb : jj_tb X hh) {E name : String} {q : Nat} (pre : List ExceptionTableEntry) (x : ExceptionTableEntry) (suf : List ExceptionTableEntry) (hs : tableOf hh = pre ++ x :: suf) (hpass : ∀ z ∈ pre, covers z pc = false ∨ (z.catchType ≠ 0 ∧ ∃ nm : String, Cond.classLink own z.catchType nm ∈ lw_all ∧ (E, nm) ∈ jj_ncs)) (hx : covers x pc = true) (h0 : x.catchType ≠ 0) (ql : Cond.classLink own x.catchType name ∈ lw_all) (qc : Cond.castable E name ∈ lw_tbl) {tgt : Nat} (ht : x.handlerPc = tgt) (kk : jj_J X nL tgt vs [.inr (.inr (.inl (some q)))] h k) : jj_JX X nL pc vs E q h k := by
  subst ht
  obtain ⟨G, p, l, e, R, s, m, args, below, meth, c1, Q, A⟩ := X
  obtain ⟨hx', hb, hml, ho, hts, hK, hlk, hz, hold⟩ := F
  intro H locs cells slots ls rest ce hR hS hc' hsl hl g1 g2 g3
  refine vx_catch ho pre x suf (Tb.trans hs) (fun z hz => ?_) hx h0 (hts _ ql) (va_Nw.use rfl (hK.2.2.2.1 _ (jj_nwm qc rfl))) g1 g2 g3 (kk H locs cells slots ls hR hS hc' hsl hl)
  rcases hpass z hz with h1 | ⟨h1, nm, h2, h3⟩
  · exact Or.inl h1
  · exact Or.inr ⟨h1, nm, hts _ h2, NC _ h3 s hK.2.2.2.2⟩
/-- not caught here -/
theorem jr_outP (F : jj_F X own cc nL) (M : jj_M X ret fr lo N XN) (NC : jj_NC X.1) (Tb : jj_tb X hh) {E : String} {q : Nat} (hpass : ∀ z ∈ tableOf hh, covers z pc = false ∨ (z.catchType ≠ 0 ∧ ∃ nm : String, Cond.classLink own z.catchType nm ∈ lw_all ∧ (E, nm) ∈ jj_ncs)) (hN : XN E q h) : jj_JX X nL pc vs E q h k := by
  obtain ⟨G, p, l, e, R, s, m, args, below, meth, c, Q, A⟩ := X
  obtain ⟨hx, hb, hml, ho, hts, hK, hlk, hz, hold⟩ := F
  obtain ⟨hr, -, -, rfl, -⟩ := M
  intro H locs cells slots ls rest ce hR hS hc hs hl h1 h2 h3
  refine vx_outP ho hlk (fun z hz => ?_) h1 h2 h3 (fun t ht hA => ⟨h, hN, by rw [ht]; exact hR, jj_S_F hS ht⟩) hS.2.2 (by have : cells + k ≤ R.cells := hc; omega) (by have : slots + 4 * k ≤ R.slots := hs; omega)
  have hz' : z ∈ tableOf hh := by
    have h9 : c.exceptionTable.toList = tableOf hh := Tb
    rw [← h9]; exact hz
  rcases hpass z hz' with h1 | ⟨h1, nm, h2, h3⟩
  · exact Or.inl h1
  · exact Or.inr ⟨h1, nm, hts _ h2, NC _ h3 s hK.2.2.2.2⟩
abbrev jj_Run5 (X : jj_X) (H : Heap) (locs : List Loc) (cells slots K : Nat) (g : JFrame) (rest : List Value) (as : Array Value) (N : Option jj_AV → jj_H → Prop) (XN : String → Nat → jj_H → Prop) : Prop := vx_Run5 X.2.1 X.2.2.1 X.2.2.2.1 X.2.2.2.2.1 X.2.2.2.2.2.1 X.2.2.2.2.2.2.1 X.2.2.2.2.2.2.2.1 X.2.2.2.2.2.2.2.2.1 X.2.2.2.2.2.2.2.2.2.1 X.2.2.2.2.2.2.2.2.2.2.1 H locs cells slots K (4 * K) g rest (jj_Qc X.1 N as) (jj_Xc X.1 XN) (fun q => jj_gb X.1 ≤ q)
theorem jj_run5 {K : Nat} {st0 : List jj_AV} {as : Array Value} {N' : Option jj_AV → jj_H → Prop} {XN' : String → Nat → jj_H → Prop} (hk : K ≤ k)
    (hr : ∀ (H : Heap) (locs : List Loc) (cells slots : Nat) (ls : Array Slot), jj_R X.1 h H → cells + K ≤ X.2.2.2.2.1.cells → slots + 4 * K ≤ X.2.2.2.2.1.slots → lv_has ls nL (jj_lv vs) → jj_Run5 X H locs cells slots K (F0 X.2.2.2.2.2.2.1 pc ls (st0.map jj_v)) (st.map jj_v) as N' XN')
    (kn : ∀ v h', N' v h' → jj_J X nL (pc + 5) vs (v.toList ++ st) h' (k - K)) (kx : ∀ E q h', XN' E q h' → jj_JX X nL pc vs E q h' (k - K)) : jj_J X nL pc vs st0 h k := by
  obtain ⟨G, p, l, e, R, s, m, args, below, meth, c, Q, A⟩ := X
  intro H locs cells slots ls hR hS hc hs hl T hT Z
  have hc : cells + k ≤ R.cells := hc
  have hs : slots + 4 * k ≤ R.slots := hs
  have hw := hr H locs cells slots ls hR (by show cells + K ≤ R.cells; omega) (by show slots + 4 * K ≤ R.slots; omega) hl
  rcases hw T hT Z with ⟨v, st₀, t, T', L, h0, Z', hL, e1, e2, ⟨v', h', hv, hN, hR', hF⟩, sp⟩ | ⟨q, st₀, t, T', L, E, ce, h0, Z', hL, e1, e2, ⟨h', hN, hR', hF⟩, g1, g2, g3, sp⟩
  · cases hv
    have hk' := vx_keep (A1 := fun q => jj_gb G ≤ q) h0 e1 hS (fun q _ h => h) (fun q h => h) hL hF
    obtain ⟨t2, a1, b1⟩ := kn v' h' hN T'.heap (locs ++ L) (cells + K) (slots + 4 * K) ls (by rw [e1]; exact hR') hk'.2.2 (by show cells + K + (k - K) ≤ R.cells; omega) (by show slots + 4 * K + 4 * (k - K) ≤ R.slots; omega) hl T' rfl Z'
    refine ⟨t2, sp t2 ?_, b1⟩
    have es : (v'.toList ++ st).map jj_v = (v'.map jj_v).toList ++ st.map jj_v := by cases v' <;> rfl
    rw [es] at a1
    exact a1
  · have hk' := vx_keep (A1 := fun q => jj_gb G ≤ q) h0 e1 hS (fun q _ h => h) (fun q h => h) hL hF
    obtain ⟨t2, a1, b1⟩ := kx E q h' hN T'.heap (locs ++ L) (cells + K) (slots + 4 * K) ls (st.map jj_v) ce (by rw [e1]; exact hR') hk'.2.2 (by show cells + K + (k - K) ≤ R.cells; omega) (by show slots + 4 * K + 4 * (k - K) ≤ R.slots; omega) hl (by rw [e1]; exact g1) g2 g3 T' rfl Z'
    exact ⟨t2, Steps.trans sp a1, b1⟩
/-- invokeinterface -/
theorem jr_callF (F : jj_F X own cc nL) (M : jj_M X ret fr lo N XN) {x y : MethodName} {bytes : ByteArray} {maxL fr' lo' n idx cnt ci : Nat} {ret' : Option FieldType} {As : List jj_AV} {b : Nat} {K : Nat} {cl : String} {T : u_T} {nT : Nat} {c : jj_C} {N' : Option jj_AV → jj_H → Prop} {XN' : String → Nat → jj_H → Prop}
    (g : GoodIn lw_all (va_wsF own idx cl x y (ws_ y bytes maxL ret'))) (hFw : va_Fw cl x y X.2.2.2.2.2.1) (hd : decode cc pc = .ok (.invokeinterface idx cnt, 5)) (hy : x.cls ≠ "java/lang/invoke/MethodHandle" ∧ x.cls ≠ "java/lang/invoke/VarHandle" ∧ (parseMethodDescriptor x.desc).map (fun d => d.parameters.length) = some n) (hn : As.length = n) (hfr : fr' + 1 ≤ fr) (hlo : 8 + (maxL + 11) + lo' ≤ lo) (hst : (st.map fun v => if jj_2 v = true then 2 else 1).sum ≤ 8)
    (hb : h b = some c) (hc : jj_cls c = some ci) (hq : jj_cl[ci]? = some (cl, T, nT)) (hk : K ≤ k)
    (C : jj_Ct X.1 X.2.2.1 y (ws_ y bytes maxL ret') fr' lo' (.inr (.inr (.inl (some b))) :: As) h K N' XN')
    (kn : ∀ v h', N' v h' → jj_J X nL (pc + 5) vs (v.toList ++ st) h' (k - K)) (kx : ∀ E q h', XN' E q h' → jj_JX X nL pc vs E q h' (k - K)) : jj_J X nL pc vs (As.reverse ++ .inr (.inr (.inl (some b))) :: st) h k := by
  refine jj_run5 hk (as := ((Value.ref b :: As.map jj_v).toArray)) (fun H locs cells slots ls hR hc1 hs1 hl => ?_) kn kx
  obtain ⟨G, p, l, e, R, s, m, args, below, meth, c, Q, A⟩ := X
  obtain ⟨hx, hb', hml, ho, hts, hK, hlk, hz, hold⟩ := F
  obtain ⟨hr, hf1, hf2, -, -⟩ := M
  have hR : jj_R G h H := hR
  exact vx_runF (As := As.map jj_v) (rest := st.map jj_v) (hK.1.1 ci _ hq).2 ⟨hx, hb', hml, ho, hts⟩ C (va_cwF n hts g rfl rfl rfl hFw hy ⟨by rw [hf1]; exact hfr, by rw [hf2]; exact hlo⟩) ⟨jj_blind, jj_recv hK hR hb hc hq, fun U hU hW => ⟨rfl, jj_K.warm hW hK, by rw [hU]; exact hR⟩⟩ rfl (by simpa using hn) hl.1 (by simp [F0, jj_v, va_rf]) (lv_room (jj_sum8 hst)) hd ⟨hc1, hs1⟩
end RX2
