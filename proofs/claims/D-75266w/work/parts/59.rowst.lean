/-! invokeinterface of a method that a superinterface declares (after vx_callIF, vx_runF) -/
section
variable {p : Program} {l : Launch} {e : Env} {R : Room} {s : State} {m : MethodId} {args : Array Value} {below : List Frame} {meth : Method} {c : Code} {H : Heap} {locs : List Loc} {cells slots : Nat} {Q : State → Prop}
variable {mc ms : Nat} {free : Addr → Prop} {A0 A1 : Nat → Prop} {H0 : Heap} {a : Array Value} {pc : Nat} {ls : Array Slot} {st0 rest : List Value}
theorem vy_callIU {T : State} (X : Stand p l e R s m args below meth c T locs cells slots) (hexec : p.tables.exec = Jvm.exec) {own C J : String} {index count : Nat} {x y : MethodName} {bytes : ByteArray} {maxL : Nat} {ret : Option FieldType}
    (hown : s.vm.findClass own = some m.cls) (hlink : (Cond.methodLink own index x).before args s = true) (hdecl : (Cond.declares ⟨J, x.name, x.desc⟩).before args s = true) (hpubO : (Cond.publicMethod ⟨J, x.name, x.desc⟩).before args s = true) (hface : (Cond.interfaceMethod x.cls J x.name x.desc).before args s = true) (hxo : x.cls ≠ J) (hJ : J ≠ "java/lang/invoke/MethodHandle" ∧ J ≠ "java/lang/invoke/VarHandle")
    (hsel : (Cond.selects C ⟨J, x.name, x.desc⟩ y).before args s = true) (hinst : (Cond.instanceMethod y).before args s = true) (hpub : (Cond.publicMethod y).before args s = true) (hunh : (Cond.unhidden C x.name x.desc).before args s = true)
    (hcast : (Cond.castable C x.cls).before args s = true) (hcode : (Cond.code y bytes maxL ret).before args s = true) (hx : x.cls ≠ "java/lang/invoke/MethodHandle" ∧ x.cls ≠ "java/lang/invoke/VarHandle")
    {W9 : Nat} {Pre : Pt → Array Value → Prop} {Post : Pt → Array Value → Option Value → Pt → Prop} {PostX : Pt → Array Value → Addr → Pt → Prop} (hK : vx_Back l R p e below s args y 5 W9 Pre Post PostX)
    {b : Addr} {cellB : Cell} {kB : Class} (hcell : T.heap[b]? = some cellB) (hobj : cellB.vm.isStatics = false) (hcls : s.vm.findClass C = some cellB.cls) (hkB : s.vm.classes[cellB.cls]? = some kB)
    {g : JFrame} (hg : g.method = m) (hsize : g.locals.size = c.maxLocals) {argsL rest : List Value} (hlen : ∀ sig, parseMethodDescriptor x.desc = some sig → argsL.length = sig.parameters.length)
    (hstack : g.stack = argsL.reverse ++ .ref b :: rest) (hW : 2 * g.monitorRoom + (rest.map fun v => v.category).sum ≤ W9) (hdg : decode c.code g.pc = .ok (.invokeinterface index count, 5))
    (hpre : ∀ vm₁, s.WarmedH vm₁ → Pre ⟨T.setVm vm₁, locs, cells, slots⟩ (Value.ref b :: argsL).toArray) :
    (∃ (v : Option Value) (vm₁ : Vm) (B : Pt), s.WarmedH vm₁ ∧ Stand p l e R s m args below meth c B.U B.locs B.cells B.slots ∧ Post ⟨T.setVm vm₁, locs, cells, slots⟩ (Value.ref b :: argsL).toArray v B ∧
      ∀ target, Steps p.tables e below (B.U.setTop { g with pc := g.pc + 5, stack := v.toList ++ rest }) target → Steps p.tables e below (T.setTop g) target) ∨
    (∃ (q : Addr) (vm₁ : Vm) (B : Pt), s.WarmedH vm₁ ∧ Stand p l e R s m args below meth c B.U B.locs B.cells B.slots ∧ PostX ⟨T.setVm vm₁, locs, cells, slots⟩ (Value.ref b :: argsL).toArray q B ∧
      Steps p.tables e below (T.setTop g) ((B.U.setTop { g with stack := rest }).pushFrame (.throwing q))) := by
  obtain ⟨r0, r, hn, hrm, hstR, hsigR⟩ := Cond.declares_spec hdecl
  obtain ⟨cL, kL, r1, hcL, hkL, hiL, hfoundL, hn1⟩ := Cond.interfaceMethod_spec hface
  cases hn.symm.trans hn1
  obtain ⟨hnameR, hdescR⟩ := name_of_methodNamed hn hrm
  obtain ⟨mk, methM, hnamed, hmethM, -, habM⟩ := Cond.instanceMethod_spec hinst
  obtain ⟨c2, r2, m2, q1, q2, q3, q4, -⟩ := Cond.selects_spec hsel
  cases hcls.symm.trans q1
  cases (State.methodFound?_of_named hn hJ).symm.trans q2
  cases hnamed.symm.trans q3
  have hselP : selectMethod e.platform s.vm cellB.cls r0 = .method mk := by rw [Launch.admits_selectMethod X.admits]; exact q4
  have hpubM : hasFlag methM.accessFlags Acc.public_ = true := Cond.publicMethod_spec hnamed hmethM hpub
  have hway : ((cellB.cls :: s.vm.superclasses cellB.cls).any fun k => (declaredIn s.vm r.name r.desc k).any fun (_, z) => z.isPrivate || z.isStatic) = false := by
    rw [hnameR, hdescR]; exact Cond.unhidden_spec hcls hunh
  obtain ⟨c3, t3, w1, w2, w3⟩ := Cond.castable_spec hcast
  cases hcls.symm.trans w1
  cases hcL.symm.trans w2
  obtain ⟨vm₁, X₁, hstep₁⟩ := X.invokeinterfaceUp hexec (J := J) hown hlink hface hdecl hpubO hxo hx (a := b) (cell := cellB) (kcell := kB) hcL hcell
    (fun z h => by rw [h] at hobj; cases hobj) hkB w3 hn hrm hselP hmethM hway hpubM habM (g := g) hg (argsL := argsL) (rest := rest) (hlen _ hsigR) hstack hdg
  rcases hK m meth c ⟨T.setVm vm₁, locs, cells, slots⟩ { g with stack := rest } (.invokeinterface index count) mk (Value.ref b :: argsL).toArray X₁ hg hsize hdg hW (X₁.named hnamed) (hpre vm₁ X₁.warmed) with ⟨v, B, X', hpost, hsteps⟩ | ⟨q, B, X', hpost, hsteps⟩
  · exact Or.inl ⟨v, vm₁, B, X₁.warmed, X', hpost, fun target h => hstep₁ _ fun acts => by rw [doInvoke_state]; exact hsteps.trans h⟩
  · exact Or.inr ⟨q, vm₁, B, X₁.warmed, X', hpost, hstep₁ _ fun acts => by rw [doInvoke_state]; exact hsteps⟩
theorem vy_runU {x y : MethodName} {bytes cc : ByteArray} {maxL nL mc ms n index count : Nat} {ret : Option FieldType} {ws' : List Cond} {rm : Room} {Pc : Array Value → State → Prop} {Qc : Array Value → State → Outcome → State → Prop} {XC : String → Addr → State → State → Prop} {free : Addr → Prop} {Ts : List Cond} {own C J : String} {cC : ClassId} {b : Addr} {As rest : List Value} {g : JFrame}
    (hat : ClassAt s C cC) (S : CallFix p m c cc nL s args Ts own) (hM : vx_Met l y (Cond.code y bytes maxL ret :: ws') rm Pc Qc XC mc ms free) (hG : GoodIn Ts (Cond.code y bytes maxL ret :: ws')) (hrc : rm.cells = mc) (hrs : rm.slots = ms) (hfr : rm.frames + 1 ≤ R.frames) (hlo : 8 + (maxL + 11) + rm.locals ≤ R.locals)
    (cw : va_FU (own, index, C, J, x, y) s) (hxo : x.cls ≠ J) (hJ : J ≠ "java/lang/invoke/MethodHandle" ∧ J ≠ "java/lang/invoke/VarHandle") (hsel : Cond.selects C ⟨J, x.name, x.desc⟩ y ∈ Ts) (hinst : Cond.instanceMethod y ∈ Ts) (hini : Cond.initialized y.cls ∈ Ts)
    (hx9 : x.cls ≠ "java/lang/invoke/MethodHandle" ∧ x.cls ≠ "java/lang/invoke/VarHandle" ∧ (parseMethodDescriptor x.desc).map (fun d => d.parameters.length) = some n) (hp : PreV s H C b Pc As)
    (hg : g.method = m) (hn : As.length = n) (hsize : g.locals.size = nL) (hstack : g.stack = As.reverse ++ .ref b :: rest) (hW : 2 * g.monitorRoom + (rest.map fun v => v.category).sum ≤ 8) (hdg : decode cc g.pc = .ok (.invokeinterface index count, 5)) (hf : cells + mc ≤ R.cells ∧ slots + ms ≤ R.slots) :
    vx_Run5 p l e R s m args below meth c H locs cells slots mc ms g rest (Qc (Value.ref b :: As).toArray) XC free := by
  obtain ⟨hx, hb, hml, ho, ht⟩ := S
  have hcw : Cond.code y bytes maxL ret ∈ (Cond.code y bytes maxL ret :: ws') := List.mem_cons_self
  have hK : vx_Back l R p e below s args y 5 8 (PreOf R mc ms Pc) (PostOf Qc mc ms free) (vx_Post XC mc ms free) := vx_back (bytes := bytes) (maxL := maxL) (ret := ret) hM hp.1 hrc hrs hfr hlo (pay_in ht hG) hcw (fun a' U hW => word_at hW (Or.inl (by first | rfl | simp [Cond.onTables, Cond.keeps, Cond.steady])) (ht _ hini))
  obtain ⟨-, ⟨cellB, hcB, hoB, hclB⟩, hPc⟩ := hp
  obtain ⟨hfc, kB, hkB, -⟩ := hat
  cases hfc.symm.trans hclB
  obtain ⟨f1, f2, f3, f4, f5, f6, f7⟩ := cw
  intro T hT X
  rcases vy_callIU X hx (C := C) (J := J) (bytes := bytes) (maxL := maxL) (ret := ret) ho (va_Nw.use rfl f1) (va_Nw.use rfl f3) (va_Nw.use rfl f4) (va_Nw.use rfl f2) hxo hJ (ht _ hsel) (ht _ hinst) (va_Nw.use rfl f5) (va_Nw.use rfl f6) (va_Nw.use rfl f7) (ht _ (hG _ hcw).1) ⟨hx9.1, hx9.2.1⟩ hK (by rw [hT]; exact hcB) hoB hclB hkB hg (hsize.trans hml.symm) (argsL := As) (rest := rest) (fun sig h => by
      have h2 := hx9.2.2
      rw [h] at h2
      exact hn.trans (Option.some.inj h2).symm) hstack hW (by rw [hb]; exact hdg)
    (fun vm₁ hW₁ => ⟨hf.1, hf.2, hPc (T.setVm vm₁) hT hW₁⟩) with ⟨v, vm₁, ⟨U', l2, c2, s2⟩, hW₁, X', ⟨g', mk, t, L, e1, e2, hq, h1, hL, h2, h3⟩, st⟩ | ⟨q, vm₁, ⟨U', l2, c2, s2⟩, hW₁, X', ⟨g', mk, t, L, E, ce, e1, e2, hq, hce, hcv, hcl, h1, hL, h2, h3⟩, st⟩
  · dsimp only [Pt.U, Pt.locs, Pt.cells, Pt.slots] at X' e1 e2 h1 h2 h3 st
    subst h1; subst h2; subst h3
    exact Or.inl ⟨v, (T.setVm vm₁).calling g' mk (Value.ref b :: As).toArray, t, U', L, hT, X', hL, e1, e2, hq, st⟩
  · dsimp only [Pt.U, Pt.locs, Pt.cells, Pt.slots] at X' e1 e2 h1 h2 h3 st hcl
    subst h1; subst h2; subst h3
    exact Or.inr ⟨q, (T.setVm vm₁).calling g' mk (Value.ref b :: As).toArray, t, U', L, E, ce, hT, X', hL, e1, e2, hq, hce, hcv, vx_cls hW₁ hcl, st⟩
end
section RT1
variable {X : jj_X} {own : String} {cc : ByteArray} {nL pc : Nat} {vs : List (Nat × jj_AV)} {st : List jj_AV} {h : jj_H} {k : Nat} {ret : Option FieldType} {fr lo : Nat} {N : Option jj_AV → jj_H → Prop} {XN : String → Nat → jj_H → Prop}
theorem jr_cX (F : jj_F X own cc nL) (M : jj_M X ret fr lo N XN) {x y : MethodName} {bytes : ByteArray} {maxL fr' lo' n idx cnt ci : Nat} {ret' : Option FieldType} {As : List jj_AV} {o : Option Nat} {K : Nat} {cl Ji : String} {T : u_T} {nT : Nat} {N' : Option jj_AV → jj_H → Prop} {XN' : String → Nat → jj_H → Prop}
    (hFU : ∀ U, jj_ge X.1 U → va_FU (own, idx, cl, Ji, x, y) U) (g : GoodIn lw_all (ws_ y bytes maxL ret')) (hxo : x.cls ≠ Ji) (hJ : Ji ≠ "java/lang/invoke/MethodHandle" ∧ Ji ≠ "java/lang/invoke/VarHandle") (qs : Cond.selects cl ⟨Ji, x.name, x.desc⟩ y ∈ lw_all) (qi : Cond.instanceMethod y ∈ lw_all) (q0 : Cond.initialized y.cls ∈ lw_all)
    (hd : decode cc pc = .ok (.invokeinterface idx cnt, 5)) (hy : x.cls ≠ "java/lang/invoke/MethodHandle" ∧ x.cls ≠ "java/lang/invoke/VarHandle" ∧ (parseMethodDescriptor x.desc).map (fun d => d.parameters.length) = some n) (hn : As.length = n) (hfr : fr' + 1 ≤ fr) (hlo : 8 + (maxL + 11) + lo' ≤ lo) (hst : (st.map fun v => if jj_2 v = true then 2 else 1).sum ≤ 8)
    (hq : jj_cl[ci]? = some (cl, T, nT)) (hi : jp_is h o ci) (hk : K ≤ k)
    (C : jj_Ct X.1 X.2.2.1 y (ws_ y bytes maxL ret') fr' lo' (.inr (.inr (.inl o)) :: As) h K N' XN')
    (kn : ∀ v h', N' v h' → jj_J X nL (pc + 5) vs (v.toList ++ st) h' (k - K)) (kx : ∀ E q h', XN' E q h' → jj_JX X nL pc vs E q h' (k - K)) : jj_J X nL pc vs (As.reverse ++ .inr (.inr (.inl o)) :: st) h k := by
  obtain ⟨b, c, rfl, hb, hc⟩ := hi
  refine jj_run5 hk (as := ((Value.ref b :: As.map jj_v).toArray)) (fun H locs cells slots ls hR hc1 hs1 hl => ?_) kn kx
  obtain ⟨G, p, l, e, R, s, m, args, below, meth, c, Q, A⟩ := X
  obtain ⟨hx, hb', hml, ho, hts, hK, hlk, hz, hold⟩ := F
  obtain ⟨hr, hf1, hf2, -, -⟩ := M
  have hR : jj_R G h H := hR
  exact vy_runU (As := As.map jj_v) (rest := st.map jj_v) (hK.1.1 ci _ hq).2 ⟨hx, hb', hml, ho, hts⟩ C g rfl rfl (by rw [hf1]; exact hfr) (by rw [hf2]; exact hlo) (hFU _ hK.2.2.2.2) hxo hJ qs qi q0 hy ⟨jj_blind, jj_recv hK hR hb hc hq, fun U hU hW => ⟨rfl, jj_K.warm hW hK, by rw [hU]; exact hR⟩⟩ rfl (by simpa using hn) hl.1 (by simp [F0, jj_v, va_rf]) (lv_room (jj_sum8 hst)) hd ⟨hc1, hs1⟩
/-- checkcast to what its class can be cast to -/
theorem jr_castC (F : jj_F X own cc nL) {C nm : String} {T : u_T} {nT ci idx : Nat} {o : Option Nat} (hq : jj_cl[ci]? = some (C, T, nT)) (qc : Cond.castable C nm ∈ lw_tbl) (ql : Cond.classLink own idx nm ∈ lw_all) (hd : decode cc pc = .ok (.checkcast idx, 3)) (w : jp_is h o ci) (kk : jj_J X nL (pc + 3) vs (.inr (.inr (.inl o)) :: st) h k) : jj_J X nL pc vs (.inr (.inr (.inl o)) :: st) h k := by
  obtain ⟨a, c, rfl, hc, hci⟩ := w
  obtain ⟨G, p, l, e, R, s, m, args, below, meth, c1, Q, A⟩ := X
  obtain ⟨hx, hb, hml, ho, hts, hK, hlk, hz, hold⟩ := F
  intro H locs cells slots ls hR hS hc' hs hl
  exact va_castY hx hb ho (hts _ ql) (hK.2.2.2.1 _ (jj_nwm qc rfl)) (jj_recv hK hR hc hci hq) hd (kk H locs cells slots ls hR hS hc' hs hl)
end RT1
def df_J43 : List jj_AV := [jj_rf none, jj_rf none, jj_rf none, jj_rf none, jj_rf none, .inl 0]
theorem dfo_J43 : ∀ j, j < 6 → defaultValue (tyJ43 j) = vp_V (df_J43.map jj_v) j := by
  intro j hj
  match j, hj with
  | 0, _ => rfl
  | 1, _ => rfl
  | 2, _ => rfl
  | 3, _ => rfl
  | 4, _ => rfl
  | 5, _ => rfl
  | j + 6, hj => exact absurd hj (by omega)
def df_J23 : List jj_AV := [jj_rf none, jj_rf none, jj_rf none, jj_rf none, .inl 0, .inl 0, jj_rf none, jj_rf none, jj_rf none]
theorem dfo_J23 : ∀ j, j < 9 → defaultValue (tyJ23 j) = vp_V (df_J23.map jj_v) j := by
  intro j hj
  match j, hj with
  | 0, _ => rfl
  | 1, _ => rfl
  | 2, _ => rfl
  | 3, _ => rfl
  | 4, _ => rfl
  | 5, _ => rfl
  | 6, _ => rfl
  | 7, _ => rfl
  | 8, _ => rfl
  | j + 9, hj => exact absurd hj (by omega)
