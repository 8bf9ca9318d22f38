/-! ROWS: private methods of a class above, super.m(..), methods found in classes above; clone() of bytes; byte fields -/
section
variable {p : Program} {l : Launch} {e : Env} {R : Room} {s : State} {m : MethodId} {args : Array Value} {below : List Frame} {meth : Method} {c : Code} {H : Heap} {locs : List Loc} {cells slots : Nat}
theorem jx_callVP {T : State} {locs : List Loc} {cells slots : Nat} (X : Stand p l e R s m args below meth c T locs cells slots) (hexec : p.tables.exec = Jvm.exec) {own : String} {index : Nat} {y : MethodName} {bytes : ByteArray} {maxL : Nat} {ret : Option FieldType}
    (hown : s.vm.findClass own = some m.cls) (hlink : (Cond.methodLink own index y).before args s = true) (hsame : (Cond.sameMethod y.cls y.cls y.name y.desc).before args s = true)
    (hpriv : s.PrivateAt y) (hy : y.cls ≠ "java/lang/invoke/MethodHandle" ∧ y.cls ≠ "java/lang/invoke/VarHandle")
    (hinst : (Cond.instanceMethod y).before args s = true) (hcode : (Cond.code y bytes maxL ret).before args s = true)
    {W : Nat} {Pre : Pt → Array Value → Prop} {Post : Pt → Array Value → Option Value → Pt → Prop} {PostX : Pt → Array Value → Addr → Pt → Prop} (hK : vx_Back l R p e below s args y 3 W Pre Post PostX)
    {b : Addr} {cellB : Cell} (hcell : T.heap[b]? = some cellB) (hobj : cellB.vm.isStatics = false)
    {g : JFrame} (hg : g.method = m) (hsize : g.locals.size = c.maxLocals) {argsL rest : List Value} (hlen : ∀ sig, parseMethodDescriptor y.desc = some sig → argsL.length = sig.parameters.length)
    (hstack : g.stack = argsL.reverse ++ .ref b :: rest) (hW : 2 * g.monitorRoom + (rest.map fun v => v.category).sum ≤ W) (hdg : decode c.code g.pc = .ok (.invokevirtual index, 3))
    (hpre : ∀ vm₁, s.WarmedH vm₁ → Pre ⟨T.setVm vm₁, locs, cells, slots⟩ (Value.ref b :: argsL).toArray) :
    (∃ (v : Option Value) (vm₁ : Vm) (B : Pt), s.WarmedH vm₁ ∧ Stand p l e R s m args below meth c B.U B.locs B.cells B.slots ∧ Post ⟨T.setVm vm₁, locs, cells, slots⟩ (Value.ref b :: argsL).toArray v B ∧
      ∀ target, Steps p.tables e below (B.U.setTop { g with pc := g.pc + 3, stack := v.toList ++ rest }) target → Steps p.tables e below (T.setTop g) target) ∨
    (∃ (q : Addr) (vm₁ : Vm) (B : Pt), s.WarmedH vm₁ ∧ Stand p l e R s m args below meth c B.U B.locs B.cells B.slots ∧ PostX ⟨T.setVm vm₁, locs, cells, slots⟩ (Value.ref b :: argsL).toArray q B ∧
      Steps p.tables e below (T.setTop g) ((B.U.setTop { g with stack := rest }).pushFrame (.throwing q))) := by
  obtain ⟨mk, methM, hnamed, hmethM, hstM, habM⟩ := Cond.instanceMethod_spec hinst
  obtain ⟨methM', cM, hmethM', -, -, -, -, -, -, hsigM⟩ := Cond.code_spec hnamed hcode
  cases hmethM.symm.trans hmethM'
  have hn : s.methodNamed? ⟨y.cls, y.name, y.desc⟩ = some mk := hnamed
  obtain ⟨cn, ck, r1, hcn, hck, hni, hf, hn1⟩ := Cond.sameMethod_found hsame
  have hcm : cn = mk.cls := Option.some.inj (hcn.symm.trans (findClass_of_methodNamed hnamed))
  subst hcm
  have hselP : selectMethod e.platform s.vm cellB.cls mk = .method mk := selectMethod_private hmethM (hpriv mk methM hnamed hmethM)
  obtain ⟨vm₁, X₁, hstep₁⟩ := X.invokevirtualUp hexec hown hlink hsame hy hn hmethM hstM (a := b) (cell := cellB) hcell
    (fun z h => by rw [h] at hobj; cases hobj) hselP hmethM habM hck hni (g := g) hg (argsL := argsL) (rest := rest) (hlen _ hsigM) hstack hdg
  rcases hK m meth c ⟨T.setVm vm₁, locs, cells, slots⟩ { g with stack := rest } (.invokevirtual index) mk (Value.ref b :: argsL).toArray X₁ hg hsize hdg hW (X₁.named hnamed) (hpre vm₁ X₁.warmed) with ⟨v, B, X', hpost, hsteps⟩ | ⟨q, B, X', hpost, hsteps⟩
  · exact Or.inl ⟨v, vm₁, B, X₁.warmed, X', hpost, fun target h => hstep₁ _ fun acts => by rw [doInvoke_state]; exact hsteps.trans h⟩
  · exact Or.inr ⟨q, vm₁, B, X₁.warmed, X', hpost, hstep₁ _ fun acts => by rw [doInvoke_state]; exact hsteps⟩
theorem jx_runVP {y : MethodName} {bytes cc : ByteArray} {maxL nL mc ms n index : Nat} {ret : Option FieldType} {ws : List Cond} {rm : Room} {Pc : Array Value → State → Prop} {Qc : Array Value → State → Outcome → State → Prop} {XC : String → Addr → State → State → Prop} {free : Addr → Prop} {Ts : List Cond} {own C : String} {b : Addr} {As rest : List Value} {g : JFrame}
    (S : CallFix p m c cc nL s args Ts own) (hM : vx_Met l y ws rm Pc Qc XC mc ms free) (cw : CallB R s args own index y bytes maxL ret ws rm mc ms n) (hsame : (Cond.sameMethod y.cls y.cls y.name y.desc).before args s = true) (hpriv : s.PrivateAt y) (hinst : (Cond.instanceMethod y).before args s = true) (hp : PreV s H C b Pc As)
    (hg : g.method = m) (hn : As.length = n) (hsize : g.locals.size = nL) (hstack : g.stack = As.reverse ++ .ref b :: rest) (hW : 2 * g.monitorRoom + (rest.map fun v => v.category).sum ≤ 8) (hdg : decode cc g.pc = .ok (.invokevirtual index, 3)) (hf : cells + mc ≤ R.cells ∧ slots + ms ≤ R.slots) :
    vx_Run p l e R s m args below meth c H locs cells slots mc ms g rest (Qc (Value.ref b :: As).toArray) XC free := by
  have hK : vx_Back l R p e below s args y 3 8 (PreOf R mc ms Pc) (PostOf Qc mc ms free) (vx_Post XC mc ms free) := vx_callBack cw hM hp.1
  obtain ⟨-, -, -, -, -, -, hcode, -, hy, hlen, hl⟩ := cw
  obtain ⟨hx, hb, hml, ho, -⟩ := S
  obtain ⟨-, ⟨cellB, hcB, hoB, hclB⟩, hPc⟩ := hp
  intro T hT X
  rcases jx_callVP X hx (bytes := bytes) (maxL := maxL) (ret := ret) ho hl hsame hpriv hy hinst hcode hK (by rw [hT]; exact hcB) hoB hg (hsize.trans hml.symm) (argsL := As) (rest := rest) (fun sig h => hn.trans (hlen sig h)) hstack hW (by rw [hb]; exact hdg)
    (fun vm₁ hW₁ => ⟨hf.1, hf.2, hPc (T.setVm vm₁) hT hW₁⟩) with ⟨v, vm₁, ⟨U', l2, c2, s2⟩, hW₁, X', ⟨g', mk, t, L, e1, e2, hq, h1, hL, h2, h3⟩, st⟩ | ⟨q, vm₁, ⟨U', l2, c2, s2⟩, hW₁, X', ⟨g', mk, t, L, E, ce, e1, e2, hq, hce, hcv, hcl, h1, hL, h2, h3⟩, st⟩
  · dsimp only [Pt.U, Pt.locs, Pt.cells, Pt.slots] at X' e1 e2 h1 h2 h3 st
    subst h1; subst h2; subst h3
    exact Or.inl ⟨v, (T.setVm vm₁).calling g' mk (Value.ref b :: As).toArray, t, U', L, hT, X', hL, e1, e2, hq, st⟩
  · dsimp only [Pt.U, Pt.locs, Pt.cells, Pt.slots] at X' e1 e2 h1 h2 h3 st hcl
    subst h1; subst h2; subst h3
    exact Or.inr ⟨q, (T.setVm vm₁).calling g' mk (Value.ref b :: As).toArray, t, U', L, E, ce, hT, X', hL, e1, e2, hq, hce, hcv, vx_cls hW₁ hcl, st⟩
end
def jx_wsP (own : String) (idx : Nat) (y : MethodName) (ws : List Cond) : List Cond := ([.methodLink own idx y, .sameMethod y.cls y.cls y.name y.desc, .instanceMethod y, .initialized y.cls] : List Cond) ++ ws
theorem lw_P {own : String} {idx : Nat} {y : MethodName} {b : ByteArray} {L : Nat} {r : Option FieldType} (h1 : Cond.methodLink own idx y ∈ lw_all) (h2 : Cond.sameMethod y.cls y.cls y.name y.desc ∈ lw_all) (h3 : Cond.instanceMethod y ∈ lw_all) (h4 : Cond.initialized y.cls ∈ lw_all) (h5 : Cond.code y b L r ∈ lw_all) : GoodIn lw_all (jx_wsP own idx y (ws_ y b L r)) := by
  refine lw_app ?_ (lw_meth h5)
  intro w hw
  simp only [List.mem_cons, List.not_mem_nil, or_false] at hw
  rcases hw with e | e | e | e <;> rw [e] <;> assumption
theorem lw_SU {own : String} {idx : Nat} {y : MethodName} {b : ByteArray} {L : Nat} {r : Option FieldType} (h1 : Cond.methodLink own idx y ∈ lw_all) (h2 : Cond.sameMethod y.cls y.cls y.name y.desc ∈ lw_all) (h6 : Cond.superclass own y.cls ∈ lw_all) (h3 : Cond.instanceMethod y ∈ lw_all) (h4 : Cond.initialized y.cls ∈ lw_all) (h5 : Cond.code y b L r ∈ lw_all) : GoodIn lw_all (va_wsSU own idx y (ws_ y b L r)) := by
  refine lw_app ?_ (lw_meth h5)
  intro w hw
  simp only [List.mem_cons, List.not_mem_nil, or_false] at hw
  rcases hw with e | e | e | e | e <;> rw [e] <;> assumption
theorem lw_U {own : String} {idx : Nat} {cl owner : String} {x y : MethodName} {b : ByteArray} {L : Nat} {r : Option FieldType} (h1 : Cond.methodLink own idx x ∈ lw_all) (h2 : Cond.sameMethod x.cls owner x.name x.desc ∈ lw_all) (h7 : Cond.instanceMethod ⟨owner, x.name, x.desc⟩ ∈ lw_all) (h6 : Cond.selects cl x y ∈ lw_all) (h3 : Cond.instanceMethod y ∈ lw_all) (h4 : Cond.initialized y.cls ∈ lw_all) (h5 : Cond.code y b L r ∈ lw_all) : GoodIn lw_all (va_wsO own idx cl owner x y (ws_ y b L r)) := by
  refine lw_app ?_ (lw_meth h5)
  intro w hw
  simp only [List.mem_cons, List.not_mem_nil, or_false] at hw
  rcases hw with e | e | e | e | e | e <;> rw [e] <;> assumption
theorem lw_D {own : String} {idx : Nat} {cl owner : String} {x y : MethodName} {b : ByteArray} {L : Nat} {r : Option FieldType} (h1 : Cond.methodLink own idx x ∈ lw_all) (h2 : Cond.sameMethod x.cls owner x.name x.desc ∈ lw_all) (h6 : Cond.selects cl x y ∈ lw_all) (h3 : Cond.instanceMethod y ∈ lw_all) (h4 : Cond.initialized y.cls ∈ lw_all) (h5 : Cond.code y b L r ∈ lw_all) : GoodIn lw_all (va_wsU own idx cl owner x y (ws_ y b L r)) := by
  refine lw_app ?_ (lw_meth h5)
  intro w hw
  simp only [List.mem_cons, List.not_mem_nil, or_false] at hw
  rcases hw with e | e | e | e | e <;> rw [e] <;> assumption
def jp_pb (h : jj_H) (o : Option Nat) (ci f : Nat) (x : Int) (K : jj_H → Prop) : Prop := jp_pz h o ci f x K
/-- clone() of an array of bytes -/
def jp_clB (h : jj_H) (k : Nat) (o : Option Nat) (K : Nat → jj_H → Nat → Prop) : Prop := ∃ d n f, o = some d ∧ h d = some (.inr (.inl (2, n, f))) ∧ 1 + n / 4 ≤ k ∧ (∀ i : Int, 0 ≤ i → i < (n : Int) → -128 ≤ f i ∧ f i < 128) ∧ ∀ a1, h a1 = none → K a1 (jj_set h a1 (.inr (.inl (2, n, f)))) (k - (1 + n / 4))
section RB1
variable {X : jj_X} {own : String} {cc : ByteArray} {nL pc : Nat} {vs : List (Nat × jj_AV)} {st : List jj_AV} {h : jj_H} {k : Nat} {ret : Option FieldType} {fr lo : Nat} {N : Option jj_AV → jj_H → Prop} {XN : String → Nat → jj_H → Prop}
theorem jr_cP (F : jj_F X own cc nL) (M : jj_M X ret fr lo N XN) (J : jx_G X.1 X.2.2.1) {y : MethodName} {bytes : ByteArray} {maxL fr' lo' n idx ci : Nat} {ret' : Option FieldType} {As : List jj_AV} {o : Option Nat} {K : Nat} {cl : String} {T : u_T} {nT : Nat} {N' : Option jj_AV → jj_H → Prop} {XN' : String → Nat → jj_H → Prop}
    (g : GoodIn lw_all (jx_wsP own idx y (ws_ y bytes maxL ret'))) (hpv : y ∈ jx_pv) (hd : decode cc pc = .ok (.invokevirtual idx, 3)) (hy : y.cls ≠ "java/lang/invoke/MethodHandle" ∧ y.cls ≠ "java/lang/invoke/VarHandle" ∧ (parseMethodDescriptor y.desc).map (fun d => d.parameters.length) = some n) (hn : As.length = n) (hfr : fr' + 1 ≤ fr) (hlo : 8 + (maxL + 11) + lo' ≤ lo) (hst : (st.map fun v => if jj_2 v = true then 2 else 1).sum ≤ 8)
    (hq : jj_cl[ci]? = some (cl, T, nT)) (hi : jp_is h o ci) (hk : K ≤ k)
    (C : jj_Ct X.1 X.2.2.1 y (ws_ y bytes maxL ret') fr' lo' (.inr (.inr (.inl o)) :: As) h K N' XN')
    (kn : ∀ v h', N' v h' → jj_J X nL (pc + 3) vs (v.toList ++ st) h' (k - K)) (kx : ∀ E q h', XN' E q h' → jj_JX X nL pc vs E q h' (k - K)) : jj_J X nL pc vs (As.reverse ++ .inr (.inr (.inl o)) :: st) h k := by
  obtain ⟨b, c0, rfl, hc, hci⟩ := hi
  refine jj_run hk (as := ((Value.ref b :: As.map jj_v).toArray)) (fun H locs cells slots ls hR hc1 hs1 hl => ?_) kn kx
  obtain ⟨G, p, l, e, R, s, m, args, below, meth, c, Q, A⟩ := X
  obtain ⟨hx, hb', hml, ho, hts, hK, hlk, hz, hold⟩ := F
  obtain ⟨hr, hf1, hf2, -, -⟩ := M
  have hR : jj_R G h H := hR
  have hw : ∀ w ∈ jx_wsP own idx y (ws_ y bytes maxL ret'), w.before args s = true := fun w h => hts w (g w h).1
  have hpr : s.PrivateAt y := Cond.privateMethod_at (va_Nw.use (A := args) rfl (jx_pvU J s hK.2.2.2.2 y hpv))
  exact jx_runVP (As := As.map jj_v) (rest := st.map jj_v) ⟨hx, hb', hml, ho, hts⟩ C (callB_of n hts (fun w h => g w (by unfold jx_wsP; exact List.mem_append_right _ h)) rfl rfl rfl (hw _ (by simp [jx_wsP])) (hw _ (by simp [jx_wsP])) hy ⟨by rw [hf1]; exact hfr, by rw [hf2]; exact hlo⟩) (hw _ (by simp [jx_wsP])) hpr (hw _ (by simp [jx_wsP])) ⟨jj_blind, jj_recv hK hR hc hci hq, fun U hU hW => ⟨rfl, jj_K.warm hW hK, by rw [hU]; exact hR⟩⟩ rfl (by simpa using hn) hl.1 (by simp [F0, jj_v, va_rf]) (lv_room (jj_sum8 hst)) hd ⟨hc1, hs1⟩
/-- super.m(..) -/
theorem jr_cSU (F : jj_F X own cc nL) (M : jj_M X ret fr lo N XN) {y : MethodName} {bytes : ByteArray} {maxL fr' lo' n idx ci : Nat} {ret' : Option FieldType} {As : List jj_AV} {o : Option Nat} {K : Nat} {cl : String} {T : u_T} {nT : Nat} {N' : Option jj_AV → jj_H → Prop} {XN' : String → Nat → jj_H → Prop}
    (g : GoodIn lw_all (va_wsSU own idx y (ws_ y bytes maxL ret'))) (hd : decode cc pc = .ok (.invokespecial idx, 3)) (hy1 : y.name ≠ "<init>") (hy : y.cls ≠ "java/lang/invoke/MethodHandle" ∧ y.cls ≠ "java/lang/invoke/VarHandle" ∧ (parseMethodDescriptor y.desc).map (fun d => d.parameters.length) = some n) (hn : As.length = n) (hfr : fr' + 1 ≤ fr) (hlo : 8 + (maxL + 11) + lo' ≤ lo) (hst : (st.map fun v => if jj_2 v = true then 2 else 1).sum ≤ 8)
    (hq : jj_cl[ci]? = some (cl, T, nT)) (hi : jp_is h o ci) (hk : K ≤ k)
    (C : jj_Ct X.1 X.2.2.1 y (ws_ y bytes maxL ret') fr' lo' (.inr (.inr (.inl o)) :: As) h K N' XN')
    (kn : ∀ v h', N' v h' → jj_J X nL (pc + 3) vs (v.toList ++ st) h' (k - K)) (kx : ∀ E q h', XN' E q h' → jj_JX X nL pc vs E q h' (k - K)) : jj_J X nL pc vs (As.reverse ++ .inr (.inr (.inl o)) :: st) h k := by
  obtain ⟨b, c0, rfl, hc, hci⟩ := hi
  refine jj_run hk (as := ((Value.ref b :: As.map jj_v).toArray)) (fun H locs cells slots ls hR hc1 hs1 hl => ?_) kn kx
  obtain ⟨G, p, l, e, R, s, m, args, below, meth, c, Q, A⟩ := X
  obtain ⟨hx, hb', hml, ho, hts, hK, hlk, hz, hold⟩ := F
  obtain ⟨hr, hf1, hf2, -, -⟩ := M
  have hR : jj_R G h H := hR
  exact vx_runSU (As := As.map jj_v) (rest := st.map jj_v) (hK.1.1 ci _ hq).2 ⟨hx, hb', hml, ho, hts⟩ C (va_cwSU n hts g rfl rfl rfl ⟨hy1, hy.2.2⟩ ⟨by rw [hf1]; exact hfr, by rw [hf2]; exact hlo⟩) ⟨jj_blind, jj_recv hK hR hc hci hq, fun U hU hW => ⟨rfl, jj_K.warm hW hK, by rw [hU]; exact hR⟩⟩ rfl (by simpa using hn) hl.1 (by simp [F0, jj_v, va_rf]) (lv_room (jj_sum8 hst)) hd ⟨hc1, hs1⟩
theorem jr_cU (F : jj_F X own cc nL) (M : jj_M X ret fr lo N XN) {x y : MethodName} {owner : String} {bytes b0 : ByteArray} {maxL m0 fr' lo' n idx ci : Nat} {r0 : Option FieldType} {ret' : Option FieldType} {As : List jj_AV} {o : Option Nat} {K : Nat} {cl : String} {T : u_T} {nT : Nat} {N' : Option jj_AV → jj_H → Prop} {XN' : String → Nat → jj_H → Prop}
    (g : GoodIn lw_all (va_wsO own idx cl owner x y (ws_ y bytes maxL ret'))) (qd : Cond.code ⟨owner, x.name, x.desc⟩ b0 m0 r0 ∈ lw_all) (hd : decode cc pc = .ok (.invokevirtual idx, 3)) (hy : owner ≠ "java/lang/invoke/MethodHandle" ∧ owner ≠ "java/lang/invoke/VarHandle" ∧ (parseMethodDescriptor x.desc).map (fun d => d.parameters.length) = some n) (hn : As.length = n) (hfr : fr' + 1 ≤ fr) (hlo : 8 + (maxL + 11) + lo' ≤ lo) (hst : (st.map fun v => if jj_2 v = true then 2 else 1).sum ≤ 8)
    (hq : jj_cl[ci]? = some (cl, T, nT)) (hi : jp_is h o ci) (hk : K ≤ k)
    (C : jj_Ct X.1 X.2.2.1 y (ws_ y bytes maxL ret') fr' lo' (.inr (.inr (.inl o)) :: As) h K N' XN')
    (kn : ∀ v h', N' v h' → jj_J X nL (pc + 3) vs (v.toList ++ st) h' (k - K)) (kx : ∀ E q h', XN' E q h' → jj_JX X nL pc vs E q h' (k - K)) : jj_J X nL pc vs (As.reverse ++ .inr (.inr (.inl o)) :: st) h k := by
  obtain ⟨b, c0, rfl, hc, hci⟩ := hi
  exact jr_callU F M g qd hd hy hn hfr hlo hst hc hci hq hk C kn kx
/-- the method that the reference names has no code here: it is abstract, native -/
theorem jr_cD (F : jj_F X own cc nL) (M : jj_M X ret fr lo N XN) {x y : MethodName} {owner : String} {bytes : ByteArray} {maxL fr' lo' n idx ci : Nat} {ret' : Option FieldType} {As : List jj_AV} {o : Option Nat} {K : Nat} {cl : String} {T : u_T} {nT : Nat} {N' : Option jj_AV → jj_H → Prop} {XN' : String → Nat → jj_H → Prop}
    (g : GoodIn lw_all (va_wsU own idx cl owner x y (ws_ y bytes maxL ret'))) (qd : Cond.declares ⟨owner, x.name, x.desc⟩ ∈ lw_tbl) (hd : decode cc pc = .ok (.invokevirtual idx, 3)) (hy : owner ≠ "java/lang/invoke/MethodHandle" ∧ owner ≠ "java/lang/invoke/VarHandle" ∧ (parseMethodDescriptor x.desc).map (fun d => d.parameters.length) = some n) (hn : As.length = n) (hfr : fr' + 1 ≤ fr) (hlo : 8 + (maxL + 11) + lo' ≤ lo) (hst : (st.map fun v => if jj_2 v = true then 2 else 1).sum ≤ 8)
    (hq : jj_cl[ci]? = some (cl, T, nT)) (hi : jp_is h o ci) (hk : K ≤ k)
    (C : jj_Ct X.1 X.2.2.1 y (ws_ y bytes maxL ret') fr' lo' (.inr (.inr (.inl o)) :: As) h K N' XN')
    (kn : ∀ v h', N' v h' → jj_J X nL (pc + 3) vs (v.toList ++ st) h' (k - K)) (kx : ∀ E q h', XN' E q h' → jj_JX X nL pc vs E q h' (k - K)) : jj_J X nL pc vs (As.reverse ++ .inr (.inr (.inl o)) :: st) h k := by
  obtain ⟨b, c0, rfl, hc, hci⟩ := hi
  refine jj_run hk (as := ((Value.ref b :: As.map jj_v).toArray)) (fun H locs cells slots ls hR hc1 hs1 hl => ?_) kn kx
  obtain ⟨G, p, l, e, R, s, m, args, below, meth, c, Q, A⟩ := X
  obtain ⟨hx, hb', hml, ho, hts, hK, hlk, hz, hold⟩ := F
  obtain ⟨hr, hf1, hf2, -, -⟩ := M
  have hR : jj_R G h H := hR
  have ok : ∀ w ∈ va_wsU own idx cl owner x y (ws_ y bytes maxL ret'), w.before args s = true := fun w h => hts w (g w h).1
  have hG : GoodIn lw_all (ws_ y bytes maxL ret') := fun w h => g w (by unfold va_wsU; exact List.mem_append_right _ h)
  have hcm : Cond.code y bytes maxL ret' ∈ ws_ y bytes maxL ret' := List.mem_cons_self
  have hdl : va_Decl s ⟨owner, x.name, x.desc⟩ := Cond.declares_spec (va_Nw.use (A := args) rfl (hK.2.2.2.1 _ (jj_nwm qd rfl)))
  refine vx_runU (As := As.map jj_v) (rest := st.map jj_v) (C := cl) (owner := owner) (x := x) (n := n) (index := idx) ⟨hx, hb', hml, ho, hts⟩ C ⟨⟨rfl, rfl, by rw [hf1]; exact hfr, by rw [hf2]; exact hlo, pay_in hts hG, hcm⟩, hts _ (hG _ hcm).1, ok _ (by simp [va_wsU]), ⟨hy.1, hy.2.1⟩, fun sig h => ?_, ok _ (by simp [va_wsU]), ok _ (by simp [va_wsU]), hdl, ok _ (by simp [va_wsU]), ok _ (by simp [va_wsU])⟩ ⟨jj_blind, jj_recv hK hR hc hci hq, fun U hU hW => ⟨rfl, jj_K.warm hW hK, by rw [hU]; exact hR⟩⟩ rfl (by simpa using hn) hl.1 (by simp [F0, jj_v, va_rf]) (lv_room (jj_sum8 hst)) hd ⟨hc1, hs1⟩
  have h2 := hy.2.2
  rw [h] at h2
  exact (Option.some.inj h2).symm
theorem jr_pb (F : jj_F X own cc nL) {C : String} {T : u_T} {nT ci f idx : Nat} {x : Int} {o : Option Nat} {ty : Nat → FieldType} {K : jj_H → Prop} (hq : jj_cl[ci]? = some (C, T, nT)) (hin : ∀ w ∈ u_ws C T nT, w ∈ lw_all) (hty : ∀ k, k < nT → parseFieldDescriptor (T k).2.2.1 = some (ty k)) (hnm : ∀ a, a < nT → ∀ b, b < nT → a ≠ b → (T a).2.1 ≠ (T b).2.1) (hf : f < nT) (ht : ty f = .byte) (hfin : (T f).2.2.2 = false) (q : Cond.fieldLink own idx (T f).1 (T f).2.1 (T f).2.2.1 ∈ lw_all) (hd : decode cc pc = .ok (.putfield idx, 3)) (w : jp_pb h o ci f x K) (kk : ∀ h', K h' → jj_J X nL (pc + 3) vs st h' k) : jj_J X nL pc vs (.inl x :: .inr (.inr (.inl o)) :: st) h k := by
  obtain ⟨a, fs, rfl, hc, hx, w⟩ := w
  exact jj_putJ F hq hin hty hnm hf (Or.inl ⟨hfin, q⟩) (by rw [ht]; rcases hx with rfl | rfl <;> rfl) (by rw [ht]; rcases hx with rfl | rfl <;> rfl) hc hd (kk _ w)
theorem jr_pbF (F : jj_F X own cc nL) {C : String} {T : u_T} {nT ci f idx : Nat} {x : Int} {o : Option Nat} {ty : Nat → FieldType} {K : jj_H → Prop} (hq : jj_cl[ci]? = some (C, T, nT)) (hin : ∀ w ∈ u_ws C T nT, w ∈ lw_all) (hty : ∀ k, k < nT → parseFieldDescriptor (T k).2.2.1 = some (ty k)) (hnm : ∀ a, a < nT → ∀ b, b < nT → a ≠ b → (T a).2.1 ≠ (T b).2.1) (hf : f < nT) (ht : ty f = .byte) (hfin : (T f).2.2.2 = true) (hown : (T f).1 = own) (hi : X.2.2.2.2.2.2.2.2.2.1.name = "<init>") (q : Cond.fieldLink own idx (T f).1 (T f).2.1 (T f).2.2.1 ∈ lw_all) (hd : decode cc pc = .ok (.putfield idx, 3)) (w : jp_pb h o ci f x K) (kk : ∀ h', K h' → jj_J X nL (pc + 3) vs st h' k) : jj_J X nL pc vs (.inl x :: .inr (.inr (.inl o)) :: st) h k := by
  obtain ⟨a, fs, rfl, hc, hx, w⟩ := w
  exact jj_putJ F hq hin hty hnm hf (Or.inr (Or.inr ⟨hfin, hown, hi, q⟩)) (by rw [ht]; rcases hx with rfl | rfl <;> rfl) (by rw [ht]; rcases hx with rfl | rfl <;> rfl) hc hd (kk _ w)
theorem jr_cloneB (F : jj_F X own cc nL) (M : jj_M X ret fr lo N XN) {idx : Nat} {o : Option Nat} {K : Nat → jj_H → Nat → Prop} (q : Cond.methodLink own idx ⟨"[B", "clone", "()Ljava/lang/Object;"⟩ ∈ lw_all) (hfr : 1 ≤ fr) (hlo : 22 ≤ lo) (hst : (st.map fun v => if jj_2 v = true then 2 else 1).sum ≤ 8) (hd : decode cc pc = .ok (.invokevirtual idx, 3)) (w : jp_clB h k o K) (kk : ∀ a h' k', K a h' k' → jj_J X nL (pc + 3) vs (.inr (.inr (.inl (some a))) :: st) h' k') : jj_J X nL pc vs (.inr (.inr (.inl o)) :: st) h k := by
  obtain ⟨d, n, f, rfl, hc, hck, hf, w⟩ := w
  obtain ⟨G, p, l, e, R, s, m, args, below, meth, c1, Q, A⟩ := X
  obtain ⟨hx, hb, hml, ho, hts, hK, hlk, hz, hold⟩ := F
  obtain ⟨hr, hf1, hf2, -, -⟩ := M
  intro H locs cells slots ls hR hS hc' hs hl T hT X
  have hR0 : jj_R G h H := hR
  have hc' : cells + k ≤ R.cells := hc'
  have hs : slots + 4 * k ≤ R.slots := hs
  obtain ⟨hba, hn, hcell⟩ := jj_icAt hR0 hc
  have h9 := jj_sum8 hst
  have hnm : s.vm.findClass "[B" = some (jj_gA G 2) := va_nm_byte (hK.1.2 2 _ rfl).2
  obtain ⟨c0, t0', f1, f2, f3⟩ := Cond.castable_spec (va_Nw.use (A := args) rfl (hK.2.2.2.1 _ (jj_nwm q334 rfl)))
  cases hnm.symm.trans f1
  have hcellT : T.heap[d]? = some (jj_ic G 2 n f) := by rw [hT]; exact hcell
  obtain ⟨-, kA, hkA, comp, hkind⟩ := State.isArrayOf_alike X.warmed.alike ((hK.1.2 2 _ rfl).1 0 (fun _ => .null))
  obtain ⟨-, kS, hkS, compS, hkindS⟩ := (hK.1.2 2 _ rfl).1 0 (fun _ => .null)
  obtain ⟨vm', X', st'⟩ := X.cloneArray hx ho (hts _ q) (hts _ q330) (hts _ q331) (hts _ q332) (hts _ q333) (a := d) (cell := jj_ic G 2 n f) hcellT (fun k h => by cases h) (fun h => by cases h) hnm f2 f3
    (fun i v hv => by
      have hk' : T.vm.classes[jj_gA G 2]? = some kA := hkA
      have hfit : fits .byte v = true := va_fit (F := fun j => jj_pv 2 (f (j : Int))) (n := n) (fun i hi => jj_bytF (hf i (by omega) (by omega))) i v hv
      show T.fitsSlot (jj_gA G 2) .none i v = true
      simpa [State.fitsSlot, State.slotType?, hk', hkind] using hfit)
    (g := F0 m pc ls (.ref d :: st.map jj_v)) rfl (hl.1.trans hml.symm) (rest := st.map jj_v) rfl (by rw [hb]; exact hd) (by rw [hf1]; exact hfr) (by show 2 * 0 + _ + 14 ≤ _; rw [hf2]; omega) (by omega) (by show slots + (arrV _ n _).slots.size ≤ _; rw [arrV_size]; omega) (hloader := Vm.clonesLoader_of_array hkS hkindS)
  have hcellE : ({ cls := (jj_ic G 2 n f).cls, slots := (jj_ic G 2 n f).slots } : Cell) = jj_ic G 2 n f := rfl
  have hsz : (jj_ic G 2 n f).slots.size = n := arrV_size _ _ _
  rw [hcellE, hsz] at X'
  generalize hH1 : H.push (jj_ic G 2 n f) = H1
  have z1 : H1.size = H.size + 1 := by rw [← hH1, Array.size_push]
  have e1 : H1[H.size]? = some (jj_ic G 2 n f) := by rw [← hH1, Array.getElem?_push_size]
  have o1 : ∀ q : Nat, q < H.size → H1[q]? = H[q]? := fun q hq => by rw [← hH1, Array.getElem?_push, if_neg (Nat.ne_of_lt hq)]
  have hp := jj_R.push (c' := .inr (.inl (2, n, f))) hK.2.1 hR0 (show H.size < H1.size by omega) o1 (fun own ho' => ⟨ho', hR0.1, hn, e1⟩)
  obtain ⟨t, b1, b2⟩ := kk H.size _ _ (w H.size hp.1) H1 locs (cells + 1) (slots + n) ls hp.2 ⟨Nat.le_trans hS.1 (by omega), fun q h1 h2 => (o1 q (Nat.lt_of_lt_of_le h1 hS.1)).trans (hS.2.1 q h1 h2), hS.2.2⟩ (by show cells + 1 + (k - (1 + n / 4)) ≤ R.cells; omega) (by show slots + n + 4 * (k - (1 + n / 4)) ≤ R.slots; omega) hl
    ((T.setVm vm').pushCell (jj_ic G 2 n f)) (by rw [← hH1, ← hT]; rfl) X'
  refine ⟨t, st' t ?_, b2⟩
  rw [hcellE, hT]
  exact b1
theorem jr_jVR (F : jj_F X own cc nL) (M : jj_M X ret fr lo N XN) {y : MethodName} {bytes : ByteArray} {maxL : Nat} {fr' lo' n idx ci : Nat} {ret' : Option FieldType} {As : List jj_AV} {o : Option Nat} {cl : String} {T : u_T} {nT : Nat} {N' : Option jj_AV → jj_H → Nat → Prop}
    (g : GoodIn lw_all (wsV own idx cl y (ws_ y bytes maxL ret'))) (hd : decode cc pc = .ok (.invokevirtual idx, 3)) (hy : y.cls = cl ∧ y.cls ≠ "java/lang/invoke/MethodHandle" ∧ y.cls ≠ "java/lang/invoke/VarHandle" ∧ (parseMethodDescriptor y.desc).map (fun d => d.parameters.length) = some n) (hn : As.length = n) (hfr : fr' + 1 ≤ fr) (hlo : 8 + (maxL + 11) + lo' ≤ lo) (hst : (st.map fun v => if jj_2 v = true then 2 else 1).sum ≤ 8) (hq : jj_cl[ci]? = some (cl, T, nT))
    (w : jj_jcR X.1 X.2.2.1 fr' lo' y bytes maxL ret' ci o As h k N') (kn : ∀ v h' k', N' v h' k' → jj_J X nL (pc + 3) vs (v.toList ++ st) h' k') : jj_J X nL pc vs (As.reverse ++ .inr (.inr (.inl o)) :: st) h k := by
  obtain ⟨a, c, K, rfl, hc, hci, hK, C⟩ := w
  exact jr_callV F M g hd hy hn hfr hlo hst hc hci hq hK C (fun v h' q => kn v h' _ q) (fun _ _ _ q => q.elim)
theorem jr_jUR (F : jj_F X own cc nL) (M : jj_M X ret fr lo N XN) {x y : MethodName} {owner : String} {bytes b0 : ByteArray} {maxL m0 : Nat} {r0 : Option FieldType} {fr' lo' n idx ci : Nat} {ret' : Option FieldType} {As : List jj_AV} {o : Option Nat} {cl : String} {T : u_T} {nT : Nat} {N' : Option jj_AV → jj_H → Nat → Prop}
    (g : GoodIn lw_all (va_wsO own idx cl owner x y (ws_ y bytes maxL ret'))) (qd : Cond.code ⟨owner, x.name, x.desc⟩ b0 m0 r0 ∈ lw_all) (hd : decode cc pc = .ok (.invokevirtual idx, 3)) (hy : owner ≠ "java/lang/invoke/MethodHandle" ∧ owner ≠ "java/lang/invoke/VarHandle" ∧ (parseMethodDescriptor x.desc).map (fun d => d.parameters.length) = some n) (hn : As.length = n) (hfr : fr' + 1 ≤ fr) (hlo : 8 + (maxL + 11) + lo' ≤ lo) (hst : (st.map fun v => if jj_2 v = true then 2 else 1).sum ≤ 8) (hq : jj_cl[ci]? = some (cl, T, nT))
    (w : jj_jcR X.1 X.2.2.1 fr' lo' y bytes maxL ret' ci o As h k N') (kn : ∀ v h' k', N' v h' k' → jj_J X nL (pc + 3) vs (v.toList ++ st) h' k') : jj_J X nL pc vs (As.reverse ++ .inr (.inr (.inl o)) :: st) h k := by
  obtain ⟨a, c, K, rfl, hc, hci, hK, C⟩ := w
  exact jr_callU F M g qd hd hy hn hfr hlo hst hc hci hq hK C (fun v h' q => kn v h' _ q) (fun _ _ _ q => q.elim)
theorem jr_jDR (F : jj_F X own cc nL) (M : jj_M X ret fr lo N XN) {x y : MethodName} {owner : String} {bytes : ByteArray} {maxL : Nat} {fr' lo' n idx ci : Nat} {ret' : Option FieldType} {As : List jj_AV} {o : Option Nat} {cl : String} {T : u_T} {nT : Nat} {N' : Option jj_AV → jj_H → Nat → Prop}
    (g : GoodIn lw_all (va_wsU own idx cl owner x y (ws_ y bytes maxL ret'))) (qd : Cond.declares ⟨owner, x.name, x.desc⟩ ∈ lw_tbl) (hd : decode cc pc = .ok (.invokevirtual idx, 3)) (hy : owner ≠ "java/lang/invoke/MethodHandle" ∧ owner ≠ "java/lang/invoke/VarHandle" ∧ (parseMethodDescriptor x.desc).map (fun d => d.parameters.length) = some n) (hn : As.length = n) (hfr : fr' + 1 ≤ fr) (hlo : 8 + (maxL + 11) + lo' ≤ lo) (hst : (st.map fun v => if jj_2 v = true then 2 else 1).sum ≤ 8) (hq : jj_cl[ci]? = some (cl, T, nT))
    (w : jj_jcR X.1 X.2.2.1 fr' lo' y bytes maxL ret' ci o As h k N') (kn : ∀ v h' k', N' v h' k' → jj_J X nL (pc + 3) vs (v.toList ++ st) h' k') : jj_J X nL pc vs (As.reverse ++ .inr (.inr (.inl o)) :: st) h k := by
  obtain ⟨a, c, K, rfl, hc, hci, hK, C⟩ := w
  exact jr_cD F M g qd hd hy hn hfr hlo hst hq ⟨a, c, rfl, hc, hci⟩ hK C (fun v h' q => kn v h' _ q) (fun _ _ _ q => q.elim)
theorem jr_jFR (F : jj_F X own cc nL) (M : jj_M X ret fr lo N XN) {x y : MethodName} {bytes : ByteArray} {maxL cnt : Nat} {fr' lo' n idx ci : Nat} {ret' : Option FieldType} {As : List jj_AV} {o : Option Nat} {cl : String} {T : u_T} {nT : Nat} {N' : Option jj_AV → jj_H → Nat → Prop}
    (g : GoodIn lw_all (va_wsF own idx cl x y (ws_ y bytes maxL ret'))) (hFw : ∀ U, jj_ge X.1 U → va_Fw cl x y U) (hd : decode cc pc = .ok (.invokeinterface idx cnt, 5)) (hy : x.cls ≠ "java/lang/invoke/MethodHandle" ∧ x.cls ≠ "java/lang/invoke/VarHandle" ∧ (parseMethodDescriptor x.desc).map (fun d => d.parameters.length) = some n) (hn : As.length = n) (hfr : fr' + 1 ≤ fr) (hlo : 8 + (maxL + 11) + lo' ≤ lo) (hst : (st.map fun v => if jj_2 v = true then 2 else 1).sum ≤ 8) (hq : jj_cl[ci]? = some (cl, T, nT))
    (w : jj_jcR X.1 X.2.2.1 fr' lo' y bytes maxL ret' ci o As h k N') (kn : ∀ v h' k', N' v h' k' → jj_J X nL (pc + 5) vs (v.toList ++ st) h' k') : jj_J X nL pc vs (As.reverse ++ .inr (.inr (.inl o)) :: st) h k := by
  obtain ⟨a, c, K, rfl, hc, hci, hK, C⟩ := w
  exact jr_cF F M g hFw hd hy hn hfr hlo hst hq ⟨a, c, rfl, hc, hci⟩ hK C (fun v h' q => kn v h' _ q) (fun _ _ _ q => q.elim)
end RB1
def df_J9 : List jj_AV := [jj_rf none, .inl 0, .inl 0, .inl 0]
theorem dfo_J9 : ∀ j, j < 4 → defaultValue (tyJ9 j) = vp_V (df_J9.map jj_v) j := by
  intro j hj
  match j, hj with
  | 0, _ => rfl
  | 1, _ => rfl
  | 2, _ => rfl
  | 3, _ => rfl
  | j + 4, hj => exact absurd hj (by omega)
