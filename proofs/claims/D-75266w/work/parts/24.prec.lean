/-! what the component's walks share -/
def jp_so (o : Option Nat) : Prop := ∃ a, o = some a
def jp_th (h : jj_H) (o : Option Nat) (ci : Nat) (K : Nat → Prop) : Prop := ∃ q c, o = some q ∧ h q = some c ∧ jj_cls c = some ci ∧ K q
/-- contracts' ends -/
def jc_v (Q : jj_H → Prop) : Option jj_AV → jj_H → Prop := fun v h => v = none ∧ Q h
def jc_i (Q : Int → jj_H → Prop) : Option jj_AV → jj_H → Prop := fun v h => ∃ r, v = some (.inl r) ∧ Q r h
def jc_r (Q : Option Nat → jj_H → Prop) : Option jj_AV → jj_H → Prop := fun v h => ∃ r, v = some (.inr (.inr (.inl r))) ∧ Q r h
theorem jj_at0 {ws : List Cond} (h : ∀ w ∈ ws, w ∈ lw_tbl) (g : ∀ w ∈ ws, goodWord w = true ∨ jj_nwk w = true) : ∀ w ∈ ws, w ∈ lw_all ∨ w ∈ jj_nw := fun w hw => (g w hw).elim (fun q => Or.inl (lw_g (h w hw) q)) (fun q => Or.inr (jj_nwm (h w hw) q))
theorem jj_tbO {X : jj_X} {hh : List (Nat × Nat × Nat × Nat)} {pc : Nat} (Tb : jj_tb X hh) (h : ∀ z ∈ tableOf hh, covers z pc = false) : ∀ x ∈ X.2.2.2.2.2.2.2.2.2.2.1.exceptionTable.toList, covers x pc = false := fun x hx => h x (Tb ▸ hx)
theorem jj_to1 {z : Int} (h0 : ¬ z = 0) (h1 : ¬ z = 1) : z < 0 ∨ 1 < z := by omega
theorem jj_to2 {z : Int} (h0 : ¬ z = 0) (h1 : ¬ z = 1) (h2 : ¬ z = 2) : z < 0 ∨ 2 < z := by omega
theorem jj_to3 {z : Int} (h0 : ¬ z = 0) (h1 : ¬ z = 1) (h2 : ¬ z = 2) (h3 : ¬ z = 3) : z < 0 ∨ 3 < z := by omega
theorem jj_to4 {z : Int} (h0 : ¬ z = 0) (h1 : ¬ z = 1) (h2 : ¬ z = 2) (h3 : ¬ z = 3) (h4 : ¬ z = 4) : z < 0 ∨ 4 < z := by omega
theorem jj_to5 {z : Int} (h0 : ¬ z = 0) (h1 : ¬ z = 1) (h2 : ¬ z = 2) (h3 : ¬ z = 3) (h4 : ¬ z = 4) (h5 : ¬ z = 5) : z < 0 ∨ 5 < z := by omega
theorem jj_to6 {z : Int} (h0 : ¬ z = 0) (h1 : ¬ z = 1) (h2 : ¬ z = 2) (h3 : ¬ z = 3) (h4 : ¬ z = 4) (h5 : ¬ z = 5) (h6 : ¬ z = 6) : z < 0 ∨ 6 < z := by omega
section RPC
variable {X : jj_X} {own : String} {cc : ByteArray} {nL pc : Nat} {vs : List (Nat × jj_AV)} {st : List jj_AV} {h : jj_H} {k : Nat} {ret : Option FieldType} {fr lo : Nat} {N : Option jj_AV → jj_H → Prop} {XN : String → Nat → jj_H → Prop}
theorem jr_thr (F : jj_F X own cc nL) {E : String} {T : u_T} {nT ci : Nat} {o : Option Nat} {K : Nat → Prop} (hq : jj_cl[ci]? = some (E, T, nT)) (hd : decode cc pc = .ok (.athrow, 1)) (w : jp_th h o ci K) (kx : ∀ q, K q → jj_JX X nL pc vs E q h k) : jj_J X nL pc vs (.inr (.inr (.inl o)) :: st) h k := by
  obtain ⟨q, c, rfl, hc, hci, w⟩ := w
  exact jr_athrow F hq hc hci hd (kx q w)
theorem jr_objInitO (F : jj_F X own cc nL) (M : jj_M X ret fr lo N XN) {idx : Nat} {o : Option Nat} (q : Cond.methodLink own idx Lib.objectInit ∈ lw_all) (q1 : Cond.instanceMethod Lib.objectInit ∈ lw_all) (q2 : Cond.code Lib.objectInit ⟨#[0xb1]⟩ 1 none ∈ lw_all) (ho : jp_so o) (hfr : 1 ≤ fr) (hlo : 20 ≤ lo) (hst : (st.map fun v => if jj_2 v = true then 2 else 1).sum ≤ 8) (hd : decode cc pc = .ok (.invokespecial idx, 3)) (kk : jj_J X nL (pc + 3) vs st h k) : jj_J X nL pc vs (.inr (.inr (.inl o)) :: st) h k := by
  obtain ⟨a, rfl⟩ := ho
  exact jr_objInit F M q q1 q2 hfr hlo hst hd kk
theorem jr_cI (F : jj_F X own cc nL) (M : jj_M X ret fr lo N XN) {y : MethodName} {bytes : ByteArray} {maxL fr' lo' n idx : Nat} {As : List jj_AV} {o : Option Nat} {K : Nat} {N' : Option jj_AV → jj_H → Prop} {XN' : String → Nat → jj_H → Prop}
    (q : Cond.methodLink own idx y ∈ lw_all) (qi : Cond.instanceMethod y ∈ lw_all) (q0 : Cond.initialized y.cls ∈ lw_all) (qc : Cond.code y bytes maxL none ∈ lw_all) (hd : decode cc pc = .ok (.invokespecial idx, 3)) (hy1 : y.name = "<init>") (hy : y.cls ≠ "java/lang/invoke/MethodHandle" ∧ y.cls ≠ "java/lang/invoke/VarHandle" ∧ (parseMethodDescriptor y.desc).map (fun d => d.parameters.length) = some n) (hn : As.length = n) (hfr : fr' + 1 ≤ fr) (hlo : 8 + (maxL + 11) + lo' ≤ lo) (hst : (st.map fun v => if jj_2 v = true then 2 else 1).sum ≤ 8) (ho : jp_so o) (hk : K ≤ k)
    (C : jj_Ct X.1 X.2.2.1 y (ws_ y bytes maxL none) fr' lo' (.inr (.inr (.inl o)) :: As) h K N' XN')
    (kn : ∀ v h', N' v h' → jj_J X nL (pc + 3) vs (v.toList ++ st) h' (k - K)) (kx : ∀ E q h', XN' E q h' → jj_JX X nL pc vs E q h' (k - K)) : jj_J X nL pc vs (As.reverse ++ .inr (.inr (.inl o)) :: st) h k := by
  obtain ⟨a, rfl⟩ := ho
  exact jr_callI F M q qi q0 qc hd hy1 hy hn hfr hlo hst hk C kn kx
theorem jr_cIN (F : jj_F X own cc nL) (M : jj_M X ret fr lo N XN) {y : MethodName} {host : String} {bytes : ByteArray} {maxL fr' lo' n idx : Nat} {As : List jj_AV} {o : Option Nat} {K : Nat} {N' : Option jj_AV → jj_H → Prop} {XN' : String → Nat → jj_H → Prop}
    (q : Cond.methodLinkNest own idx y host ∈ lw_tbl) (qi : Cond.instanceMethod y ∈ lw_all) (q0 : Cond.initialized y.cls ∈ lw_all) (qc : Cond.code y bytes maxL none ∈ lw_all) (hd : decode cc pc = .ok (.invokespecial idx, 3)) (hy1 : y.name = "<init>") (hy : y.cls ≠ "java/lang/invoke/MethodHandle" ∧ y.cls ≠ "java/lang/invoke/VarHandle" ∧ (parseMethodDescriptor y.desc).map (fun d => d.parameters.length) = some n) (hn : As.length = n) (hfr : fr' + 1 ≤ fr) (hlo : 8 + (maxL + 11) + lo' ≤ lo) (hst : (st.map fun v => if jj_2 v = true then 2 else 1).sum ≤ 8) (ho : jp_so o) (hk : K ≤ k)
    (C : jj_Ct X.1 X.2.2.1 y (ws_ y bytes maxL none) fr' lo' (.inr (.inr (.inl o)) :: As) h K N' XN')
    (kn : ∀ v h', N' v h' → jj_J X nL (pc + 3) vs (v.toList ++ st) h' (k - K)) (kx : ∀ E q h', XN' E q h' → jj_JX X nL pc vs E q h' (k - K)) : jj_J X nL pc vs (As.reverse ++ .inr (.inr (.inl o)) :: st) h k := by
  obtain ⟨a, rfl⟩ := ho
  exact jr_callIN F M q qi q0 qc hd hy1 hy hn hfr hlo hst hk C kn kx
theorem jr_newI (F : jj_F X own cc nL) {n : Int} {K : Nat → jj_H → Nat → Prop} (q : Cond.arrayClass .int ∈ lw_all) (hd : decode cc pc = .ok (.newarray .int, 2)) (w : jp_ni h k 0 n K) (kk : ∀ a h' k', K a h' k' → jj_J X nL (pc + 2) vs (.inr (.inr (.inl (some a))) :: st) h' k') : jj_J X nL pc vs (.inl n :: st) h k := jr_newi (i0 := 0) F rfl (fun _ => rfl) (fun _ _ q => q) (by decide) rfl q hd w kk
theorem jr_newJ (F : jj_F X own cc nL) {n : Int} {K : Nat → jj_H → Nat → Prop} (q : Cond.arrayClass .long ∈ lw_all) (hd : decode cc pc = .ok (.newarray .long, 2)) (w : jp_ni h k 1 n K) (kk : ∀ a h' k', K a h' k' → jj_J X nL (pc + 2) vs (.inr (.inr (.inl (some a))) :: st) h' k') : jj_J X nL pc vs (.inl n :: st) h k := jr_newi (i0 := 1) F rfl (fun _ => rfl) (fun _ _ q => q) (by decide) rfl q hd w kk
theorem jr_newB (F : jj_F X own cc nL) {n : Int} {K : Nat → jj_H → Nat → Prop} (q : Cond.arrayClass .byte ∈ lw_all) (hd : decode cc pc = .ok (.newarray .byte, 2)) (w : jp_ni h k 2 n K) (kk : ∀ a h' k', K a h' k' → jj_J X nL (pc + 2) vs (.inr (.inr (.inl (some a))) :: st) h' k') : jj_J X nL pc vs (.inl n :: st) h k := jr_newi (i0 := 2) F rfl (fun _ => rfl) (fun _ _ q => q) (by decide) rfl q hd w kk
theorem jr_newR (F : jj_F X own cc nL) {n : Int} {t idx : Nat} {E : String} {K : Nat → jj_H → Nat → Prop} (hi0 : ∀ G : jj_G, (jj_tys G)[4 + t]? = some (jj_gR G t, FieldType.object E)) (qc : Cond.classLink own idx E ∈ lw_all) (hA : ∀ U, jj_ge X.1 U → va_AO E U) (hd : decode cc pc = .ok (.anewarray idx, 3)) (w : jp_nr h k t n K) (kk : ∀ a h' k', K a h' k' → jj_J X nL (pc + 3) vs (.inr (.inr (.inl (some a))) :: st) h' k') : jj_J X nL pc vs (.inl n :: st) h k := by
  have hge : jj_ge X.1 X.2.2.2.2.2.1 := by
    obtain ⟨G, p, l, e, R, s, m, args, below, meth, c, Q, A⟩ := X
    exact F.2.2.2.2.2.1.2.2.2.2
  exact jr_newr F hi0 qc (hA _ hge) hd w kk
end RPC
set_option maxRecDepth 100000
def df_X1 : List jj_AV := [jj_rf none, jj_rf none, jj_rf none, jj_rf none, .inl 0, jj_rf none, .inl 0, .inl 0]
theorem dfo_X1 : ∀ j, j < 8 → defaultValue (tyX1 j) = vp_V (df_X1.map jj_v) j := by
  intro j hj
  match j, hj with
  | 0, _ => rfl
  | 1, _ => rfl
  | 2, _ => rfl
  | 3, _ => rfl
  | 4, _ => rfl
  | 5, _ => rfl
  | 6, _ => rfl
  | 7, _ => rfl
  | j + 8, hj => exact absurd hj (by omega)
def df_X2 : List jj_AV := [jj_rf none, jj_rf none, jj_rf none, jj_rf none, .inl 0, .inl 0]
theorem dfo_X2 : ∀ j, j < 6 → defaultValue (tyX2 j) = vp_V (df_X2.map jj_v) j := by
  intro j hj
  match j, hj with
  | 0, _ => rfl
  | 1, _ => rfl
  | 2, _ => rfl
  | 3, _ => rfl
  | 4, _ => rfl
  | 5, _ => rfl
  | j + 6, hj => exact absurd hj (by omega)
def df_X5 : List jj_AV := [jj_rf none, jj_rf none, .inl 0, .inl 0, jj_rf none, jj_rf none, jj_rf none]
theorem dfo_X5 : ∀ j, j < 7 → defaultValue (tyX5 j) = vp_V (df_X5.map jj_v) j := by
  intro j hj
  match j, hj with
  | 0, _ => rfl
  | 1, _ => rfl
  | 2, _ => rfl
  | 3, _ => rfl
  | 4, _ => rfl
  | 5, _ => rfl
  | 6, _ => rfl
  | j + 7, hj => exact absurd hj (by omega)
def df_X6 : List jj_AV := [.inl 0, .inl 0, .inl 0, jj_rf none, jj_rf none, .inl 0, .inl 0]
theorem dfo_X6 : ∀ j, j < 7 → defaultValue (tyX6 j) = vp_V (df_X6.map jj_v) j := by
  intro j hj
  match j, hj with
  | 0, _ => rfl
  | 1, _ => rfl
  | 2, _ => rfl
  | 3, _ => rfl
  | 4, _ => rfl
  | 5, _ => rfl
  | 6, _ => rfl
  | j + 7, hj => exact absurd hj (by omega)
def df_X11 : List jj_AV := [jj_rf none]
theorem dfo_X11 : ∀ j, j < 1 → defaultValue (tyX11 j) = vp_V (df_X11.map jj_v) j := by
  intro j hj
  match j, hj with
  | 0, _ => rfl
  | j + 1, hj => exact absurd hj (by omega)
def df_X12 : List jj_AV := [.inl 0, .inl 0, .inl 0, .inl 0]
theorem dfo_X12 : ∀ j, j < 4 → defaultValue (tyX12 j) = vp_V (df_X12.map jj_v) j := by
  intro j hj
  match j, hj with
  | 0, _ => rfl
  | 1, _ => rfl
  | 2, _ => rfl
  | 3, _ => rfl
  | j + 4, hj => exact absurd hj (by omega)
def df_X13 : List jj_AV := [.inl 0, jj_rf none, .inl 0, .inl 0, .inl 0, .inl 0]
theorem dfo_X13 : ∀ j, j < 6 → defaultValue (tyX13 j) = vp_V (df_X13.map jj_v) j := by
  intro j hj
  match j, hj with
  | 0, _ => rfl
  | 1, _ => rfl
  | 2, _ => rfl
  | 3, _ => rfl
  | 4, _ => rfl
  | 5, _ => rfl
  | j + 6, hj => exact absurd hj (by omega)
def df_X10 : List jj_AV := [jj_rf none, jj_rf none, jj_rf none, jj_rf none, jj_rf none]
theorem dfo_X10 : ∀ j, j < 5 → defaultValue (tyX10 j) = vp_V (df_X10.map jj_v) j := by
  intro j hj
  match j, hj with
  | 0, _ => rfl
  | 1, _ => rfl
  | 2, _ => rfl
  | 3, _ => rfl
  | 4, _ => rfl
  | j + 5, hj => exact absurd hj (by omega)
def df_X15 : List jj_AV := [jj_rf none]
theorem dfo_X15 : ∀ j, j < 1 → defaultValue (tyX15 j) = vp_V (df_X15.map jj_v) j := by
  intro j hj
  match j, hj with
  | 0, _ => rfl
  | j + 1, hj => exact absurd hj (by omega)
def df_X4 : List jj_AV := [.inl 0, jj_rf none, .inl 0, .inl 0, .inl 0, .inl 0, .inl 0, jj_rf none, jj_rf none]
theorem dfo_X4 : ∀ j, j < 9 → defaultValue (tyX4 j) = vp_V (df_X4.map jj_v) j := by
  intro j hj
  match j, hj with
  | 0, _ => rfl
  | 1, _ => rfl
  | 2, _ => rfl
  | 3, _ => rfl
  | 4, _ => rfl
  | 5, _ => rfl
  | 6, _ => rfl
  | 7, _ => rfl
  | 8, _ => rfl
  | j + 9, hj => exact absurd hj (by omega)
def df_X7 : List jj_AV := [jj_rf none, jj_rf none, jj_rf none, jj_rf none, jj_rf none, .inl 0, .inl 0, .inl 0]
theorem dfo_X7 : ∀ j, j < 8 → defaultValue (tyX7 j) = vp_V (df_X7.map jj_v) j := by
  intro j hj
  match j, hj with
  | 0, _ => rfl
  | 1, _ => rfl
  | 2, _ => rfl
  | 3, _ => rfl
  | 4, _ => rfl
  | 5, _ => rfl
  | 6, _ => rfl
  | 7, _ => rfl
  | j + 8, hj => exact absurd hj (by omega)
def df_X8 : List jj_AV := [jj_rf none, jj_rf none, jj_rf none, jj_rf none, jj_rf none, .inl 0]
theorem dfo_X8 : ∀ j, j < 6 → defaultValue (tyX8 j) = vp_V (df_X8.map jj_v) j := by
  intro j hj
  match j, hj with
  | 0, _ => rfl
  | 1, _ => rfl
  | 2, _ => rfl
  | 3, _ => rfl
  | 4, _ => rfl
  | 5, _ => rfl
  | j + 6, hj => exact absurd hj (by omega)
def df_X14 : List jj_AV := [jj_rf none, jj_rf none, jj_rf none, jj_rf none, jj_rf none, .inl 0]
theorem dfo_X14 : ∀ j, j < 6 → defaultValue (tyX14 j) = vp_V (df_X14.map jj_v) j := by
  intro j hj
  match j, hj with
  | 0, _ => rfl
  | 1, _ => rfl
  | 2, _ => rfl
  | 3, _ => rfl
  | 4, _ => rfl
  | 5, _ => rfl
  | j + 6, hj => exact absurd hj (by omega)
def df_J2 : List jj_AV := [.inl 0, jj_rf none, .inl 0]
theorem dfo_J2 : ∀ j, j < 3 → defaultValue (tyJ2 j) = vp_V (df_J2.map jj_v) j := by
  intro j hj
  match j, hj with
  | 0, _ => rfl
  | 1, _ => rfl
  | 2, _ => rfl
  | j + 3, hj => exact absurd hj (by omega)
def df_J19 : List jj_AV := [jj_rf none, jj_rf none, jj_rf none, jj_rf none, .inl 0, .inl 0, .inl 0, .inr (.inr (.inr 0))]
theorem dfo_J19 : ∀ j, j < 8 → defaultValue (tyJ19 j) = vp_V (df_J19.map jj_v) j := by
  intro j hj
  match j, hj with
  | 0, _ => rfl
  | 1, _ => rfl
  | 2, _ => rfl
  | 3, _ => rfl
  | 4, _ => rfl
  | 5, _ => rfl
  | 6, _ => rfl
  | 7, _ => rfl
  | j + 8, hj => exact absurd hj (by omega)
def df_J33 : List jj_AV := [jj_rf none]
theorem dfo_J33 : ∀ j, j < 1 → defaultValue (tyJ33 j) = vp_V (df_J33.map jj_v) j := by
  intro j hj
  match j, hj with
  | 0, _ => rfl
  | j + 1, hj => exact absurd hj (by omega)
def df_J41 : List jj_AV := [jj_rf none, .inl 0, jj_rf none, .inl 0]
theorem dfo_J41 : ∀ j, j < 4 → defaultValue (tyJ41 j) = vp_V (df_J41.map jj_v) j := by
  intro j hj
  match j, hj with
  | 0, _ => rfl
  | 1, _ => rfl
  | 2, _ => rfl
  | 3, _ => rfl
  | j + 4, hj => exact absurd hj (by omega)
def df_J42 : List jj_AV := [jj_rf none]
theorem dfo_J42 : ∀ j, j < 1 → defaultValue (tyJ42 j) = vp_V (df_J42.map jj_v) j := by
  intro j hj
  match j, hj with
  | 0, _ => rfl
  | j + 1, hj => exact absurd hj (by omega)
def df_J8 : List jj_AV := [jj_rf none, .inl 0, .inl 0, .inl 0]
theorem dfo_J8 : ∀ j, j < 4 → defaultValue (tyJ8 j) = vp_V (df_J8.map jj_v) j := by
  intro j hj
  match j, hj with
  | 0, _ => rfl
  | 1, _ => rfl
  | 2, _ => rfl
  | 3, _ => rfl
  | j + 4, hj => exact absurd hj (by omega)
theorem hj_J2_init : yJ2_init.cls = RJ2 ∧ yJ2_init.cls ≠ "java/lang/invoke/MethodHandle" ∧ yJ2_init.cls ≠ "java/lang/invoke/VarHandle" ∧ (parseMethodDescriptor yJ2_init.desc).map (fun d => d.parameters.length) = some 1 := by decide +kernel
theorem hj_J2_add : yJ2_add.cls = RJ2 ∧ yJ2_add.cls ≠ "java/lang/invoke/MethodHandle" ∧ yJ2_add.cls ≠ "java/lang/invoke/VarHandle" ∧ (parseMethodDescriptor yJ2_add.desc).map (fun d => d.parameters.length) = some 1 := by decide +kernel
theorem hj_J2_add_3 : yJ2_add_3.cls = RJ2 ∧ yJ2_add_3.cls ≠ "java/lang/invoke/MethodHandle" ∧ yJ2_add_3.cls ≠ "java/lang/invoke/VarHandle" ∧ (parseMethodDescriptor yJ2_add_3.desc).map (fun d => d.parameters.length) = some 2 := by decide +kernel
theorem hj_J2_addAll : yJ2_addAll.cls = RJ2 ∧ yJ2_addAll.cls ≠ "java/lang/invoke/MethodHandle" ∧ yJ2_addAll.cls ≠ "java/lang/invoke/VarHandle" ∧ (parseMethodDescriptor yJ2_addAll.desc).map (fun d => d.parameters.length) = some 1 := by decide +kernel
theorem hj_J2_get : yJ2_get.cls = RJ2 ∧ yJ2_get.cls ≠ "java/lang/invoke/MethodHandle" ∧ yJ2_get.cls ≠ "java/lang/invoke/VarHandle" ∧ (parseMethodDescriptor yJ2_get.desc).map (fun d => d.parameters.length) = some 1 := by decide +kernel
theorem hj_J2_set : yJ2_set.cls = RJ2 ∧ yJ2_set.cls ≠ "java/lang/invoke/MethodHandle" ∧ yJ2_set.cls ≠ "java/lang/invoke/VarHandle" ∧ (parseMethodDescriptor yJ2_set.desc).map (fun d => d.parameters.length) = some 2 := by decide +kernel
theorem hj_J2_remove : yJ2_remove.cls = RJ2 ∧ yJ2_remove.cls ≠ "java/lang/invoke/MethodHandle" ∧ yJ2_remove.cls ≠ "java/lang/invoke/VarHandle" ∧ (parseMethodDescriptor yJ2_remove.desc).map (fun d => d.parameters.length) = some 1 := by decide +kernel
theorem hj_J2_size : yJ2_size.cls = RJ2 ∧ yJ2_size.cls ≠ "java/lang/invoke/MethodHandle" ∧ yJ2_size.cls ≠ "java/lang/invoke/VarHandle" ∧ (parseMethodDescriptor yJ2_size.desc).map (fun d => d.parameters.length) = some 0 := by decide +kernel
theorem hj_J2_isEmpty : yJ2_isEmpty.cls = RJ2 ∧ yJ2_isEmpty.cls ≠ "java/lang/invoke/MethodHandle" ∧ yJ2_isEmpty.cls ≠ "java/lang/invoke/VarHandle" ∧ (parseMethodDescriptor yJ2_isEmpty.desc).map (fun d => d.parameters.length) = some 0 := by decide +kernel
theorem hj_J2_iterator : yJ2_iterator.cls = RJ2 ∧ yJ2_iterator.cls ≠ "java/lang/invoke/MethodHandle" ∧ yJ2_iterator.cls ≠ "java/lang/invoke/VarHandle" ∧ (parseMethodDescriptor yJ2_iterator.desc).map (fun d => d.parameters.length) = some 0 := by decide +kernel
theorem hj_J21_hasNext : yJ21_hasNext.cls = RJ21 ∧ yJ21_hasNext.cls ≠ "java/lang/invoke/MethodHandle" ∧ yJ21_hasNext.cls ≠ "java/lang/invoke/VarHandle" ∧ (parseMethodDescriptor yJ21_hasNext.desc).map (fun d => d.parameters.length) = some 0 := by decide +kernel
theorem hj_J21_next : yJ21_next.cls = RJ21 ∧ yJ21_next.cls ≠ "java/lang/invoke/MethodHandle" ∧ yJ21_next.cls ≠ "java/lang/invoke/VarHandle" ∧ (parseMethodDescriptor yJ21_next.desc).map (fun d => d.parameters.length) = some 0 := by decide +kernel
theorem hj_J24_hasNext : yJ24_hasNext.cls = RJ24 ∧ yJ24_hasNext.cls ≠ "java/lang/invoke/MethodHandle" ∧ yJ24_hasNext.cls ≠ "java/lang/invoke/VarHandle" ∧ (parseMethodDescriptor yJ24_hasNext.desc).map (fun d => d.parameters.length) = some 0 := by decide +kernel
theorem hj_J25_next : yJ25_next.cls = RJ25 ∧ yJ25_next.cls ≠ "java/lang/invoke/MethodHandle" ∧ yJ25_next.cls ≠ "java/lang/invoke/VarHandle" ∧ (parseMethodDescriptor yJ25_next.desc).map (fun d => d.parameters.length) = some 0 := by decide +kernel
theorem hj_J9_length : yJ9_length.cls = RJ9 ∧ yJ9_length.cls ≠ "java/lang/invoke/MethodHandle" ∧ yJ9_length.cls ≠ "java/lang/invoke/VarHandle" ∧ (parseMethodDescriptor yJ9_length.desc).map (fun d => d.parameters.length) = some 0 := by decide +kernel
theorem hj_J9_charAt : yJ9_charAt.cls = RJ9 ∧ yJ9_charAt.cls ≠ "java/lang/invoke/MethodHandle" ∧ yJ9_charAt.cls ≠ "java/lang/invoke/VarHandle" ∧ (parseMethodDescriptor yJ9_charAt.desc).map (fun d => d.parameters.length) = some 1 := by decide +kernel
theorem hj_J9_equals : yJ9_equals.cls = RJ9 ∧ yJ9_equals.cls ≠ "java/lang/invoke/MethodHandle" ∧ yJ9_equals.cls ≠ "java/lang/invoke/VarHandle" ∧ (parseMethodDescriptor yJ9_equals.desc).map (fun d => d.parameters.length) = some 1 := by decide +kernel
theorem hj_J9_hashCode : yJ9_hashCode.cls = RJ9 ∧ yJ9_hashCode.cls ≠ "java/lang/invoke/MethodHandle" ∧ yJ9_hashCode.cls ≠ "java/lang/invoke/VarHandle" ∧ (parseMethodDescriptor yJ9_hashCode.desc).map (fun d => d.parameters.length) = some 0 := by decide +kernel
theorem hj_J8_init : yJ8_init.cls = RJ8 ∧ yJ8_init.cls ≠ "java/lang/invoke/MethodHandle" ∧ yJ8_init.cls ≠ "java/lang/invoke/VarHandle" ∧ (parseMethodDescriptor yJ8_init.desc).map (fun d => d.parameters.length) = some 0 := by decide +kernel
theorem hj_J8_append_3 : yJ8_append_3.cls = RJ8 ∧ yJ8_append_3.cls ≠ "java/lang/invoke/MethodHandle" ∧ yJ8_append_3.cls ≠ "java/lang/invoke/VarHandle" ∧ (parseMethodDescriptor yJ8_append_3.desc).map (fun d => d.parameters.length) = some 1 := by decide +kernel
theorem hj_J8_append : yJ8_append.cls = RJ8 ∧ yJ8_append.cls ≠ "java/lang/invoke/MethodHandle" ∧ yJ8_append.cls ≠ "java/lang/invoke/VarHandle" ∧ (parseMethodDescriptor yJ8_append.desc).map (fun d => d.parameters.length) = some 1 := by decide +kernel
theorem hj_J8_charAt : yJ8_charAt.cls = RJ8 ∧ yJ8_charAt.cls ≠ "java/lang/invoke/MethodHandle" ∧ yJ8_charAt.cls ≠ "java/lang/invoke/VarHandle" ∧ (parseMethodDescriptor yJ8_charAt.desc).map (fun d => d.parameters.length) = some 1 := by decide +kernel
theorem hj_J8_length : yJ8_length.cls = RJ8 ∧ yJ8_length.cls ≠ "java/lang/invoke/MethodHandle" ∧ yJ8_length.cls ≠ "java/lang/invoke/VarHandle" ∧ (parseMethodDescriptor yJ8_length.desc).map (fun d => d.parameters.length) = some 0 := by decide +kernel
theorem hj_J8_setLength : yJ8_setLength.cls = RJ8 ∧ yJ8_setLength.cls ≠ "java/lang/invoke/MethodHandle" ∧ yJ8_setLength.cls ≠ "java/lang/invoke/VarHandle" ∧ (parseMethodDescriptor yJ8_setLength.desc).map (fun d => d.parameters.length) = some 1 := by decide +kernel
theorem hj_J8_toString : yJ8_toString.cls = RJ8 ∧ yJ8_toString.cls ≠ "java/lang/invoke/MethodHandle" ∧ yJ8_toString.cls ≠ "java/lang/invoke/VarHandle" ∧ (parseMethodDescriptor yJ8_toString.desc).map (fun d => d.parameters.length) = some 0 := by decide +kernel
theorem hj_J34_valueOf : yJ34_valueOf.cls = RJ34 ∧ yJ34_valueOf.cls ≠ "java/lang/invoke/MethodHandle" ∧ yJ34_valueOf.cls ≠ "java/lang/invoke/VarHandle" ∧ (parseMethodDescriptor yJ34_valueOf.desc).map (fun d => d.parameters.length) = some 1 := by decide +kernel
theorem hj_J34_booleanValue : yJ34_booleanValue.cls = RJ34 ∧ yJ34_booleanValue.cls ≠ "java/lang/invoke/MethodHandle" ∧ yJ34_booleanValue.cls ≠ "java/lang/invoke/VarHandle" ∧ (parseMethodDescriptor yJ34_booleanValue.desc).map (fun d => d.parameters.length) = some 0 := by decide +kernel
theorem hj_J17_valueOf : yJ17_valueOf.cls = RJ17 ∧ yJ17_valueOf.cls ≠ "java/lang/invoke/MethodHandle" ∧ yJ17_valueOf.cls ≠ "java/lang/invoke/VarHandle" ∧ (parseMethodDescriptor yJ17_valueOf.desc).map (fun d => d.parameters.length) = some 1 := by decide +kernel
theorem hj_J17_intValue : yJ17_intValue.cls = RJ17 ∧ yJ17_intValue.cls ≠ "java/lang/invoke/MethodHandle" ∧ yJ17_intValue.cls ≠ "java/lang/invoke/VarHandle" ∧ (parseMethodDescriptor yJ17_intValue.desc).map (fun d => d.parameters.length) = some 0 := by decide +kernel
theorem hj_J19_init : yJ19_init.cls = RJ19 ∧ yJ19_init.cls ≠ "java/lang/invoke/MethodHandle" ∧ yJ19_init.cls ≠ "java/lang/invoke/VarHandle" ∧ (parseMethodDescriptor yJ19_init.desc).map (fun d => d.parameters.length) = some 0 := by decide +kernel
theorem hj_J19_containsKey : yJ19_containsKey.cls = RJ19 ∧ yJ19_containsKey.cls ≠ "java/lang/invoke/MethodHandle" ∧ yJ19_containsKey.cls ≠ "java/lang/invoke/VarHandle" ∧ (parseMethodDescriptor yJ19_containsKey.desc).map (fun d => d.parameters.length) = some 1 := by decide +kernel
theorem hj_J19_get : yJ19_get.cls = RJ19 ∧ yJ19_get.cls ≠ "java/lang/invoke/MethodHandle" ∧ yJ19_get.cls ≠ "java/lang/invoke/VarHandle" ∧ (parseMethodDescriptor yJ19_get.desc).map (fun d => d.parameters.length) = some 1 := by decide +kernel
theorem hj_J19_put : yJ19_put.cls = RJ19 ∧ yJ19_put.cls ≠ "java/lang/invoke/MethodHandle" ∧ yJ19_put.cls ≠ "java/lang/invoke/VarHandle" ∧ (parseMethodDescriptor yJ19_put.desc).map (fun d => d.parameters.length) = some 2 := by decide +kernel
theorem hj_J33_init : yJ33_init.cls = RJ33 ∧ yJ33_init.cls ≠ "java/lang/invoke/MethodHandle" ∧ yJ33_init.cls ≠ "java/lang/invoke/VarHandle" ∧ (parseMethodDescriptor yJ33_init.desc).map (fun d => d.parameters.length) = some 0 := by decide +kernel
theorem hj_J0_addAll : yJ0_addAll.cls = RJ0 ∧ yJ0_addAll.cls ≠ "java/lang/invoke/MethodHandle" ∧ yJ0_addAll.cls ≠ "java/lang/invoke/VarHandle" ∧ (parseMethodDescriptor yJ0_addAll.desc).map (fun d => d.parameters.length) = some 1 := by decide +kernel
theorem hj_J33_contains : yJ33_contains.cls = RJ33 ∧ yJ33_contains.cls ≠ "java/lang/invoke/MethodHandle" ∧ yJ33_contains.cls ≠ "java/lang/invoke/VarHandle" ∧ (parseMethodDescriptor yJ33_contains.desc).map (fun d => d.parameters.length) = some 1 := by decide +kernel
theorem hj_J33_size : yJ33_size.cls = RJ33 ∧ yJ33_size.cls ≠ "java/lang/invoke/MethodHandle" ∧ yJ33_size.cls ≠ "java/lang/invoke/VarHandle" ∧ (parseMethodDescriptor yJ33_size.desc).map (fun d => d.parameters.length) = some 0 := by decide +kernel
theorem hj_J33_iterator : yJ33_iterator.cls = RJ33 ∧ yJ33_iterator.cls ≠ "java/lang/invoke/MethodHandle" ∧ yJ33_iterator.cls ≠ "java/lang/invoke/VarHandle" ∧ (parseMethodDescriptor yJ33_iterator.desc).map (fun d => d.parameters.length) = some 0 := by decide +kernel
theorem hj_J41_init : yJ41_init.cls = RJ41 ∧ yJ41_init.cls ≠ "java/lang/invoke/MethodHandle" ∧ yJ41_init.cls ≠ "java/lang/invoke/VarHandle" ∧ (parseMethodDescriptor yJ41_init.desc).map (fun d => d.parameters.length) = some 1 := by decide +kernel
theorem hj_J41_add : yJ41_add.cls = RJ41 ∧ yJ41_add.cls ≠ "java/lang/invoke/MethodHandle" ∧ yJ41_add.cls ≠ "java/lang/invoke/VarHandle" ∧ (parseMethodDescriptor yJ41_add.desc).map (fun d => d.parameters.length) = some 1 := by decide +kernel
theorem hj_J0_isEmpty : yJ0_isEmpty.cls = RJ0 ∧ yJ0_isEmpty.cls ≠ "java/lang/invoke/MethodHandle" ∧ yJ0_isEmpty.cls ≠ "java/lang/invoke/VarHandle" ∧ (parseMethodDescriptor yJ0_isEmpty.desc).map (fun d => d.parameters.length) = some 0 := by decide +kernel
theorem hj_J41_poll : yJ41_poll.cls = RJ41 ∧ yJ41_poll.cls ≠ "java/lang/invoke/MethodHandle" ∧ yJ41_poll.cls ≠ "java/lang/invoke/VarHandle" ∧ (parseMethodDescriptor yJ41_poll.desc).map (fun d => d.parameters.length) = some 0 := by decide +kernel
theorem hj_J42_init : yJ42_init.cls = RJ42 ∧ yJ42_init.cls ≠ "java/lang/invoke/MethodHandle" ∧ yJ42_init.cls ≠ "java/lang/invoke/VarHandle" ∧ (parseMethodDescriptor yJ42_init.desc).map (fun d => d.parameters.length) = some 0 := by decide +kernel
theorem hj_J42_add : yJ42_add.cls = RJ42 ∧ yJ42_add.cls ≠ "java/lang/invoke/MethodHandle" ∧ yJ42_add.cls ≠ "java/lang/invoke/VarHandle" ∧ (parseMethodDescriptor yJ42_add.desc).map (fun d => d.parameters.length) = some 1 := by decide +kernel
theorem hj_J42_size : yJ42_size.cls = RJ42 ∧ yJ42_size.cls ≠ "java/lang/invoke/MethodHandle" ∧ yJ42_size.cls ≠ "java/lang/invoke/VarHandle" ∧ (parseMethodDescriptor yJ42_size.desc).map (fun d => d.parameters.length) = some 0 := by decide +kernel
theorem hj_J4_init_3 : yJ4_init_3.cls = RJ4 ∧ yJ4_init_3.cls ≠ "java/lang/invoke/MethodHandle" ∧ yJ4_init_3.cls ≠ "java/lang/invoke/VarHandle" ∧ (parseMethodDescriptor yJ4_init_3.desc).map (fun d => d.parameters.length) = some 4 := by decide +kernel
theorem hj_X9_values : yX9_values.cls = RX9 ∧ yX9_values.cls ≠ "java/lang/invoke/MethodHandle" ∧ yX9_values.cls ≠ "java/lang/invoke/VarHandle" ∧ (parseMethodDescriptor yX9_values.desc).map (fun d => d.parameters.length) = some 0 := by decide +kernel
theorem hj_J44_ordinal : yJ44_ordinal.cls = RJ44 ∧ yJ44_ordinal.cls ≠ "java/lang/invoke/MethodHandle" ∧ yJ44_ordinal.cls ≠ "java/lang/invoke/VarHandle" ∧ (parseMethodDescriptor yJ44_ordinal.desc).map (fun d => d.parameters.length) = some 0 := by decide +kernel
theorem uw_J0_addAll {own : String} {idx : Nat} (q : Cond.methodLink own idx ⟨"java/util/HashSet", "addAll", "(Ljava/util/Collection;)Z"⟩ ∈ lw_all) : GoodIn lw_all (va_wsO own idx RJ33 RJ0 ⟨"java/util/HashSet", "addAll", "(Ljava/util/Collection;)Z"⟩ yJ0_addAll (ws_ yJ0_addAll cJ0_addAll 5 (some (.boolean)))) := by
  refine lw_app ?_ (lw_meth q2028)
  intro w hw
  simp only [List.mem_cons, List.not_mem_nil, or_false] at hw
  rcases hw with e | e | e | e | e | e
  · rw [e]; exact q
  · rw [e]; exact q2024
  · rw [e]; exact q2027
  · rw [e]; exact q2026
  · rw [e]; exact q2027
  · rw [e]; exact q122
theorem uw_J0_isEmpty {own : String} {idx : Nat} (q : Cond.methodLink own idx ⟨"java/util/PriorityQueue", "isEmpty", "()Z"⟩ ∈ lw_all) : GoodIn lw_all (va_wsO own idx RJ41 RJ0 ⟨"java/util/PriorityQueue", "isEmpty", "()Z"⟩ yJ0_isEmpty (ws_ yJ0_isEmpty cJ0_isEmpty 1 (some (.boolean)))) := by
  refine lw_app ?_ (lw_meth q1787)
  intro w hw
  simp only [List.mem_cons, List.not_mem_nil, or_false] at hw
  rcases hw with e | e | e | e | e | e
  · rw [e]; exact q
  · rw [e]; exact q1783
  · rw [e]; exact q1786
  · rw [e]; exact q1785
  · rw [e]; exact q1786
  · rw [e]; exact q122
theorem uw_J44_ordinal {own : String} {idx : Nat} (q : Cond.methodLink own idx ⟨"NoteImporter$Kind", "ordinal", "()I"⟩ ∈ lw_all) : GoodIn lw_all (va_wsO own idx RX9 RJ44 ⟨"NoteImporter$Kind", "ordinal", "()I"⟩ yJ44_ordinal (ws_ yJ44_ordinal cJ44_ordinal 1 (some (.int)))) := by
  refine lw_app ?_ (lw_meth q2546)
  intro w hw
  simp only [List.mem_cons, List.not_mem_nil, or_false] at hw
  rcases hw with e | e | e | e | e | e
  · rw [e]; exact q
  · rw [e]; exact q2542
  · rw [e]; exact q2545
  · rw [e]; exact q2544
  · rw [e]; exact q2545
  · rw [e]; exact q175
theorem fw_J21_hasNext {own : String} {idx : Nat} (q : Cond.methodLink own idx ⟨"java/util/Iterator", "hasNext", "()Z"⟩ ∈ lw_all) : GoodIn lw_all (va_wsF own idx RJ21 jj_yhn yJ21_hasNext (ws_ yJ21_hasNext cJ21_hasNext 1 (some (.boolean)))) := by
  refine lw_app ?_ (lw_meth q1079)
  intro w hw
  simp only [List.mem_cons, List.not_mem_nil, or_false] at hw
  rcases hw with e | e | e | e
  · rw [e]; exact q
  · rw [e]; exact q1075
  · rw [e]; exact q1077
  · rw [e]; exact q146
theorem fw_J21_next {own : String} {idx : Nat} (q : Cond.methodLink own idx ⟨"java/util/Iterator", "next", "()Ljava/lang/Object;"⟩ ∈ lw_all) : GoodIn lw_all (va_wsF own idx RJ21 jj_ynx yJ21_next (ws_ yJ21_next cJ21_next 3 (some ((.object "java/lang/Object"))))) := by
  refine lw_app ?_ (lw_meth q1110)
  intro w hw
  simp only [List.mem_cons, List.not_mem_nil, or_false] at hw
  rcases hw with e | e | e | e
  · rw [e]; exact q
  · rw [e]; exact q1106
  · rw [e]; exact q1108
  · rw [e]; exact q146
theorem fw_J24_hasNext {own : String} {idx : Nat} (q : Cond.methodLink own idx ⟨"java/util/Iterator", "hasNext", "()Z"⟩ ∈ lw_all) : GoodIn lw_all (va_wsF own idx RJ25 jj_yhn yJ24_hasNext (ws_ yJ24_hasNext cJ24_hasNext 1 (some (.boolean)))) := by
  refine lw_app ?_ (lw_meth q1085)
  intro w hw
  simp only [List.mem_cons, List.not_mem_nil, or_false] at hw
  rcases hw with e | e | e | e
  · rw [e]; exact q
  · rw [e]; exact q1081
  · rw [e]; exact q1083
  · rw [e]; exact q150
theorem fw_J25_next {own : String} {idx : Nat} (q : Cond.methodLink own idx ⟨"java/util/Iterator", "next", "()Ljava/lang/Object;"⟩ ∈ lw_all) : GoodIn lw_all (va_wsF own idx RJ25 jj_ynx yJ25_next (ws_ yJ25_next cJ25_next 1 (some ((.object "java/lang/Object"))))) := by
  refine lw_app ?_ (lw_meth q1119)
  intro w hw
  simp only [List.mem_cons, List.not_mem_nil, or_false] at hw
  rcases hw with e | e | e | e
  · rw [e]; exact q
  · rw [e]; exact q1115
  · rw [e]; exact q1117
  · rw [e]; exact q151
theorem jK_f_J21_hasNext {G : jj_G} {l : Launch} (J : jj_GJ G l) : ∀ U, jj_ge G U → va_Fw RJ21 jj_yhn yJ21_hasNext U := fun U h => (jK_tab J U h).1
theorem jK_f_J21_next {G : jj_G} {l : Launch} (J : jj_GJ G l) : ∀ U, jj_ge G U → va_Fw RJ21 jj_ynx yJ21_next U := fun U h => (jK_tab J U h).2.1
theorem jK_f_J24_hasNext {G : jj_G} {l : Launch} (J : jj_GJ G l) : ∀ U, jj_ge G U → va_Fw RJ25 jj_yhn yJ24_hasNext U := fun U h => (jK_tab J U h).2.2.1
theorem jK_f_J25_next {G : jj_G} {l : Launch} (J : jj_GJ G l) : ∀ U, jj_ge G U → va_Fw RJ25 jj_ynx yJ25_next U := fun U h => (jK_tab J U h).2.2.2.1
theorem jK_ao1 {G : jj_G} {l : Launch} (J : jj_GJ G l) : ∀ U, jj_ge G U → va_AO "NoteImporter$Library" U := fun U h => (jK_tab J U h).2.2.2.2.1
theorem jK_ao2 {G : jj_G} {l : Launch} (J : jj_GJ G l) : ∀ U, jj_ge G U → va_AO "NoteImporter$Alignment" U := fun U h => (jK_tab J U h).2.2.2.2.2.1
theorem jK_ao3 {G : jj_G} {l : Launch} (J : jj_GJ G l) : ∀ U, jj_ge G U → va_AO "NoteImporter$Anchor" U := fun U h => (jK_tab J U h).2.2.2.2.2.2
theorem at_X1_12 : ∀ w ∈ vx_at0 "NoteImporter" 12 "java/lang/IllegalStateException" ["java/lang/RuntimeException", "java/lang/Exception"], w ∈ lw_all ∨ w ∈ jj_nw := jj_at0 (by decide +kernel) (by decide +kernel)
theorem og_X1_12 : ∀ w ∈ Cond.classLink "NoteImporter" 10 "java/lang/IllegalStateException" :: Cond.initialized "java/lang/IllegalStateException" :: vx_at0 "NoteImporter" 12 "java/lang/IllegalStateException" ["java/lang/RuntimeException", "java/lang/Exception"], vx_ot w = true := by decide +kernel
theorem at_X1_9 : ∀ w ∈ vx_at0 "NoteImporter" 9 "java/lang/IllegalArgumentException" ["java/lang/RuntimeException", "java/lang/Exception"], w ∈ lw_all ∨ w ∈ jj_nw := jj_at0 (by decide +kernel) (by decide +kernel)
theorem og_X1_9 : ∀ w ∈ Cond.classLink "NoteImporter" 7 "java/lang/IllegalArgumentException" :: Cond.initialized "java/lang/IllegalArgumentException" :: vx_at0 "NoteImporter" 9 "java/lang/IllegalArgumentException" ["java/lang/RuntimeException", "java/lang/Exception"], vx_ot w = true := by decide +kernel
theorem at_X1_3 : ∀ w ∈ vx_at0 "NoteImporter" 3 "java/lang/IndexOutOfBoundsException" ["java/lang/RuntimeException", "java/lang/Exception"], w ∈ lw_all ∨ w ∈ jj_nw := jj_at0 (by decide +kernel) (by decide +kernel)
theorem og_X1_3 : ∀ w ∈ Cond.classLink "NoteImporter" 1 "java/lang/IndexOutOfBoundsException" :: Cond.initialized "java/lang/IndexOutOfBoundsException" :: vx_at0 "NoteImporter" 3 "java/lang/IndexOutOfBoundsException" ["java/lang/RuntimeException", "java/lang/Exception"], vx_ot w = true := by decide +kernel
