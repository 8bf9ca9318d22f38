section RN
variable {X : jj_X} {own : String} {cc : ByteArray} {nL pc : Nat} {vs : List (Nat × jj_AV)} {st : List jj_AV} {h : jj_H} {k : Nat}
theorem jr_new (F : jj_F X own cc nL) {C : String} {T : u_T} {nT ci idx c : Nat} {fs : List jj_AV} {ty : Nat → FieldType} {K : Nat → jj_H → Nat → Prop} (hq : jj_cl[ci]? = some (C, T, nT)) (hin : ∀ w ∈ u_ws C T nT, w ∈ lw_all) (hty : ∀ k, k < nT → parseFieldDescriptor (T k).2.2.1 = some (ty k)) (ql : Cond.classLink own idx C ∈ lw_all) (qi : Cond.instantiable C nT ∈ lw_all) (q0 : Cond.initialized C ∈ lw_all) (hfs : ∀ j, j < nT → defaultValue (ty j) = vp_V (fs.map jj_v) j) (hlen : fs.length = nT) (hcost : nT ≤ 4 * c ∧ 1 ≤ c) (hd : decode cc pc = .ok (.new idx, 3)) (w : jp_nw h k ci c fs K) (kk : ∀ a h' k', K a h' k' → jj_J X nL (pc + 3) vs (.inr (.inr (.inl (some a))) :: st) h' k') : jj_J X nL pc vs st h k := by
  obtain ⟨hck, w⟩ := w
  obtain ⟨G, p, l, e, R, s, m, args, below, meth, c1, Q, A⟩ := X
  obtain ⟨hx, hb, hml, ho, hts, hK, hlk, hz, hold⟩ := F
  intro H locs cells slots ls hR hS hc' hs hl
  have hR0 : jj_R G h H := hR
  have hc' : cells + k ≤ R.cells := hc'
  have hs : slots + 4 * k ≤ R.slots := hs
  have hKn := hK.1.1 ci _ hq
  refine W.newcK hx hb ho (hts _ ql) (hts _ qi) (hts _ q0) rfl hd (by omega) (by omega) hKn.2.1 rfl fun H1 kC hkC e1 z1 o1 => ?_
  have hp := jj_R.push (c' := .inl (ci, fs)) hK.2.1 hR0 (show H.size < H1.size by omega) o1 (fun own ho' => ⟨ho', hR0.1, _, hq, hlen, (u_born ty hts hin hKn hkC e1 hty).to hfs⟩)
  refine kk H.size _ _ (w H.size hp.1) H1 locs (cells + 1) (slots + nT) ls hp.2 ⟨Nat.le_trans hS.1 (by omega), fun q h1 h2 => (o1 q (Nat.lt_of_lt_of_le h1 hS.1)).trans (hS.2.1 q h1 h2), hS.2.2⟩ ?_ ?_ hl
  · show cells + 1 + (k - c) ≤ R.cells
    omega
  · show slots + nT + 4 * (k - c) ≤ R.slots
    omega
theorem jj_tcn {n : Int} (h0 : 0 ≤ n) (h1 : n < 16777216) : (Int32.ofInt n).toNatClampNeg = n.toNat ∧ ¬ Int32.ofInt n < 0 := by
  obtain ⟨j, rfl⟩ : ∃ j : Nat, n = (j : Int) := ⟨n.toNat, by omega⟩
  have e : Int32.ofInt (j : Int) = nI j := Int32.ofInt_eq_ofNat
  rw [e]
  exact ⟨by rw [nI_clamp (by omega)]; omega, nI_pos (by omega)⟩
theorem jr_newi (F : jj_F X own cc nL) {n : Int} {t i0 : Nat} {at0 : ArrayType} {K : Nat → jj_H → Nat → Prop} (ht : newarray.typeOf at0 = jj_pt t) (hi0 : ∀ G : jj_G, (jj_tys G)[i0]? = some (jj_gA G t, jj_pt t)) (hra : ∀ G U, va_RA U (jj_gA G t) (jj_pt t) → U.vm.findClass ("[" ++ (jj_pt t).toString) = some (jj_gA G t)) (hcb : componentBytes (jj_pt t) ≤ 8) (hdv : defaultValue (jj_pt t) = jj_pv t 0) (q : Cond.arrayClass (jj_pt t) ∈ lw_all) (hd : decode cc pc = .ok (.newarray at0, 2)) (w : jp_ni h k t n K) (kk : ∀ a h' k', K a h' k' → jj_J X nL (pc + 2) vs (.inr (.inr (.inl (some a))) :: st) h' k') : jj_J X nL pc vs (.inl n :: st) h k := by
  obtain ⟨h0, h1, hck, w⟩ := w
  obtain ⟨G, p, l, e, R, s, m, args, below, meth, c1, Q, A⟩ := X
  obtain ⟨hx, hb, hml, ho, hts, hK, hlk, hz, hold⟩ := F
  intro H locs cells slots ls hR hS hc' hs hl
  have hR0 : jj_R G h H := hR
  have hc' : cells + k ≤ R.cells := hc'
  have hs : slots + 4 * k ≤ R.slots := hs
  obtain ⟨hN, hneg⟩ := jj_tcn h0 h1
  have hbytes : n.toNat * componentBytes (newarray.typeOf at0) ≤ 536870912 := by
    rw [ht]
    have : n.toNat * componentBytes (jj_pt t) ≤ n.toNat * 8 := Nat.mul_le_mul_left _ hcb
    omega
  refine va_newaK hx hb (by rw [ht]; exact hts _ q) rfl hd rfl hneg hN hbytes (by omega) (by omega) (h := H.size) rfl fun H1 cA e1 z1 o1 hAr hNm => ?_
  have hcA : cA = jj_gA G t := by
    rw [ht] at hNm
    exact Option.some.inj (hNm.symm.trans (hra G s (hK.1.2 i0 _ (hi0 G)).2))
  subst hcA
  rw [ht, hdv] at e1
  have hp := jj_R.push (c' := .inr (.inl (t, n.toNat, fun _ => 0))) hK.2.1 hR0 (show H.size < H1.size by omega) o1 (fun own ho' => ⟨ho', hR0.1, by omega, e1⟩)
  refine kk H.size _ _ (w H.size hp.1) H1 locs (cells + 1) (slots + n.toNat) ls hp.2 ⟨Nat.le_trans hS.1 (by omega), fun q h1 h2 => (o1 q (Nat.lt_of_lt_of_le h1 hS.1)).trans (hS.2.1 q h1 h2), hS.2.2⟩ ?_ ?_ hl
  · show cells + 1 + (k - (1 + n.toNat / 4)) ≤ R.cells
    omega
  · show slots + n.toNat + 4 * (k - (1 + n.toNat / 4)) ≤ R.slots
    omega
theorem jr_newr (F : jj_F X own cc nL) {n : Int} {t i0 idx : Nat} {E : String} {K : Nat → jj_H → Nat → Prop} (hi0 : ∀ G : jj_G, (jj_tys G)[i0]? = some (jj_gR G t, FieldType.object E)) (qc : Cond.classLink own idx E ∈ lw_all) (hover : va_AO E X.2.2.2.2.2.1) (hd : decode cc pc = .ok (.anewarray idx, 3)) (w : jp_nr h k t n K) (kk : ∀ a h' k', K a h' k' → jj_J X nL (pc + 3) vs (.inr (.inr (.inl (some a))) :: st) h' k') : jj_J X nL pc vs (.inl n :: st) h k := by
  obtain ⟨h0, h1, hck, w⟩ := w
  obtain ⟨G, p, l, e, R, s, m, args, below, meth, c1, Q, A⟩ := X
  obtain ⟨hx, hb, hml, ho, hts, hK, hlk, hz, hold⟩ := F
  intro H locs cells slots ls hR hS hc' hs hl
  have hR0 : jj_R G h H := hR
  have hc' : cells + k ≤ R.cells := hc'
  have hs : slots + 4 * k ≤ R.slots := hs
  obtain ⟨hN, hneg⟩ := jj_tcn h0 h1
  refine W.anew hx hb ho (hts _ qc) (va_AO.use hover) rfl hd rfl hneg (by rw [hN]; omega) (by omega) (by rw [hN]; omega) fun cA kA comp f1 f2 f3 f4 => ?_
  obtain ⟨kA', comp', g1, g2, g3, g4⟩ := (hK.1.2 i0 _ (hi0 G)).2
  have hcA : cA = jj_gR G t := Option.some.inj (f1.symm.trans g4)
  subst hcA
  rw [hN]
  generalize hH1 : H.push ({ cls := jj_gR G t, slots := Array.replicate n.toNat .null, vm := .none } : Cell) = H1
  have z1 : H1.size = H.size + 1 := by rw [← hH1, Array.size_push]
  have e1 : H1[H.size]? = some (arrV (jj_gR G t) n.toNat (fun _ => .null)) := by rw [← hH1, Array.getElem?_push_size, ← arrV_new]
  have o1 : ∀ q, q < H.size → H1[q]? = H[q]? := fun q hq => by rw [← hH1, Array.getElem?_push, if_neg (Nat.ne_of_lt hq)]
  have hp := jj_R.push (c' := .inr (.inr (.inl (t, n.toNat, fun _ => none)))) hK.2.1 hR0 (show H.size < H1.size by omega) o1 (fun own ho' => ⟨ho', hR0.1, by omega, e1⟩)
  refine kk H.size _ _ (w H.size hp.1) H1 locs (cells + 1) (slots + n.toNat) ls hp.2 ⟨Nat.le_trans hS.1 (by omega), fun q h1 h2 => (o1 q (Nat.lt_of_lt_of_le h1 hS.1)).trans (hS.2.1 q h1 h2), hS.2.2⟩ ?_ ?_ hl
  · show cells + 1 + (k - (1 + n.toNat / 4)) ≤ R.cells
    omega
  · show slots + n.toNat + 4 * (k - (1 + n.toNat / 4)) ≤ R.slots
    omega
theorem jj_recv0 {G : jj_G} {s : State} (hK : jj_K G s) {H : Heap} (hR : jj_R G h H) {b ci : Nat} {c : jj_C} {q : vw_C} (hb : h b = some c) (hc : jj_cls c = some ci) (hq : jj_cl[ci]? = some q) : ∃ cell : Cell, H[b]? = some cell ∧ cell.vm = .none ∧ s.vm.findClass q.1 = some cell.cls := by
  obtain ⟨h1, h2, own, h3⟩ := hR
  have h4 := h3 b c hb
  have hcl : s.vm.findClass q.1 = some ((jj_gD G).1 ci) := (hK.1.1 ci q hq).2.1
  have key : ∀ o : jj_O, jj_ob G H b o → o.1 = ci → ∃ cell : Cell, H[b]? = some cell ∧ cell.vm = .none ∧ s.vm.findClass q.1 = some cell.cls := by
    intro o ho e
    obtain ⟨r, -, -, cell, g1, g2, g3, -⟩ := ho
    exact ⟨cell, g1, g3, by rw [g2, e]; exact hcl⟩
  obtain o | ⟨t, n, f⟩ | ⟨t, n, f⟩ | ms | x := c
  · exact key o h4.2.2 (Option.some.inj hc)
  · cases hc
  · cases hc
  · exact key _ h4.2.2.1 (Option.some.inj hc)
  · obtain ⟨⟨-, cell, g1, g2, g3⟩, -⟩ := hK.2.1 own H b x h4
    exact ⟨cell, g1, g2, by rw [g3 ci hc]; exact hcl⟩
theorem jr_cast (F : jj_F X own cc nL) {C : String} {T : u_T} {nT ci idx : Nat} {o : Option Nat} (hq : jj_cl[ci]? = some (C, T, nT)) (ql : Cond.classLink own idx C ∈ lw_all) (hd : decode cc pc = .ok (.checkcast idx, 3)) (w : jp_is h o ci) (kk : jj_J X nL (pc + 3) vs (.inr (.inr (.inl o)) :: st) h k) : jj_J X nL pc vs (.inr (.inr (.inl o)) :: st) h k := by
  obtain ⟨a, c, rfl, hc, hci⟩ := w
  obtain ⟨G, p, l, e, R, s, m, args, below, meth, c1, Q, A⟩ := X
  obtain ⟨hx, hb, hml, ho, hts, hK, hlk, hz, hold⟩ := F
  intro H locs cells slots ls hR hS hc' hs hl
  exact va_castE hx hb ho (hts _ ql) (jj_recv hK hR hc hci hq) hd (kk H locs cells slots ls hR hS hc' hs hl)
theorem jr_athrow (F : jj_F X own cc nL) {E : String} {T : u_T} {nT ci q : Nat} {c : jj_C} (hq : jj_cl[ci]? = some (E, T, nT)) (hc : h q = some c) (hci : jj_cls c = some ci) (hd : decode cc pc = .ok (.athrow, 1)) (kx : jj_JX X nL pc vs E q h k) : jj_J X nL pc vs (.inr (.inr (.inl (some q))) :: st) h k := by
  obtain ⟨G, p, l, e, R, s, m, args, below, meth, c1, Q, A⟩ := X
  obtain ⟨hx, hb, hml, ho, hts, hK, hlk, hz, hold⟩ := F
  intro H locs cells slots ls hR hS hc' hs hl
  obtain ⟨cell, g1, g2, g3⟩ := jj_recv0 hK hR hc hci hq
  exact vx_athrow hx hb hd (kx H locs cells slots ls _ cell hR hS hc' hs hl g1 g2 g3)
theorem jr_ifnull (F : jj_F X own cc nL) {o : Option Nat} {off : Int} {tgt : Nat} (hd : decode cc pc = .ok (.ifnull off, 3)) (ht : (pc : Int) + off = (tgt : Int)) (kt : o = none → jj_J X nL tgt vs st h k) (kf : ¬ o = none → jj_J X nL (pc + 3) vs st h k) : jj_J X nL pc vs (.inr (.inr (.inl o)) :: st) h k := by
  intro H locs cells slots ls hR hS hc hs hl
  cases o with
  | none => exact lv_ifnullN F.exec F.code hd ht (kt rfl H locs cells slots ls hR hS hc hs hl)
  | some a => exact lv_ifnull F.exec F.code hd (kf (fun e => by cases e) H locs cells slots ls hR hS hc hs hl)
theorem jr_ifnonnull (F : jj_F X own cc nL) {o : Option Nat} {off : Int} {tgt : Nat} (hd : decode cc pc = .ok (.ifnonnull off, 3)) (ht : (pc : Int) + off = (tgt : Int)) (kt : ¬ o = none → jj_J X nL tgt vs st h k) (kf : o = none → jj_J X nL (pc + 3) vs st h k) : jj_J X nL pc vs (.inr (.inr (.inl o)) :: st) h k := by
  intro H locs cells slots ls hR hS hc hs hl
  cases o with
  | none => exact lv_ifnonnullN F.exec F.code hd (kf rfl H locs cells slots ls hR hS hc hs hl)
  | some a => exact lv_ifnonnull F.exec F.code hd ht (kt (fun e => by cases e) H locs cells slots ls hR hS hc hs hl)
theorem jr_lookup (F : jj_F X own cc nL) {dflt : Int} {ps : Array (Int × Int)} {len : Nat} {x off : Int} {tgt : Nat} (hx : jj_r x) (hd : decode cc pc = .ok (.lookupswitch dflt ps, len)) (hp : (ps.toList.zip (ps.toList.drop 1)).all (fun (a, next) => a.1 < next.1) = true) (ho : Op.lookupswitch.offset ps.toList dflt x = off) (ht : (pc : Int) + off = (tgt : Int)) (kk : jj_J X nL tgt vs st h k) : jj_J X nL pc vs (.inl x :: st) h k := fun H locs cells slots ls hR hS hc hs hl => lv_lookup F.exec F.code hd hp (by rw [jj_ti hx]; exact ho) ht (kk H locs cells slots ls hR hS hc hs hl)
end RN
section RK
variable {X : jj_X} {own : String} {cc : ByteArray} {nL pc : Nat} {vs : List (Nat × jj_AV)} {st : List jj_AV} {h : jj_H} {k : Nat} {ret : Option FieldType} {fr lo : Nat} {N : Option jj_AV → jj_H → Prop} {XN : String → Nat → jj_H → Prop}
theorem jj_sum8 (hst : (st.map fun v => if jj_2 v = true then 2 else 1).sum ≤ 8) : ((st.map jj_v).map fun v => v.category).sum ≤ 8 := by
  rw [List.map_map]
  refine Nat.le_trans (Nat.le_of_eq (congrArg List.sum (List.map_congr_left fun v _ => ?_))) hst
  exact jj_2_cat v
theorem jr_objInit (F : jj_F X own cc nL) (M : jj_M X ret fr lo N XN) {idx a : Nat} (q : Cond.methodLink own idx Lib.objectInit ∈ lw_all) (q1 : Cond.instanceMethod Lib.objectInit ∈ lw_all) (q2 : Cond.code Lib.objectInit ⟨#[0xb1]⟩ 1 none ∈ lw_all) (hfr : 1 ≤ fr) (hlo : 20 ≤ lo) (hst : (st.map fun v => if jj_2 v = true then 2 else 1).sum ≤ 8) (hd : decode cc pc = .ok (.invokespecial idx, 3)) (kk : jj_J X nL (pc + 3) vs st h k) : jj_J X nL pc vs (.inr (.inr (.inl (some a))) :: st) h k := by
  obtain ⟨G, p, l, e, R, s, m, args, below, meth, c1, Q, A⟩ := X
  obtain ⟨hx, hb, hml, ho, hts, hK, hlk, hz, hold⟩ := F
  obtain ⟨hr, hf1, hf2, -, -⟩ := M
  intro H locs cells slots ls hR hS hc' hs hl
  refine W.objInit hx hb ho (hts _ q) (hts _ q1) (hts _ q2) rfl (by rw [hml]; exact hl.1) rfl hd (by rw [hf1]; exact hfr) ?_ (kk H locs cells slots ls hR hS hc' hs hl)
  have h9 := lv_room (m := m) (pc := pc) (ls := ls) (rest := (.inr (.inr (.inl (some a))) :: st : List jj_AV).map jj_v) (jj_sum8 hst)
  rw [hf2]
  exact Nat.le_trans (Nat.add_le_add_right h9 12) hlo
theorem jr_callI (F : jj_F X own cc nL) (M : jj_M X ret fr lo N XN) {y : MethodName} {bytes : ByteArray} {maxL fr' lo' n idx : Nat} {As : List jj_AV} {b : Nat} {K : Nat} {N' : Option jj_AV → jj_H → Prop} {XN' : String → Nat → jj_H → Prop}
    (q : Cond.methodLink own idx y ∈ lw_all) (qi : Cond.instanceMethod y ∈ lw_all) (q0 : Cond.initialized y.cls ∈ lw_all) (qc : Cond.code y bytes maxL none ∈ lw_all) (hd : decode cc pc = .ok (.invokespecial idx, 3)) (hy1 : y.name = "<init>") (hy : y.cls ≠ "java/lang/invoke/MethodHandle" ∧ y.cls ≠ "java/lang/invoke/VarHandle" ∧ (parseMethodDescriptor y.desc).map (fun d => d.parameters.length) = some n) (hn : As.length = n) (hfr : fr' + 1 ≤ fr) (hlo : 8 + (maxL + 11) + lo' ≤ lo) (hst : (st.map fun v => if jj_2 v = true then 2 else 1).sum ≤ 8) (hk : K ≤ k)
    (C : jj_Ct X.1 X.2.2.1 y (ws_ y bytes maxL none) fr' lo' (.inr (.inr (.inl (some b))) :: As) h K N' XN')
    (kn : ∀ v h', N' v h' → jj_J X nL (pc + 3) vs (v.toList ++ st) h' (k - K)) (kx : ∀ E q h', XN' E q h' → jj_JX X nL pc vs E q h' (k - K)) : jj_J X nL pc vs (As.reverse ++ .inr (.inr (.inl (some b))) :: st) h k := by
  refine jj_run hk (as := ((Value.ref b :: As.map jj_v).toArray)) (fun H locs cells slots ls hR hc1 hs1 hl => ?_) kn kx
  obtain ⟨G, p, l, e, R, s, m, args, below, meth, c, Q, A⟩ := X
  obtain ⟨hx, hb', hml, ho, hts, hK, hlk, hz, hold⟩ := F
  obtain ⟨hr, hf1, hf2, -, -⟩ := M
  have hR : jj_R G h H := hR
  exact vx_runI (As := As.map jj_v) (rest := st.map jj_v) ⟨hx, hb', hml, ho, hts⟩ C (cwI n hts (lw_meth qc) rfl rfl rfl (hts _ q0) (hts _ q) (hts _ qi) hy1 hy ⟨by rw [hf1]; exact hfr, by rw [hf2]; exact hlo⟩) ⟨jj_blind, fun U hU hW => ⟨rfl, jj_K.warm hW hK, by rw [hU]; exact hR⟩⟩ rfl (by simpa using hn) hl.1 (by simp [F0, jj_v, va_rf]) (lv_room (jj_sum8 hst)) hd ⟨hc1, hs1⟩
theorem jr_callIN (F : jj_F X own cc nL) (M : jj_M X ret fr lo N XN) {y : MethodName} {host : String} {bytes : ByteArray} {maxL fr' lo' n idx : Nat} {As : List jj_AV} {b : Nat} {K : Nat} {N' : Option jj_AV → jj_H → Prop} {XN' : String → Nat → jj_H → Prop}
    (q : Cond.methodLinkNest own idx y host ∈ lw_tbl) (qi : Cond.instanceMethod y ∈ lw_all) (q0 : Cond.initialized y.cls ∈ lw_all) (qc : Cond.code y bytes maxL none ∈ lw_all) (hd : decode cc pc = .ok (.invokespecial idx, 3)) (hy1 : y.name = "<init>") (hy : y.cls ≠ "java/lang/invoke/MethodHandle" ∧ y.cls ≠ "java/lang/invoke/VarHandle" ∧ (parseMethodDescriptor y.desc).map (fun d => d.parameters.length) = some n) (hn : As.length = n) (hfr : fr' + 1 ≤ fr) (hlo : 8 + (maxL + 11) + lo' ≤ lo) (hst : (st.map fun v => if jj_2 v = true then 2 else 1).sum ≤ 8) (hk : K ≤ k)
    (C : jj_Ct X.1 X.2.2.1 y (ws_ y bytes maxL none) fr' lo' (.inr (.inr (.inl (some b))) :: As) h K N' XN')
    (kn : ∀ v h', N' v h' → jj_J X nL (pc + 3) vs (v.toList ++ st) h' (k - K)) (kx : ∀ E q h', XN' E q h' → jj_JX X nL pc vs E q h' (k - K)) : jj_J X nL pc vs (As.reverse ++ .inr (.inr (.inl (some b))) :: st) h k := by
  refine jj_run hk (as := ((Value.ref b :: As.map jj_v).toArray)) (fun H locs cells slots ls hR hc1 hs1 hl => ?_) kn kx
  obtain ⟨G, p, l, e, R, s, m, args, below, meth, c, Q, A⟩ := X
  obtain ⟨hx, hb', hml, ho, hts, hK, hlk, hz, hold⟩ := F
  obtain ⟨hr, hf1, hf2, -, -⟩ := M
  have hR : jj_R G h H := hR
  exact vx_runIN (As := As.map jj_v) (rest := st.map jj_v) ⟨hx, hb', hml, ho, hts⟩ C ⟨va_cnB n hts (lw_meth qc) rfl rfl rfl (hK.2.2.2.1 _ (jj_nwm q rfl)) (hts _ q0) hy ⟨by rw [hf1]; exact hfr, by rw [hf2]; exact hlo⟩, hy1, hts _ qi⟩ ⟨jj_blind, fun U hU hW => ⟨rfl, jj_K.warm hW hK, by rw [hU]; exact hR⟩⟩ rfl (by simpa using hn) hl.1 (by simp [F0, jj_v, va_rf]) (lv_room (jj_sum8 hst)) hd ⟨hc1, hs1⟩
theorem jr_callSN (F : jj_F X own cc nL) (M : jj_M X ret fr lo N XN) {y : MethodName} {host : String} {bytes : ByteArray} {maxL fr' lo' n idx : Nat} {ret' : Option FieldType} {As : List jj_AV} {K : Nat} {N' : Option jj_AV → jj_H → Prop} {XN' : String → Nat → jj_H → Prop}
    (q : Cond.methodLinkNest own idx y host ∈ lw_tbl) (qi : Cond.static y ∈ lw_all) (q0 : Cond.initialized y.cls ∈ lw_all) (qc : Cond.code y bytes maxL ret' ∈ lw_all) (hd : decode cc pc = .ok (.invokestatic idx, 3)) (hy : y.cls ≠ "java/lang/invoke/MethodHandle" ∧ y.cls ≠ "java/lang/invoke/VarHandle" ∧ (parseMethodDescriptor y.desc).map (fun d => d.parameters.length) = some n) (hn : As.length = n) (hfr : fr' + 1 ≤ fr) (hlo : 8 + (maxL + 11) + lo' ≤ lo) (hst : (st.map fun v => if jj_2 v = true then 2 else 1).sum ≤ 8) (hk : K ≤ k)
    (C : jj_Ct X.1 X.2.2.1 y (ws_ y bytes maxL ret') fr' lo' As h K N' XN')
    (kn : ∀ v h', N' v h' → jj_J X nL (pc + 3) vs (v.toList ++ st) h' (k - K)) (kx : ∀ E q h', XN' E q h' → jj_JX X nL pc vs E q h' (k - K)) : jj_J X nL pc vs (As.reverse ++ st) h k := by
  refine jj_run hk (as := ((As.map jj_v).toArray)) (fun H locs cells slots ls hR hc1 hs1 hl => ?_) kn kx
  obtain ⟨G, p, l, e, R, s, m, args, below, meth, c, Q, A⟩ := X
  obtain ⟨hx, hb', hml, ho, hts, hK, hlk, hz, hold⟩ := F
  obtain ⟨hr, hf1, hf2, -, -⟩ := M
  have hR : jj_R G h H := hR
  exact vx_runSN (As := As.map jj_v) (rest := st.map jj_v) ⟨hx, hb', hml, ho, hts⟩ C ⟨va_cnB n hts (lw_meth qc) rfl rfl rfl (hK.2.2.2.1 _ (jj_nwm q rfl)) (hts _ q0) hy ⟨by rw [hf1]; exact hfr, by rw [hf2]; exact hlo⟩, hts _ qi, trivial⟩ ⟨jj_blind, fun U hU hW => ⟨rfl, jj_K.warm hW hK, by rw [hU]; exact hR⟩⟩ rfl (by simpa using hn) hl.1 (by simp [F0]) (lv_room (jj_sum8 hst)) hd ⟨hc1, hs1⟩
/-- invokevirtual of a method with handlers -/
theorem jr_callVX (F : jj_F X own cc nL) (M : jj_M X ret fr lo N XN) {y : MethodName} {bytes : ByteArray} {hh : List (Nat × Nat × Nat × Nat)} {maxL fr' lo' n idx ci : Nat} {ret' : Option FieldType} {As : List jj_AV} {b : Nat} {K : Nat} {cl : String} {T : u_T} {nT : Nat} {c : jj_C} {N' : Option jj_AV → jj_H → Prop} {XN' : String → Nat → jj_H → Prop}
    (g : GoodIn lw_all (wsV own idx cl y (wsW_ y bytes maxL ret' hh))) (hd : decode cc pc = .ok (.invokevirtual idx, 3)) (hy : y.cls = cl ∧ y.cls ≠ "java/lang/invoke/MethodHandle" ∧ y.cls ≠ "java/lang/invoke/VarHandle" ∧ (parseMethodDescriptor y.desc).map (fun d => d.parameters.length) = some n) (hn : As.length = n) (hfr : fr' + 1 ≤ fr) (hlo : 8 + (maxL + 11) + lo' ≤ lo) (hst : (st.map fun v => if jj_2 v = true then 2 else 1).sum ≤ 8)
    (hb : h b = some c) (hc : jj_cls c = some ci) (hq : jj_cl[ci]? = some (cl, T, nT)) (hk : K ≤ k)
    (C : jj_Ct X.1 X.2.2.1 y (wsW_ y bytes maxL ret' hh) fr' lo' (.inr (.inr (.inl (some b))) :: As) h K N' XN')
    (kn : ∀ v h', N' v h' → jj_J X nL (pc + 3) vs (v.toList ++ st) h' (k - K)) (kx : ∀ E q h', XN' E q h' → jj_JX X nL pc vs E q h' (k - K)) : jj_J X nL pc vs (As.reverse ++ .inr (.inr (.inl (some b))) :: st) h k := by
  refine jj_run hk (as := ((Value.ref b :: As.map jj_v).toArray)) (fun H locs cells slots ls hR hc1 hs1 hl => ?_) kn kx
  obtain ⟨G, p, l, e, R, s, m, args, below, meth, c, Q, A⟩ := X
  obtain ⟨hx, hb', hml, ho, hts, hK, hlk, hz, hold⟩ := F
  obtain ⟨hr, hf1, hf2, -, -⟩ := M
  have hR : jj_R G h H := hR
  exact vx_runVX (As := As.map jj_v) (rest := st.map jj_v) ⟨hx, hb', hml, ho, hts⟩ C (vx_cwVW n hts g rfl rfl rfl hy ⟨by rw [hf1]; exact hfr, by rw [hf2]; exact hlo⟩) ⟨jj_blind, jj_recv hK hR hb hc hq, fun U hU hW => ⟨rfl, jj_K.warm hW hK, by rw [hU]; exact hR⟩⟩ rfl (by simpa using hn) hl.1 (by simp [F0, jj_v, va_rf]) (lv_room (jj_sum8 hst)) hd ⟨hc1, hs1⟩
theorem jr_callSX (F : jj_F X own cc nL) (M : jj_M X ret fr lo N XN) {y : MethodName} {bytes : ByteArray} {hh : List (Nat × Nat × Nat × Nat)} {maxL fr' lo' n idx : Nat} {ret' : Option FieldType} {As : List jj_AV} {K : Nat} {N' : Option jj_AV → jj_H → Prop} {XN' : String → Nat → jj_H → Prop}
    (g : GoodIn lw_all (va_wsS own idx y (wsW_ y bytes maxL ret' hh))) (hd : decode cc pc = .ok (.invokestatic idx, 3)) (hy : y.cls ≠ "java/lang/invoke/MethodHandle" ∧ y.cls ≠ "java/lang/invoke/VarHandle" ∧ (parseMethodDescriptor y.desc).map (fun d => d.parameters.length) = some n) (hn : As.length = n) (hfr : fr' + 1 ≤ fr) (hlo : 8 + (maxL + 11) + lo' ≤ lo) (hst : (st.map fun v => if jj_2 v = true then 2 else 1).sum ≤ 8) (hk : K ≤ k)
    (C : jj_Ct X.1 X.2.2.1 y (wsW_ y bytes maxL ret' hh) fr' lo' As h K N' XN')
    (kn : ∀ v h', N' v h' → jj_J X nL (pc + 3) vs (v.toList ++ st) h' (k - K)) (kx : ∀ E q h', XN' E q h' → jj_JX X nL pc vs E q h' (k - K)) : jj_J X nL pc vs (As.reverse ++ st) h k := by
  refine jj_run hk (as := ((As.map jj_v).toArray)) (fun H locs cells slots ls hR hc1 hs1 hl => ?_) kn kx
  obtain ⟨G, p, l, e, R, s, m, args, below, meth, c, Q, A⟩ := X
  obtain ⟨hx, hb', hml, ho, hts, hK, hlk, hz, hold⟩ := F
  obtain ⟨hr, hf1, hf2, -, -⟩ := M
  have hR : jj_R G h H := hR
  exact vx_runSX (As := As.map jj_v) (rest := st.map jj_v) ⟨hx, hb', hml, ho, hts⟩ C (vx_cwSW n hts g rfl rfl rfl hy ⟨by rw [hf1]; exact hfr, by rw [hf2]; exact hlo⟩) ⟨jj_blind, fun U hU hW => ⟨rfl, jj_K.warm hW hK, by rw [hU]; exact hR⟩⟩ rfl (by simpa using hn) hl.1 (by simp [F0]) (lv_room (jj_sum8 hst)) hd ⟨hc1, hs1⟩
/-- invokevirtual of a method that the receiver's class inherits: x is what javac wrote, y what runs, owner the class where y's name is found -/
theorem jr_callU (F : jj_F X own cc nL) (M : jj_M X ret fr lo N XN) {x y : MethodName} {owner : String} {bytes b0 : ByteArray} {maxL m0 fr' lo' n idx ci : Nat} {r0 : Option FieldType} {ret' : Option FieldType} {As : List jj_AV} {b : Nat} {K : Nat} {cl : String} {T : u_T} {nT : Nat} {c : jj_C} {N' : Option jj_AV → jj_H → Prop} {XN' : String → Nat → jj_H → Prop}
    (g : GoodIn lw_all (va_wsO own idx cl owner x y (ws_ y bytes maxL ret'))) (qd : Cond.code ⟨owner, x.name, x.desc⟩ b0 m0 r0 ∈ lw_all) (hd : decode cc pc = .ok (.invokevirtual idx, 3)) (hy : owner ≠ "java/lang/invoke/MethodHandle" ∧ owner ≠ "java/lang/invoke/VarHandle" ∧ (parseMethodDescriptor x.desc).map (fun d => d.parameters.length) = some n) (hn : As.length = n) (hfr : fr' + 1 ≤ fr) (hlo : 8 + (maxL + 11) + lo' ≤ lo) (hst : (st.map fun v => if jj_2 v = true then 2 else 1).sum ≤ 8)
    (hb : h b = some c) (hc : jj_cls c = some ci) (hq : jj_cl[ci]? = some (cl, T, nT)) (hk : K ≤ k)
    (C : jj_Ct X.1 X.2.2.1 y (ws_ y bytes maxL ret') fr' lo' (.inr (.inr (.inl (some b))) :: As) h K N' XN')
    (kn : ∀ v h', N' v h' → jj_J X nL (pc + 3) vs (v.toList ++ st) h' (k - K)) (kx : ∀ E q h', XN' E q h' → jj_JX X nL pc vs E q h' (k - K)) : jj_J X nL pc vs (As.reverse ++ .inr (.inr (.inl (some b))) :: st) h k := by
  refine jj_run hk (as := ((Value.ref b :: As.map jj_v).toArray)) (fun H locs cells slots ls hR hc1 hs1 hl => ?_) kn kx
  obtain ⟨G, p, l, e, R, s, m, args, below, meth, c, Q, A⟩ := X
  obtain ⟨hx, hb', hml, ho, hts, hK, hlk, hz, hold⟩ := F
  obtain ⟨hr, hf1, hf2, -, -⟩ := M
  have hR : jj_R G h H := hR
  exact vx_runU (As := As.map jj_v) (rest := st.map jj_v) ⟨hx, hb', hml, ho, hts⟩ C (va_cwO n hts g rfl rfl rfl qd hy ⟨by rw [hf1]; exact hfr, by rw [hf2]; exact hlo⟩) ⟨jj_blind, jj_recv hK hR hb hc hq, fun U hU hW => ⟨rfl, jj_K.warm hW hK, by rw [hU]; exact hR⟩⟩ rfl (by simpa using hn) hl.1 (by simp [F0, jj_v, va_rf]) (lv_room (jj_sum8 hst)) hd ⟨hc1, hs1⟩
end RK
