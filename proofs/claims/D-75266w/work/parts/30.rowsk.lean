/-! FIELDS by a subclass's name (sameField); statics of the start -/
section RK1
variable {X : jj_X} {own : String} {cc : ByteArray} {nL pc : Nat} {vs : List (Nat × jj_AV)} {st : List jj_AV} {h : jj_H} {k : Nat}
theorem jr_giR (F : jj_F X own cc nL) {C ref : String} {T : u_T} {nT ci f idx : Nat} {o : Option Nat} {K : Int → Prop} (hq : jj_cl[ci]? = some (C, T, nT)) (hin : ∀ w ∈ u_ws C T nT, w ∈ lw_all) (hf : f < nT) (q : Cond.fieldLink own idx ref (T f).2.1 (T f).2.2.1 ∈ lw_all) (qs : Cond.sameField ref (T f).1 (T f).2.1 (T f).2.2.1 ∈ lw_all) (hd : decode cc pc = .ok (.getfield idx, 3)) (w : jp_gi h o ci f K) (kk : ∀ x, K x → jj_J X nL (pc + 3) vs (.inl x :: st) h k) : jj_J X nL pc vs (.inr (.inr (.inl o)) :: st) h k := by
  obtain ⟨a, fs, x, rfl, hc, hv, w⟩ := w
  obtain ⟨G, p, l, e, R, s, m, args, below, meth, c, Q, A⟩ := X
  obtain ⟨hx, hb, hml, ho, hts, hK, hlk, hz, hold⟩ := F
  intro H locs cells slots ls hR hS hc' hs hl
  have hat := (jj_obAt (G := G) hR hc).2
  have hv' : (fs.map jj_v)[f]? = some (jj_v (.inl x)) := by rw [List.getElem?_map, hv]; rfl
  exact va_get (T := T) (N := nT) (ci := ci) (C := C) hx hb hts hin ho hK.1 hat.at 0 rfl hq f hf (hts _ q) (u_same (hts _ qs)) hv' hd (kk x w H locs cells slots ls hR hS hc' hs hl)
theorem jr_piR (F : jj_F X own cc nL) {C ref : String} {T : u_T} {nT ci f idx : Nat} {x : Int} {o : Option Nat} {ty : Nat → FieldType} {K : jj_H → Prop} (hq : jj_cl[ci]? = some (C, T, nT)) (hin : ∀ w ∈ u_ws C T nT, w ∈ lw_all) (hty : ∀ k, k < nT → parseFieldDescriptor (T k).2.2.1 = some (ty k)) (hnm : ∀ a, a < nT → ∀ b, b < nT → a ≠ b → (T a).2.1 ≠ (T b).2.1) (hf : f < nT) (ht : ty f = .int) (hfin : (T f).2.2.2 = false) (q : Cond.fieldLink own idx ref (T f).2.1 (T f).2.2.1 ∈ lw_all) (qs : Cond.sameField ref (T f).1 (T f).2.1 (T f).2.2.1 ∈ lw_all) (hd : decode cc pc = .ok (.putfield idx, 3)) (w : jp_pi h o ci f x K) (kk : ∀ h', K h' → jj_J X nL (pc + 3) vs st h' k) : jj_J X nL pc vs (.inl x :: .inr (.inr (.inl o)) :: st) h k := by
  obtain ⟨a, fs, rfl, hc, w⟩ := w
  obtain ⟨G, p, l, e, R, s, m, args, below, meth, c, Q, A⟩ := X
  obtain ⟨hx, hb, hml, ho, hts, hK, hlk, hz, hold⟩ := F
  intro H locs cells slots ls hR hS hc' hs hl
  have hR0 : jj_R G h H := hR
  obtain ⟨hba, hob⟩ := jj_obAt hR0 hc
  have hK1 := hK.1
  have hap := va_apart (own := own) hts hin ty hty hnm hK1 hq
  obtain ⟨r, h1, hlen, cell, q1, q2, q3, q4⟩ := id hob
  have hr : r = (C, T, nT) := Option.some.inj (h1.symm.trans hq)
  subst hr
  obtain ⟨hSl, hfc, kC, hkC, hkind⟩ := hK1.1 ci _ hq
  obtain ⟨cf, kf, fi, fd, hi, hsl⟩ := hSl f hf
  have hlay := hts _ (hin _ (u_in_lay hf))
  have hst := (u_facts hfc hkC (u_lays hts hin hf) hi).1
  have hl' : f < (fs.map jj_v).length := by
    have hlen : fs.length = nT := hlen
    rw [List.length_map]; omega
  have hsz : fd.slot < cell.slots.size := by rw [hsl]; exact k2_hasslot (q4 f hf)
  unfold u_lay at hlay
  rw [if_neg (by rw [hfin]; decide)] at hlay
  have h6 := u_store (v := jj_v (.inl x)) hfc hkC hkind hlay hi (hty f hf) (by rw [ht]; rfl) (by rw [ht]; rfl)
  refine W.putK hx hb (f := fd) ⟨ho, hts _ q, ⟨_, _, _, u_same (hts _ qs) _ hi⟩, hst⟩ (by rw [q2]; exact h6) q1 q3 hsz rfl rfl hd fun H' e1 e2 e3 => ?_
  rw [hsl] at e1
  refine kk _ w H' _ cells slots ls ?_ (hS.put e2 e3 hba) hc' hs hl
  refine jj_R.put hK.2.1 hR0 hc hba e2 (qa := a) (fun own h => h.1) hba e3 (fun own h => ⟨h.1, h.2.1, _, hq, by simpa using hlen, ?_⟩)
  have e9 : (fs.set f (.inl x)).map jj_v = (fs.map jj_v).set f (jj_v (.inl x)) := List.map_set
  show t_OB _ _ _ _ _ (vp_V ((fs.set f (.inl x)).map jj_v))
  rw [e9]
  exact t_OB.to (V := updV (vp_V (fs.map jj_v)) f (jj_v (.inl x))) ⟨_, e1, q2, q3, t_set q4 hap hf (jj_v (.inl x))⟩ (fun j _ => vp_updV_set hl' (jj_v (.inl x)) j)
theorem jr_icmp_eqS (F : jj_F X own cc nL) {x y : Int} {off : Int} {tgt : Nat} (hxy : x = y ∨ (jj_r x ∧ jj_r y)) (hd : decode cc pc = .ok (.if_icmp .eq off, 3)) (ht : (pc : Int) + off = (tgt : Int)) (kt : x = y → jj_J X nL tgt vs st h k) (kf : ¬ x = y → jj_J X nL (pc + 3) vs st h k) : jj_J X nL pc vs (.inl y :: .inl x :: st) h k := by
  rcases hxy with rfl | ⟨hx, hy⟩
  · exact fun H locs cells slots ls hR hS hc hs hl => lv_icmp_eq F.exec F.code hd ht (fun _ => kt rfl H locs cells slots ls hR hS hc hs hl) (fun c => absurd rfl c)
  · exact jr_icmp_eq F hx hy hd ht kt kf
end RK1
theorem jx_J2_toArray {G : jj_G} {l : Launch} (J : jx_G G l) : ∀ U, jj_ge G U → va_Fw RJ2 jj_yta yJ2_toArray U := fun U h => (J.2.2 U h).2.2.1
theorem jx_ao0 {G : jj_G} {l : Launch} (J : jx_G G l) : ∀ U, jj_ge G U → va_AO "java/lang/Object" U := fun U h => (J.2.2 U h).2.2.2.1
theorem jx_ao4 {G : jj_G} {l : Launch} (J : jx_G G l) : ∀ U, jj_ge G U → va_AO "java/util/HashMap$Node" U := fun U h => (J.2.2 U h).2.2.2.2.1
theorem gw_J2_toArray {own : String} {idx : Nat} (q : Cond.methodLink own idx ⟨"java/util/Collection", "toArray", "()[Ljava/lang/Object;"⟩ ∈ lw_all) : GoodIn lw_all (va_wsF own idx RJ2 jj_yta yJ2_toArray (ws_ yJ2_toArray cJ2_toArray 1 (some ((.array (.object "java/lang/Object")))))) := by
  refine lw_app ?_ (lw_meth q1907)
  intro w hw
  simp only [List.mem_cons, List.not_mem_nil, or_false] at hw
  rcases hw with e | e | e | e
  · rw [e]; exact q
  · rw [e]; exact q1903
  · rw [e]; exact q1905
  · rw [e]; exact q124
section RK2
variable {X : jj_X} {own : String} {cc : ByteArray} {nL pc : Nat} {vs : List (Nat × jj_AV)} {st : List jj_AV} {h : jj_H} {k : Nat} {ret : Option FieldType} {fr lo : Nat} {N : Option jj_AV → jj_H → Prop} {XN : String → Nat → jj_H → Prop}
theorem jr_cF (F : jj_F X own cc nL) (M : jj_M X ret fr lo N XN) {x y : MethodName} {bytes : ByteArray} {maxL fr' lo' n idx cnt ci : Nat} {ret' : Option FieldType} {As : List jj_AV} {o : Option Nat} {K : Nat} {cl : String} {T : u_T} {nT : Nat} {N' : Option jj_AV → jj_H → Prop} {XN' : String → Nat → jj_H → Prop}
    (g : GoodIn lw_all (va_wsF own idx cl x y (ws_ y bytes maxL ret'))) (hFw : ∀ U, jj_ge X.1 U → va_Fw cl x y U) (hd : decode cc pc = .ok (.invokeinterface idx cnt, 5)) (hy : x.cls ≠ "java/lang/invoke/MethodHandle" ∧ x.cls ≠ "java/lang/invoke/VarHandle" ∧ (parseMethodDescriptor x.desc).map (fun d => d.parameters.length) = some n) (hn : As.length = n) (hfr : fr' + 1 ≤ fr) (hlo : 8 + (maxL + 11) + lo' ≤ lo) (hst : (st.map fun v => if jj_2 v = true then 2 else 1).sum ≤ 8)
    (hq : jj_cl[ci]? = some (cl, T, nT)) (hi : jp_is h o ci) (hk : K ≤ k)
    (C : jj_Ct X.1 X.2.2.1 y (ws_ y bytes maxL ret') fr' lo' (.inr (.inr (.inl o)) :: As) h K N' XN')
    (kn : ∀ v h', N' v h' → jj_J X nL (pc + 5) vs (v.toList ++ st) h' (k - K)) (kx : ∀ E q h', XN' E q h' → jj_JX X nL pc vs E q h' (k - K)) : jj_J X nL pc vs (As.reverse ++ .inr (.inr (.inl o)) :: st) h k := by
  obtain ⟨a, c, rfl, hc, hci⟩ := hi
  have hge : jj_ge X.1 X.2.2.2.2.2.1 := by
    obtain ⟨G, p, l, e, R, s, m, args, below, meth, c, Q, A⟩ := X
    exact F.2.2.2.2.2.1.2.2.2.2
  exact jr_callF F M g (hFw _ hge) hd hy hn hfr hlo hst hc hci hq hk C kn kx
end RK2
def df_J21 : List jj_AV := [.inl 0, .inl 0, .inl 0, jj_rf none]
theorem dfo_J21 : ∀ j, j < 4 → defaultValue (tyJ21 j) = vp_V (df_J21.map jj_v) j := by
  intro j hj
  match j, hj with
  | 0, _ => rfl
  | 1, _ => rfl
  | 2, _ => rfl
  | 3, _ => rfl
  | j + 4, hj => exact absurd hj (by omega)
