/-! ROWS for HashMap: interface calls, floats, instanceof TreeNode -/
theorem lw_F {own : String} {idx : Nat} {cl : String} {x y : MethodName} {b : ByteArray} {L : Nat} {r : Option FieldType} (h1 : Cond.methodLink own idx x ∈ lw_all) (h6 : Cond.selects cl x y ∈ lw_all) (h3 : Cond.instanceMethod y ∈ lw_all) (h4 : Cond.initialized y.cls ∈ lw_all) (h5 : Cond.code y b L r ∈ lw_all) : GoodIn lw_all (va_wsF own idx cl x y (ws_ y b L r)) := by
  refine lw_app ?_ (lw_meth h5)
  intro w hw
  simp only [List.mem_cons, List.not_mem_nil, or_false] at hw
  rcases hw with e | e | e | e <;> rw [e] <;> assumption
def jp_pf (h : jj_H) (o : Option Nat) (ci f : Nat) (x : UInt32) (K : jj_H → Prop) : Prop := ∃ a fs, o = some a ∧ h a = some (.inl (ci, fs)) ∧ K (jj_set h a (.inl (ci, fs.set f (.inr (.inr (.inr x))))))
section RH1
variable {X : jj_X} {own : String} {cc : ByteArray} {nL pc : Nat} {vs : List (Nat × jj_AV)} {st : List jj_AV} {h : jj_H} {k : Nat} {ret : Option FieldType} {fr lo : Nat} {N : Option jj_AV → jj_H → Prop} {XN : String → Nat → jj_H → Prop}
theorem jr_ldcF (F : jj_F X own cc nL) {index : Nat} {x : UInt32} (q : Cond.constantFloat own index x ∈ lw_all) (hd : decode cc pc = .ok (.ldc index, 2)) (kk : jj_J X nL (pc + 2) vs (.inr (.inr (.inr x)) :: st) h k) : jj_J X nL pc vs st h k := fun H locs cells slots ls hR hS hc hs hl => lv_ldcf F.exec F.code F.2.2.2.1 (F.2.2.2.2.1 _ q) hd (kk H locs cells slots ls hR hS hc hs hl)
theorem jr_pfF (F : jj_F X own cc nL) {C : String} {T : u_T} {nT ci f idx : Nat} {x : UInt32} {o : Option Nat} {ty : Nat → FieldType} {K : jj_H → Prop} (hq : jj_cl[ci]? = some (C, T, nT)) (hin : ∀ w ∈ u_ws C T nT, w ∈ lw_all) (hty : ∀ k, k < nT → parseFieldDescriptor (T k).2.2.1 = some (ty k)) (hnm : ∀ a, a < nT → ∀ b, b < nT → a ≠ b → (T a).2.1 ≠ (T b).2.1) (hf : f < nT) (ht : ty f = .float) (hfin : (T f).2.2.2 = true) (hown : (T f).1 = own) (hi : X.2.2.2.2.2.2.2.2.2.1.name = "<init>") (q : Cond.fieldLink own idx (T f).1 (T f).2.1 (T f).2.2.1 ∈ lw_all) (hd : decode cc pc = .ok (.putfield idx, 3)) (w : jp_pf h o ci f x K) (kk : ∀ h', K h' → jj_J X nL (pc + 3) vs st h' k) : jj_J X nL pc vs (.inr (.inr (.inr x)) :: .inr (.inr (.inl o)) :: st) h k := by
  obtain ⟨a, fs, rfl, hc, w⟩ := w
  exact jj_putJ F hq hin hty hnm hf (Or.inr (Or.inr ⟨hfin, hown, hi, q⟩)) (by rw [ht]; rfl) (by rw [ht]; rfl) hc hd (kk _ w)
theorem jr_instTN (F : jj_F X own cc nL) (J : jx_G X.1 X.2.2.1) {idx : Nat} {o : Option Nat} (ql : Cond.classLink own idx "java/util/HashMap$TreeNode" ∈ lw_all) (hd : decode cc pc = .ok (.instanceof idx, 3)) (w : jp_is h o 17) (kk : jj_J X nL (pc + 3) vs (.inl 0 :: st) h k) : jj_J X nL pc vs (.inr (.inr (.inl o)) :: st) h k := by
  obtain ⟨a, c0, rfl, hc, hci⟩ := w
  obtain ⟨G, p, l, e, R, s, m, args, below, meth, c, Q, A⟩ := X
  obtain ⟨hx, hb, hml, ho, hts, hK, hlk, hz, hold⟩ := F
  intro H locs cells slots ls hR hS hc' hs hl
  exact va_instNo hx hb ho (hts _ ql) (jx_GT J s hK.2.2.2.2).2.2.1 (jj_recv hK hR hc hci rfl) hd (kk H locs cells slots ls hR hS hc' hs hl)
end RH1
def df_J35 : List jj_AV := [.inl 0, jj_rf none, jj_rf none, jj_rf none]
theorem dfo_J35 : ∀ j, j < 4 → defaultValue (tyJ35 j) = vp_V (df_J35.map jj_v) j := by
  intro j hj
  match j, hj with
  | 0, _ => rfl
  | 1, _ => rfl
  | 2, _ => rfl
  | 3, _ => rfl
  | j + 4, hj => exact absurd hj (by omega)
def df_J27 : List jj_AV := [jj_rf none]
theorem dfo_J27 : ∀ j, j < 1 → defaultValue (tyJ27 j) = vp_V (df_J27.map jj_v) j := by
  intro j hj
  match j, hj with
  | 0, _ => rfl
  | j + 1, hj => exact absurd hj (by omega)
def df_J25 : List jj_AV := [jj_rf none, jj_rf none, .inl 0, .inl 0, jj_rf none]
theorem dfo_J25 : ∀ j, j < 5 → defaultValue (tyJ25 j) = vp_V (df_J25.map jj_v) j := by
  intro j hj
  match j, hj with
  | 0, _ => rfl
  | 1, _ => rfl
  | 2, _ => rfl
  | 3, _ => rfl
  | 4, _ => rfl
  | j + 5, hj => exact absurd hj (by omega)
section RH2
variable {X : jj_X} {own : String} {cc : ByteArray} {nL pc : Nat} {vs : List (Nat × jj_AV)} {st : List jj_AV} {h : jj_H} {k : Nat}
theorem jr_grR (F : jj_F X own cc nL) {C ref : String} {T : u_T} {nT ci f idx : Nat} {o : Option Nat} {K : Option Nat → Prop} (hq : jj_cl[ci]? = some (C, T, nT)) (hin : ∀ w ∈ u_ws C T nT, w ∈ lw_all) (hf : f < nT) (q : Cond.fieldLink own idx ref (T f).2.1 (T f).2.2.1 ∈ lw_all) (qs : Cond.sameField ref (T f).1 (T f).2.1 (T f).2.2.1 ∈ lw_all) (hd : decode cc pc = .ok (.getfield idx, 3)) (w : jp_gr h o ci f K) (kk : ∀ x, K x → jj_J X nL (pc + 3) vs (.inr (.inr (.inl x)) :: st) h k) : jj_J X nL pc vs (.inr (.inr (.inl o)) :: st) h k := by
  obtain ⟨a, fs, x, rfl, hc, hv, w⟩ := w
  obtain ⟨G, p, l, e, R, s, m, args, below, meth, c, Q, A⟩ := X
  obtain ⟨hx, hb, hml, ho, hts, hK, hlk, hz, hold⟩ := F
  intro H locs cells slots ls hR hS hc' hs hl
  have hat := (jj_obAt (G := G) hR hc).2
  have hv' : (fs.map jj_v)[f]? = some (jj_v (.inr (.inr (.inl x)))) := by rw [List.getElem?_map, hv]; rfl
  exact va_get (T := T) (N := nT) (ci := ci) (C := C) hx hb hts hin ho hK.1 hat.at 0 rfl hq f hf (hts _ q) (u_same (hts _ qs)) hv' hd (kk x w H locs cells slots ls hR hS hc' hs hl)
theorem jr_prR (F : jj_F X own cc nL) {C ref : String} {T : u_T} {nT ci f idx : Nat} {o x : Option Nat} {ty : Nat → FieldType} {K : jj_H → Prop} (hq : jj_cl[ci]? = some (C, T, nT)) (hin : ∀ w ∈ u_ws C T nT, w ∈ lw_all) (hty : ∀ k, k < nT → parseFieldDescriptor (T k).2.2.1 = some (ty k)) (hnm : ∀ a, a < nT → ∀ b, b < nT → a ≠ b → (T a).2.1 ≠ (T b).2.1) (hf : f < nT) (ht : (ty f).isReference = true) (hfin : (T f).2.2.2 = false) (q : Cond.fieldLink own idx ref (T f).2.1 (T f).2.2.1 ∈ lw_all) (qs : Cond.sameField ref (T f).1 (T f).2.1 (T f).2.2.1 ∈ lw_all) (hd : decode cc pc = .ok (.putfield idx, 3)) (w : jp_pr h o ci f x K) (kk : ∀ h', K h' → jj_J X nL (pc + 3) vs st h' k) : jj_J X nL pc vs (.inr (.inr (.inl x)) :: .inr (.inr (.inl o)) :: st) h k := by
  obtain ⟨a, fs, rfl, hc, w⟩ := w
  obtain ⟨G, p, l, e, R, s, m, args, below, meth, c, Q, A⟩ := X
  obtain ⟨hx, hb, hml, ho, hts, hK, hlk, hz, hold⟩ := F
  intro H locs cells slots ls hR hS hc' hs hl
  have hR0 : jj_R G h H := hR
  obtain ⟨hba, hob⟩ := jj_obAt hR0 hc
  have hK1 := hK.1
  have hap := va_apart (own := own) hts hin ty hty hnm hK1 hq
  obtain ⟨r, h1, hlen, cell, q1, q2, q3, q4⟩ := id hob
  have hr : r = (C, T, nT) := Option.some.inj (h1.symm.trans hq)
  subst hr
  obtain ⟨hSl, hfc, kC, hkC, hkind⟩ := hK1.1 ci _ hq
  obtain ⟨cf, kf, fi, fd, hi, hsl⟩ := hSl f hf
  have hlay := hts _ (hin _ (u_in_lay hf))
  have hst := (u_facts hfc hkC (u_lays hts hin hf) hi).1
  have hl' : f < (fs.map jj_v).length := by
    have hlen : fs.length = nT := hlen
    rw [List.length_map]; omega
  have hsz : fd.slot < cell.slots.size := by rw [hsl]; exact k2_hasslot (q4 f hf)
  unfold u_lay at hlay
  rw [if_neg (by rw [hfin]; decide)] at hlay
  have h6 := u_store (v := jj_v (.inr (.inr (.inl x)))) hfc hkC hkind hlay hi (hty f hf) (jj_nref ht x).1 (jj_nref ht x).2
  refine W.putK hx hb (f := fd) ⟨ho, hts _ q, ⟨_, _, _, u_same (hts _ qs) _ hi⟩, hst⟩ (by rw [q2]; exact h6) q1 q3 hsz rfl rfl hd fun H' e1 e2 e3 => ?_
  rw [hsl] at e1
  refine kk _ w H' _ cells slots ls ?_ (hS.put e2 e3 hba) hc' hs hl
  refine jj_R.put hK.2.1 hR0 hc hba e2 (qa := a) (fun own h => h.1) hba e3 (fun own h => ⟨h.1, h.2.1, _, hq, by simpa using hlen, ?_⟩)
  have e9 : (fs.set f (.inr (.inr (.inl x)))).map jj_v = (fs.map jj_v).set f (jj_v (.inr (.inr (.inl x)))) := List.map_set
  show t_OB _ _ _ _ _ (vp_V ((fs.set f (.inr (.inr (.inl x)))).map jj_v))
  rw [e9]
  exact t_OB.to (V := updV (vp_V (fs.map jj_v)) f (jj_v (.inr (.inr (.inl x))))) ⟨_, e1, q2, q3, t_set q4 hap hf (jj_v (.inr (.inr (.inl x))))⟩ (fun j _ => vp_updV_set hl' (jj_v (.inr (.inr (.inl x)))) j)
end RH2
