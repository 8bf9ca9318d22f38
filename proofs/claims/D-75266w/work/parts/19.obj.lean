/-! OBJECTS AND ARRAYS of the pure heap: the program's steps (jp_) and their rows (jr_) -/
def jp_gi (h : jj_H) (o : Option Nat) (ci f : Nat) (K : Int → Prop) : Prop := ∃ a fs x, o = some a ∧ h a = some (.inl (ci, fs)) ∧ fs[f]? = some (.inl x) ∧ K x
def jp_gr (h : jj_H) (o : Option Nat) (ci f : Nat) (K : Option Nat → Prop) : Prop := ∃ a fs x, o = some a ∧ h a = some (.inl (ci, fs)) ∧ fs[f]? = some (.inr (.inr (.inl x))) ∧ K x
def jp_pi (h : jj_H) (o : Option Nat) (ci f : Nat) (x : Int) (K : jj_H → Prop) : Prop := ∃ a fs, o = some a ∧ h a = some (.inl (ci, fs)) ∧ K (jj_set h a (.inl (ci, fs.set f (.inl x))))
def jp_pz (h : jj_H) (o : Option Nat) (ci f : Nat) (x : Int) (K : jj_H → Prop) : Prop := ∃ a fs, o = some a ∧ h a = some (.inl (ci, fs)) ∧ (x = 0 ∨ x = 1) ∧ K (jj_set h a (.inl (ci, fs.set f (.inl x))))
def jp_pr (h : jj_H) (o : Option Nat) (ci f : Nat) (x : Option Nat) (K : jj_H → Prop) : Prop := ∃ a fs, o = some a ∧ h a = some (.inl (ci, fs)) ∧ K (jj_set h a (.inl (ci, fs.set f (.inr (.inr (.inl x))))))
def jp_al (h : jj_H) (o : Option Nat) (t : Nat) (i : Int) (K : Int → Prop) : Prop := ∃ a n f, o = some a ∧ h a = some (.inr (.inl (t, n, f))) ∧ 0 ≤ i ∧ i < (n : Int) ∧ K (f i)
def jp_as (h : jj_H) (o : Option Nat) (t : Nat) (i x : Int) (K : jj_H → Prop) : Prop := ∃ a n f, o = some a ∧ h a = some (.inr (.inl (t, n, f))) ∧ 0 ≤ i ∧ i < (n : Int) ∧ K (jj_set h a (.inr (.inl (t, n, fun j => if j = i then x else f j))))
def jp_rl (h : jj_H) (o : Option Nat) (t : Nat) (i : Int) (K : Option Nat → Prop) : Prop := ∃ a n f, o = some a ∧ h a = some (.inr (.inr (.inl (t, n, f)))) ∧ 0 ≤ i ∧ i < (n : Int) ∧ K (f i)
def jp_rs (h : jj_H) (o : Option Nat) (t ci : Nat) (i : Int) (x : Option Nat) (K : jj_H → Prop) : Prop := ∃ a n f b c, o = some a ∧ h a = some (.inr (.inr (.inl (t, n, f)))) ∧ 0 ≤ i ∧ i < (n : Int) ∧ x = some b ∧ h b = some c ∧ jj_cls c = some ci ∧ K (jj_set h a (.inr (.inr (.inl (t, n, fun j => if j = i then x else f j)))))
def jp_ai (h : jj_H) (o : Option Nat) (t : Nat) (K : Int → Prop) : Prop := ∃ a n f, o = some a ∧ h a = some (.inr (.inl (t, n, f))) ∧ K (n : Int)
def jp_ar (h : jj_H) (o : Option Nat) (t : Nat) (K : Int → Prop) : Prop := ∃ a n f, o = some a ∧ h a = some (.inr (.inr (.inl (t, n, f)))) ∧ K (n : Int)
/-- a new object: its credits are a cell and its slots -/
def jp_nw (h : jj_H) (k ci c : Nat) (fs : List jj_AV) (K : Nat → jj_H → Nat → Prop) : Prop := c ≤ k ∧ ∀ a, h a = none → K a (jj_set h a (.inl (ci, fs))) (k - c)
def jp_ni (h : jj_H) (k t : Nat) (n : Int) (K : Nat → jj_H → Nat → Prop) : Prop := 0 ≤ n ∧ n < 16777216 ∧ 1 + n.toNat / 4 ≤ k ∧ ∀ a, h a = none → K a (jj_set h a (.inr (.inl (t, n.toNat, fun _ => 0)))) (k - (1 + n.toNat / 4))
def jp_nr (h : jj_H) (k t : Nat) (n : Int) (K : Nat → jj_H → Nat → Prop) : Prop := 0 ≤ n ∧ n < 16777216 ∧ 1 + n.toNat / 4 ≤ k ∧ ∀ a, h a = none → K a (jj_set h a (.inr (.inr (.inl (t, n.toNat, fun _ => none))))) (k - (1 + n.toNat / 4))
/-- a cell of a known class: a receiver, a cast -/
def jp_is (h : jj_H) (o : Option Nat) (ci : Nat) : Prop := ∃ a c, o = some a ∧ h a = some c ∧ jj_cls c = some ci
section RO
variable {X : jj_X} {own : String} {cc : ByteArray} {nL pc : Nat} {vs : List (Nat × jj_AV)} {st : List jj_AV} {h : jj_H} {k : Nat}
theorem jj_obAt {G : jj_G} {H : Heap} (hR : jj_R G h H) {a : Nat} {o : jj_O} (hc : h a = some (.inl o)) : jj_gb G ≤ a ∧ jj_ob G H a o := by
  obtain ⟨-, -, own, h3⟩ := hR
  exact (h3 a _ hc).2
theorem jj_getW (F : jj_F X own cc nL) {C : String} {T : u_T} {nT ci f idx a : Nat} {fs : List jj_AV} {v : jj_AV} (hq : jj_cl[ci]? = some (C, T, nT)) (hin : ∀ w ∈ u_ws C T nT, w ∈ lw_all) (hf : f < nT) (hlink : (∃ ref, Cond.fieldLink own idx ref (T f).2.1 (T f).2.2.1 ∈ lw_all ∧ ref = (T f).1) ∨ ∃ ref host, Cond.fieldLinkNest own idx ref (T f).2.1 (T f).2.2.1 host ∈ jj_nw ∧ ref = (T f).1) (hc : h a = some (.inl (ci, fs))) (hv : fs[f]? = some v) (hd : decode cc pc = .ok (.getfield idx, 3)) (kk : jj_J X nL (pc + 3) vs (v :: st) h k) : jj_J X nL pc vs (.inr (.inr (.inl (some a))) :: st) h k := by
  obtain ⟨G, p, l, e, R, s, m, args, below, meth, c, Q, A⟩ := X
  obtain ⟨hx, hb, hml, ho, hts, hK, hlk, hz, hold⟩ := F
  intro H locs cells slots ls hR hS hc' hs hl
  have hat := (jj_obAt (G := G) hR hc).2
  have hv' : (fs.map jj_v)[f]? = some (jj_v v) := by rw [List.getElem?_map, hv]; rfl
  rcases hlink with ⟨ref, q, rfl⟩ | ⟨ref, host, q, rfl⟩
  · exact va_get (T := T) (N := nT) (ci := ci) (C := C) hx hb hts hin ho hK.1 hat.at 0 rfl hq f hf (hts _ q) (fun x h => h) hv' hd (kk H locs cells slots ls hR hS hc' hs hl)
  · exact va_getN (T := T) (N := nT) (ci := ci) (C := C) hx hb hts hin ho hK.1 hat.at 0 rfl hq f hf (va_Nw.use rfl (hK.2.2.2.1 _ q)) (fun x h => h) hv' hd (kk H locs cells slots ls hR hS hc' hs hl)
theorem jr_gi (F : jj_F X own cc nL) {C : String} {T : u_T} {nT ci f idx : Nat} {o : Option Nat} {K : Int → Prop} (hq : jj_cl[ci]? = some (C, T, nT)) (hin : ∀ w ∈ u_ws C T nT, w ∈ lw_all) (hf : f < nT) (q : Cond.fieldLink own idx (T f).1 (T f).2.1 (T f).2.2.1 ∈ lw_all) (hd : decode cc pc = .ok (.getfield idx, 3)) (w : jp_gi h o ci f K) (kk : ∀ x, K x → jj_J X nL (pc + 3) vs (.inl x :: st) h k) : jj_J X nL pc vs (.inr (.inr (.inl o)) :: st) h k := by
  obtain ⟨a, fs, x, rfl, hc, hv, w⟩ := w
  exact jj_getW F hq hin hf (Or.inl ⟨_, q, rfl⟩) hc hv hd (kk x w)
theorem jr_gr (F : jj_F X own cc nL) {C : String} {T : u_T} {nT ci f idx : Nat} {o : Option Nat} {K : Option Nat → Prop} (hq : jj_cl[ci]? = some (C, T, nT)) (hin : ∀ w ∈ u_ws C T nT, w ∈ lw_all) (hf : f < nT) (q : Cond.fieldLink own idx (T f).1 (T f).2.1 (T f).2.2.1 ∈ lw_all) (hd : decode cc pc = .ok (.getfield idx, 3)) (w : jp_gr h o ci f K) (kk : ∀ x, K x → jj_J X nL (pc + 3) vs (.inr (.inr (.inl x)) :: st) h k) : jj_J X nL pc vs (.inr (.inr (.inl o)) :: st) h k := by
  obtain ⟨a, fs, x, rfl, hc, hv, w⟩ := w
  exact jj_getW F hq hin hf (Or.inl ⟨_, q, rfl⟩) hc hv hd (kk x w)
theorem jj_nwm {w : Cond} (h : w ∈ lw_tbl) (g : jj_nwk w = true) : w ∈ jj_nw := List.mem_filter.mpr ⟨h, g⟩
theorem jr_giN (F : jj_F X own cc nL) {C host : String} {T : u_T} {nT ci f idx : Nat} {o : Option Nat} {K : Int → Prop} (hq : jj_cl[ci]? = some (C, T, nT)) (hin : ∀ w ∈ u_ws C T nT, w ∈ lw_all) (hf : f < nT) (q : Cond.fieldLinkNest own idx (T f).1 (T f).2.1 (T f).2.2.1 host ∈ lw_tbl) (hd : decode cc pc = .ok (.getfield idx, 3)) (w : jp_gi h o ci f K) (kk : ∀ x, K x → jj_J X nL (pc + 3) vs (.inl x :: st) h k) : jj_J X nL pc vs (.inr (.inr (.inl o)) :: st) h k := by
  obtain ⟨a, fs, x, rfl, hc, hv, w⟩ := w
  exact jj_getW F hq hin hf (Or.inr ⟨_, _, jj_nwm q rfl, rfl⟩) hc hv hd (kk x w)
theorem jr_grN (F : jj_F X own cc nL) {C host : String} {T : u_T} {nT ci f idx : Nat} {o : Option Nat} {K : Option Nat → Prop} (hq : jj_cl[ci]? = some (C, T, nT)) (hin : ∀ w ∈ u_ws C T nT, w ∈ lw_all) (hf : f < nT) (q : Cond.fieldLinkNest own idx (T f).1 (T f).2.1 (T f).2.2.1 host ∈ lw_tbl) (hd : decode cc pc = .ok (.getfield idx, 3)) (w : jp_gr h o ci f K) (kk : ∀ x, K x → jj_J X nL (pc + 3) vs (.inr (.inr (.inl x)) :: st) h k) : jj_J X nL pc vs (.inr (.inr (.inl o)) :: st) h k := by
  obtain ⟨a, fs, x, rfl, hc, hv, w⟩ := w
  exact jj_getW F hq hin hf (Or.inr ⟨_, _, jj_nwm q rfl, rfl⟩) hc hv hd (kk x w)
/-- a field is written: the machine's side, by its own link, a nest mate's, or a final one in its constructor -/
theorem jj_putJ (F : jj_F X own cc nL) {C : String} {T : u_T} {nT ci f idx a : Nat} {fs : List jj_AV} {v : jj_AV} {ty : Nat → FieldType} (hq : jj_cl[ci]? = some (C, T, nT)) (hin : ∀ w ∈ u_ws C T nT, w ∈ lw_all) (hty : ∀ k, k < nT → parseFieldDescriptor (T k).2.2.1 = some (ty k)) (hnm : ∀ a, a < nT → ∀ b, b < nT → a ≠ b → (T a).2.1 ≠ (T b).2.1) (hf : f < nT) (hlink : ((T f).2.2.2 = false ∧ Cond.fieldLink own idx (T f).1 (T f).2.1 (T f).2.2.1 ∈ lw_all) ∨ ((T f).2.2.2 = false ∧ ∃ host, Cond.fieldLinkNest own idx (T f).1 (T f).2.1 (T f).2.2.1 host ∈ jj_nw) ∨ ((T f).2.2.2 = true ∧ (T f).1 = own ∧ X.2.2.2.2.2.2.2.2.2.1.name = "<init>" ∧ Cond.fieldLink own idx (T f).1 (T f).2.1 (T f).2.2.1 ∈ lw_all)) (hn : narrow (ty f) (jj_v v) = jj_v v) (hfit : fits (ty f) (jj_v v) = true) (hc : h a = some (.inl (ci, fs))) (hd : decode cc pc = .ok (.putfield idx, 3)) (kk : jj_J X nL (pc + 3) vs st (jj_set h a (.inl (ci, fs.set f v))) k) : jj_J X nL pc vs (v :: .inr (.inr (.inl (some a))) :: st) h k := by
  obtain ⟨G, p, l, e, R, s, m, args, below, meth, c, Q, A⟩ := X
  obtain ⟨hx, hb, hml, ho, hts, hK, hlk, hz, hold⟩ := F
  intro H locs cells slots ls hR hS hc' hs hl
  have hR0 : jj_R G h H := hR
  obtain ⟨hba, hob⟩ := jj_obAt hR0 hc
  have hK1 := hK.1
  have hap := va_apart (own := own) hts hin ty hty hnm hK1 hq
  obtain ⟨r, h1, hlen, cell, q1, q2, q3, q4⟩ := id hob
  have hr : r = (C, T, nT) := Option.some.inj (h1.symm.trans hq)
  subst hr
  obtain ⟨hSl, hfc, kC, hkC, hkind⟩ := hK1.1 ci _ hq
  obtain ⟨cf, kf, fi, fd, hi, hsl⟩ := hSl f hf
  have hlay := hts _ (hin _ (u_in_lay hf))
  have hst := (u_facts hfc hkC (u_lays hts hin hf) hi).1
  have hl' : f < (fs.map jj_v).length := by
    have hlen : fs.length = nT := hlen
    rw [List.length_map]; omega
  have fin : ∀ H' : Heap, H'[a]? = some (cell.setSlot fd.slot (jj_v v)) → H'.size = H.size → (∀ q, q ≠ a → H'[q]? = H[q]?) → jj_W (G, p, l, e, R, s, m, args, below, meth, c, Q, A) H' (locs ++ [⟨a, fd.slot⟩]) cells slots (F0 m (pc + 3) ls (st.map jj_v)) := by
    intro H' e1 e2 e3
    rw [hsl] at e1
    refine kk H' _ cells slots ls ?_ (hS.put e2 e3 hba) hc' hs hl
    refine jj_R.put hK.2.1 hR0 hc hba e2 (qa := a) (fun own h => h.1) hba e3 (fun own h => ⟨h.1, h.2.1, _, hq, by simpa using hlen, ?_⟩)
    have e9 : (fs.set f v).map jj_v = (fs.map jj_v).set f (jj_v v) := List.map_set
    show t_OB _ _ _ _ _ (vp_V ((fs.set f v).map jj_v))
    rw [e9]
    exact t_OB.to (V := updV (vp_V (fs.map jj_v)) f (jj_v v)) ⟨_, e1, q2, q3, t_set q4 hap hf (jj_v v)⟩ (fun j _ => vp_updV_set hl' (jj_v v) j)
  have hsz : fd.slot < cell.slots.size := by rw [hsl]; exact k2_hasslot (q4 f hf)
  rcases hlink with ⟨hfin, q⟩ | ⟨hfin, host, q⟩ | ⟨hfin, hdecl, hin2, q⟩
  · unfold u_lay at hlay
    rw [if_neg (by rw [hfin]; decide)] at hlay
    have h6 := u_store hfc hkC hkind hlay hi (hty f hf) hn hfit
    exact W.putK hx hb (f := fd) ⟨ho, hts _ q, ⟨_, _, _, hi⟩, hst⟩ (by rw [q2]; exact h6) q1 q3 hsz rfl rfl hd fin
  · unfold u_lay at hlay
    rw [if_neg (by rw [hfin]; decide)] at hlay
    have h6 := u_store hfc hkC hkind hlay hi (hty f hf) hn hfit
    exact va_WputK hx hb (f := fd) ho (va_Nw.use rfl (hK.2.2.2.1 _ q)) hi hst (by rw [q2]; exact h6) q1 q3 hsz rfl rfl hd fin
  · unfold u_lay at hlay
    rw [if_pos hfin] at hlay
    have hcf : m.cls = cf := by
      obtain ⟨_, _, c', _, _, _, -, -, hf', -, -, -, hown2, -⟩ := Cond.laysFinal_spec hlay
      have e1 : c' = cf := by have := hi.symm.trans hf'; simp at this; exact this.1.symm
      rw [hdecl] at hown2
      rw [← e1]; exact Option.some.inj (ho.symm.trans hown2)
    have h6 := u_fits hfc hkC hkind (Or.inr hlay) hi (hty f hf) hn hfit
    exact W.putFinK hx hb ho (hts _ q) hi hst hcf hin2 (by rw [q2]; exact h6) q1 q3 hsz rfl rfl hd fin
end RO
