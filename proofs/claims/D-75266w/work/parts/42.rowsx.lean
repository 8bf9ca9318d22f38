/-! ROWS: constants' fields, boxes, the cache of Integers, the kinds -/
theorem ja_kAt {G : jj_G} (hA : jj_ga G = ja_m G) {h : jj_H} {H : Heap} (hR : jj_R G h H) {a : Nat} {x : jj_O} (hc : h a = some (.inr (.inr (.inr (.inr x))))) (hx : x.1 = 10 ∨ x.1 = 11) : (∃ cell : Cell, (jj_gH G)[a]? = some cell ∧ H[a]? = some cell) ∧ ja_k G a x := by
  obtain ⟨-, -, own, h3⟩ := hR
  have h4 : jj_ga G own H a x := h3 a _ hc
  rw [hA] at h4
  obtain ⟨ho, ⟨L, ⟨ci, fs, R, -, -, hT⟩, -⟩ | ⟨-, hx9, -⟩ | ⟨hlt, h0, hk⟩ | ⟨hlt, hx12, -⟩⟩ := h4
  · obtain ⟨kk, y⟩ := x
    have hx' : kk = 10 ∨ kk = 11 := hx
    rcases hx' with rfl | rfl
    · exact hT.elim
    · exact hT.elim
  · omega
  · obtain ⟨cell, h1, -⟩ := id hk
    exact ⟨⟨cell, h1, (h0 a hlt).trans h1⟩, hk⟩
  · omega
theorem ja_bxAt {G : jj_G} (hA : jj_ga G = ja_m G) {h : jj_H} {H : Heap} (hR : jj_R G h H) {a : Nat} {v : Int} (hc : h a = some (jj_bx v)) : jj_ob G H a (27, [.inl v]) := by
  obtain ⟨-, -, own, h3⟩ := hR
  have h4 : jj_ga G own H a _ := h3 a _ hc
  rw [hA] at h4
  have key : ∀ L, ja_S (9, [.inl v]) a L → (∀ q ∈ L, ja_c G H q.1 q.2) → jj_ob G H a (27, [.inl v]) := by
    rintro L ⟨ci, fs, R, rfl, hci, v', e1, rfl, rfl⟩ hL
    cases hci
    have e2 : v = v' := Sum.inl.inj (List.cons.inj e1).1
    subst e2
    exact hL _ List.mem_cons_self
  obtain ⟨ho, ⟨L, hS, hL⟩ | ⟨-, hx9, L, hS, hL, -⟩ | ⟨-, -, cell, -, -, -, hx⟩ | ⟨-, hx12, -⟩⟩ := h4
  · exact key L hS fun q hq => (hL q hq).2.2
  · exact key L hS fun q hq => (hL q hq).2
  · exact hx.elim
  · cases hx12
def jp_gk10 (h : jj_H) (o : Option Nat) (K : Int → Prop) : Prop := ∃ a x, o = some a ∧ h a = some (jj_bz x) ∧ K x
def jp_gk11 (h : jj_H) (o : Option Nat) (K : Int → Prop) : Prop := ∃ a x w, o = some a ∧ h a = some (jj_kd x w) ∧ K x
def jp_gk9 (h : jj_H) (o : Option Nat) (K : Int → Prop) : Prop := ∃ a x, o = some a ∧ h a = some (jj_bx x) ∧ K x
/-- out of the cache of Integers -/
def jp_rIC (gk : Nat → Nat) (o : Option Nat) (i : Int) (K : Option Nat → Prop) : Prop := o = some (gk 34) ∧ 0 ≤ i ∧ i < 256 ∧ K (some (gk (100 + i.toNat)))
theorem jx_nmK {s : State} {cA : ClassId} (h : va_RA s cA (.object (jj_rt 5))) : s.vm.findClass "[LNoteImporter$Kind;" = some cA := va_nmO h (by decide +kernel)
section RX9
variable {X : jj_X} {own : String} {cc : ByteArray} {nL pc : Nat} {vs : List (Nat × jj_AV)} {st : List jj_AV} {h : jj_H} {k : Nat} {ret : Option FieldType} {fr lo : Nat} {N : Option jj_AV → jj_H → Prop} {XN : String → Nat → jj_H → Prop}
theorem jr_gk10 (F : jj_F X own cc nL) (J : jx_G X.1 X.2.2.1) {idx : Nat} {o : Option Nat} {K : Int → Prop} (q : Cond.fieldLink own idx "java/lang/Boolean" "value" "Z" ∈ lw_all) (hd : decode cc pc = .ok (.getfield idx, 3)) (w : jp_gk10 h o K) (kk : ∀ x, K x → jj_J X nL (pc + 3) vs (.inl x :: st) h k) : jj_J X nL pc vs (.inr (.inr (.inl o)) :: st) h k := by
  obtain ⟨a, x, rfl, hc, w⟩ := w
  obtain ⟨G, p, l, e, R, s, m, args, below, meth, c, Q, A⟩ := X
  obtain ⟨hx, hb, hml, ho, hts, hK, hlk, hz, hold⟩ := F
  intro H locs cells slots ls hR hS hc' hs hl
  obtain ⟨⟨cell, e1, e2⟩, cell', f1, f2, -, f3⟩ := ja_kAt (G := G) J.2.1.1 hR hc (Or.inl rfl)
  cases e1.symm.trans f1
  obtain ⟨cf, kf, fi, f, g1, g2, g3⟩ := f3 s hK.2.2.2.2
  exact W.getf hx hb ho (hts _ q) g1 g2 e2 (by rw [f2]; exact fun h => by cases h) g3 rfl rfl hd (kk x w H locs cells slots ls hR hS hc' hs hl)
theorem jr_gk11 (F : jj_F X own cc nL) (J : jx_G X.1 X.2.2.1) {idx : Nat} {o : Option Nat} {K : Int → Prop} (q : Cond.fieldLink own idx "java/lang/Enum" "ordinal" "I" ∈ lw_all) (hd : decode cc pc = .ok (.getfield idx, 3)) (w : jp_gk11 h o K) (kk : ∀ x, K x → jj_J X nL (pc + 3) vs (.inl x :: st) h k) : jj_J X nL pc vs (.inr (.inr (.inl o)) :: st) h k := by
  obtain ⟨a, x, wd, rfl, hc, w⟩ := w
  obtain ⟨G, p, l, e, R, s, m, args, below, meth, c, Q, A⟩ := X
  obtain ⟨hx, hb, hml, ho, hts, hK, hlk, hz, hold⟩ := F
  intro H locs cells slots ls hR hS hc' hs hl
  obtain ⟨⟨cell, e1, e2⟩, cell', f1, f2, -, f3⟩ := ja_kAt (G := G) J.2.1.1 hR hc (Or.inr rfl)
  cases e1.symm.trans f1
  obtain ⟨⟨cf, kf, fi, f, g1, g2, g3⟩, -⟩ := f3 s hK.2.2.2.2
  exact W.getf hx hb ho (hts _ q) g1 g2 e2 (by rw [f2]; exact fun h => by cases h) g3 rfl rfl hd (kk x w H locs cells slots ls hR hS hc' hs hl)
theorem jr_gk9 (F : jj_F X own cc nL) (J : jx_G X.1 X.2.2.1) {idx : Nat} {o : Option Nat} {K : Int → Prop} (q : Cond.fieldLink own idx "java/lang/Integer" "value" "I" ∈ lw_all) (hd : decode cc pc = .ok (.getfield idx, 3)) (w : jp_gk9 h o K) (kk : ∀ x, K x → jj_J X nL (pc + 3) vs (.inl x :: st) h k) : jj_J X nL pc vs (.inr (.inr (.inl o)) :: st) h k := by
  obtain ⟨a, x, rfl, hc, w⟩ := w
  obtain ⟨G, p, l, e, R, s, m, args, below, meth, c, Q, A⟩ := X
  obtain ⟨hx, hb, hml, ho, hts, hK, hlk, hz, hold⟩ := F
  intro H locs cells slots ls hR hS hc' hs hl
  have hat := ja_bxAt (G := G) J.2.1.1 hR hc
  exact va_get (T := TJ17) (N := 1) (ci := 27) (C := RJ17) hx hb hts in_J17 ho hK.1 hat.at 0 rfl rfl 0 (by decide) (hts _ q) (fun x h => h) rfl hd (kk x w H locs cells slots ls hR hS hc' hs hl)
theorem jr_aaldIC (F : jj_F X own cc nL) (J : jx_G X.1 X.2.2.1) {i : Int} {o : Option Nat} {K : Option Nat → Prop} (hd : decode cc pc = .ok (.aaload, 1)) (w : jp_rIC (jj_gk X.1) o i K) (kk : ∀ x, K x → jj_J X nL (pc + 1) vs (.inr (.inr (.inl x)) :: st) h k) : jj_J X nL pc vs (.inl i :: .inr (.inr (.inl o)) :: st) h k := by
  obtain ⟨rfl, h1, h2, w⟩ := w
  obtain ⟨G, p, l, e, R, s, m, args, below, meth, c, Q, A⟩ := X
  obtain ⟨hx, hb, hml, ho, hts, hK, hlk, hz, hold⟩ := F
  intro H locs cells slots ls hR hS hc' hs hl
  obtain ⟨cell, q1, q2, q3, q4, q5, q6, q7⟩ := (J.2.1.2.1 s hK.2.2.2.2 s.heap hz hold).2.2
  obtain ⟨hin, hi⟩ := jj_ix (n := 256) h1 h2 (by decide)
  have hlt : (Int32.ofInt i).toNatClampNeg < 256 := Nat.not_le.mp fun q => hin (Or.inr q)
  have hin' : ¬ (Int32.ofInt i < 0 ∨ cell.slots.size ≤ (Int32.ofInt i).toNatClampNeg) := by
    intro q
    rcases q with q | q
    · exact hin (Or.inl q)
    · omega
  refine W.aald (v := .ref (jj_gk G (100 + i.toNat))) (ty := .object "java/lang/Integer") hx hb (by rw [hS.2.1 _ (Array.getElem?_eq_some_iff.mp q1).1 q7]; exact q1) q2 rfl q3 hin' ?_ rfl rfl hd (kk _ w H locs cells slots ls hR hS hc' hs hl)
  rw [q6 _ hlt]
  have : (Int32.ofInt i).toNatClampNeg = i.toNat := by omega
  rw [this]
/-- clone() of the kinds' array -/
theorem jr_cloneK (F : jj_F X own cc nL) (M : jj_M X ret fr lo N XN) (J : jx_G X.1 X.2.2.1) {idx : Nat} {K : Nat → jj_H → Nat → Prop} (q : Cond.methodLink own idx ⟨"[LNoteImporter$Kind;", "clone", "()Ljava/lang/Object;"⟩ ∈ lw_all) (hfr : 1 ≤ fr) (hlo : 22 ≤ lo) (hst : (st.map fun v => if jj_2 v = true then 2 else 1).sum ≤ 8) (hd : decode cc pc = .ok (.invokevirtual idx, 3)) (hck : 2 ≤ k) (w : ∀ a1, h a1 = none → K a1 (jj_set h a1 (.inr (.inr (.inl (5, 4, fun j => some (jj_gk X.1 (22 + j.toNat))))))) (k - 2)) (kk : ∀ a h' k', K a h' k' → jj_J X nL (pc + 3) vs (.inr (.inr (.inl (some a))) :: st) h' k') : jj_J X nL pc vs (.inr (.inr (.inl (some (jj_gk X.1 41)))) :: st) h k := by
  obtain ⟨G, p, l, e, R, s, m, args, below, meth, c1, Q, A⟩ := X
  obtain ⟨hx, hb, hml, ho, hts, hK, hlk, hz, hold⟩ := F
  obtain ⟨hr, hf1, hf2, -, -⟩ := M
  intro H locs cells slots ls hR hS hc' hs hl T hT X
  have hR0 : jj_R G h H := hR
  have hc' : cells + k ≤ R.cells := hc'
  have hs : slots + 4 * k ≤ R.slots := hs
  obtain ⟨hlt, hg⟩ := J.2.1.2.2
  have h9 := jj_sum8 hst
  generalize hfe : (fun j : Int => some (jj_gk G (22 + j.toNat))) = f at hg
  have hfe' : (fun j : Int => some (jj_gk (G, p, l, e, R, s, m, args, below, meth, c1, Q, A).1 (22 + j.toNat))) = f := hfe
  rw [hfe'] at w
  have hcell : H[jj_gk G 41]? = some (jj_rc G 5 4 f) := (hR0.2.1 _ hlt).trans hg
  have hnm : s.vm.findClass "[LNoteImporter$Kind;" = some (jj_gR G 5) := jx_nmK (hK.1.2 9 _ rfl).2
  obtain ⟨c0, t0', f1, f2, f3⟩ := Cond.castable_spec (va_Nw.use (A := args) rfl (hK.2.2.2.1 _ (jj_nwm q2538 rfl)))
  cases hnm.symm.trans f1
  have hcellT : T.heap[jj_gk G 41]? = some (jj_rc G 5 4 f) := by rw [hT]; exact hcell
  obtain ⟨-, kA, hkA, comp, hkind⟩ := State.isArrayOf_alike X.warmed.alike ((hK.1.2 9 _ rfl).1 0 (fun _ => .null))
  obtain ⟨-, kS, hkS, compS, hkindS⟩ := (hK.1.2 9 _ rfl).1 0 (fun _ => .null)
  obtain ⟨vm', X', st'⟩ := X.cloneArray hx ho (hts _ q) (hts _ q2536) (hts _ q331) (hts _ q332) (hts _ q2537) (a := jj_gk G 41) (cell := jj_rc G 5 4 f) hcellT (fun k h => by cases h) (fun h => by cases h) hnm f2 f3
    (fun i v hv => by
      have hk' : T.vm.classes[jj_gR G 5]? = some kA := hkA
      have hfit : fits (.object (jj_rt 5)) v = true := va_fit (F := fun j => va_rf (f (j : Int))) (n := 4) (fun i hi => by cases f (i : Int) <;> rfl) i v hv
      show T.fitsSlot (jj_gR G 5) .none i v = true
      simpa [State.fitsSlot, State.slotType?, hk', hkind] using hfit)
    (g := F0 m pc ls (.ref (jj_gk G 41) :: st.map jj_v)) rfl (hl.1.trans hml.symm) (rest := st.map jj_v) rfl (by rw [hb]; exact hd) (by rw [hf1]; exact hfr) (by show 2 * 0 + _ + 14 ≤ _; rw [hf2]; omega) (by omega) (by show slots + (arrV _ 4 _).slots.size ≤ _; rw [arrV_size]; omega) (hloader := Vm.clonesLoader_of_array hkS hkindS)
  have hcellE : ({ cls := (jj_rc G 5 4 f).cls, slots := (jj_rc G 5 4 f).slots } : Cell) = jj_rc G 5 4 f := rfl
  have hsz : (jj_rc G 5 4 f).slots.size = 4 := arrV_size _ _ _
  rw [hcellE, hsz] at X'
  generalize hH1 : H.push (jj_rc G 5 4 f) = H1
  have z1 : H1.size = H.size + 1 := by rw [← hH1, Array.size_push]
  have e1 : H1[H.size]? = some (jj_rc G 5 4 f) := by rw [← hH1, Array.getElem?_push_size]
  have o1 : ∀ q : Nat, q < H.size → H1[q]? = H[q]? := fun q hq => by rw [← hH1, Array.getElem?_push, if_neg (Nat.ne_of_lt hq)]
  have hp := jj_R.push (c' := .inr (.inr (.inl (5, 4, f)))) hK.2.1 hR0 (show H.size < H1.size by omega) o1 (fun own ho' => ⟨ho', hR0.1, by decide, e1⟩)
  obtain ⟨t, b1, b2⟩ := kk H.size _ _ (w H.size hp.1) H1 locs (cells + 1) (slots + 4) ls hp.2 ⟨Nat.le_trans hS.1 (by omega), fun q h1 h2 => (o1 q (Nat.lt_of_lt_of_le h1 hS.1)).trans (hS.2.1 q h1 h2), hS.2.2⟩ (by show cells + 1 + (k - 2) ≤ R.cells; omega) (by show slots + 4 + 4 * (k - 2) ≤ R.slots; omega) hl
    ((T.setVm vm').pushCell (jj_rc G 5 4 f)) (by rw [← hH1, ← hT]; rfl) X'
  refine ⟨t, st' t ?_, b2⟩
  rw [hcellE, hT]
  exact b1
theorem jr_castK (F : jj_F X own cc nL) {idx a n : Nat} {f : Int → Option Nat} (ql : Cond.classLink own idx "[LNoteImporter$Kind;" ∈ lw_all) (hc : h a = some (.inr (.inr (.inl (5, n, f))))) (hd : decode cc pc = .ok (.checkcast idx, 3)) (kk : jj_J X nL (pc + 3) vs (.inr (.inr (.inl (some a))) :: st) h k) : jj_J X nL pc vs (.inr (.inr (.inl (some a))) :: st) h k := by
  obtain ⟨G, p, l, e, R, s, m, args, below, meth, c, Q, A⟩ := X
  obtain ⟨hx, hb, hml, ho, hts, hK, hlk, hz, hold⟩ := F
  intro H locs cells slots ls hR hS hc' hs hl
  obtain ⟨-, hn, hcell⟩ := jj_rcAt (G := G) hR hc
  exact va_castE hx hb ho (hts _ ql) ⟨_, hcell, rfl, jx_nmK (hK.1.2 9 _ rfl).2⟩ hd (kk H locs cells slots ls hR hS hc' hs hl)
end RX9
