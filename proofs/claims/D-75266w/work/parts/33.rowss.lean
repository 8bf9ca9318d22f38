/-! READING Strings: one's own, open, or constants -/
def jp_giS (h : jj_H) (o : Option Nat) (f : Nat) (K : Int → Prop) : Prop := ∃ a fs x, o = some a ∧ (h a = some (.inl (25, fs)) ∨ ∃ d hv z cs, h a = some (ja_fz d hv z cs) ∧ fs = [jj_rf (some d), .inl 0, .inl hv, .inl z]) ∧ fs[f]? = some (.inl x) ∧ K x
def jp_grS (h : jj_H) (o : Option Nat) (f : Nat) (K : Option Nat → Prop) : Prop := ∃ a fs x, o = some a ∧ (h a = some (.inl (25, fs)) ∨ ∃ d hv z cs, h a = some (ja_fz d hv z cs) ∧ fs = [jj_rf (some d), .inl 0, .inl hv, .inl z]) ∧ fs[f]? = some (jj_rf x) ∧ K x
/-- an array of bytes: one's own, or a constant String's -/
def jp_byS (h : jj_H) (d n : Nat) (f : Int → Int) : Prop := h d = some (.inr (.inl (2, n, f))) ∨ ∃ a hv z cs, h a = some (ja_fz d hv z cs) ∧ n = cs.length ∧ ∀ i : Nat, i < cs.length → f i = jj_sb8 (cs.getD i 0)
def jp_alS (h : jj_H) (o : Option Nat) (i : Int) (K : Int → Prop) : Prop := ∃ d n f, o = some d ∧ jp_byS h d n f ∧ 0 ≤ i ∧ i < (n : Int) ∧ K (f i)
def jp_aiS (h : jj_H) (o : Option Nat) (K : Int → Prop) : Prop := ∃ d n f, o = some d ∧ jp_byS h d n f ∧ K (n : Int)
theorem ja_fzAt {G : jj_G} (hA : jj_ga G = ja_m G) {h : jj_H} {H : Heap} (hR : jj_R G h H) {a d : Nat} {hv z : Int} {cs : List Int} (hc : h a = some (ja_fz d hv z cs)) : jj_ob G H a (25, [jj_rf (some d), .inl 0, .inl hv, .inl z]) ∧ ∃ f : Int → Int, (∀ i : Nat, i < cs.length → f i = jj_sb8 (cs.getD i 0)) ∧ cs.length < 1000000 ∧ H[d]? = some (jj_ic G 2 cs.length f) := by
  obtain ⟨-, -, own, h3⟩ := hR
  have h4 : jj_ga G own H a _ := h3 a _ hc
  rw [hA] at h4
  obtain ⟨ho, ⟨L, ⟨ci, fs, R, -, -, hT⟩, -⟩ | ⟨-, hx, -⟩ | ⟨-, -, cell, -, -, -, hx⟩ | ⟨hlt, -, cs2, d2, hv2, z2, f, e1, e2, e3, e4, e5, -⟩⟩ := h4
  · cases hT
  · rcases hx with hx | hx <;> cases hx
  · cases hx
  · have e8 := List.append_inj e1 rfl
    have e6 : cs = cs2 := (List.map_inj_right (fun x y hxy => Sum.inl.inj hxy)).mp e8.2
    subst e6
    have e7 : d = d2 ∧ hv = hv2 ∧ z = z2 := by
      have := e8.1
      simp only [jj_rf, List.cons.injEq, Sum.inr.injEq, Sum.inl.injEq, Option.some.injEq, and_true, true_and] at this
      exact this
    obtain ⟨rfl, rfl, rfl⟩ := e7
    obtain ⟨cs3, d3, hv3, z3, f3, q1, q2, q3, q4, q5, q6, q7, q8, q9, q10⟩ := e2
    have e9 : cs = cs3 := (List.map_inj_right (fun x y hxy => Sum.inl.inj hxy)).mp q1
    subst e9
    have e10 : f = f3 := by
      have := (List.cons.inj q3).1
      simp only [Prod.mk.injEq, Sum.inr.injEq, Sum.inl.injEq, true_and] at this
      exact this.2
    subst e10
    exact ⟨e3, f, fun i hi => (q10 i hi).2.2, q5, e5.2⟩
section RSS
variable {X : jj_X} {own : String} {cc : ByteArray} {nL pc : Nat} {vs : List (Nat × jj_AV)} {st : List jj_AV} {h : jj_H} {k : Nat} {ret : Option FieldType} {fr lo : Nat} {N : Option jj_AV → jj_H → Prop} {XN : String → Nat → jj_H → Prop}
theorem jj_getS (F : jj_F X own cc nL) (J : jx_G X.1 X.2.2.1) {f idx a : Nat} {fs : List jj_AV} {v : jj_AV} (hf : f < 4) (q : Cond.fieldLink own idx (TJ9 f).1 (TJ9 f).2.1 (TJ9 f).2.2.1 ∈ lw_all) (hc : h a = some (.inl (25, fs)) ∨ ∃ d hv z cs, h a = some (ja_fz d hv z cs) ∧ fs = [jj_rf (some d), .inl 0, .inl hv, .inl z]) (hv : fs[f]? = some v) (hd : decode cc pc = .ok (.getfield idx, 3)) (kk : jj_J X nL (pc + 3) vs (v :: st) h k) : jj_J X nL pc vs (.inr (.inr (.inl (some a))) :: st) h k := by
  rcases hc with hc | ⟨d, hv', z, cs, hc, rfl⟩
  · exact jj_getW F (ci := 25) (T := TJ9) rfl in_J9 hf (Or.inl ⟨_, q, rfl⟩) hc hv hd kk
  · obtain ⟨G, p, l, e, R, s, m, args, below, meth, c, Q, A⟩ := X
    obtain ⟨hx, hb, hml, ho, hts, hK, hlk, hz, hold⟩ := F
    intro H locs cells slots ls hR hS hc' hs hl
    have hat := (ja_fzAt (G := G) J.2.1.1 hR hc).1
    have hv2 : (([jj_rf (some d), .inl 0, .inl hv', .inl z] : List jj_AV).map jj_v)[f]? = some (jj_v v) := by rw [List.getElem?_map, hv]; rfl
    exact va_get (T := TJ9) (N := 4) (ci := 25) (C := RJ9) hx hb hts in_J9 ho hK.1 hat.at 0 rfl rfl f hf (hts _ q) (fun x h => h) hv2 hd (kk H locs cells slots ls hR hS hc' hs hl)
theorem jr_giS (F : jj_F X own cc nL) (J : jx_G X.1 X.2.2.1) {f idx : Nat} {o : Option Nat} {K : Int → Prop} (hf : f < 4) (q : Cond.fieldLink own idx (TJ9 f).1 (TJ9 f).2.1 (TJ9 f).2.2.1 ∈ lw_all) (hd : decode cc pc = .ok (.getfield idx, 3)) (w : jp_giS h o f K) (kk : ∀ x, K x → jj_J X nL (pc + 3) vs (.inl x :: st) h k) : jj_J X nL pc vs (.inr (.inr (.inl o)) :: st) h k := by
  obtain ⟨a, fs, x, rfl, hc, hv, w⟩ := w
  exact jj_getS F J hf q hc hv hd (kk x w)
theorem jr_grS (F : jj_F X own cc nL) (J : jx_G X.1 X.2.2.1) {f idx : Nat} {o : Option Nat} {K : Option Nat → Prop} (hf : f < 4) (q : Cond.fieldLink own idx (TJ9 f).1 (TJ9 f).2.1 (TJ9 f).2.2.1 ∈ lw_all) (hd : decode cc pc = .ok (.getfield idx, 3)) (w : jp_grS h o f K) (kk : ∀ x, K x → jj_J X nL (pc + 3) vs (.inr (.inr (.inl x)) :: st) h k) : jj_J X nL pc vs (.inr (.inr (.inl o)) :: st) h k := by
  obtain ⟨a, fs, x, rfl, hc, hv, w⟩ := w
  exact jj_getS F J hf q hc hv hd (kk x w)
/-- the bytes' cell in the machine's heap -/
theorem jp_byAt {G : jj_G} (hA : jj_ga G = ja_m G) {H : Heap} (hR : jj_R G h H) {d n : Nat} {f : Int → Int} (hb : jp_byS h d n f) : n < 2147483648 ∧ ∃ g : Int → Int, (∀ i : Nat, i < n → g i = f i) ∧ H[d]? = some (jj_ic G 2 n g) := by
  rcases hb with hb | ⟨a, hv, z, cs, hc, rfl, hf⟩
  · obtain ⟨-, h1, h2⟩ := jj_icAt hR hb
    exact ⟨h1, f, fun _ _ => rfl, h2⟩
  · obtain ⟨-, g, h1, h2, h3⟩ := ja_fzAt hA hR hc
    exact ⟨by omega, g, fun i hi => (h1 i hi).trans (hf i hi).symm, h3⟩
theorem jr_baldS (F : jj_F X own cc nL) (J : jx_G X.1 X.2.2.1) {i : Int} {o : Option Nat} {K : Int → Prop} (hd : decode cc pc = .ok (.baload, 1)) (w : jp_alS h o i K) (kk : ∀ x, K x → jj_J X nL (pc + 1) vs (.inl x :: st) h k) : jj_J X nL pc vs (.inl i :: .inr (.inr (.inl o)) :: st) h k := by
  obtain ⟨d, n, f, rfl, hby, h1, h2, w⟩ := w
  obtain ⟨G, p, l, e, R, s, m, args, below, meth, c, Q, A⟩ := X
  obtain ⟨hx, hb, hml, ho, hts, hK, hlk, hz, hold⟩ := F
  intro H locs cells slots ls hR hS hc' hs hl
  obtain ⟨hn, g, hg, hcell⟩ := jp_byAt (G := G) J.2.1.1 hR hby
  obtain ⟨hin, hi⟩ := jj_ix h1 h2 hn
  have e9 : g i = f i := by
    have := hg i.toNat (by omega)
    rwa [show ((i.toNat : Nat) : Int) = i by omega] at this
  exact W.bald (v := .int (Int32.ofInt (f i))) hx hb hcell ((hK.1.2 2 _ rfl).1 n (fun j => jj_pv 2 (g (j : Int)))) (fun q => by cases q) (by show ¬ (_ < 0 ∨ (arrV _ _ _).slots.size ≤ _); rw [arrV_size]; exact hin) (by show (arrV _ _ _).slots[_]? = _; rw [arrV_read _ _ (jj_arrLt hin), hi, e9]; rfl) rfl rfl hd (kk _ w H locs cells slots ls hR hS hc' hs hl)
theorem jr_alenS (F : jj_F X own cc nL) (J : jx_G X.1 X.2.2.1) {o : Option Nat} {K : Int → Prop} (hd : decode cc pc = .ok (.arraylength, 1)) (w : jp_aiS h o K) (kk : ∀ x, K x → jj_J X nL (pc + 1) vs (.inl x :: st) h k) : jj_J X nL pc vs (.inr (.inr (.inl o)) :: st) h k := by
  obtain ⟨d, n, f, rfl, hby, w⟩ := w
  obtain ⟨G, p, l, e, R, s, m, args, below, meth, c, Q, A⟩ := X
  obtain ⟨hx, hb, hml, ho, hts, hK, hlk, hz, hold⟩ := F
  intro H locs cells slots ls hR hS hc' hs hl
  obtain ⟨hn, g, hg, hcell⟩ := jp_byAt (G := G) J.2.1.1 hR hby
  exact W.alen (n := Int32.ofInt (n : Int)) hx hb hcell ((hK.1.2 2 _ rfl).1 n (fun j => jj_pv 2 (g (j : Int)))) (by show (arrV _ _ _).slots.size.toInt32 = _; rw [arrV_size]; exact Int32.ofInt_eq_ofNat.symm) rfl rfl hd (kk _ w H locs cells slots ls hR hS hc' hs hl)
end RSS
/-- System.arraycopy of bytes -/
def jp_acB (h : jj_H) (o0 : Option Nat) (sp : Int) (o1 : Option Nat) (dp n : Int) (K : jj_H → Prop) : Prop := ∃ d n0 f a n1 g, o0 = some d ∧ jp_byS h d n0 f ∧ o1 = some a ∧ h a = some (.inr (.inl (2, n1, g))) ∧ 0 ≤ sp ∧ 0 ≤ dp ∧ 0 ≤ n ∧ sp + n ≤ (n0 : Int) ∧ dp + n ≤ (n1 : Int) ∧ n0 < 16777216 ∧ n1 < 16777216 ∧ (∀ i : Int, sp ≤ i → i < sp + n → -128 ≤ f i ∧ f i < 128) ∧ K (jj_set h a (.inr (.inl (2, n1, fun j => if dp ≤ j ∧ j < dp + n then f (j - dp + sp) else g j))))
section RSB
variable {X : jj_X} {own : String} {cc : ByteArray} {nL pc : Nat} {vs : List (Nat × jj_AV)} {st : List jj_AV} {h : jj_H} {k : Nat} {ret : Option FieldType} {fr lo : Nat} {N : Option jj_AV → jj_H → Prop} {XN : String → Nat → jj_H → Prop}
theorem jj_cpyB {G : jj_G} {n0 n1 : Nat} {f f2 g : Int → Int} {sp dp n : Nat} (hs : sp + n ≤ n0) (he : ∀ i : Nat, i < n0 → f i = f2 i) : (jj_ic G 2 n1 g).storeRun dp ((jj_ic G 2 n0 f).stretch sp n) = jj_ic G 2 n1 (fun j => if (dp : Int) ≤ j ∧ j < (dp : Int) + n then f2 (j - dp + sp) else g j) := by
  have e := va_copied (fun z => jj_pv 2 z) (jj_gA G 2) (jj_gA G 2) (n0 := n0) (n1 := n1) (sp := sp) (dp := dp) (n := n) (fun j : Nat => f (j : Int)) (fun j : Nat => g (j : Int)) hs
  refine e.trans ?_
  unfold jj_ic
  congr 1
  funext j
  unfold va_cpy
  by_cases hj : dp ≤ j ∧ j < dp + n
  · rw [if_pos hj]
    show jj_pv 2 (f _) = jj_pv 2 (ite _ _ _)
    rw [if_pos (by omega), he _ (by omega)]
    congr 2
    omega
  · rw [if_neg hj]
    show jj_pv 2 (g _) = jj_pv 2 (ite _ _ _)
    rw [if_neg (by omega)]
theorem jj_bytF {x : Int} (hx : -128 ≤ x ∧ x < 128) : fits .byte (.int (Int32.ofInt x)) = true := by
  have key : ∀ n : Nat, n < 256 → fits .byte (.int (Int32.ofInt ((n : Int) - 128))) = true := by decide +kernel
  have := key (x + 128).toNat (by omega)
  rwa [show (((x + 128).toNat : Int) - 128) = x by omega] at this
theorem jr_acB (F : jj_F X own cc nL) (M : jj_M X ret fr lo N XN) (J : jx_G X.1 X.2.2.1) {idx : Nat} {sp dp n : Int} {o0 o1 : Option Nat} {K : jj_H → Prop} (q : Cond.methodLink own idx arraycopyName ∈ lw_all) (qn : Cond.native arraycopyName ∈ lw_all) (qs : Cond.static arraycopyName ∈ lw_all) (q0 : Cond.initialized "java/lang/System" ∈ lw_all) (hfr : 1 ≤ fr) (hlo : 8 + (nativeFrameWords "java/lang/System" "arraycopy" 5 + 11) ≤ lo) (hst : (st.map fun v => if jj_2 v = true then 2 else 1).sum ≤ 8) (hd : decode cc pc = .ok (.invokestatic idx, 3)) (w : jp_acB h o0 sp o1 dp n K) (kk : ∀ h', K h' → jj_J X nL (pc + 3) vs st h' k) : jj_J X nL pc vs (.inl n :: .inl dp :: .inr (.inr (.inl o1)) :: .inl sp :: .inr (.inr (.inl o0)) :: st) h k := by
  obtain ⟨a0, n0, f, a, n1, g, rfl, hby, rfl, hc1, h1, h2, h3, h4, h5, hz0, hz1, hel, w⟩ := w
  obtain ⟨G, p, l, e, R, s, m, args, below, meth, c, Q, A⟩ := X
  obtain ⟨hx, hb, hml, ho, hts, hK, hlk, hz, hold⟩ := F
  obtain ⟨hr, hf1, hf2, -, -⟩ := M
  intro H locs cells slots ls hR hS hc' hs hl T hT X
  have hR0 : jj_R G h H := hR
  obtain ⟨hn0, f0, hf0, hcell0⟩ := jp_byAt (G := G) J.2.1.1 hR0 hby
  obtain ⟨hb1, hn1, hcell1⟩ := jj_icAt hR0 hc1
  have es := jj_tcn h1 (show sp < 16777216 by omega)
  have ed := jj_tcn h2 (show dp < 16777216 by omega)
  have en := jj_tcn h3 (show n < 16777216 by omega)
  have is : (Int32.ofInt sp).toInt = sp := jj_ti ⟨by omega, by omega⟩
  have id' : (Int32.ofInt dp).toInt = dp := jj_ti ⟨by omega, by omega⟩
  have in' : (Int32.ofInt n).toInt = n := jj_ti ⟨by omega, by omega⟩
  obtain ⟨-, k0, hk0, cm0, hkk0⟩ := (hK.1.2 2 _ rfl).1 n0 (fun j => jj_pv 2 (f0 (j : Int)))
  obtain ⟨-, k1, hk1, cm1, hkk1⟩ := (hK.1.2 2 _ rfl).1 n1 (fun j => jj_pv 2 (g (j : Int)))
  have h9 := jj_sum8 hst
  obtain ⟨vm', X', step⟩ := X.arraycopy hx ho (hts _ q) (hts _ qn) (hts _ qs) (hts _ q0) (src := a0) (dst := a) (cs := jj_ic G 2 n0 f0) (cd := jj_ic G 2 n1 g) (srcPos := Int32.ofInt sp) (destPos := Int32.ofInt dp) (n := Int32.ofInt n) (by rw [hT]; exact hcell0) (by rw [hT]; exact hcell1)
    (fun _ h => by cases h) (fun _ h => by cases h) (fun h => by cases h) (fun h => by cases h) hk0 hk1 hkk0 hkk1 rfl es.2 ed.2 en.2
    (by rw [is, in']; show ¬ _ > ((arrV _ n0 _).slots.size : Int); rw [arrV_size]; omega)
    (by rw [id', in']; show ¬ _ > ((arrV _ n1 _).slots.size : Int); rw [arrV_size]; omega)
    (fun vm₁ hal i hi => by
      rw [en.1] at hi
      have e9 : (jj_ic G 2 n0 f0).slots.getD ((Int32.ofInt sp).toNatClampNeg + i) .null = .int (Int32.ofInt (f (sp + i))) := by
        show (arrV _ n0 (fun j => jj_pv 2 (f0 (j : Int)))).slots.getD _ _ = _
        rw [Array.getD_eq_getD_getElem?, es.1, arrV_read _ _ (by omega)]
        show jj_pv 2 (f0 ((sp.toNat + i : Nat) : Int)) = _
        rw [hf0 _ (by omega)]
        show Value.int (Int32.ofInt (f _)) = _
        congr 3
        omega
      rw [e9]
      exact ⟨jj_bytF (hel (sp + i) (by omega) (by omega)), trivial⟩)
    (g := F0 m pc ls (.int (Int32.ofInt n) :: .int (Int32.ofInt dp) :: .ref a :: .int (Int32.ofInt sp) :: .ref a0 :: st.map jj_v)) rfl (hl.1.trans hml.symm) (rest := st.map jj_v) rfl (by rw [hb]; exact hd) (by rw [hf1]; exact hfr) (by rw [hf2]; show 2 * 0 + _ + _ ≤ _; omega)
  have e1 : copied (jj_ic G 2 n0 f0) (jj_ic G 2 n1 g) (Int32.ofInt sp) (Int32.ofInt dp) (Int32.ofInt n) = jj_ic G 2 n1 (fun j => if dp ≤ j ∧ j < dp + n then f (j - dp + sp) else g j) := by
    have := jj_cpyB (G := G) (n0 := n0) (n1 := n1) (f := f0) (f2 := f) (g := g) (sp := sp.toNat) (dp := dp.toNat) (n := n.toNat) (by omega) hf0
    have e2 : (sp.toNat : Int) = sp := by omega
    have e3 : (dp.toNat : Int) = dp := by omega
    have e4 : (n.toNat : Int) = n := by omega
    rw [e2, e3, e4] at this
    unfold copied
    rw [es.1, ed.1, en.1]
    exact this
  rw [e1] at X' step
  have hal : a < H.size := (Array.getElem?_eq_some_iff.mp hcell1).1
  generalize hcn : jj_ic G 2 n1 (fun j => if dp ≤ j ∧ j < dp + n then f (j - dp + sp) else g j) = cn at X' step
  have hheap : ((T.setVm vm').setCell a cn).heap = H.setIfInBounds a cn := by rw [← hT]; rfl
  have oq : ∀ q : Nat, q ≠ a → (H.setIfInBounds a cn)[q]? = H[q]? := fun q hq => by simp [Array.getElem?_setIfInBounds, Ne.symm hq]
  have eq1 : (H.setIfInBounds a cn)[a]? = some cn := by simp [Array.getElem?_setIfInBounds, hal]
  have hz' : (H.setIfInBounds a cn).size = H.size := by simp
  have hR' := jj_R.put (c' := .inr (.inl (2, n1, fun j => if dp ≤ j ∧ j < dp + n then f (j - dp + sp) else g j))) hK.2.1 hR0 hc1 hb1 hz' (qa := a) (fun own h => h.1) hb1 oq (fun own h => ⟨h.1, h.2.1, h.2.2.1, by rw [eq1, hcn]⟩)
  obtain ⟨t, a1, b1⟩ := kk _ w _ _ cells slots ls hR' ⟨by rw [hz']; exact hS.1, fun q g1 g2 => by
      rw [oq q (fun e => g2 (by rw [e]; exact hb1))]
      exact hS.2.1 q g1 g2, fun q hq => by
      rcases List.mem_append.mp hq with h | h
      · exact hS.2.2 q h
      · obtain ⟨z, -, hz⟩ := List.mem_map.mp h
        rw [← hz]
        exact hb1⟩ hc' hs hl _ hheap X'
  exact ⟨t, step t a1, b1⟩
end RSB
