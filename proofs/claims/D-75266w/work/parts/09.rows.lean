/-! ONE FRAME over the pure heap: jj_J, and a row an instruction -/
/-- what is known of the tables, of the statics -/
def jj_nwk : Cond → Bool
  | .fieldLinkNest _ _ _ _ _ _ => true
  | .methodLinkNest _ _ _ _ => true
  | .castable _ _ => true
  | .declares _ => true
  | _ => false
def jj_nw : List Cond := lw_tbl.filter jj_nwk
def jj_gel (G : jj_G) : Prop := (∀ s U : State, U.vm = s.vm → jj_ge G s → jj_ge G U) ∧ ∀ s U : State, s.WarmedH U.vm → jj_ge G s → jj_ge G U
def jj_K (G : jj_G) (U : State) : Prop := va_K (jj_gD G) jj_cl (jj_tys G) U ∧ jj_law G ∧ jj_gel G ∧ (∀ w ∈ jj_nw, va_Nw w U) ∧ jj_ge G U
theorem jj_nw_warm {w : Cond} (hw : w ∈ jj_nw) {s U : State} (hW : s.WarmedH U.vm) (h : va_Nw w s) : va_Nw w U := by
  have hk := (List.mem_filter.mp hw).2
  cases w <;> first | exact va_Nw.warmF hW h | exact va_Nw.warmM hW h | exact va_Nw.warmC hW h | exact va_Nw.warmD hW h | cases hk
theorem jj_nw_tab {w : Cond} (hw : w ∈ jj_nw) : w.onTables = true := by
  have hk := (List.mem_filter.mp hw).2
  cases w <;> first | rfl | cases hk
theorem jj_K.warm {G : jj_G} {s U : State} (hW : s.WarmedH U.vm) (h : jj_K G s) : jj_K G U := ⟨va_K.moved hW.alike h.1, h.2.1, h.2.2.1, fun w hw => jj_nw_warm hw hW (h.2.2.2.1 w hw), h.2.2.1.2 s U hW h.2.2.2.2⟩
theorem jj_K.same {G : jj_G} {s U : State} (e : U.vm = s.vm) (h : jj_K G s) : jj_K G U := ⟨va_K.moved (e ▸ Vm.Alike.refl _) h.1, h.2.1, h.2.2.1, fun w hw => va_Nw.same (jj_nw_tab hw) e.symm (h.2.2.2.1 w hw), h.2.2.1.1 s U e h.2.2.2.2⟩
abbrev jj_X : Type := jj_G × Program × Launch × Env × Room × State × MethodId × Array Value × List Frame × Method × Code × (State → Prop) × (Addr → Prop)
def jj_W (X : jj_X) (H : Heap) (locs : List Loc) (cells slots : Nat) (g : JFrame) : Prop := W X.2.1 X.2.2.1 X.2.2.2.1 X.2.2.2.2.1 X.2.2.2.2.2.1 X.2.2.2.2.2.2.1 X.2.2.2.2.2.2.2.1 X.2.2.2.2.2.2.2.2.1 X.2.2.2.2.2.2.2.2.2.1 X.2.2.2.2.2.2.2.2.2.2.1 H locs cells slots X.2.2.2.2.2.2.2.2.2.2.2.1 g
def jj_lv (vs : List (Nat × jj_AV)) : List (Nat × Value) := vs.map (fun q => (q.1, jj_v q.2))
/-- from any machine heap that the pure heap h stands for, with k credits left (a credit: one cell, four slots) -/
def jj_J (X : jj_X) (nL : Nat) (pc : Nat) (vs : List (Nat × jj_AV)) (st : List jj_AV) (h : jj_H) (k : Nat) : Prop :=
  ∀ (H : Heap) (locs : List Loc) (cells slots : Nat) (ls : Array Slot), jj_R X.1 h H → va_S (fun q => jj_gb X.1 ≤ q) X.2.2.2.2.2.1.heap H locs → cells + k ≤ X.2.2.2.2.1.cells → slots + 4 * k ≤ X.2.2.2.2.1.slots → lv_has ls nL (jj_lv vs) → jj_W X H locs cells slots (F0 X.2.2.2.2.2.2.1 pc ls (st.map jj_v))
/-- the frame's fixed facts -/
def jj_F (X : jj_X) (own : String) (cc : ByteArray) (nL : Nat) : Prop := match X with
  | (G, p, l, e, R, s, m, args, below, meth, c, Q, A) => p.tables.exec = Jvm.exec ∧ c.code = cc ∧ c.maxLocals = nL ∧ s.vm.findClass own = some m.cls ∧ (∀ w ∈ lw_all, w.before args s = true) ∧ jj_K G s ∧ meth.locks = false ∧ jj_gb G ≤ s.heap.size ∧ ∀ q : Nat, q < jj_gb G → s.heap[q]? = (jj_gH G)[q]?
theorem jj_i1 (x y : Int) : Int32.ofInt x + Int32.ofInt y = Int32.ofInt (x + y) := (Int32.ofInt_add x y).symm
theorem jj_i2 (x y : Int) : Int32.ofInt x - Int32.ofInt y = Int32.ofInt (x - y) := (Int32.ofInt_sub x y).symm
theorem jj_i3 (x y : Int) : Int32.ofInt x * Int32.ofInt y = Int32.ofInt (x * y) := (Int32.ofInt_mul x y).symm
theorem jj_i4 (x : Int) : -Int32.ofInt x = Int32.ofInt (-x) := (Int32.ofInt_neg x).symm
theorem jj_l1 (x y : Int) : Int64.ofInt x + Int64.ofInt y = Int64.ofInt (x + y) := (Int64.ofInt_add x y).symm
theorem jj_l2 (x y : Int) : Int64.ofInt x - Int64.ofInt y = Int64.ofInt (x - y) := (Int64.ofInt_sub x y).symm
theorem jj_l3 (x y : Int) : Int64.ofInt x * Int64.ofInt y = Int64.ofInt (x * y) := (Int64.ofInt_mul x y).symm
/-- in an int's range; in a long's -/
def jj_r (x : Int) : Prop := -2147483648 ≤ x ∧ x < 2147483648
def jj_rl (x : Int) : Prop := -9223372036854775808 ≤ x ∧ x < 9223372036854775808
theorem jj_ti {x : Int} (h : jj_r x) : (Int32.ofInt x).toInt = x := Int32.toInt_ofInt_of_le (by have := h.1; omega) (by have := h.2; omega)
theorem jj_tl {x : Int} (h : jj_rl x) : (Int64.ofInt x).toInt = x := Int64.toInt_ofInt_of_le (by have := h.1; omega) (by have := h.2; omega)
theorem jj_il {x y : Int} (hx : jj_r x) (hy : jj_r y) : Int32.ofInt x ≤ Int32.ofInt y ↔ x ≤ y := by rw [Int32.le_iff_toInt_le, jj_ti hx, jj_ti hy]
theorem jj_it {x y : Int} (hx : jj_r x) (hy : jj_r y) : Int32.ofInt x < Int32.ofInt y ↔ x < y := by rw [Int32.lt_iff_toInt_lt, jj_ti hx, jj_ti hy]
theorem jj_ie {x y : Int} (hx : jj_r x) (hy : jj_r y) : Int32.ofInt x = Int32.ofInt y ↔ x = y := by
  refine ⟨fun h => ?_, fun h => by rw [h]⟩
  rw [← jj_ti hx, ← jj_ti hy, h]
theorem jj_r0 : jj_r 0 := by unfold jj_r; omega
/-- an index into an array -/
theorem jj_ix {i : Int} {n : Nat} (h0 : 0 ≤ i) (h1 : i < n) (hn : n < 2147483648) : vp_in (Int32.ofInt i) n ∧ (((Int32.ofInt i).toNatClampNeg : Nat) : Int) = i := by
  obtain ⟨j, rfl⟩ : ∃ j : Nat, i = (j : Int) := ⟨i.toNat, by omega⟩
  have e : Int32.ofInt (j : Int) = nI j := Int32.ofInt_eq_ofNat
  rw [e]
  exact ⟨vp_in_nI (by omega) (by omega), by rw [nI_clamp (by omega)]⟩
theorem jj_lv_at {ls : Array Slot} {nL : Nat} {vs : List (Nat × jj_AV)} (h : lv_has ls nL (jj_lv vs)) (j : Nat) {i : Nat} {v : jj_AV} (hj : vs[j]? = some (i, v)) : ls[i]? = some (.val (jj_v v)) := lv_at h j (by simp [jj_lv, hj])
def jj_2 (v : jj_AV) : Bool := match v with
  | .inr (.inl _) => true
  | _ => false
theorem jj_2_cat (v : jj_AV) : (jj_v v).category = if jj_2 v = true then 2 else 1 := by
  obtain x | x | r | f := v
  · rfl
  · rfl
  · cases r <;> rfl
  · rfl
def jj_st1 (i : Nat) (v : jj_AV) (vs : List (Nat × jj_AV)) : List (Nat × jj_AV) := (i, v) :: vs.filter (fun q => !(q.1 == i) && !(q.1 + 1 == i && jj_2 q.2))
theorem jj_st1_lv (i : Nat) (v : jj_AV) (vs : List (Nat × jj_AV)) : (i, jj_v v) :: (jj_lv vs).filter (fun q => !(q.1 == i) && !(q.1 + 1 == i && q.2.category == 2)) = jj_lv (jj_st1 i v vs) := by
  unfold jj_st1 jj_lv
  rw [List.map_cons, List.filter_map]
  congr 2
  refine List.filter_congr fun q _ => ?_
  simp only [Function.comp]
  rw [jj_2_cat]
  cases jj_2 q.2 <;> simp
def jj_st2 (i : Nat) (v : jj_AV) (vs : List (Nat × jj_AV)) : List (Nat × jj_AV) := (i, v) :: vs.filter (fun q => !(q.1 == i) && (!(q.1 == i + 1) && !(q.1 + 1 == i && jj_2 q.2)))
theorem jj_st2_lv (i : Nat) (v : jj_AV) (vs : List (Nat × jj_AV)) : (i, jj_v v) :: (jj_lv vs).filter (fun q => !(q.1 == i) && (!(q.1 == i + 1) && !(q.1 + 1 == i && q.2.category == 2))) = jj_lv (jj_st2 i v vs) := by
  unfold jj_st2 jj_lv
  rw [List.map_cons, List.filter_map]
  congr 2
  refine List.filter_congr fun q _ => ?_
  simp only [Function.comp]
  rw [jj_2_cat]
  cases jj_2 q.2 <;> simp
section RJ
variable {X : jj_X} {own : String} {cc : ByteArray} {nL pc : Nat} {vs : List (Nat × jj_AV)} {st : List jj_AV} {h : jj_H} {k : Nat}
theorem jj_F.exec (F : jj_F X own cc nL) : X.2.1.tables.exec = Jvm.exec := F.1
theorem jj_F.code (F : jj_F X own cc nL) : X.2.2.2.2.2.2.2.2.2.2.1.code = cc := F.2.1
theorem jj_J.eq {vs' : List (Nat × jj_AV)} {st' : List jj_AV} (hv : vs = vs') (hs : st = st') (kk : jj_J X nL pc vs' st' h k) : jj_J X nL pc vs st h k := by subst hv; subst hs; exact kk
/-- fewer locals, in another order: by their places -/
theorem jj_J.sub {vs' : List (Nat × jj_AV)} (ks : List Nat) (hv : ks.filterMap (fun i => vs[i]?) = vs') (kk : jj_J X nL pc vs' st h k) : jj_J X nL pc vs st h k := by
  intro H locs cells slots ls hR hS hc hs hl
  refine kk H locs cells slots ls hR hS hc hs (lv_sub hl ks ?_)
  subst hv
  unfold lv_pick jj_lv
  rw [List.map_filterMap]
  congr 1
  funext i
  simp
/-- fewer credits -/
theorem jj_J.less {k' : Nat} (hk : k' ≤ k) (kk : jj_J X nL pc vs st h k') : jj_J X nL pc vs st h k := fun H locs cells slots ls hR hS hc hs hl => kk H locs cells slots ls hR hS (by omega) (by omega) hl
theorem jr_iload (F : jj_F X own cc nL) {i j : Nat} {x : Int} (hd : decode cc pc = .ok (.iload i, 2)) (hj : vs[j]? = some (i, .inl x)) (kk : jj_J X nL (pc + 2) vs (.inl x :: st) h k) : jj_J X nL pc vs st h k := fun H locs cells slots ls hR hS hc hs hl => lv_iload F.exec F.code hd (jj_lv_at hl j hj) (kk H locs cells slots ls hR hS hc hs hl)
theorem jr_iload_n (F : jj_F X own cc nL) {i : Fin 4} {j : Nat} {x : Int} (hd : decode cc pc = .ok (.iload_n i, 1)) (hj : vs[j]? = some (i.val, .inl x)) (kk : jj_J X nL (pc + 1) vs (.inl x :: st) h k) : jj_J X nL pc vs st h k := fun H locs cells slots ls hR hS hc hs hl => lv_iload_n F.exec F.code hd rfl (jj_lv_at hl j hj) (kk H locs cells slots ls hR hS hc hs hl)
theorem jr_lload (F : jj_F X own cc nL) {i j : Nat} {x : Int} (hd : decode cc pc = .ok (.lload i, 2)) (hj : vs[j]? = some (i, .inr (.inl x))) (kk : jj_J X nL (pc + 2) vs (.inr (.inl x) :: st) h k) : jj_J X nL pc vs st h k := fun H locs cells slots ls hR hS hc hs hl => lv_lload F.exec F.code hd (jj_lv_at hl j hj) (kk H locs cells slots ls hR hS hc hs hl)
theorem jr_lload_n (F : jj_F X own cc nL) {i : Fin 4} {j : Nat} {x : Int} (hd : decode cc pc = .ok (.lload_n i, 1)) (hj : vs[j]? = some (i.val, .inr (.inl x))) (kk : jj_J X nL (pc + 1) vs (.inr (.inl x) :: st) h k) : jj_J X nL pc vs st h k := fun H locs cells slots ls hR hS hc hs hl => lv_lload_n F.exec F.code hd rfl (jj_lv_at hl j hj) (kk H locs cells slots ls hR hS hc hs hl)
theorem jr_aload (F : jj_F X own cc nL) {i j : Nat} {r : Option Nat} (hd : decode cc pc = .ok (.aload i, 2)) (hj : vs[j]? = some (i, .inr (.inr (.inl r)))) (kk : jj_J X nL (pc + 2) vs (.inr (.inr (.inl r)) :: st) h k) : jj_J X nL pc vs st h k := by
  intro H locs cells slots ls hR hS hc hs hl
  cases r with
  | none => exact lv_aloadN F.exec F.code hd (jj_lv_at hl j hj) (kk H locs cells slots ls hR hS hc hs hl)
  | some a => exact lv_aload F.exec F.code hd (jj_lv_at hl j hj) (kk H locs cells slots ls hR hS hc hs hl)
theorem jr_aload_n (F : jj_F X own cc nL) {i : Fin 4} {j : Nat} {r : Option Nat} (hd : decode cc pc = .ok (.aload_n i, 1)) (hj : vs[j]? = some (i.val, .inr (.inr (.inl r)))) (kk : jj_J X nL (pc + 1) vs (.inr (.inr (.inl r)) :: st) h k) : jj_J X nL pc vs st h k := by
  intro H locs cells slots ls hR hS hc hs hl
  cases r with
  | none => exact lv_aload_nN F.exec F.code hd rfl (jj_lv_at hl j hj) (kk H locs cells slots ls hR hS hc hs hl)
  | some a => exact lv_aload_n F.exec F.code hd rfl (jj_lv_at hl j hj) (kk H locs cells slots ls hR hS hc hs hl)
theorem jr_istore (F : jj_F X own cc nL) {i : Nat} {x : Int} {vs' : List (Nat × jj_AV)} (hd : decode cc pc = .ok (.istore i, 2)) (hn : i < nL) (hv : jj_st1 i (.inl x) vs = vs') (kk : jj_J X nL (pc + 2) vs' st h k) : jj_J X nL pc vs (.inl x :: st) h k := by
  subst hv
  exact fun H locs cells slots ls hR hS hc hs hl => lv_istore F.exec F.code hd hl hn (jj_st1_lv i (.inl x) vs) (fun ls' hl' => kk H locs cells slots ls' hR hS hc hs hl')
theorem jr_istore_n (F : jj_F X own cc nL) {i : Fin 4} {x : Int} {vs' : List (Nat × jj_AV)} (hd : decode cc pc = .ok (.istore_n i, 1)) (hn : i.val < nL) (hv : jj_st1 i.val (.inl x) vs = vs') (kk : jj_J X nL (pc + 1) vs' st h k) : jj_J X nL pc vs (.inl x :: st) h k := by
  subst hv
  exact fun H locs cells slots ls hR hS hc hs hl => lv_istore_n F.exec F.code hd rfl hl hn (jj_st1_lv i.val (.inl x) vs) (fun ls' hl' => kk H locs cells slots ls' hR hS hc hs hl')
theorem jr_lstore (F : jj_F X own cc nL) {i : Nat} {x : Int} {vs' : List (Nat × jj_AV)} (hd : decode cc pc = .ok (.lstore i, 2)) (hn : i + 1 < nL) (hv : jj_st2 i (.inr (.inl x)) vs = vs') (kk : jj_J X nL (pc + 2) vs' st h k) : jj_J X nL pc vs (.inr (.inl x) :: st) h k := by
  subst hv
  exact fun H locs cells slots ls hR hS hc hs hl => lv_lstore F.exec F.code hd hl hn (jj_st2_lv i (.inr (.inl x)) vs) (fun ls' hl' => kk H locs cells slots ls' hR hS hc hs hl')
theorem jr_lstore_n (F : jj_F X own cc nL) {i : Fin 4} {x : Int} {vs' : List (Nat × jj_AV)} (hd : decode cc pc = .ok (.lstore_n i, 1)) (hn : i.val + 1 < nL) (hv : jj_st2 i.val (.inr (.inl x)) vs = vs') (kk : jj_J X nL (pc + 1) vs' st h k) : jj_J X nL pc vs (.inr (.inl x) :: st) h k := by
  subst hv
  exact fun H locs cells slots ls hR hS hc hs hl => lv_lstore_n F.exec F.code hd rfl hl hn (jj_st2_lv i.val (.inr (.inl x)) vs) (fun ls' hl' => kk H locs cells slots ls' hR hS hc hs hl')
theorem jr_astore (F : jj_F X own cc nL) {i : Nat} {r : Option Nat} {vs' : List (Nat × jj_AV)} (hd : decode cc pc = .ok (.astore i, 2)) (hn : i < nL) (hv : jj_st1 i (.inr (.inr (.inl r))) vs = vs') (kk : jj_J X nL (pc + 2) vs' st h k) : jj_J X nL pc vs (.inr (.inr (.inl r)) :: st) h k := by
  subst hv
  intro H locs cells slots ls hR hS hc hs hl
  cases r with
  | none => exact lv_astoreN F.exec F.code hd hl hn (jj_st1_lv i (.inr (.inr (.inl none))) vs) (fun ls' hl' => kk H locs cells slots ls' hR hS hc hs hl')
  | some a => exact lv_astore F.exec F.code hd hl hn (jj_st1_lv i (.inr (.inr (.inl (some a)))) vs) (fun ls' hl' => kk H locs cells slots ls' hR hS hc hs hl')
theorem jr_astore_n (F : jj_F X own cc nL) {i : Fin 4} {r : Option Nat} {vs' : List (Nat × jj_AV)} (hd : decode cc pc = .ok (.astore_n i, 1)) (hn : i.val < nL) (hv : jj_st1 i.val (.inr (.inr (.inl r))) vs = vs') (kk : jj_J X nL (pc + 1) vs' st h k) : jj_J X nL pc vs (.inr (.inr (.inl r)) :: st) h k := by
  subst hv
  intro H locs cells slots ls hR hS hc hs hl
  cases r with
  | none => exact lv_astore_nN F.exec F.code hd rfl hl hn (jj_st1_lv i.val (.inr (.inr (.inl none))) vs) (fun ls' hl' => kk H locs cells slots ls' hR hS hc hs hl')
  | some a => exact lv_astore_n F.exec F.code hd rfl hl hn (jj_st1_lv i.val (.inr (.inr (.inl (some a)))) vs) (fun ls' hl' => kk H locs cells slots ls' hR hS hc hs hl')
theorem jr_iinc (F : jj_F X own cc nL) {i j : Nat} {n x y : Int} {vs' : List (Nat × jj_AV)} (hd : decode cc pc = .ok (.iinc i n, 3)) (hj : vs[j]? = some (i, .inl x)) (hy : x + n = y) (hn : i < nL) (hv : jj_st1 i (.inl y) vs = vs') (kk : jj_J X nL (pc + 3) vs' st h k) : jj_J X nL pc vs st h k := by
  subst hv
  subst hy
  exact fun H locs cells slots ls hR hS hc hs hl => lv_iinc (k := j) F.exec F.code hd hl (by simp [jj_lv, hj, jj_v]) (jj_i1 x n) hn (jj_st1_lv i (.inl (x + n)) vs) (fun ls' hl' => kk H locs cells slots ls' hR hS hc hs hl')
theorem jr_iconst (F : jj_F X own cc nL) {n : Int} (hd : decode cc pc = .ok (.iconst n, 1)) (kk : jj_J X nL (pc + 1) vs (.inl n :: st) h k) : jj_J X nL pc vs st h k := fun H locs cells slots ls hR hS hc hs hl => lv_iconst F.exec F.code hd rfl (kk H locs cells slots ls hR hS hc hs hl)
theorem jr_bipush (F : jj_F X own cc nL) {n : Int} (hd : decode cc pc = .ok (.bipush n, 2)) (hv : (Int8.ofInt n).toInt32 = Int32.ofInt n) (kk : jj_J X nL (pc + 2) vs (.inl n :: st) h k) : jj_J X nL pc vs st h k := fun H locs cells slots ls hR hS hc hs hl => lv_bipush F.exec F.code hd hv (kk H locs cells slots ls hR hS hc hs hl)
theorem jr_sipush (F : jj_F X own cc nL) {n : Int} (hd : decode cc pc = .ok (.sipush n, 3)) (hv : (Int16.ofInt n).toInt32 = Int32.ofInt n) (kk : jj_J X nL (pc + 3) vs (.inl n :: st) h k) : jj_J X nL pc vs st h k := fun H locs cells slots ls hR hS hc hs hl => lv_sipush F.exec F.code hd hv (kk H locs cells slots ls hR hS hc hs hl)
theorem jr_lconst (F : jj_F X own cc nL) {n : Fin 2} {x : Int} (hd : decode cc pc = .ok (.lconst n, 1)) (hv : Int64.ofNat n.val = Int64.ofInt x) (kk : jj_J X nL (pc + 1) vs (.inr (.inl x) :: st) h k) : jj_J X nL pc vs st h k := fun H locs cells slots ls hR hS hc hs hl => lv_lconst F.exec F.code hd hv (kk H locs cells slots ls hR hS hc hs hl)
theorem jr_ldc2 (F : jj_F X own cc nL) {index : Nat} {v : Int64} {x : Int} (q : Cond.constantLong own index v ∈ lw_all) (hd : decode cc pc = .ok (.ldc2_w index, 3)) (hv : v = Int64.ofInt x) (kk : jj_J X nL (pc + 3) vs (.inr (.inl x) :: st) h k) : jj_J X nL pc vs st h k := by
  subst hv
  exact fun H locs cells slots ls hR hS hc hs hl => lv_ldc2 F.exec F.code F.2.2.2.1 (F.2.2.2.2.1 _ q) hd (kk H locs cells slots ls hR hS hc hs hl)
theorem jr_ldc (F : jj_F X own cc nL) {index : Nat} {v : Int32} {x : Int} (q : Cond.constant own index v ∈ lw_all) (hd : decode cc pc = .ok (.ldc index, 2)) (hv : v = Int32.ofInt x) (kk : jj_J X nL (pc + 2) vs (.inl x :: st) h k) : jj_J X nL pc vs st h k := by
  subst hv
  exact fun H locs cells slots ls hR hS hc hs hl => lv_ldc F.exec F.code F.2.2.2.1 (F.2.2.2.2.1 _ q) hd (kk H locs cells slots ls hR hS hc hs hl)
theorem jr_ldcw (F : jj_F X own cc nL) {index : Nat} {v : Int32} {x : Int} (q : Cond.constant own index v ∈ lw_all) (hd : decode cc pc = .ok (.ldc_w index, 3)) (hv : v = Int32.ofInt x) (kk : jj_J X nL (pc + 3) vs (.inl x :: st) h k) : jj_J X nL pc vs st h k := by
  subst hv
  exact fun H locs cells slots ls hR hS hc hs hl => lv_ldcw F.exec F.code F.2.2.2.1 (F.2.2.2.2.1 _ q) hd (kk H locs cells slots ls hR hS hc hs hl)
theorem jr_null (F : jj_F X own cc nL) (hd : decode cc pc = .ok (.aconst_null, 1)) (kk : jj_J X nL (pc + 1) vs (.inr (.inr (.inl none)) :: st) h k) : jj_J X nL pc vs st h k := fun H locs cells slots ls hR hS hc hs hl => lv_null F.exec F.code hd (kk H locs cells slots ls hR hS hc hs hl)
theorem jr_iadd (F : jj_F X own cc nL) {x y : Int} (hd : decode cc pc = .ok (.iadd, 1)) (kk : jj_J X nL (pc + 1) vs (.inl (x + y) :: st) h k) : jj_J X nL pc vs (.inl y :: .inl x :: st) h k := fun H locs cells slots ls hR hS hc hs hl => lv_iadd F.exec F.code hd (by rw [jj_i1]; exact kk H locs cells slots ls hR hS hc hs hl)
theorem jr_isub (F : jj_F X own cc nL) {x y : Int} (hd : decode cc pc = .ok (.isub, 1)) (kk : jj_J X nL (pc + 1) vs (.inl (x - y) :: st) h k) : jj_J X nL pc vs (.inl y :: .inl x :: st) h k := fun H locs cells slots ls hR hS hc hs hl => lv_isub F.exec F.code hd (by rw [jj_i2]; exact kk H locs cells slots ls hR hS hc hs hl)
theorem jr_imul (F : jj_F X own cc nL) {x y : Int} (hd : decode cc pc = .ok (.imul, 1)) (kk : jj_J X nL (pc + 1) vs (.inl (x * y) :: st) h k) : jj_J X nL pc vs (.inl y :: .inl x :: st) h k := fun H locs cells slots ls hR hS hc hs hl => lv_imul F.exec F.code hd (by rw [jj_i3]; exact kk H locs cells slots ls hR hS hc hs hl)
theorem jr_ineg (F : jj_F X own cc nL) {x : Int} (hd : decode cc pc = .ok (.ineg, 1)) (kk : jj_J X nL (pc + 1) vs (.inl (-x) :: st) h k) : jj_J X nL pc vs (.inl x :: st) h k := fun H locs cells slots ls hR hS hc hs hl => lv_ineg F.exec F.code hd (by rw [jj_i4]; exact kk H locs cells slots ls hR hS hc hs hl)
theorem jr_ladd (F : jj_F X own cc nL) {x y : Int} (hd : decode cc pc = .ok (.ladd, 1)) (kk : jj_J X nL (pc + 1) vs (.inr (.inl (x + y)) :: st) h k) : jj_J X nL pc vs (.inr (.inl y) :: .inr (.inl x) :: st) h k := fun H locs cells slots ls hR hS hc hs hl => lv_ladd F.exec F.code hd (by rw [jj_l1]; exact kk H locs cells slots ls hR hS hc hs hl)
theorem jr_lsub (F : jj_F X own cc nL) {x y : Int} (hd : decode cc pc = .ok (.lsub, 1)) (kk : jj_J X nL (pc + 1) vs (.inr (.inl (x - y)) :: st) h k) : jj_J X nL pc vs (.inr (.inl y) :: .inr (.inl x) :: st) h k := fun H locs cells slots ls hR hS hc hs hl => lv_lsub F.exec F.code hd (by rw [jj_l2]; exact kk H locs cells slots ls hR hS hc hs hl)
theorem jr_lmul (F : jj_F X own cc nL) {x y : Int} (hd : decode cc pc = .ok (.lmul, 1)) (kk : jj_J X nL (pc + 1) vs (.inr (.inl (x * y)) :: st) h k) : jj_J X nL pc vs (.inr (.inl y) :: .inr (.inl x) :: st) h k := fun H locs cells slots ls hR hS hc hs hl => lv_lmul F.exec F.code hd (by rw [jj_l3]; exact kk H locs cells slots ls hR hS hc hs hl)
/-- bits: over the machine's own words -/
def jj_and (x y : Int) : Int := (Int32.ofInt x &&& Int32.ofInt y).toInt
def jj_or (x y : Int) : Int := (Int32.ofInt x ||| Int32.ofInt y).toInt
def jj_xor (x y : Int) : Int := (Int32.ofInt x ^^^ Int32.ofInt y).toInt
def jj_shl (x y : Int) : Int := (Int32.ofInt x <<< (Int32.ofInt y &&& 31)).toInt
def jj_shr (x y : Int) : Int := (Int32.ofInt x >>> (Int32.ofInt y &&& 31)).toInt
def jj_ushr (x y : Int) : Int := ((Int32.ofInt x).toUInt32 >>> ((Int32.ofInt y).toUInt32 &&& Int32.toUInt32 31)).toInt32.toInt
def jj_div (x y : Int) : Int := (Int32.ofInt x / Int32.ofInt y).toInt
def jj_rem (x y : Int) : Int := (Int32.ofInt x - Int32.ofInt x / Int32.ofInt y * Int32.ofInt y).toInt
def jj_ldiv (x y : Int) : Int := (Int64.ofInt x / Int64.ofInt y).toInt
def jj_lrem (x y : Int) : Int := (Int64.ofInt x - Int64.ofInt x / Int64.ofInt y * Int64.ofInt y).toInt
def jj_i2l (x : Int) : Int := (Int32.ofInt x).toInt
def jj_l2i (x : Int) : Int := (Int64.ofInt x).toInt32.toInt
def jj_i2b (x : Int) : Int := (Int32.ofInt x).toInt8.toInt32.toInt
def jj_i2c (x : Int) : Int := ((Int32.ofInt x).toUInt32 % 65536).toInt32.toInt
theorem jj_oi (x : Int32) : Int32.ofInt x.toInt = x := Int32.ofInt_toInt x
theorem jj_ol (x : Int64) : Int64.ofInt x.toInt = x := Int64.ofInt_toInt x
theorem jr_iand (F : jj_F X own cc nL) {x y : Int} (hd : decode cc pc = .ok (.iand, 1)) (kk : jj_J X nL (pc + 1) vs (.inl (jj_and x y) :: st) h k) : jj_J X nL pc vs (.inl y :: .inl x :: st) h k := fun H locs cells slots ls hR hS hc hs hl => lv_iand F.exec F.code hd (by rw [← jj_oi (_ &&& _)]; exact kk H locs cells slots ls hR hS hc hs hl)
theorem jr_ior (F : jj_F X own cc nL) {x y : Int} (hd : decode cc pc = .ok (.ior, 1)) (kk : jj_J X nL (pc + 1) vs (.inl (jj_or x y) :: st) h k) : jj_J X nL pc vs (.inl y :: .inl x :: st) h k := fun H locs cells slots ls hR hS hc hs hl => lv_ior F.exec F.code hd (by rw [← jj_oi (_ ||| _)]; exact kk H locs cells slots ls hR hS hc hs hl)
theorem jr_ixor (F : jj_F X own cc nL) {x y : Int} (hd : decode cc pc = .ok (.ixor, 1)) (kk : jj_J X nL (pc + 1) vs (.inl (jj_xor x y) :: st) h k) : jj_J X nL pc vs (.inl y :: .inl x :: st) h k := fun H locs cells slots ls hR hS hc hs hl => lv_ixor F.exec F.code hd (by rw [← jj_oi (_ ^^^ _)]; exact kk H locs cells slots ls hR hS hc hs hl)
theorem jr_ishl (F : jj_F X own cc nL) {x y : Int} (hd : decode cc pc = .ok (.ishl, 1)) (kk : jj_J X nL (pc + 1) vs (.inl (jj_shl x y) :: st) h k) : jj_J X nL pc vs (.inl y :: .inl x :: st) h k := fun H locs cells slots ls hR hS hc hs hl => lv_ishl F.exec F.code hd (by rw [← jj_oi (_ <<< _)]; exact kk H locs cells slots ls hR hS hc hs hl)
theorem jr_ishr (F : jj_F X own cc nL) {x y : Int} (hd : decode cc pc = .ok (.ishr, 1)) (kk : jj_J X nL (pc + 1) vs (.inl (jj_shr x y) :: st) h k) : jj_J X nL pc vs (.inl y :: .inl x :: st) h k := fun H locs cells slots ls hR hS hc hs hl => lv_ishr F.exec F.code hd (by rw [← jj_oi (_ >>> _)]; exact kk H locs cells slots ls hR hS hc hs hl)
theorem jr_iushr (F : jj_F X own cc nL) {x y : Int} (hd : decode cc pc = .ok (.iushr, 1)) (kk : jj_J X nL (pc + 1) vs (.inl (jj_ushr x y) :: st) h k) : jj_J X nL pc vs (.inl y :: .inl x :: st) h k := fun H locs cells slots ls hR hS hc hs hl => lv_iushr F.exec F.code hd (jj_oi _).symm (kk H locs cells slots ls hR hS hc hs hl)
theorem jr_idiv (F : jj_F X own cc nL) {x y : Int} (hd : decode cc pc = .ok (.idiv, 1)) (hy : jj_r y ∧ y ≠ 0) (kk : jj_J X nL (pc + 1) vs (.inl (jj_div x y) :: st) h k) : jj_J X nL pc vs (.inl y :: .inl x :: st) h k := fun H locs cells slots ls hR hS hc hs hl => lv_idiv F.exec F.code hd (fun e => hy.2 ((jj_ie hy.1 jj_r0).mp e)) (by rw [← jj_oi (_ / _)]; exact kk H locs cells slots ls hR hS hc hs hl)
theorem jr_irem (F : jj_F X own cc nL) {x y : Int} (hd : decode cc pc = .ok (.irem, 1)) (hy : jj_r y ∧ y ≠ 0) (kk : jj_J X nL (pc + 1) vs (.inl (jj_rem x y) :: st) h k) : jj_J X nL pc vs (.inl y :: .inl x :: st) h k := fun H locs cells slots ls hR hS hc hs hl => lv_irem F.exec F.code hd (fun e => hy.2 ((jj_ie hy.1 jj_r0).mp e)) (by rw [← jj_oi (_ - _)]; exact kk H locs cells slots ls hR hS hc hs hl)
theorem jj_le {x y : Int} (hx : jj_rl x) (hy : jj_rl y) : Int64.ofInt x = Int64.ofInt y ↔ x = y := by
  refine ⟨fun h => ?_, fun h => by rw [h]⟩
  rw [← jj_tl hx, ← jj_tl hy, h]
theorem jj_rl0 : jj_rl 0 := by unfold jj_rl; omega
theorem jr_ldiv (F : jj_F X own cc nL) {x y : Int} (hd : decode cc pc = .ok (.ldiv, 1)) (hy : jj_rl y ∧ y ≠ 0) (kk : jj_J X nL (pc + 1) vs (.inr (.inl (jj_ldiv x y)) :: st) h k) : jj_J X nL pc vs (.inr (.inl y) :: .inr (.inl x) :: st) h k := fun H locs cells slots ls hR hS hc hs hl => lv_ldiv F.exec F.code hd (fun e => hy.2 ((jj_le hy.1 jj_rl0).mp e)) (by rw [← jj_ol (_ / _)]; exact kk H locs cells slots ls hR hS hc hs hl)
theorem jr_lrem (F : jj_F X own cc nL) {x y : Int} (hd : decode cc pc = .ok (.lrem, 1)) (hy : jj_rl y ∧ y ≠ 0) (kk : jj_J X nL (pc + 1) vs (.inr (.inl (jj_lrem x y)) :: st) h k) : jj_J X nL pc vs (.inr (.inl y) :: .inr (.inl x) :: st) h k := fun H locs cells slots ls hR hS hc hs hl => lv_lrem F.exec F.code hd (fun e => hy.2 ((jj_le hy.1 jj_rl0).mp e)) (by rw [← jj_ol (_ - _)]; exact kk H locs cells slots ls hR hS hc hs hl)
theorem jr_i2l (F : jj_F X own cc nL) {x : Int} (hd : decode cc pc = .ok (.i2l, 1)) (kk : jj_J X nL (pc + 1) vs (.inr (.inl (jj_i2l x)) :: st) h k) : jj_J X nL pc vs (.inl x :: st) h k := fun H locs cells slots ls hR hS hc hs hl => lv_i2l F.exec F.code hd (Int64.ofInt_int32ToInt _).symm (kk H locs cells slots ls hR hS hc hs hl)
theorem jr_l2i (F : jj_F X own cc nL) {x : Int} (hd : decode cc pc = .ok (.l2i, 1)) (kk : jj_J X nL (pc + 1) vs (.inl (jj_l2i x) :: st) h k) : jj_J X nL pc vs (.inr (.inl x) :: st) h k := fun H locs cells slots ls hR hS hc hs hl => lv_l2i F.exec F.code hd (jj_oi _).symm (kk H locs cells slots ls hR hS hc hs hl)
theorem jr_i2b (F : jj_F X own cc nL) {x : Int} (hd : decode cc pc = .ok (.i2b, 1)) (kk : jj_J X nL (pc + 1) vs (.inl (jj_i2b x) :: st) h k) : jj_J X nL pc vs (.inl x :: st) h k := fun H locs cells slots ls hR hS hc hs hl => lv_i2b F.exec F.code hd (jj_oi _).symm (kk H locs cells slots ls hR hS hc hs hl)
theorem jr_i2c (F : jj_F X own cc nL) {x : Int} (hd : decode cc pc = .ok (.i2c, 1)) (kk : jj_J X nL (pc + 1) vs (.inl (jj_i2c x) :: st) h k) : jj_J X nL pc vs (.inl x :: st) h k := fun H locs cells slots ls hR hS hc hs hl => lv_i2c F.exec F.code hd (jj_oi _).symm (kk H locs cells slots ls hR hS hc hs hl)
theorem jr_goto (F : jj_F X own cc nL) {off : Int} {tgt : Nat} (hd : decode cc pc = .ok (.goto off, 3)) (ht : (pc : Int) + off = (tgt : Int)) (kk : jj_J X nL tgt vs st h k) : jj_J X nL pc vs st h k := fun H locs cells slots ls hR hS hc hs hl => lv_goto F.exec F.code hd ht (kk H locs cells slots ls hR hS hc hs hl)
theorem jj_c1 {v : jj_AV} (hv : jj_2 v = false) : (jj_v v).category = 1 := by rw [jj_2_cat, hv]; rfl
theorem jr_dup (F : jj_F X own cc nL) {v : jj_AV} (hd : decode cc pc = .ok (.dup, 1)) (hv : jj_2 v = false) (kk : jj_J X nL (pc + 1) vs (v :: v :: st) h k) : jj_J X nL pc vs (v :: st) h k := fun H locs cells slots ls hR hS hc hs hl => lv_dup F.exec F.code hd (jj_c1 hv) (kk H locs cells slots ls hR hS hc hs hl)
theorem jr_pop (F : jj_F X own cc nL) {v : jj_AV} (hd : decode cc pc = .ok (.pop, 1)) (hv : jj_2 v = false) (kk : jj_J X nL (pc + 1) vs st h k) : jj_J X nL pc vs (v :: st) h k := fun H locs cells slots ls hR hS hc hs hl => lv_pop F.exec F.code hd (jj_c1 hv) (kk H locs cells slots ls hR hS hc hs hl)
theorem jr_dup_x1 (F : jj_F X own cc nL) {v w : jj_AV} (hd : decode cc pc = .ok (.dup_x1, 1)) (hv : jj_2 v = false) (hw : jj_2 w = false) (kk : jj_J X nL (pc + 1) vs (v :: w :: v :: st) h k) : jj_J X nL pc vs (v :: w :: st) h k := fun H locs cells slots ls hR hS hc hs hl => lv_dup_x1 F.exec F.code hd (jj_c1 hv) (jj_c1 hw) (kk H locs cells slots ls hR hS hc hs hl)
theorem jr_dup2 (F : jj_F X own cc nL) {v w : jj_AV} (hd : decode cc pc = .ok (.dup2, 1)) (hv : jj_2 v = false) (hw : jj_2 w = false) (kk : jj_J X nL (pc + 1) vs (v :: w :: v :: w :: st) h k) : jj_J X nL pc vs (v :: w :: st) h k := fun H locs cells slots ls hR hS hc hs hl => lv_dup2_11 F.exec F.code hd (jj_c1 hv) (jj_c1 hw) (kk H locs cells slots ls hR hS hc hs hl)
end RJ
