/-! ROWS for the JDK's own methods -/
def jj_yta : MethodName := ⟨"java/util/Collection", "toArray", "()[Ljava/lang/Object;"⟩
/-- what the JDK's proofs know beside: the meaning of abstract cells; words of the start -/
def jx_sl (gk : Nat → Nat) : List (String × String × String × jj_AV) := [("java/lang/String", "COMPACT_STRINGS", "Z", .inl 1), ("java/lang/Boolean", "FALSE", "Ljava/lang/Boolean;", jj_rf (some (gk 20))), ("java/lang/Boolean", "TRUE", "Ljava/lang/Boolean;", jj_rf (some (gk 21))), ("java/util/HashSet", "PRESENT", "Ljava/lang/Object;", jj_rf (some (gk 30))), ("java/util/TreeSet", "PRESENT", "Ljava/lang/Object;", jj_rf (some (gk 31))), ("java/lang/Integer$IntegerCache", "high", "I", .inl 127), ("java/lang/Integer$IntegerCache", "cache", "[Ljava/lang/Integer;", jj_rf (some (gk 34))), ("NoteImporter$Kind", "$VALUES", "[LNoteImporter$Kind;", jj_rf (some (gk 41)))]
/-- statics that nobody writes; one of which only 'reference or null' is known -/
def jx_sn : List (String × String × String) := [("jdk/internal/util/Preconditions", "SIOOBE_FORMATTER", "Ljava/util/function/BiFunction;"), ("java/lang/Throwable", "UNASSIGNED_STACK", "[Ljava/lang/StackTraceElement;"), ("java/lang/Throwable", "SUPPRESSED_SENTINEL", "Ljava/util/List;")]
def jx_Z (G : jj_G) : Prop := (∀ U, jj_ge G U → ∀ H : Heap, jj_gb G ≤ H.size → (∀ q : Nat, q < jj_gb G → H[q]? = (jj_gH G)[q]?) → (∀ q ∈ jx_sl (jj_gk G), va_Z q.1 q.2.1 q.2.2.1 (jj_v q.2.2.2) (fun q => jj_gb G ≤ q) U H) ∧ (∀ q ∈ jx_sn, ∃ r : Option Nat, va_Z q.1 q.2.1 q.2.2 (va_rf r) (fun q => jj_gb G ≤ q) U H) ∧ va_T (.object "java/lang/Integer") (jj_gk G 34) 256 (fun i => .ref (jj_gk G (100 + i))) (fun q => jj_gb G ≤ q) U H) ∧ jj_gk G 41 < jj_gb G ∧ (jj_gH G)[jj_gk G 41]? = some (jj_rc G 5 4 (fun j => some (jj_gk G (22 + j.toNat))))
/-- private methods of a superclass -/
def jx_pv : List MethodName := [yJ7_ensureCapacityInternal, yJ7_newCapacity, yJ7_putStringAt, yJ7_inflateIfNeededFor]
theorem jx_pvm {y : MethodName} (i : Nat) (h : jx_pv[i]? = some y) : y ∈ jx_pv := List.mem_of_getElem? h
def jx_fws : List (String × MethodName × MethodName) := [(RJ27, ⟨"java/util/Set", "iterator", "()Ljava/util/Iterator;"⟩, yJ27_iterator), (RJ2, ⟨"java/util/Collection", "iterator", "()Ljava/util/Iterator;"⟩, yJ2_iterator), (RJ21, ⟨"java/util/Iterator", "hasNext", "()Z"⟩, yJ21_hasNext), (RJ21, ⟨"java/util/Iterator", "next", "()Ljava/lang/Object;"⟩, yJ21_next), (RX15, ⟨"java/util/Comparator", "compare", "(Ljava/lang/Object;Ljava/lang/Object;)I"⟩, yX15_compare), (RJ17, ⟨"java/lang/Comparable", "compareTo", "(Ljava/lang/Object;)I"⟩, yJ17_compareTo)]
/-- a call by an interface of a method that a superinterface J declares -/
def va_FU (q : String × Nat × String × String × MethodName × MethodName) (U : State) : Prop := va_Nw (.methodLink q.1 q.2.1 q.2.2.2.2.1) U ∧ va_Nw (.interfaceMethod q.2.2.2.2.1.cls q.2.2.2.1 q.2.2.2.2.1.name q.2.2.2.2.1.desc) U ∧ va_Nw (.declares ⟨q.2.2.2.1, q.2.2.2.2.1.name, q.2.2.2.2.1.desc⟩) U ∧ va_Nw (.publicMethod ⟨q.2.2.2.1, q.2.2.2.2.1.name, q.2.2.2.2.1.desc⟩) U ∧ va_Nw (.publicMethod q.2.2.2.2.2) U ∧ va_Nw (.unhidden q.2.2.1 q.2.2.2.2.1.name q.2.2.2.2.1.desc) U ∧ va_Nw (.castable q.2.2.1 q.2.2.2.2.1.cls) U
def jx_fus : List (String × Nat × String × String × MethodName × MethodName) := [(RJ42, 69, RJ23, "java/util/Map", ⟨"java/util/NavigableMap", "put", "(Ljava/lang/Object;Ljava/lang/Object;)Ljava/lang/Object;"⟩, yJ23_put), (RJ42, 53, RJ23, "java/util/Map", ⟨"java/util/NavigableMap", "size", "()I"⟩, yJ23_size)]
def jx_T (U : State) : Prop := (∀ y ∈ jx_pv, va_Nw (.privateMethod y) U) ∧ (∀ q ∈ jx_fws, va_Fw q.1 q.2.1 q.2.2 U) ∧ va_Nc RJ35 "java/util/HashMap$TreeNode" U ∧ ∀ q ∈ jx_fus, va_FU q U
def jx_G (G : jj_G) (l : Launch) : Prop := l.stackTraces = false ∧ (jj_ga G = ja_m G ∧ jx_Z G) ∧ ∀ U, jj_ge G U → va_Mi "[Ljava/lang/Object;" (jj_gk G 40) U ∧ va_Dc U ∧ va_Fw RJ2 jj_yta yJ2_toArray U ∧ va_AO "java/lang/Object" U ∧ va_AO "java/util/HashMap$Node" U ∧ jx_T U
theorem jx_GT {G : jj_G} {l : Launch} (J : jx_G G l) : ∀ U, jj_ge G U → jx_T U := fun U h => (J.2.2 U h).2.2.2.2.2
theorem jx_pvU {G : jj_G} {l : Launch} (J : jx_G G l) : ∀ U, jj_ge G U → ∀ y ∈ jx_pv, va_Nw (.privateMethod y) U := fun U h => (jx_GT J U h).1
theorem jx_fw {G : jj_G} {l : Launch} (J : jx_G G l) {cl : String} {x y : MethodName} (i : Nat) (hi : jx_fws[i]? = some (cl, x, y)) : ∀ U, jj_ge G U → va_Fw cl x y U := fun U h => (jx_GT J U h).2.1 _ (List.mem_of_getElem? hi)
theorem jx_fu {G : jj_G} {l : Launch} (J : jx_G G l) {q : String × Nat × String × String × MethodName × MethodName} (i : Nat) (hi : jx_fus[i]? = some q) : ∀ U, jj_ge G U → va_FU q U := fun U h => (jx_GT J U h).2.2.2 _ (List.mem_of_getElem? hi)
/-- null, or any object, into an array of Objects -/
def jp_ro (h : jj_H) (o : Option Nat) (i : Int) (x : Option Nat) (K : jj_H → Prop) : Prop := ∃ a n f, o = some a ∧ h a = some (.inr (.inr (.inl (0, n, f)))) ∧ 0 ≤ i ∧ i < (n : Int) ∧ jj_el h x ∧ K (jj_set h a (.inr (.inr (.inl (0, n, fun j => if j = i then x else f j)))))
/-- System.arraycopy between arrays of Objects; of bytes -/
def jp_acR (h : jj_H) (o0 : Option Nat) (sp : Int) (o1 : Option Nat) (dp n : Int) (K : jj_H → Prop) : Prop := ∃ a0 n0 f a n1 g, o0 = some a0 ∧ h a0 = some (.inr (.inr (.inl (0, n0, f)))) ∧ o1 = some a ∧ h a = some (.inr (.inr (.inl (0, n1, g)))) ∧ 0 ≤ sp ∧ 0 ≤ dp ∧ 0 ≤ n ∧ sp + n ≤ (n0 : Int) ∧ dp + n ≤ (n1 : Int) ∧ n0 < 16777216 ∧ n1 < 16777216 ∧ (∀ i : Int, sp ≤ i → i < sp + n → jj_el h (f i)) ∧ K (jj_set h a (.inr (.inr (.inl (0, n1, fun j => if dp ≤ j ∧ j < dp + n then f (j - dp + sp) else g j)))))
theorem jj_toObj : ∀ q ∈ jj_cl, Cond.castable q.1 "java/lang/Object" ∈ lw_tbl := by decide +kernel
section RJ1
variable {X : jj_X} {own : String} {cc : ByteArray} {nL pc : Nat} {vs : List (Nat × jj_AV)} {st : List jj_AV} {h : jj_H} {k : Nat} {ret : Option FieldType} {fr lo : Nat} {N : Option jj_AV → jj_H → Prop} {XN : String → Nat → jj_H → Prop}
theorem jr_acmp_eq (F : jj_F X own cc nL) {x y : Option Nat} {off : Int} {tgt : Nat} (hd : decode cc pc = .ok (.if_acmp .eq off, 3)) (ht : (pc : Int) + off = (tgt : Int)) (kt : x = y → jj_J X nL tgt vs st h k) (kf : ¬ x = y → jj_J X nL (pc + 3) vs st h k) : jj_J X nL pc vs (.inr (.inr (.inl y)) :: .inr (.inr (.inl x)) :: st) h k := fun H locs cells slots ls hR hS hc hs hl => lv_acmp_eq F.exec F.code hd ht (fun c => kt c H locs cells slots ls hR hS hc hs hl) (fun c => kf c H locs cells slots ls hR hS hc hs hl)
theorem jr_acmp_ne (F : jj_F X own cc nL) {x y : Option Nat} {off : Int} {tgt : Nat} (hd : decode cc pc = .ok (.if_acmp .ne off, 3)) (ht : (pc : Int) + off = (tgt : Int)) (kt : ¬ x = y → jj_J X nL tgt vs st h k) (kf : x = y → jj_J X nL (pc + 3) vs st h k) : jj_J X nL pc vs (.inr (.inr (.inl y)) :: .inr (.inr (.inl x)) :: st) h k := fun H locs cells slots ls hR hS hc hs hl => lv_acmp_ne F.exec F.code hd ht (fun c => kt c H locs cells slots ls hR hS hc hs hl) (fun c => kf c H locs cells slots ls hR hS hc hs hl)
theorem jr_aastO (F : jj_F X own cc nL) {i : Int} {o x : Option Nat} {K : jj_H → Prop} (hd : decode cc pc = .ok (.aastore, 1)) (w : jp_ro h o i x K) (kk : ∀ h', K h' → jj_J X nL (pc + 1) vs st h' k) : jj_J X nL pc vs (.inr (.inr (.inl x)) :: .inl i :: .inr (.inr (.inl o)) :: st) h k := by
  obtain ⟨a, n, f, rfl, hc, h1, h2, he, w⟩ := w
  cases x with
  | none =>
    obtain ⟨G, p, l, e, R, s, m, args, below, meth, c, Q, A⟩ := X
    obtain ⟨hx, hb, hml, ho, hts, hK, hlk, hz, hold⟩ := F
    intro H locs cells slots ls hR hS hc' hs hl
    have hR0 : jj_R G h H := hR
    obtain ⟨hba, hn, hcell⟩ := jj_rcAt hR0 hc
    obtain ⟨hin, hi⟩ := jj_ix h1 h2 hn
    refine va_WaastN hx hb hcell ((hK.1.2 4 _ rfl).1 n (fun j => va_rf (f (j : Int)))) (fun q => by cases q) (by show ¬ (_ < 0 ∨ (arrV _ _ _).slots.size ≤ _); rw [arrV_size]; exact hin) rfl rfl hd fun H1 e1 e2 e3 => ?_
    refine kk _ w H1 _ cells slots ls (jj_R.put hK.2.1 hR0 hc hba e2 (qa := a) (fun own h => h.1) hba e3 (fun own h => ⟨h.1, h.2.1, h.2.2.1, ?_⟩)) (hS.put e2 e3 hba) hc' hs hl
    rw [e1]
    exact congrArg some (jj_upd_rc (x := none) hi)
  | some b =>
    obtain ⟨cb, ci, hcb, hci, hlt⟩ := he b rfl
    obtain ⟨q, hq⟩ : ∃ q, jj_cl[ci]? = some q := ⟨jj_cl[ci], List.getElem?_eq_getElem hlt⟩
    obtain ⟨C, T, nT⟩ := q
    exact jr_aast (t := 0) (ci := ci) F ⟨4, fun _ => rfl⟩ hq (Or.inr (jj_toObj _ (List.mem_of_getElem? hq))) hd ⟨a, n, f, b, cb, rfl, hc, h1, h2, rfl, hcb, hci, w⟩ kk
/-- getClass() of an array of Objects; that class as a constant -/
def jp_rA (h : jj_H) (o : Option Nat) : Prop := ∃ a n f, o = some a ∧ h a = some (.inr (.inr (.inl (0, n, f))))
theorem jr_getCls (F : jj_F X own cc nL) (M : jj_M X ret fr lo N XN) (J : jx_G X.1 X.2.2.1) {idx : Nat} {o : Option Nat} (q : Cond.methodLink own idx ⟨"java/lang/Object", "getClass", "()Ljava/lang/Class;"⟩ ∈ lw_all) (qs : Cond.selects "[Ljava/lang/Object;" ⟨"java/lang/Object", "getClass", "()Ljava/lang/Class;"⟩ ⟨"java/lang/Object", "getClass", "()Ljava/lang/Class;"⟩ ∈ lw_all) (qi : Cond.instanceMethod ⟨"java/lang/Object", "getClass", "()Ljava/lang/Class;"⟩ ∈ lw_all) (qn : Cond.native ⟨"java/lang/Object", "getClass", "()Ljava/lang/Class;"⟩ ∈ lw_all) (hfr : 1 ≤ fr) (hlo : 22 ≤ lo) (hst : (st.map fun v => if jj_2 v = true then 2 else 1).sum ≤ 8) (hd : decode cc pc = .ok (.invokevirtual idx, 3)) (w : jp_rA h o) (kk : jj_J X nL (pc + 3) vs (.inr (.inr (.inl (some (jj_gk X.1 40)))) :: st) h k) : jj_J X nL pc vs (.inr (.inr (.inl o)) :: st) h k := by
  obtain ⟨a, n, f, rfl, hc⟩ := w
  obtain ⟨G, p, l, e, R, s, m, args, below, meth, c, Q, A⟩ := X
  obtain ⟨hx, hb, hml, ho, hts, hK, hlk, hz, hold⟩ := F
  obtain ⟨hr, hf1, hf2, -, -⟩ := M
  intro H locs cells slots ls hR hS hc' hs hl
  have hR0 : jj_R G h H := hR
  obtain ⟨hba, hn, hcell⟩ := jj_rcAt hR0 hc
  obtain ⟨g1, g2, g3, -⟩ := J.2.2 s hK.2.2.2.2
  have h9 := jj_sum8 hst
  exact va_getC hx hb (hml.trans hl.1.symm) ho (hts _ q) (va_Dc.use g2) (hts _ qs) (hts _ qi) (hts _ qn) g1 ⟨_, hcell, rfl, va_nmO (hK.1.2 4 _ rfl).2 rfl⟩ (by rw [hf1]; exact hfr) (by rw [hf2]; omega) hd (kk H locs cells slots ls hR hS hc' hs hl)
theorem jr_ldcCls (F : jj_F X own cc nL) (J : jx_G X.1 X.2.2.1) {idx : Nat} (q : Cond.classLink own idx "[Ljava/lang/Object;" ∈ lw_all) (hd : decode cc pc = .ok (.ldc idx, 2)) (kk : jj_J X nL (pc + 2) vs (.inr (.inr (.inl (some (jj_gk X.1 40)))) :: st) h k) : jj_J X nL pc vs st h k := by
  obtain ⟨G, p, l, e, R, s, m, args, below, meth, c, Q, A⟩ := X
  obtain ⟨hx, hb, hml, ho, hts, hK, hlk, hz, hold⟩ := F
  intro H locs cells slots ls hR hS hc' hs hl
  exact va_ldcM hx hb ho (hts _ q) (J.2.2 s hK.2.2.2.2).1 hd (kk H locs cells slots ls hR hS hc' hs hl)
end RJ1
section RJ2
variable {X : jj_X} {own : String} {cc : ByteArray} {nL pc : Nat} {vs : List (Nat × jj_AV)} {st : List jj_AV} {h : jj_H} {k : Nat} {ret : Option FieldType} {fr lo : Nat} {N : Option jj_AV → jj_H → Prop} {XN : String → Nat → jj_H → Prop}
theorem jj_cpyR {G : jj_G} {t0 t1 n0 n1 : Nat} {f g : Int → Option Nat} {sp dp n : Nat} (hs : sp + n ≤ n0) : (jj_rc G t1 n1 g).storeRun dp ((jj_rc G t0 n0 f).stretch sp n) = jj_rc G t1 n1 (fun j => if (dp : Int) ≤ j ∧ j < (dp : Int) + n then f (j - dp + sp) else g j) := by
  have e := va_copied (fun z => va_rf z) (jj_gR G t0) (jj_gR G t1) (n0 := n0) (n1 := n1) (sp := sp) (dp := dp) (n := n) (fun j : Nat => f (j : Int)) (fun j : Nat => g (j : Int)) hs
  refine e.trans ?_
  unfold jj_rc
  congr 1
  funext j
  unfold va_cpy
  by_cases hj : dp ≤ j ∧ j < dp + n
  · rw [if_pos hj]
    show va_rf (f _) = va_rf (ite _ _ _)
    rw [if_pos (by omega)]
    congr 2
    omega
  · rw [if_neg hj]
    show va_rf (g _) = va_rf (ite _ _ _)
    rw [if_neg (by omega)]
theorem jr_acR (F : jj_F X own cc nL) (M : jj_M X ret fr lo N XN) {idx : Nat} {sp dp n : Int} {o0 o1 : Option Nat} {K : jj_H → Prop} (q : Cond.methodLink own idx arraycopyName ∈ lw_all) (qn : Cond.native arraycopyName ∈ lw_all) (qs : Cond.static arraycopyName ∈ lw_all) (q0 : Cond.initialized "java/lang/System" ∈ lw_all) (hfr : 1 ≤ fr) (hlo : 8 + (nativeFrameWords "java/lang/System" "arraycopy" 5 + 11) ≤ lo) (hst : (st.map fun v => if jj_2 v = true then 2 else 1).sum ≤ 8) (hd : decode cc pc = .ok (.invokestatic idx, 3)) (w : jp_acR h o0 sp o1 dp n K) (kk : ∀ h', K h' → jj_J X nL (pc + 3) vs st h' k) : jj_J X nL pc vs (.inl n :: .inl dp :: .inr (.inr (.inl o1)) :: .inl sp :: .inr (.inr (.inl o0)) :: st) h k := by
  obtain ⟨a0, n0, f, a, n1, g, rfl, hc0, rfl, hc1, h1, h2, h3, h4, h5, hz0, hz1, hel, w⟩ := w
  obtain ⟨G, p, l, e, R, s, m, args, below, meth, c, Q, A⟩ := X
  obtain ⟨hx, hb, hml, ho, hts, hK, hlk, hz, hold⟩ := F
  obtain ⟨hr, hf1, hf2, -, -⟩ := M
  intro H locs cells slots ls hR hS hc' hs hl T hT X
  have hR0 : jj_R G h H := hR
  obtain ⟨hb0, hn0, hcell0⟩ := jj_rcAt hR0 hc0
  obtain ⟨hb1, hn1, hcell1⟩ := jj_rcAt hR0 hc1
  have es := jj_tcn h1 (show sp < 16777216 by omega)
  have ed := jj_tcn h2 (show dp < 16777216 by omega)
  have en := jj_tcn h3 (show n < 16777216 by omega)
  have is : (Int32.ofInt sp).toInt = sp := jj_ti ⟨by omega, by omega⟩
  have id' : (Int32.ofInt dp).toInt = dp := jj_ti ⟨by omega, by omega⟩
  have in' : (Int32.ofInt n).toInt = n := jj_ti ⟨by omega, by omega⟩
  obtain ⟨-, k0, hk0, cm0, hkk0⟩ := (hK.1.2 4 _ rfl).1 n0 (fun j => va_rf (f (j : Int)))
  obtain ⟨-, k1, hk1, cm1, hkk1⟩ := (hK.1.2 4 _ rfl).1 n1 (fun j => va_rf (g (j : Int)))
  have h9 := jj_sum8 hst
  obtain ⟨vm', X', step⟩ := X.arraycopy hx ho (hts _ q) (hts _ qn) (hts _ qs) (hts _ q0) (src := a0) (dst := a) (cs := jj_rc G 0 n0 f) (cd := jj_rc G 0 n1 g) (srcPos := Int32.ofInt sp) (destPos := Int32.ofInt dp) (n := Int32.ofInt n) (by rw [hT]; exact hcell0) (by rw [hT]; exact hcell1)
    (fun _ h => by cases h) (fun _ h => by cases h) (fun h => by cases h) (fun h => by cases h) hk0 hk1 hkk0 hkk1 rfl es.2 ed.2 en.2
    (by rw [is, in']; show ¬ _ > ((arrV _ n0 _).slots.size : Int); rw [arrV_size]; omega)
    (by rw [id', in']; show ¬ _ > ((arrV _ n1 _).slots.size : Int); rw [arrV_size]; omega)
    (fun vm₁ hal i hi => by
      rw [en.1] at hi
      have e9 : (jj_rc G 0 n0 f).slots.getD ((Int32.ofInt sp).toNatClampNeg + i) .null = va_rf (f (sp + i)) := by
        show (arrV _ n0 (fun j => va_rf (f (j : Int)))).slots.getD _ _ = _
        rw [Array.getD_eq_getD_getElem?, es.1, arrV_read _ _ (by omega)]
        show va_rf (f ((sp.toNat + i : Nat) : Int)) = _
        congr 2
        omega
      rw [e9]
      cases hy : f (sp + i) with
      | none => exact ⟨rfl, trivial⟩
      | some y =>
        obtain ⟨cb, ci, hcb, hci, hlt⟩ := hel (sp + i) (by omega) (by omega) y hy
        obtain ⟨⟨C, T', nT⟩, hq⟩ : ∃ q, jj_cl[ci]? = some q := ⟨jj_cl[ci], List.getElem?_eq_getElem hlt⟩
        obtain ⟨cellV, g1, g2, g3⟩ := jj_recv hK hR0 hcb hci hq
        obtain ⟨kA, comp, r1, r2, r3, -⟩ := (hK.1.2 4 _ rfl).2
        cases hk1.symm.trans r1
        cases hkk1.symm.trans r2
        obtain ⟨kC, hkC, -⟩ := Vm.findClass_spec g3
        obtain ⟨kE, hkE, -⟩ := Vm.findClass_spec r3
        obtain ⟨kC', hkC', -⟩ := hal.2.2 _ _ hkC
        obtain ⟨kE', hkE', -⟩ := hal.2.2 _ _ hkE
        refine ⟨rfl, cellV, (show T.heap[y]? = some cellV by rw [hT]; exact g1), (fun q h => by rw [h] at g2; cases g2), ⟨kC', hkC'⟩, ⟨kE', hkE'⟩, ?_⟩
        show vm₁.assignable _ _ = true
        rw [hal.assignable]
        exact vb_asgC (hK.2.2.2.1 _ (jj_nwm (jj_toObj _ (List.mem_of_getElem? hq)) rfl)) _ _ r3 g3)
    (g := F0 m pc ls (.int (Int32.ofInt n) :: .int (Int32.ofInt dp) :: .ref a :: .int (Int32.ofInt sp) :: .ref a0 :: st.map jj_v)) rfl (hl.1.trans hml.symm) (rest := st.map jj_v) rfl (by rw [hb]; exact hd) (by rw [hf1]; exact hfr) (by rw [hf2]; show 2 * 0 + _ + _ ≤ _; omega)
  have e1 : copied (jj_rc G 0 n0 f) (jj_rc G 0 n1 g) (Int32.ofInt sp) (Int32.ofInt dp) (Int32.ofInt n) = jj_rc G 0 n1 (fun j => if dp ≤ j ∧ j < dp + n then f (j - dp + sp) else g j) := by
    have := jj_cpyR (G := G) (t0 := 0) (t1 := 0) (n0 := n0) (n1 := n1) (f := f) (g := g) (sp := sp.toNat) (dp := dp.toNat) (n := n.toNat) (by omega)
    have e2 : (sp.toNat : Int) = sp := by omega
    have e3 : (dp.toNat : Int) = dp := by omega
    have e4 : (n.toNat : Int) = n := by omega
    rw [e2, e3, e4] at this
    unfold copied
    rw [es.1, ed.1, en.1]
    exact this
  rw [e1] at X' step
  have hal : a < H.size := (Array.getElem?_eq_some_iff.mp hcell1).1
  generalize hcn : jj_rc G 0 n1 (fun j => if dp ≤ j ∧ j < dp + n then f (j - dp + sp) else g j) = cn at X' step
  have hheap : ((T.setVm vm').setCell a cn).heap = H.setIfInBounds a cn := by rw [← hT]; rfl
  have oq : ∀ q : Nat, q ≠ a → (H.setIfInBounds a cn)[q]? = H[q]? := fun q hq => by simp [Array.getElem?_setIfInBounds, Ne.symm hq]
  have eq1 : (H.setIfInBounds a cn)[a]? = some cn := by simp [Array.getElem?_setIfInBounds, hal]
  have hz' : (H.setIfInBounds a cn).size = H.size := by simp
  have hR' := jj_R.put (c' := .inr (.inr (.inl (0, n1, fun j => if dp ≤ j ∧ j < dp + n then f (j - dp + sp) else g j)))) hK.2.1 hR0 hc1 hb1 hz' (qa := a) (fun own h => h.1) hb1 oq (fun own h => ⟨h.1, h.2.1, h.2.2.1, by rw [eq1, hcn]⟩)
  obtain ⟨t, a1, b1⟩ := kk _ w _ _ cells slots ls hR' ⟨by rw [hz']; exact hS.1, fun q g1 g2 => by
      rw [oq q (fun e => g2 (by rw [e]; exact hb1))]
      exact hS.2.1 q g1 g2, fun q hq => by
      rcases List.mem_append.mp hq with h | h
      · exact hS.2.2 q h
      · obtain ⟨z, -, hz⟩ := List.mem_map.mp h
        rw [← hz]
        exact hb1⟩ hc' hs hl _ hheap X'
  exact ⟨t, step t a1, b1⟩
end RJ2
