/-! STRING CONSTANTS as cells of the pure heap: what the frames need to know of them -/
def jj_str (cs : List Int) : jj_C := .inr (.inr (.inr (.inr (1, cs.map (fun c => (.inl c : jj_AV))))))
/-- the texts, by the constants' numbers -/
def jj_sx : Nat → List Int
  | 0 => [109, 97, 114, 107]
  | 1 => [99, 111, 109, 109, 101, 110, 116]
  | 2 => [113, 117, 101, 115, 116, 105, 111, 110]
  | 3 => [99, 111, 114, 114, 101, 99, 116, 105, 111, 110]
  | 4 => [101, 100, 105, 116, 105, 111, 110]
  | 5 => [114, 101, 97, 100, 101, 114]
  | 6 => [110, 111, 116, 101]
  | 7 => [112, 97, 103, 101]
  | 8 => [108, 105, 110, 101]
  | 9 => [119, 111, 114, 100]
  | 10 => [99, 111, 117, 110, 116]
  | 11 => [113, 117, 111, 116, 101]
  | 12 => [115, 97, 121, 115]
  | 13 => [116, 97, 114, 103, 101, 116]
  | 14 => []
  | 15 => [47]
  | 16 => [34]
  | _ => [59]
def jj_sl : List (String × Nat × String × Nat) := [("NoteImporterModel", 333, "mark", 0), ("NoteImporterModel", 335, "comment", 1), ("NoteImporterModel", 337, "question", 2), ("NoteImporterModel", 339, "correction", 3), ("NoteImporterModel", 448, "edition", 4), ("NoteImporterModel", 453, "reader", 5), ("NoteImporterModel", 458, "note", 6), ("NoteImporterModel", 434, "page", 7), ("NoteImporterModel", 410, "line", 8), ("NoteImporterModel", 416, "word", 9), ("NoteImporterModel", 423, "count", 10), ("NoteImporterModel", 439, "quote", 11), ("NoteImporterModel", 444, "says", 12), ("NoteImporterModel", 463, "target", 13), ("NoteImporter$Parser", 15, "", 14), ("NoteImporter$Parser", 126, "edition", 4), ("NoteImporter$Parser", 128, "reader", 5), ("NoteImporter$Parser", 130, "note", 6), ("NoteImporter$Parser", 132, "target", 13), ("NoteImporter$Parser", 183, "/", 15), ("NoteImporter$Parser", 220, "quote", 11), ("NoteImporter$Parser", 222, "\"", 16), ("NoteImporter$Parser", 250, "page", 7), ("NoteImporter$Parser", 255, "line", 8), ("NoteImporter$Parser", 260, "word", 9), ("NoteImporter$Parser", 235, "count", 10), ("NoteImporter$Parser", 261, "says", 12), ("NoteImporter$Parser", 117, ";", 17), ("NoteImporter$Kind", 40, "mark", 0), ("NoteImporter$Kind", 46, "comment", 1), ("NoteImporter$Kind", 49, "question", 2), ("NoteImporter$Kind", 52, "correction", 3)]
/-- contracts' ends: an int, a long, nothing; over a heap -/
def jj_Ni (Q : Int → jj_H → Prop) : Option jj_AV → jj_H → Prop := fun v h' => ∃ r, v = some (.inl r) ∧ Q r h'
def jj_F0 : String → Nat → jj_H → Prop := fun _ _ _ => False
/-- what is known of Strings: the constants' cells, length and charAt -/
def jj_GS (G : jj_G) (l : Launch) : Prop := l.stackTraces = false ∧ (∀ U, jj_ge G U → ∀ q ∈ jj_sl, vk_R q.1 q.2.1 q.2.2.1 (jj_gk G q.2.2.2) U) ∧
  (∀ (h : jj_H) (a : Nat) (cs : List Int), h a = some (jj_str cs) → jj_Ct G l yJ9_length (ws_ yJ9_length cJ9_length 1 (some .int)) 2 60 [.inr (.inr (.inl (some a)))] h 0 (fun v h' => v = some (.inl (cs.length : Int)) ∧ h' = h) jj_F0) ∧
  (∀ (h : jj_H) (a : Nat) (cs : List Int) (i : Int), h a = some (jj_str cs) → 0 ≤ i → i < cs.length → jj_Ct G l yJ9_charAt (ws_ yJ9_charAt cJ9_charAt 2 (some .char)) 8 300 [.inr (.inr (.inl (some a))), .inl i] h 0 (fun v h' => v = some (.inl (cs.getD i.toNat 0)) ∧ h' = h) jj_F0)
/-- the constants' cells stand in a heap, apart from m0 -/
def jj_hs (G : jj_G) (h0 : jj_H) (m0 : Nat) : Prop := ∀ i, i < 18 → jj_gk G i ≠ m0 ∧ h0 (jj_gk G i) = some (jj_str (jj_sx i))
section RS
variable {X : jj_X} {own : String} {cc : ByteArray} {nL pc : Nat} {vs : List (Nat × jj_AV)} {st : List jj_AV} {h : jj_H} {k : Nat}
theorem jj_ldcw {p : Program} {l : Launch} {e : Env} {R : Room} {s : State} {m : MethodId} {args : Array Value} {below : List Frame} {meth : Method} {c : Code} {T : State} {locs : List Loc} {cells slots : Nat}
    (X : Stand p l e R s m args below meth c T locs cells slots) (hexec : p.tables.exec = Jvm.exec) {own text : String} {index : Nat} {a : Addr} (hown : s.vm.findClass own = some m.cls)
    (hconst : (Cond.stringRef own index text).before args s = true) (hev : (Term.string own index).eval args s none [] s = some (.ref a)) {g : JFrame} (hg : g.method = m) (hdg : decode c.code g.pc = .ok (.ldc_w index, 3)) :
    ∀ target, Steps p.tables e below (T.setTop { g with pc := g.pc + 3, stack := .ref a :: g.stack }) target → Steps p.tables e below (T.setTop g) target := by
  obtain ⟨k, cf, i, a', hk, hcf, hcp, -, hr, hev'⟩ := Cond.stringRef_spec hown hconst
  cases hev.symm.trans hev'
  obtain ⟨k', hk', he⟩ := X.warmed.alike.2.2 _ _ hk
  have hr' : k'.resolved[index]? = some (some (.string a)) := by
    rcases X.warmed.entry hk hk' index with h | ⟨h, -⟩
    · rw [h]; exact hr
    · rw [hr] at h; cases h
  intro target hrest
  subst hg
  jvm_step X.here [hexec, hdg, ldc_w.wp_string (e := e) (s := T) (f := g) X.here.top hk' (by rw [he]; exact hcf) hcp hr']
  exact hrest
theorem jr_ldcwS (F : jj_F X own cc nL) (S : jj_GS X.1 X.2.2.1) {index i : Nat} {tx : String} (j : Nat) (hj : jj_sl[j]? = some (own, index, tx, i)) (hd : decode cc pc = .ok (.ldc_w index, 3)) (kk : jj_J X nL (pc + 3) vs (.inr (.inr (.inl (some (jj_gk X.1 i)))) :: st) h k) : jj_J X nL pc vs st h k := by
  obtain ⟨G, p, l, e, R, s, m, args, below, meth, c, Q, A⟩ := X
  obtain ⟨hx, hb, hml, ho, hts, hK, hlk, hz, hold⟩ := F
  intro H locs cells slots ls hR hS hc hs hl
  have hZ := S.2.1 s hK.2.2.2.2 _ (List.mem_of_getElem? hj)
  intro T hT Z
  obtain ⟨t, a1, b1⟩ := kk H locs cells slots ls hR hS hc hs hl T hT Z
  exact ⟨t, jj_ldcw Z hx ho (text := tx) (a := jj_gk G i) (by have h1 := hZ.1; simpa only [Cond.before, Cond.holds, Cond.value] using h1) (by have h1 := hZ.2; simpa only [Term.eval] using h1) (g := F0 m pc ls (st.map jj_v)) rfl (by rw [hb]; exact hd) t a1, b1⟩
theorem jr_ldcS (F : jj_F X own cc nL) (S : jj_GS X.1 X.2.2.1) {index i : Nat} {tx : String} (j : Nat) (hj : jj_sl[j]? = some (own, index, tx, i)) (hd : decode cc pc = .ok (.ldc index, 2)) (kk : jj_J X nL (pc + 2) vs (.inr (.inr (.inl (some (jj_gk X.1 i)))) :: st) h k) : jj_J X nL pc vs st h k := by
  obtain ⟨G, p, l, e, R, s, m, args, below, meth, c, Q, A⟩ := X
  obtain ⟨hx, hb, hml, ho, hts, hK, hlk, hz, hold⟩ := F
  intro H locs cells slots ls hR hS hc hs hl
  have hZ := S.2.1 s hK.2.2.2.2 _ (List.mem_of_getElem? hj)
  exact va_ldcS hx hb ho hZ hd (kk H locs cells slots ls hR hS hc hs hl)
end RS
/-- contracts' ends over the model's cell -/
def jm_Ni (h0 : jj_H) (m0 : Nat) (Q : Int → jj_MS → Prop) : Option jj_AV → jj_H → Prop := fun v h' => ∃ r ms', v = some (.inl r) ∧ h' = jj_mh h0 m0 ms' ∧ Q r ms'
def jm_Nl (h0 : jj_H) (m0 : Nat) (Q : Int → jj_MS → Prop) : Option jj_AV → jj_H → Prop := fun v h' => ∃ r ms', v = some (.inr (.inl r)) ∧ h' = jj_mh h0 m0 ms' ∧ Q r ms'
def jm_Nv (h0 : jj_H) (m0 : Nat) (Q : jj_MS → Prop) : Option jj_AV → jj_H → Prop := fun v h' => ∃ ms', v = none ∧ h' = jj_mh h0 m0 ms' ∧ Q ms'
/-- an array field's place and size -/
def jj_mo (f : Nat) : Nat := match jj_mt f with
  | some (o, _, _) => o
  | none => 0
def jj_mn (f : Nat) : Nat := match jj_mt f with
  | some (_, _, n) => n
  | none => 0
section RX
variable {X : jj_X} {own : String} {cc : ByteArray} {nL pc : Nat} {vs : List (Nat × jj_AV)} {st : List jj_AV} {h : jj_H} {k : Nat} {ret : Option FieldType} {fr lo : Nat} {N : Option jj_AV → jj_H → Prop} {XN : String → Nat → jj_H → Prop}
theorem jr_mmax (F : jj_F X own cc nL) (M : jj_M X ret fr lo N XN) {x y : Int} {idx : Nat} (hx : jj_r x) (hy : jj_r y) (q : Cond.methodLink own idx Lib.Math.max.name ∈ lw_all) (hfr : 1 ≤ fr) (hlo : 21 ≤ lo) (hst : (st.map fun v => if jj_2 v = true then 2 else 1).sum ≤ 8) (hd : decode cc pc = .ok (.invokestatic idx, 3)) (kk : jj_J X nL (pc + 3) vs (.inl (max x y) :: st) h k) : jj_J X nL pc vs (.inl y :: .inl x :: st) h k := by
  obtain ⟨G, p, l, e, R, s, m, args, below, meth, c, Q, A⟩ := X
  obtain ⟨hx', hb, hml, ho, hts, hK, hlk, hz, hold⟩ := F
  obtain ⟨hr, hf1, hf2, -, -⟩ := M
  intro H locs cells slots ls hR hS hc hs hl
  have hc' : cells + k ≤ R.cells := hc
  have hs' : slots + 4 * k ≤ R.slots := hs
  have hsum : ((st.map jj_v).map fun v => v.category).sum ≤ 8 := by
    rw [List.map_map]
    refine Nat.le_trans (Nat.le_of_eq (congrArg List.sum (List.map_congr_left fun v _ => ?_))) hst
    exact jj_2_cat v
  refine va_mmax hx' hb (hml.trans hl.1.symm) ho (hts _ q) (hts _ q319) (hts _ q134) (hts _ q320) (by rw [hf1]; exact hfr) (by rw [hf2]; omega) (by show cells ≤ R.cells; omega) (by show slots ≤ R.slots; omega) hd ?_
  have e : (if Int32.ofInt x < Int32.ofInt y then Int32.ofInt y else Int32.ofInt x) = Int32.ofInt (max x y) := by
    have := jj_it hx hy
    by_cases hxy : x < y
    · rw [if_pos (this.mpr hxy)]; congr 1; omega
    · rw [if_neg (fun z => hxy (this.mp z))]; congr 1; omega
  rw [e]
  exact kk H locs cells slots ls hR hS hc hs hl
theorem jr_mmin (F : jj_F X own cc nL) (M : jj_M X ret fr lo N XN) {x y : Int} {idx : Nat} (hx : jj_r x) (hy : jj_r y) (q : Cond.methodLink own idx Lib.Math.min.name ∈ lw_all) (hfr : 1 ≤ fr) (hlo : 21 ≤ lo) (hst : (st.map fun v => if jj_2 v = true then 2 else 1).sum ≤ 8) (hd : decode cc pc = .ok (.invokestatic idx, 3)) (kk : jj_J X nL (pc + 3) vs (.inl (min x y) :: st) h k) : jj_J X nL pc vs (.inl y :: .inl x :: st) h k := by
  obtain ⟨G, p, l, e, R, s, m, args, below, meth, c, Q, A⟩ := X
  obtain ⟨hx', hb, hml, ho, hts, hK, hlk, hz, hold⟩ := F
  obtain ⟨hr, hf1, hf2, -, -⟩ := M
  intro H locs cells slots ls hR hS hc hs hl
  have hc' : cells + k ≤ R.cells := hc
  have hs' : slots + 4 * k ≤ R.slots := hs
  have hsum : ((st.map jj_v).map fun v => v.category).sum ≤ 8 := by
    rw [List.map_map]
    refine Nat.le_trans (Nat.le_of_eq (congrArg List.sum (List.map_congr_left fun v _ => ?_))) hst
    exact jj_2_cat v
  refine va_mmin hx' hb (hml.trans hl.1.symm) ho (hts _ q) (hts _ q337) (hts _ q134) (hts _ q338) (by rw [hf1]; exact hfr) (by rw [hf2]; omega) (by show cells ≤ R.cells; omega) (by show slots ≤ R.slots; omega) hd ?_
  have e : (if Int32.ofInt y < Int32.ofInt x then Int32.ofInt y else Int32.ofInt x) = Int32.ofInt (min x y) := by
    have := jj_it hy hx
    by_cases hxy : y < x
    · rw [if_pos (this.mpr hxy)]; congr 1; omega
    · rw [if_neg (fun z => hxy (this.mp z))]; congr 1; omega
  rw [e]
  exact kk H locs cells slots ls hR hS hc hs hl
end RX
