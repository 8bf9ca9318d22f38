/-! THE MEANING of abstract cells: concrete cells that belong to them; opening and closing them -/
/-- a concrete cell stands in the machine's heap -/
def ja_c (G : jj_G) (H : Heap) (q : Nat) : jj_C → Prop
  | .inl o => jj_ob G H q o
  | .inr (.inl (t, n, f)) => n < 2147483648 ∧ H[q]? = some (jj_ic G t n f)
  | .inr (.inr (.inl (t, n, f))) => n < 2147483648 ∧ H[q]? = some (jj_rc G t n f)
  | .inr (.inr (.inr _)) => False
/-- a byte, as Java has it -/
def jj_sb8 (c : Int) : Int := if c < 128 then c else c - 256
/-- a HashMap's entries: key, value, hash, node; their buckets, their chains -/
abbrev ja_E : Type := Nat × Nat × Int × Nat
def ja_sp (x : Int) : Int := jj_xor x (jj_ushr x 16)
def ja_bk (e : ja_E) : Nat := (jj_and 15 (ja_sp e.2.2.1)).toNat
def ja_nd (nx : Nat → Option Nat) (e : ja_E) : jj_C := .inl (17, [.inl (ja_sp e.2.2.1), jj_rf (some e.1), jj_rf (some e.2.1), jj_rf (nx e.2.2.2)])
def ja_chn (nx : Nat → Option Nat) : List Nat → Option Nat → Prop
  | [], s => s = none
  | n :: r, s => s = some n ∧ ja_chn nx r (nx n)
def ja_F (es : List ja_E) (b : Nat) : List ja_E := es.filter (fun e => decide (ja_bk e = b))
def ja_hf (ks T : Option Nat) (n : Nat) (mc : Int) (lf : UInt32) : List jj_AV := [jj_rf ks, jj_rf none, jj_rf T, jj_rf none, .inl n, .inl mc, .inl (if T = none then 0 else 12), .inr (.inr (.inr lf))]
def ja_hT (T : Option Nat) (f : Int → Option Nat) : List (Nat × jj_C) := match T with
  | none => []
  | some t => [(t, .inr (.inr (.inl (4, 16, f))))]
def ja_hk (ks : Option Nat) (mp : Nat) : List (Nat × jj_C) := match ks with
  | none => []
  | some q => [(q, .inl (18, [jj_rf (some mp)]))]
def ja_hR (es : List ja_E) (T : Option Nat) (f : Int → Option Nat) (nx : Nat → Option Nat) : List (Nat × jj_C) := ja_hT T f ++ es.map (fun e => (e.2.2.2, ja_nd nx e))
def ja_hc (es : List ja_E) (T : Option Nat) (f : Int → Option Nat) (nx : Nat → Option Nat) : Prop := (T = none → es = []) ∧ es.length ≤ 7 ∧ ∀ b : Nat, b < 16 → ja_chn nx ((ja_F es b).map (fun e => e.2.2.2)) (f (b : Int))
/-- search trees by positions; TreeMap's nodes -/
def jt_W (ns : List Nat) (vl : Nat → Int) (lf rg pa : Nat → Option Nat) (rt : Option Nat) (pos a b : Nat → Int) (A B : Int) : Prop :=
  (∀ x ∈ ns, A ≤ a x ∧ a x ≤ pos x ∧ pos x ≤ b x ∧ b x ≤ B) ∧
  (∀ x ∈ ns, lf x = none → a x = pos x) ∧
  (∀ x ∈ ns, ∀ y, lf x = some y → y ∈ ns ∧ pa y = some x ∧ a y = a x ∧ b y + 1 = pos x) ∧
  (∀ x ∈ ns, rg x = none → b x = pos x) ∧
  (∀ x ∈ ns, ∀ y, rg x = some y → y ∈ ns ∧ pa y = some x ∧ b y = b x ∧ a y = pos x + 1) ∧
  (∀ x ∈ ns, pa x = none → rt = some x) ∧
  (∀ x ∈ ns, ∀ p, pa x = some p → p ∈ ns ∧ (lf p = some x ∨ rg p = some x)) ∧
  (rt = none → ns = []) ∧
  (∀ x, rt = some x → x ∈ ns ∧ pa x = none ∧ a x = A ∧ b x = B) ∧
  (∀ x ∈ ns, ∀ z ∈ ns, pos x < pos z → vl x < vl z) ∧
  (∀ x ∈ ns, ∀ z ∈ ns, pos x = pos z → x = z)
def jt_n (k v : Nat) (l r p : Option Nat) (c : Int) : jj_C := .inl (24, [jj_rf (some k), jj_rf (some v), jj_rf l, jj_rf r, jj_rf p, .inl c])
def jt_m (rt : Option Nat) (n mc : Int) : jj_C := .inl (23, [jj_rf none, jj_rf none, jj_rf none, jj_rf rt, .inl n, .inl mc, jj_rf none, jj_rf none, jj_rf none])
/-- what belongs to an abstract cell besides its object (fields fs): kind, content, address -/
def ja_T : Nat → List jj_AV → Nat → List jj_AV → List (Nat × jj_C) → Prop
  | 0, x, a, fs, R => ∃ (mc : Int) (xs : List (Option Nat)) (d cap : Nat) (f : Int → Option Nat), x = .inl mc :: xs.map jj_rf ∧ fs = [.inl mc, jj_rf (some d), .inl xs.length] ∧ R = [(d, .inr (.inr (.inl (0, cap, f))))] ∧ d ≠ a ∧ xs.length ≤ cap ∧ 0 < cap ∧ cap < 100000 ∧ ∀ i : Nat, i < cap → f i = xs.getD i none
  | 1, x, a, fs, R => ∃ (cs : List Int) (d : Nat) (hv z : Int) (f : Int → Int), x = cs.map (fun c => (.inl c : jj_AV)) ∧ fs = [jj_rf (some d), .inl 0, .inl hv, .inl z] ∧ R = [(d, .inr (.inl (2, cs.length, f)))] ∧ d ≠ a ∧ cs.length < 1000000 ∧ (z = 0 ∨ z = 1) ∧ (hv ≠ 0 → hv = jj_hash cs) ∧ (z = 1 → jj_hash cs = 0) ∧ jj_r hv ∧ ∀ i : Nat, i < cs.length → 0 ≤ cs.getD i 0 ∧ cs.getD i 0 < 256 ∧ f i = jj_sb8 (cs.getD i 0)
  | 2, x, a, fs, R => ∃ (cs : List Int) (d cap : Nat) (ml : Int) (f : Int → Int), x = cs.map (fun c => (.inl c : jj_AV)) ∧ fs = [jj_rf (some d), .inl 0, .inl ml, .inl cs.length] ∧ R = [(d, .inr (.inl (2, cap, f)))] ∧ d ≠ a ∧ cs.length ≤ cap ∧ cap < 1000000 ∧ (ml = 0 ∨ ml = 1) ∧ (∀ i : Nat, i < cs.length → 0 ≤ cs.getD i 0 ∧ cs.getD i 0 < 256 ∧ f i = jj_sb8 (cs.getD i 0)) ∧ ∀ i : Nat, i < cap → -128 ≤ f i ∧ f i < 128
  | 3, x, a, fs, R => ∃ (es : List ja_E) (T : Option Nat) (f : Int → Option Nat) (nx : Nat → Option Nat) (mc : Int) (lf : UInt32), x = (es.map (fun q => [jj_rf (some q.1), jj_rf (some q.2.1), .inl q.2.2.1])).flatten ∧ fs = ja_hf none T es.length mc lf ∧ R = ja_hR es T f nx ∧ (a :: R.map Prod.fst).Nodup ∧ ja_hc es T f nx
  | 4, x, a, fs, R => ∃ (mp : Nat) (es : List ja_E) (T : Option Nat) (f : Int → Option Nat) (nx : Nat → Option Nat) (lf : UInt32) (ks : Option Nat) (pv : Nat), x = jj_rf (some mp) :: (es.map (fun q => [jj_rf (some q.1), .inl q.2.2.1, jj_rf (some q.2.2.2)])).flatten ∧ fs = [jj_rf (some mp)] ∧ R = (mp, .inl (16, ja_hf ks T es.length es.length lf)) :: (ja_hk ks mp ++ ja_hR es T f nx) ∧ (a :: R.map Prod.fst).Nodup ∧ ja_hc es T f nx ∧ es.Pairwise (fun p q => ja_bk p ≤ ja_bk q) ∧ ∀ e ∈ es, e.2.1 = pv
  | 8, x, _, fs, R => ∃ (j s mp : Nat) (es : List (Nat × Int × Nat)) (cur : Option Nat) (ix : Int), x = .inl (j : Int) :: jj_rf (some s) :: jj_rf (some mp) :: jj_hcs es ∧ fs = [jj_rf (es[j]?.map (fun q => q.2.2)), jj_rf cur, .inl es.length, .inl ix, jj_rf (some mp)] ∧ R = [] ∧ ∀ e, es[j]? = some e → ix = ((jj_and 15 (ja_sp e.2.1)).toNat : Int) + 1
  | 5, x, a, fs, R => ∃ (cmp : Nat) (es : List Nat) (d cap : Nat) (mc : Int) (f : Int → Option Nat), x = jj_rf (some cmp) :: es.map (fun e => jj_rf (some e)) ∧ fs = [jj_rf (some d), .inl es.length, jj_rf (some cmp), .inl mc] ∧ R = [(d, .inr (.inr (.inl (0, cap, f))))] ∧ d ≠ a ∧ es.length ≤ cap ∧ 0 < cap ∧ cap < 100000 ∧ ∀ i : Nat, i < cap → f i = es[i]?
  | 6, x, a, fs, R => ∃ (mp : Nat) (ns : List Nat) (ky pv : Nat → Nat) (vl : Nat → Int) (lf rg pa : Nat → Option Nat) (co : Nat → Int) (rt : Option Nat) (mc : Int) (pos lo hi : Nat → Int) (A B : Int), x = (ns.map (fun n => [jj_rf (some (ky n)), .inl (vl n)])).flatten ∧ fs = [jj_rf (some mp)] ∧ R = (mp, jt_m rt ns.length mc) :: ns.map (fun n => (n, jt_n (ky n) (pv n) (lf n) (rg n) (pa n) (co n))) ∧ (a :: R.map Prod.fst).Nodup ∧ (∀ n ∈ ns, co n = 0 ∨ co n = 1) ∧ jt_W ns vl lf rg pa rt pos lo hi A B
  | 9, x, _, fs, R => ∃ v : Int, x = [.inl v] ∧ fs = [.inl v] ∧ R = []
  | _, _, _, _, _ => False
def ja_S (x : jj_O) (a : Nat) (L : List (Nat × jj_C)) : Prop := ∃ ci fs R, L = (a, .inl (ci, fs)) :: R ∧ jj_ac x.1 = some ci ∧ ja_T x.1 x.2 a fs R
/-- constants: objects from the start that nobody writes -/
def ja_k (G : jj_G) (a : Nat) (x : jj_O) : Prop := ∃ cell : Cell, (jj_gH G)[a]? = some cell ∧ cell.vm = .none ∧ (∀ ci, jj_ac x.1 = some ci → cell.cls = (jj_gD G).1 ci) ∧ match x with
  | (10, [.inl v]) => ∀ U, jj_ge G U → ∃ c k i f, U.fieldFound? "java/lang/Boolean" "value" "Z" = some (c, k, i, f) ∧ f.isStatic = false ∧ cell.slots[f.slot]? = some (.int (Int32.ofInt v))
  | (11, [.inl v, .inr (.inr (.inl (some w)))]) => ∀ U, jj_ge G U → (∃ c k i f, U.fieldFound? "java/lang/Enum" "ordinal" "I" = some (c, k, i, f) ∧ f.isStatic = false ∧ cell.slots[f.slot]? = some (.int (Int32.ofInt v))) ∧ (∃ c k i f, U.fieldFound? "NoteImporter$Kind" "word" "Ljava/lang/String;" = some (c, k, i, f) ∧ f.isStatic = false ∧ cell.slots[f.slot]? = some (.ref w))
  | _ => False
/-- a constant String, open: its fields and its letters; it can be read, not written -/
def ja_f (G : jj_G) (H : Heap) (a : Nat) (x : jj_O) : Prop := x.1 = 12 ∧ ∃ (cs : List Int) (d : Nat) (hv z : Int) (f : Int → Int), x.2 = [jj_rf (some d), .inl 0, .inl hv, .inl z] ++ cs.map (fun c => (.inl c : jj_AV)) ∧ ja_T 1 (cs.map (fun c => (.inl c : jj_AV))) a [jj_rf (some d), .inl 0, .inl hv, .inl z] [(d, .inr (.inl (2, cs.length, f)))] ∧ ja_c G H a (.inl (25, [jj_rf (some d), .inl 0, .inl hv, .inl z])) ∧ d < jj_gb G ∧ ja_c G H d (.inr (.inl (2, cs.length, f))) ∧ (cs ≠ [] → hv ≠ 0)
/-- a constant String with letters has its hash already -/
def ja_cn (x : jj_O) (L : List (Nat × jj_C)) : Prop := x.1 = 1 → x.2 ≠ [] → ∀ a d c z hv R, L = (a, .inl (25, [d, c, .inl hv, z])) :: R → hv ≠ 0
def ja_m (G : jj_G) (own : Nat → Nat) (H : Heap) (a : Nat) (x : jj_O) : Prop := own a = a ∧ ((∃ L, ja_S x a L ∧ ∀ q ∈ L, own q.1 = a ∧ jj_gb G ≤ q.1 ∧ ja_c G H q.1 q.2) ∨ (a < jj_gb G ∧ (x.1 = 1 ∨ x.1 = 9) ∧ ∃ L, ja_S x a L ∧ (∀ q ∈ L, q.1 < jj_gb G ∧ ja_c G H q.1 q.2) ∧ ja_cn x L) ∨ (a < jj_gb G ∧ (∀ q : Nat, q < jj_gb G → H[q]? = (jj_gH G)[q]?) ∧ ja_k G a x) ∨ (a < jj_gb G ∧ ja_f G H a x))
theorem ja_c.lt {G : jj_G} {H : Heap} {q : Nat} {c : jj_C} (h : ja_c G H q c) : q < H.size := by
  obtain o | ⟨t, n, f⟩ | ⟨t, n, f⟩ | z := c
  · exact jj_ob.lt h
  · exact (Array.getElem?_eq_some_iff.mp h.2).1
  · exact (Array.getElem?_eq_some_iff.mp h.2).1
  · exact h.elim
theorem ja_c.kept {G : jj_G} {H H' : Heap} {q : Nat} {c : jj_C} (h : ja_c G H q c) (e : H'[q]? = H[q]?) : ja_c G H' q c := by
  obtain o | ⟨t, n, f⟩ | ⟨t, n, f⟩ | z := c
  · exact jj_ob.kept h e
  · exact ⟨h.1, e.trans h.2⟩
  · exact ⟨h.1, e.trans h.2⟩
  · exact h.elim
theorem ja_law {G : jj_G} (hA : jj_ga G = ja_m G) : jj_law G := by
  intro own H a x hx
  rw [hA] at hx
  refine ⟨⟨hx.1, ?_⟩, ?_⟩
  · rcases hx.2 with ⟨L, ⟨ci, fs, R, rfl, hc, -⟩, hL⟩ | ⟨-, -, L, ⟨ci, fs, R, rfl, hc, -⟩, hL, -⟩ | ⟨hlt, h0, cell, h1, h2, h3, -⟩ | ⟨hlt, hx, cs, d, hv, z, f, -, -, hob, -⟩
    · obtain ⟨r, -, -, cell, g1, g2, g3, -⟩ := (hL _ List.mem_cons_self).2.2
      exact ⟨cell, g1, g3, fun cj hj => by rw [hc] at hj; cases hj; exact g2⟩
    · obtain ⟨r, -, -, cell, g1, g2, g3, -⟩ := (hL _ List.mem_cons_self).2
      exact ⟨cell, g1, g3, fun cj hj => by rw [hc] at hj; cases hj; exact g2⟩
    · exact ⟨cell, (h0 a hlt).trans h1, h2, h3⟩
    · obtain ⟨r, -, -, cell, g1, g2, g3, -⟩ := hob
      exact ⟨cell, g1, g3, fun cj hj => by rw [hx] at hj; cases hj; exact g2⟩
  · intro own' H' hq hb hz
    rw [hA]
    obtain ⟨ho, hd⟩ := hx
    have alt : a < H.size := by
      rcases hd with ⟨L, ⟨ci, fs, R, rfl, hc, -⟩, hL⟩ | ⟨-, -, L, ⟨ci, fs, R, rfl, hc, -⟩, hL, -⟩ | ⟨hlt, h0, cell, h1, -⟩ | ⟨hlt, hx, cs, d, hv, z, f, -, -, hob, -⟩
      · exact (hL _ List.mem_cons_self).2.2.lt
      · exact (hL _ List.mem_cons_self).2.lt
      · exact (Array.getElem?_eq_some_iff.mp ((h0 a hlt).trans h1)).1
      · exact hob.lt
    refine ⟨(hq a alt ho).1, ?_⟩
    rcases hd with ⟨L, hS, hL⟩ | ⟨hlt, hx9, L, hS, hL, hcn⟩ | ⟨hlt, h0, hk⟩ | ⟨hlt, hx, cs, d, hv, z, f, e1, e2, e3, e4, e5, e6⟩
    · refine Or.inl ⟨L, hS, fun q hm => ?_⟩
      obtain ⟨g1, g2, g3⟩ := hL q hm
      obtain ⟨e1, e2⟩ := hq q.1 g3.lt g1
      exact ⟨e1, g2, g3.kept e2⟩
    · refine Or.inr (Or.inl ⟨hlt, hx9, L, hS, fun q hm => ?_, hcn⟩)
      obtain ⟨g2, g3⟩ := hL q hm
      exact ⟨g2, g3.kept (hb q.1 g2)⟩
    · exact Or.inr (Or.inr (Or.inl ⟨hlt, fun q hq9 => (hb q hq9).trans (h0 q hq9), hk⟩))
    · exact Or.inr (Or.inr (Or.inr ⟨hlt, hx, cs, d, hv, z, f, e1, e2, e3.kept (hb a hlt), e4, e5.kept (hb d e4), e6⟩))
/-- the heap with cells laid over it -/
def ja_ov (h : jj_H) (L : List (Nat × jj_C)) : jj_H := fun b => match L.find? (fun q => q.1 = b) with
  | some q => some q.2
  | none => h b
theorem ja_ov_in {h : jj_H} {L : List (Nat × jj_C)} {b : Nat} {c : jj_C} (e : ja_ov h L b = some c) : (b, c) ∈ L ∨ ((∀ q ∈ L, q.1 ≠ b) ∧ h b = some c) := by
  unfold ja_ov at e
  split at e
  · rename_i q hq
    cases e
    have h1 := List.find?_some hq
    have h2 := List.mem_of_find?_eq_some hq
    simp only [decide_eq_true_eq] at h1
    subst h1
    exact Or.inl h2
  · rename_i hq
    refine Or.inr ⟨fun q hm he => ?_, e⟩
    have := List.find?_eq_none.mp hq q hm
    simp [he] at this
/-- a cell is opened: it is owned and its cells can be written, or it is a constant -/
theorem ja_open {G : jj_G} (hA : jj_ga G = ja_m G) {h : jj_H} {H : Heap} (hR : jj_R G h H) {a : Nat} {x : jj_O} (hc : h a = some (.inr (.inr (.inr (.inr x))))) :
    (∃ L, ja_S x a L ∧ (∀ q ∈ L, q.1 ≠ a → h q.1 = none) ∧ jj_R G (ja_ov h L) H) ∨ (a < jj_gb G ∧ (x.1 = 1 ∨ x.1 = 9) ∧ ∃ L, ja_S x a L ∧ (∀ q ∈ L, q.1 < jj_gb G ∧ ja_c G H q.1 q.2) ∧ ja_cn x L) ∨ (a < jj_gb G ∧ ja_k G a x) ∨ x.1 = 12 := by
  have L0 := ja_law hA
  obtain ⟨h1, h2, own, h3⟩ := hR
  have h4 : jj_ga G own H a x := h3 a _ hc
  rw [hA] at h4
  obtain ⟨ho, ⟨L, hS, hL⟩ | ⟨hlt, hx9, L, hS, hL, hcn⟩ | ⟨hlt, h0, hk⟩ | ⟨hlt, hx, -⟩⟩ := h4
  · refine Or.inl ⟨L, hS, fun q hm hne => ?_, h1, h2, fun q => if q ∈ L.map (fun z => z.1) then q else own q, fun b c hb => ?_⟩
    · cases hd : h q.1 with
      | none => rfl
      | some d =>
        have e1 := (jj_at.own L0 (h3 _ d hd)).1
        have e2 := (hL q hm).1
        exact absurd (e1.symm.trans e2) hne
    · rcases ja_ov_in hb with hm | ⟨hn, hb⟩
      · obtain ⟨g1, g2, g3⟩ := hL _ hm
        have e9 : (if b ∈ L.map (fun z => z.1) then b else own b) = b := if_pos (List.mem_map.mpr ⟨_, hm, rfl⟩)
        obtain o | ⟨t, n, f⟩ | ⟨t, n, f⟩ | z := c
        · exact ⟨e9, g2, g3⟩
        · exact ⟨e9, g2, g3⟩
        · exact ⟨e9, g2, g3⟩
        · exact g3.elim
      · refine jj_at.kept L0 (h3 b c hb) (fun q hq hob => ⟨?_, rfl⟩) (fun q _ => rfl) (Nat.le_refl _)
        show (if q ∈ L.map (fun z => z.1) then q else own q) = b
        split
        · rename_i hm
          obtain ⟨z, hz, rfl⟩ := List.mem_map.mp hm
          have e1 := (hL z hz).1
          have : b = a := hob.symm.trans e1
          subst this
          obtain ⟨ci, fs, R, rfl, -⟩ := hS
          exact absurd rfl (hn _ List.mem_cons_self)
        · exact hob
  · exact Or.inr (Or.inl ⟨hlt, hx9, L, hS, hL, hcn⟩)
  · exact Or.inr (Or.inr (Or.inl ⟨hlt, hk⟩))
  · exact Or.inr (Or.inr (Or.inr hx))
def ja_w : jj_C → Prop
  | .inl _ => True
  | .inr (.inl _) => True
  | .inr (.inr (.inl _)) => True
  | .inr (.inr (.inr _)) => False
theorem ja_wat {G : jj_G} {own : Nat → Nat} {H : Heap} {q : Nat} {c : jj_C} (hw : ja_w c) (h : jj_at G own H q c) : own q = q ∧ jj_gb G ≤ q ∧ ja_c G H q c := by
  obtain o | ⟨t, n, f⟩ | ⟨t, n, f⟩ | z := c
  · exact h
  · exact h
  · exact h
  · exact hw.elim
/-- and closed: of what stands in h', the cells L become the abstract cell x at a; of the rest, what h has is kept -/
theorem ja_close {G : jj_G} (hA : jj_ga G = ja_m G) {h h' : jj_H} {H : Heap} (hR : jj_R G h' H) {a : Nat} {x : jj_O} {L : List (Nat × jj_C)} (hS : ja_S x a L) (hL : ∀ q ∈ L, h' q.1 = some q.2 ∧ ja_w q.2) (hn : ∀ q ∈ L, q.1 ≠ a → h q.1 = none) (hk : ∀ b c, b ≠ a → h b = some c → h' b = some c) : jj_R G (jj_set h a (.inr (.inr (.inr (.inr x))))) H := by
  obtain ⟨h1, h2, own, h3⟩ := hR
  have hLa : ∀ q ∈ L, own q.1 = q.1 ∧ jj_gb G ≤ q.1 ∧ ja_c G H q.1 q.2 := fun q hm => ja_wat (hL q hm).2 (h3 _ _ (hL q hm).1)
  have hin : a ∈ L.map (fun z => z.1) := by
    obtain ⟨ci, fs, R, rfl, -⟩ := hS
    exact List.mem_map.mpr ⟨_, List.mem_cons_self, rfl⟩
  refine ⟨h1, h2, fun q => if q ∈ L.map (fun z => z.1) then a else own q, fun b c hb => ?_⟩
  by_cases hba : b = a
  · subst hba
    rw [jj_set_self] at hb
    cases hb
    show jj_ga G _ H b x
    rw [hA]
    refine ⟨if_pos hin, Or.inl ⟨L, hS, fun q hm => ⟨if_pos (List.mem_map.mpr ⟨_, hm, rfl⟩), (hLa q hm).2⟩⟩⟩
  · rw [jj_set_ne _ _ hba] at hb
    refine jj_at.kept (ja_law hA) (h3 b c (hk b c hba hb)) (fun q hq hob => ⟨?_, rfl⟩) (fun q _ => rfl) (Nat.le_refl _)
    show (if q ∈ L.map (fun z => z.1) then a else own q) = b
    split
    · rename_i hm
      obtain ⟨z, hz, rfl⟩ := List.mem_map.mp hm
      have e1 := (hLa z hz).1
      have e2 : z.1 = b := e1.symm.trans hob
      have := hn z hz (by rw [e2]; exact hba)
      rw [e2, hb] at this
      cases this
    · exact hob
/-- a contract by cases of how the heap can be read -/
theorem jj_Ct.ex {G : jj_G} {l : Launch} {y : MethodName} {ws : List Cond} {fr lo : Nat} {As : List jj_AV} {h : jj_H} {K : Nat} {N : Option jj_AV → jj_H → Prop} {XN : String → Nat → jj_H → Prop} {I : Type} {Pi : I → Prop} {hh : I → jj_H} {N' : I → Option jj_AV → jj_H → Prop} {XN' : I → String → Nat → jj_H → Prop}
    (ho : ∀ (U : State), jj_K G U → jj_R G h U.heap → ∃ i, Pi i ∧ jj_R G (hh i) U.heap) (C : ∀ i, Pi i → jj_Ct G l y ws fr lo As (hh i) K (N' i) (XN' i))
    (hN : ∀ i v h' H, Pi i → N' i v h' → jj_R G h' H → ∃ h'', N v h'' ∧ jj_R G h'' H) (hX : ∀ i e q h' H, Pi i → XN' i e q h' → jj_R G h' H → ∃ h'', XN e q h'' ∧ jj_R G h'' H) : jj_Ct G l y ws fr lo As h K N XN := by
  intro p e hl hf hc s m args below hs hS hP hK
  obtain ⟨i, hi, hr⟩ := ho s hP.2.1 hP.2.2
  obtain ⟨n, o, q1, q2, q3, q4⟩ := C i hi p e hl hf hc s m args below hs hS ⟨hP.1, hP.2.1, hr⟩ hK
  refine ⟨n, o, q1, q2, q3, ?_⟩
  rcases q4 with ⟨⟨v, h', e1, e2, e3, e4⟩, q5⟩ | ⟨q, e0, E, ce, Lc, ⟨h', e2, e3, e4⟩, q5⟩
  · obtain ⟨h'', f1, f2⟩ := hN i v h' _ hi e2 e3
    exact Or.inl ⟨⟨v, h'', e1, f1, f2, e4⟩, q5⟩
  · obtain ⟨h'', f1, f2⟩ := hX i E q h' _ hi e2 e3
    exact Or.inr ⟨q, e0, E, ce, Lc, ⟨h'', f1, f2, e4⟩, q5⟩
/-- more room does no harm -/
theorem jj_Ct.room {G : jj_G} {l : Launch} {y : MethodName} {ws : List Cond} {fr lo fr' lo' : Nat} {As : List jj_AV} {h : jj_H} {K : Nat} {N : Option jj_AV → jj_H → Prop} {XN : String → Nat → jj_H → Prop} (C : jj_Ct G l y ws fr lo As h K N XN) (h1 : fr ≤ fr') (h2 : lo ≤ lo') : jj_Ct G l y ws fr' lo' As h K N XN := by
  intro p e hl hf hc s m args below hs hS hP hK
  refine C p e hl hf hc s m args below hs ?_ hP hK
  unfold Spec.appliesLoose at hS ⊢
  rw [hs] at hS ⊢
  simp only [Bool.and_eq_true, decide_eq_true_eq] at hS ⊢
  refine ⟨⟨hS.1.1, ?_⟩, hS.2⟩
  have hr := hS.1.2
  unfold State.hasRoom at hr ⊢
  simp only [Bool.and_eq_true, decide_eq_true_eq] at hr ⊢
  dsimp only [headSpec] at hr ⊢
  obtain ⟨⟨⟨⟨r1, r2⟩, r3⟩, r4⟩, r5⟩ := hr
  exact ⟨⟨⟨⟨by omega, by omega, by omega, by omega, by omega, r2.2.2.2.2⟩, r3⟩, r4⟩, r5⟩
/-- a contract of the JDK's, of a receiver of a class, with its room -/
def jj_jcR (G : jj_G) (l : Launch) (fr lo : Nat) (y : MethodName) (cc : ByteArray) (maxL : Nat) (ret : Option FieldType) (ci : Nat) (o : Option Nat) (As : List jj_AV) (h : jj_H) (k : Nat) (N : Option jj_AV → jj_H → Nat → Prop) : Prop := ∃ a c K, o = some a ∧ h a = some c ∧ jj_cls c = some ci ∧ K ≤ k ∧ jj_Ct G l y (ws_ y cc maxL ret) fr lo (.inr (.inr (.inl (some a))) :: As) h K (fun v h' => N v h' (k - K)) jj_F0
/-- a String is opened: as one's own, or as a constant -/
def ja_o25 (d : Nat) (hv z : Int) : jj_C := .inl (25, [jj_rf (some d), .inl 0, .inl hv, .inl z])
def ja_fz (d : Nat) (hv z : Int) (cs : List Int) : jj_C := .inr (.inr (.inr (.inr (12, [jj_rf (some d), .inl 0, .inl hv, .inl z] ++ cs.map (fun c => (.inl c : jj_AV))))))
theorem ja_opens {G : jj_G} (hA : jj_ga G = ja_m G) {h : jj_H} {H : Heap} (hR : jj_R G h H) {a : Nat} {cs : List Int} (hc : h a = some (jj_str cs)) :
    ∃ d hv z f, ja_T 1 (cs.map (fun c => (.inl c : jj_AV))) a [jj_rf (some d), .inl 0, .inl hv, .inl z] [(d, .inr (.inl (2, cs.length, f)))] ∧ ((h d = none ∧ jj_R G (jj_set (jj_set h d (.inr (.inl (2, cs.length, f)))) a (ja_o25 d hv z)) H) ∨ ((cs ≠ [] → hv ≠ 0) ∧ jj_R G (jj_set h a (ja_fz d hv z cs)) H)) := by
  have L0 := ja_law hA
  have inj : ∀ cs2 : List Int, cs.map (fun c => (.inl c : jj_AV)) = cs2.map (fun c => (.inl c : jj_AV)) → cs = cs2 := fun cs2 e => (List.map_inj_right (fun x y hxy => Sum.inl.inj hxy)).mp e
  rcases ja_open hA hR hc with ⟨L, ⟨ci, fs, R, rfl, hci, hT⟩, hn, hR'⟩ | ⟨hlt, -, L, ⟨ci, fs, R, rfl, hci, hT⟩, hL, hcn⟩ | ⟨-, cell, -, -, -, hx⟩ | hx
  · obtain ⟨cs2, d, hv, z, f, e1, rfl, rfl, hr⟩ := id hT
    cases hci
    have e2 := inj cs2 e1
    subst e2
    refine ⟨d, hv, z, f, hT, Or.inl ⟨hn (d, _) (List.mem_cons_of_mem _ List.mem_cons_self) hr.1, ?_⟩⟩
    have e3 : ja_ov h [(a, ja_o25 d hv z), (d, .inr (.inl (2, cs.length, f)))] = jj_set (jj_set h d (.inr (.inl (2, cs.length, f)))) a (ja_o25 d hv z) := by
      funext b
      unfold ja_ov jj_set
      by_cases h1 : a = b
      · simp [List.find?, h1]
      · by_cases h2 : d = b
        · simp [List.find?, h1, h2, Ne.symm h1]
        · simp [List.find?, h1, h2, Ne.symm h1, Ne.symm h2]
    rw [← e3]
    exact hR'
  · obtain ⟨cs2, d, hv, z, f, e1, rfl, rfl, hr⟩ := id hT
    cases hci
    have e2 := inj cs2 e1
    subst e2
    have hz9 : cs ≠ [] → hv ≠ 0 := fun hne => hcn rfl (fun e => hne (List.map_eq_nil_iff.mp e)) _ _ _ _ _ _ rfl
    refine ⟨d, hv, z, f, hT, Or.inr ⟨hz9, ?_⟩⟩
    obtain ⟨h1, h2, own, h3⟩ := hR
    refine ⟨h1, h2, own, fun b c hb => ?_⟩
    by_cases hba : b = a
    · subst hba
      rw [jj_set_self] at hb
      cases hb
      show jj_ga G own H b _
      rw [hA]
      have q1 := hL _ List.mem_cons_self
      have q2 := hL (d, _) (List.mem_cons_of_mem _ List.mem_cons_self)
      exact ⟨(jj_at.own L0 (h3 b _ hc)).1, Or.inr (Or.inr (Or.inr ⟨hlt, rfl, cs, d, hv, z, f, rfl, hT, q1.2, q2.1, q2.2, hz9⟩))⟩
    · rw [jj_set_ne _ _ hba] at hb
      exact h3 b c hb
  · cases hx
  · cases hx
/-- a constant String is closed again -/
theorem ja_unfz {G : jj_G} (hA : jj_ga G = ja_m G) {h : jj_H} {H : Heap} {a d : Nat} {hv z : Int} {cs : List Int} (hR : jj_R G (jj_set h a (ja_fz d hv z cs)) H) : jj_R G (jj_set h a (jj_str cs)) H := by
  obtain ⟨h1, h2, own, h3⟩ := hR
  refine ⟨h1, h2, own, fun b c hb => ?_⟩
  by_cases hba : b = a
  · subst hba
    rw [jj_set_self] at hb
    cases hb
    have h4 : jj_ga G own H b _ := h3 b _ (jj_set_self _ _ _)
    show jj_ga G own H b _
    rw [hA] at h4 ⊢
    obtain ⟨ho, ⟨L, ⟨ci, fs, R, -, -, hT⟩, -⟩ | ⟨-, hx, -⟩ | ⟨-, -, cell, -, -, -, hx⟩ | ⟨hlt, -, cs2, d2, hv2, z2, f, e1, e2, e3, e4, e5, e7⟩⟩ := h4
    · cases hT
    · rcases hx with hx | hx <;> cases hx
    · cases hx
    · have e6 : cs.map (fun c => (.inl c : jj_AV)) = cs2.map (fun c => (.inl c : jj_AV)) := (List.append_inj e1 rfl).2
      refine ⟨ho, Or.inr (Or.inl ⟨hlt, Or.inl rfl, _, ⟨25, _, _, rfl, rfl, by rw [e6]; exact e2⟩, fun q hq => ?_, fun _ hne a9 d9 c9 z9 hv9 R9 e9 => ?_⟩)⟩
      rotate_left
      · have e10 := (List.cons.inj e9).1
        simp only [Prod.mk.injEq, Sum.inl.injEq, List.cons.injEq, true_and, and_true] at e10
        rw [← e10.2.2.2.1]
        exact e7 (fun e => hne (by show List.map _ cs = []; rw [e6, e]; rfl))
      simp only [List.mem_cons, List.not_mem_nil, or_false] at hq
      rcases hq with rfl | rfl
      · exact ⟨hlt, e3⟩
      · exact ⟨e4, e5⟩
  · rw [jj_set_ne _ _ hba] at hb
    exact h3 b c (by rw [jj_set_ne _ _ hba]; exact hb)
