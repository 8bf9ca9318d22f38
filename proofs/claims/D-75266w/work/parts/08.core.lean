/-! THE PURE HEAP, what it says of the machine's heap, and one frame's judgement over it -/
abbrev jj_MS : Type := (Nat → Int) × (Nat → Int → Int)
abbrev jj_AV : Type := Int ⊕ Int ⊕ Option Nat ⊕ UInt32
abbrev jj_O : Type := Nat × List jj_AV
abbrev jj_C : Type := jj_O ⊕ (Nat × Nat × (Int → Int)) ⊕ (Nat × Nat × (Int → Option Nat)) ⊕ jj_MS ⊕ jj_O
abbrev jj_H : Type := Nat → Option jj_C
abbrev jj_G : Type := va_G × (Nat → ClassId) × (Nat → ClassId) × Nat × Heap × (Nat → Nat) × ((Nat → Nat) → Heap → Nat → jj_O → Prop) × (State → Prop)
/-- a value -/
def jj_v : jj_AV → Value
  | .inl x => .int (Int32.ofInt x)
  | .inr (.inl x) => .long (Int64.ofInt x)
  | .inr (.inr (.inl r)) => va_rf r
  | .inr (.inr (.inr f)) => .float f
def jj_gD (G : jj_G) : va_G := G.1
def jj_gA (G : jj_G) : Nat → ClassId := G.2.1
def jj_gR (G : jj_G) : Nat → ClassId := G.2.2.1
def jj_gb (G : jj_G) : Nat := G.2.2.2.1
def jj_gH (G : jj_G) : Heap := G.2.2.2.2.1
def jj_gk (G : jj_G) : Nat → Nat := G.2.2.2.2.2.1
def jj_ga (G : jj_G) : (Nat → Nat) → Heap → Nat → jj_O → Prop := G.2.2.2.2.2.2.1
/-- what more is known of a state's tables -/
def jj_ge (G : jj_G) : State → Prop := G.2.2.2.2.2.2.2
/-- the classes; the reference model's first -/
def jj_cl : List vw_C := [(RX3, TX3, 45), (RX1, TX1, 8), (RX2, TX2, 6), (RX5, TX5, 7), (RX6, TX6, 7), (RX11, TX11, 1), (RX12, TX12, 4), (RX13, TX13, 6), (RX10, TX10, 5), (RX15, TX15, 1), (RX4, TX4, 9), (RX7, TX7, 8), (RX8, TX8, 6), (RX14, TX14, 6), (RJ2, TJ2, 3), (RJ21, TJ21, 4), (RJ19, TJ19, 8), (RJ35, TJ35, 4), (RJ27, TJ27, 1), (RJ25, TJ25, 5), (RJ33, TJ33, 1), (RJ41, TJ41, 4), (RJ42, TJ42, 1), (RJ23, TJ23, 9), (RJ43, TJ43, 6), (RJ9, TJ9, 4), (RJ8, TJ8, 4), (RJ17, TJ17, 1), (RJ6, TJ6, 6), (RJ20, TJ20, 6), (RJ45, TJ45, 6), (RJ34, TJ17, 0), (RX9, TJ17, 0)]
/-- primitive arrays' tags -/
def jj_pt : Nat → FieldType
  | 0 => .int
  | 1 => .long
  | 2 => .byte
  | _ => .boolean
def jj_pv : Nat → Int → Value
  | 1, x => .long (Int64.ofInt x)
  | _, x => .int (Int32.ofInt x)
/-- reference arrays' tags -/
def jj_rt : Nat → String
  | 0 => "java/lang/Object"
  | 1 => "NoteImporter$Library"
  | 2 => "NoteImporter$Alignment"
  | 3 => "NoteImporter$Anchor"
  | 4 => "java/util/HashMap$Node"
  | _ => "NoteImporter$Kind"
def jj_ic (G : jj_G) (t n : Nat) (f : Int → Int) : Cell := arrV (jj_gA G t) n (fun j => jj_pv t (f (j : Int)))
def jj_rc (G : jj_G) (t n : Nat) (f : Int → Option Nat) : Cell := arrV (jj_gR G t) n (fun j => va_rf (f (j : Int)))
/-- the model's array fields: place behind the object, tag, size -/
def jj_mt : Nat → Option (Nat × Nat × Nat)
  | 0 => some (0, 0, 614)
  | 1 => some (1, 0, 614)
  | 2 => some (2, 0, 1228)
  | 3 => some (3, 1, 606)
  | 4 => some (4, 1, 606)
  | 5 => some (5, 1, 1212)
  | 6 => some (6, 3, 2)
  | 8 => some (7, 0, 900)
  | 10 => some (8, 1, 500)
  | 12 => some (9, 0, 120)
  | 13 => some (10, 0, 120)
  | 14 => some (11, 0, 120)
  | 15 => some (12, 0, 14641)
  | 16 => some (13, 0, 120)
  | 17 => some (14, 0, 40)
  | 18 => some (15, 0, 40)
  | 19 => some (16, 0, 40)
  | 20 => some (17, 0, 40)
  | 21 => some (18, 0, 40)
  | 22 => some (19, 0, 40)
  | 23 => some (20, 0, 40)
  | 24 => some (21, 0, 40)
  | 25 => some (22, 0, 40)
  | 26 => some (23, 0, 40)
  | 27 => some (24, 0, 40)
  | 29 => some (25, 0, 40)
  | 30 => some (26, 0, 40)
  | 33 => some (27, 0, 1600)
  | _ => none
def jj_mv (m0 : Nat) (ms : jj_MS) (j : Nat) : jj_AV := match jj_mt j with
  | some (o, _, _) => .inr (.inr (.inl (some (m0 + 1 + o))))
  | none => if j = 42 then .inr (.inl (ms.1 j)) else .inl (ms.1 j)
def jj_mf (m0 : Nat) (ms : jj_MS) : List jj_AV := (List.range 45).map (jj_mv m0 ms)
/-- an object's cell -/
def jj_ob (G : jj_G) (H : Heap) (a : Nat) (o : jj_O) : Prop := ∃ r : vw_C, jj_cl[o.1]? = some r ∧ o.2.length = r.2.2 ∧ t_OB a ((jj_gD G).1 o.1) r.2.2 ((jj_gD G).2 o.1) H (vp_V (o.2.map jj_v))
def jj_at (G : jj_G) (own : Nat → Nat) (H : Heap) (a : Nat) : jj_C → Prop
  | .inl o => own a = a ∧ jj_gb G ≤ a ∧ jj_ob G H a o
  | .inr (.inl (t, n, f)) => own a = a ∧ jj_gb G ≤ a ∧ n < 2147483648 ∧ H[a]? = some (jj_ic G t n f)
  | .inr (.inr (.inl (t, n, f))) => own a = a ∧ jj_gb G ≤ a ∧ n < 2147483648 ∧ H[a]? = some (jj_rc G t n f)
  | .inr (.inr (.inr (.inl ms))) => own a = a ∧ jj_gb G ≤ a ∧ jj_ob G H a (0, jj_mf a ms) ∧ ∀ j o t n, jj_mt j = some (o, t, n) → own (a + 1 + o) = a ∧ H[a + 1 + o]? = some (jj_ic G t n (ms.2 j))
  | .inr (.inr (.inr (.inr x))) => jj_ga G own H a x
def jj_R (G : jj_G) (h : jj_H) (H : Heap) : Prop := jj_gb G ≤ H.size ∧ (∀ q : Nat, q < jj_gb G → H[q]? = (jj_gH G)[q]?) ∧ ∃ own : Nat → Nat, ∀ a c, h a = some c → jj_at G own H a c
/-- the class of an abstract cell -/
def jj_ac : Nat → Option Nat
  | 0 => some 14
  | 1 => some 25
  | 2 => some 26
  | 3 => some 16
  | 4 => some 20
  | 5 => some 21
  | 6 => some 22
  | 7 => some 15
  | 8 => some 19
  | 9 => some 27
  | 10 => some 31
  | 11 => some 32
  | 12 => some 25
  | _ => none
/-- what the abstract kinds must hold to: they stand on their own cells alone -/
def jj_law (G : jj_G) : Prop := ∀ (own : Nat → Nat) (H : Heap) (a : Nat) (x : jj_O), jj_ga G own H a x → (own a = a ∧ ∃ cell : Cell, H[a]? = some cell ∧ cell.vm = .none ∧ ∀ ci, jj_ac x.1 = some ci → cell.cls = (jj_gD G).1 ci) ∧
  ∀ (own' : Nat → Nat) (H' : Heap), (∀ q : Nat, q < H.size → own q = a → own' q = a ∧ H'[q]? = H[q]?) → (∀ q : Nat, q < jj_gb G → H'[q]? = H[q]?) → H.size ≤ H'.size → jj_ga G own' H' a x
def jj_tys (G : jj_G) : List (ClassId × FieldType) := [(jj_gA G 0, .int), (jj_gA G 1, .long), (jj_gA G 2, .byte), (jj_gA G 3, .boolean), (jj_gR G 0, .object (jj_rt 0)), (jj_gR G 1, .object (jj_rt 1)), (jj_gR G 2, .object (jj_rt 2)), (jj_gR G 3, .object (jj_rt 3)), (jj_gR G 4, .object (jj_rt 4)), (jj_gR G 5, .object (jj_rt 5))]
theorem jj_ob.lt {G : jj_G} {H : Heap} {a : Nat} {o : jj_O} (h : jj_ob G H a o) : a < H.size := by
  obtain ⟨r, -, -, cell, h2, -⟩ := h
  exact (Array.getElem?_eq_some_iff.mp h2).1
theorem jj_ob.kept {G : jj_G} {H H' : Heap} {a : Nat} {o : jj_O} (h : jj_ob G H a o) (e : H'[a]? = H[a]?) : jj_ob G H' a o := by
  obtain ⟨r, h1, h2, h3⟩ := h
  exact ⟨r, h1, h2, h3.kept e⟩
theorem jj_at.own {G : jj_G} (L : jj_law G) {own : Nat → Nat} {H : Heap} {a : Nat} {c : jj_C} (h : jj_at G own H a c) : own a = a ∧ a < H.size := by
  obtain o | ⟨t, n, f⟩ | ⟨t, n, f⟩ | ms | x := c
  · exact ⟨h.1, h.2.2.lt⟩
  · exact ⟨h.1, (Array.getElem?_eq_some_iff.mp h.2.2.2).1⟩
  · exact ⟨h.1, (Array.getElem?_eq_some_iff.mp h.2.2.2).1⟩
  · exact ⟨h.1, h.2.2.1.lt⟩
  · obtain ⟨⟨h1, cell, h2, -⟩, -⟩ := L own H a x h
    exact ⟨h1, (Array.getElem?_eq_some_iff.mp h2).1⟩
theorem jj_at.kept {G : jj_G} (L : jj_law G) {own own' : Nat → Nat} {H H' : Heap} {a : Nat} {c : jj_C} (h : jj_at G own H a c) (hq : ∀ q : Nat, q < H.size → own q = a → own' q = a ∧ H'[q]? = H[q]?) (hb : ∀ q : Nat, q < jj_gb G → H'[q]? = H[q]?) (hz : H.size ≤ H'.size) : jj_at G own' H' a c := by
  have h0 := jj_at.own L h
  have ha := hq a h0.2 h0.1
  obtain o | ⟨t, n, f⟩ | ⟨t, n, f⟩ | ms | x := c
  · exact ⟨ha.1, h.2.1, h.2.2.kept ha.2⟩
  · exact ⟨ha.1, h.2.1, h.2.2.1, ha.2.trans h.2.2.2⟩
  · exact ⟨ha.1, h.2.1, h.2.2.1, ha.2.trans h.2.2.2⟩
  · refine ⟨ha.1, h.2.1, h.2.2.1.kept ha.2, fun j o t n hj => ?_⟩
    obtain ⟨q1, q2⟩ := h.2.2.2 j o t n hj
    have := hq _ (Array.getElem?_eq_some_iff.mp q2).1 q1
    exact ⟨this.1, this.2.trans q2⟩
  · exact (L own H a x h).2 own' H' hq hb hz
def jj_set (h : jj_H) (a : Nat) (c : jj_C) : jj_H := fun b => if b = a then some c else h b
theorem jj_set_self (h : jj_H) (a : Nat) (c : jj_C) : jj_set h a c a = some c := if_pos rfl
theorem jj_set_ne (h : jj_H) {a b : Nat} (c : jj_C) (n : b ≠ a) : jj_set h a c b = h b := if_neg n
theorem jj_set_set (h : jj_H) (a : Nat) (c d : jj_C) : jj_set (jj_set h a c) a d = jj_set h a d := by
  funext b
  by_cases hb : b = a
  · simp [jj_set, hb]
  · simp [jj_set, hb]
theorem jj_set_same {h : jj_H} {a : Nat} {c : jj_C} (e : h a = some c) : jj_set h a c = h := by
  funext b
  by_cases hb : b = a
  · simp [jj_set, hb, e]
  · simp [jj_set, hb]
/-- a cell of its own is written -/
theorem jj_R.put {G : jj_G} (L : jj_law G) {h : jj_H} {H H' : Heap} {a : Nat} {c c' : jj_C} (hR : jj_R G h H) (hc : h a = some c) (hb : jj_gb G ≤ a) (z : H'.size = H.size) {qa : Nat} (hqa : ∀ own : Nat → Nat, jj_at G own H a c → own qa = a) (hqb : jj_gb G ≤ qa) (oq : ∀ q : Nat, q ≠ qa → H'[q]? = H[q]?) (hn : ∀ own : Nat → Nat, jj_at G own H a c → jj_at G own H' a c') : jj_R G (jj_set h a c') H' := by
  obtain ⟨h1, h2, own, h3⟩ := hR
  have ha := h3 a c hc
  have hao := hqa own ha
  refine ⟨by rw [z]; exact h1, fun q hq => by rw [oq q (by omega)]; exact h2 q hq, own, fun b d hd => ?_⟩
  by_cases hba : b = a
  · subst hba
    rw [jj_set_self] at hd
    cases hd
    exact hn own ha
  · rw [jj_set_ne _ _ hba] at hd
    refine jj_at.kept L (h3 b d hd) (fun q hq ho => ⟨ho, oq q (fun e => hba ?_)⟩) (fun q hq => oq q (by omega)) (by omega)
    rw [e] at ho
    exact ho.symm.trans hao
/-- a new cell -/
theorem jj_R.push {G : jj_G} (L : jj_law G) {h : jj_H} {H H' : Heap} {c' : jj_C} (hR : jj_R G h H) (z : H.size < H'.size) (oq : ∀ q : Nat, q < H.size → H'[q]? = H[q]?) (hn : ∀ own : Nat → Nat, own H.size = H.size → jj_at G own H' H.size c') : h H.size = none ∧ jj_R G (jj_set h H.size c') H' := by
  obtain ⟨h1, h2, own, h3⟩ := hR
  have hnone : h H.size = none := by
    cases hd : h H.size with
    | none => rfl
    | some d => exact absurd (jj_at.own L (h3 _ d hd)).2 (Nat.lt_irrefl _)
  refine ⟨hnone, by omega, fun q hq => by rw [oq q (by omega)]; exact h2 q hq, fun q => if q = H.size then q else own q, fun b d hd => ?_⟩
  by_cases hba : b = H.size
  · subst hba
    rw [jj_set_self] at hd
    cases hd
    exact hn _ (by simp)
  · rw [jj_set_ne _ _ hba] at hd
    refine jj_at.kept L (h3 b d hd) (fun q hq ho => ⟨?_, oq q hq⟩) (fun q hq => oq q (by omega)) (by omega)
    show (if q = H.size then q else own q) = b
    rw [if_neg (by omega)]
    exact ho
