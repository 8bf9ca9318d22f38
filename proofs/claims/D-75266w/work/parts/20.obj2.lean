section RQ
variable {X : jj_X} {own : String} {cc : ByteArray} {nL pc : Nat} {vs : List (Nat × jj_AV)} {st : List jj_AV} {h : jj_H} {k : Nat}
theorem jr_pi (F : jj_F X own cc nL) {C : String} {T : u_T} {nT ci f idx : Nat} {x : Int} {o : Option Nat} {ty : Nat → FieldType} {K : jj_H → Prop} (hq : jj_cl[ci]? = some (C, T, nT)) (hin : ∀ w ∈ u_ws C T nT, w ∈ lw_all) (hty : ∀ k, k < nT → parseFieldDescriptor (T k).2.2.1 = some (ty k)) (hnm : ∀ a, a < nT → ∀ b, b < nT → a ≠ b → (T a).2.1 ≠ (T b).2.1) (hf : f < nT) (ht : ty f = .int) (hfin : (T f).2.2.2 = false) (q : Cond.fieldLink own idx (T f).1 (T f).2.1 (T f).2.2.1 ∈ lw_all) (hd : decode cc pc = .ok (.putfield idx, 3)) (w : jp_pi h o ci f x K) (kk : ∀ h', K h' → jj_J X nL (pc + 3) vs st h' k) : jj_J X nL pc vs (.inl x :: .inr (.inr (.inl o)) :: st) h k := by
  obtain ⟨a, fs, rfl, hc, w⟩ := w
  exact jj_putJ F hq hin hty hnm hf (Or.inl ⟨hfin, q⟩) (by rw [ht]; rfl) (by rw [ht]; rfl) hc hd (kk _ w)
theorem jr_pz (F : jj_F X own cc nL) {C : String} {T : u_T} {nT ci f idx : Nat} {x : Int} {o : Option Nat} {ty : Nat → FieldType} {K : jj_H → Prop} (hq : jj_cl[ci]? = some (C, T, nT)) (hin : ∀ w ∈ u_ws C T nT, w ∈ lw_all) (hty : ∀ k, k < nT → parseFieldDescriptor (T k).2.2.1 = some (ty k)) (hnm : ∀ a, a < nT → ∀ b, b < nT → a ≠ b → (T a).2.1 ≠ (T b).2.1) (hf : f < nT) (ht : ty f = .boolean) (hfin : (T f).2.2.2 = false) (q : Cond.fieldLink own idx (T f).1 (T f).2.1 (T f).2.2.1 ∈ lw_all) (hd : decode cc pc = .ok (.putfield idx, 3)) (w : jp_pz h o ci f x K) (kk : ∀ h', K h' → jj_J X nL (pc + 3) vs st h' k) : jj_J X nL pc vs (.inl x :: .inr (.inr (.inl o)) :: st) h k := by
  obtain ⟨a, fs, rfl, hc, hx, w⟩ := w
  exact jj_putJ F hq hin hty hnm hf (Or.inl ⟨hfin, q⟩) (by rw [ht]; rcases hx with rfl | rfl <;> rfl) (by rw [ht]; rcases hx with rfl | rfl <;> rfl) hc hd (kk _ w)
theorem jj_nref {ty : FieldType} (ht : ty.isReference = true) (x : Option Nat) : narrow ty (jj_v (.inr (.inr (.inl x)))) = jj_v (.inr (.inr (.inl x))) ∧ fits ty (jj_v (.inr (.inr (.inl x)))) = true := by
  cases ty <;> first | (cases ht; done) | (cases x <;> exact ⟨rfl, rfl⟩)
theorem jr_pr (F : jj_F X own cc nL) {C : String} {T : u_T} {nT ci f idx : Nat} {o x : Option Nat} {ty : Nat → FieldType} {K : jj_H → Prop} (hq : jj_cl[ci]? = some (C, T, nT)) (hin : ∀ w ∈ u_ws C T nT, w ∈ lw_all) (hty : ∀ k, k < nT → parseFieldDescriptor (T k).2.2.1 = some (ty k)) (hnm : ∀ a, a < nT → ∀ b, b < nT → a ≠ b → (T a).2.1 ≠ (T b).2.1) (hf : f < nT) (ht : (ty f).isReference = true) (hfin : (T f).2.2.2 = false) (q : Cond.fieldLink own idx (T f).1 (T f).2.1 (T f).2.2.1 ∈ lw_all) (hd : decode cc pc = .ok (.putfield idx, 3)) (w : jp_pr h o ci f x K) (kk : ∀ h', K h' → jj_J X nL (pc + 3) vs st h' k) : jj_J X nL pc vs (.inr (.inr (.inl x)) :: .inr (.inr (.inl o)) :: st) h k := by
  obtain ⟨a, fs, rfl, hc, w⟩ := w
  exact jj_putJ F hq hin hty hnm hf (Or.inl ⟨hfin, q⟩) (jj_nref ht x).1 (jj_nref ht x).2 hc hd (kk _ w)
theorem jr_piN (F : jj_F X own cc nL) {C host : String} {T : u_T} {nT ci f idx : Nat} {x : Int} {o : Option Nat} {ty : Nat → FieldType} {K : jj_H → Prop} (hq : jj_cl[ci]? = some (C, T, nT)) (hin : ∀ w ∈ u_ws C T nT, w ∈ lw_all) (hty : ∀ k, k < nT → parseFieldDescriptor (T k).2.2.1 = some (ty k)) (hnm : ∀ a, a < nT → ∀ b, b < nT → a ≠ b → (T a).2.1 ≠ (T b).2.1) (hf : f < nT) (ht : ty f = .int) (hfin : (T f).2.2.2 = false) (q : Cond.fieldLinkNest own idx (T f).1 (T f).2.1 (T f).2.2.1 host ∈ lw_tbl) (hd : decode cc pc = .ok (.putfield idx, 3)) (w : jp_pi h o ci f x K) (kk : ∀ h', K h' → jj_J X nL (pc + 3) vs st h' k) : jj_J X nL pc vs (.inl x :: .inr (.inr (.inl o)) :: st) h k := by
  obtain ⟨a, fs, rfl, hc, w⟩ := w
  exact jj_putJ F hq hin hty hnm hf (Or.inr (Or.inl ⟨hfin, host, jj_nwm q rfl⟩)) (by rw [ht]; rfl) (by rw [ht]; rfl) hc hd (kk _ w)
theorem jr_prN (F : jj_F X own cc nL) {C host : String} {T : u_T} {nT ci f idx : Nat} {o x : Option Nat} {ty : Nat → FieldType} {K : jj_H → Prop} (hq : jj_cl[ci]? = some (C, T, nT)) (hin : ∀ w ∈ u_ws C T nT, w ∈ lw_all) (hty : ∀ k, k < nT → parseFieldDescriptor (T k).2.2.1 = some (ty k)) (hnm : ∀ a, a < nT → ∀ b, b < nT → a ≠ b → (T a).2.1 ≠ (T b).2.1) (hf : f < nT) (ht : (ty f).isReference = true) (hfin : (T f).2.2.2 = false) (q : Cond.fieldLinkNest own idx (T f).1 (T f).2.1 (T f).2.2.1 host ∈ lw_tbl) (hd : decode cc pc = .ok (.putfield idx, 3)) (w : jp_pr h o ci f x K) (kk : ∀ h', K h' → jj_J X nL (pc + 3) vs st h' k) : jj_J X nL pc vs (.inr (.inr (.inl x)) :: .inr (.inr (.inl o)) :: st) h k := by
  obtain ⟨a, fs, rfl, hc, w⟩ := w
  exact jj_putJ F hq hin hty hnm hf (Or.inr (Or.inl ⟨hfin, host, jj_nwm q rfl⟩)) (jj_nref ht x).1 (jj_nref ht x).2 hc hd (kk _ w)
theorem jr_piF (F : jj_F X own cc nL) {C : String} {T : u_T} {nT ci f idx : Nat} {x : Int} {o : Option Nat} {ty : Nat → FieldType} {K : jj_H → Prop} (hq : jj_cl[ci]? = some (C, T, nT)) (hin : ∀ w ∈ u_ws C T nT, w ∈ lw_all) (hty : ∀ k, k < nT → parseFieldDescriptor (T k).2.2.1 = some (ty k)) (hnm : ∀ a, a < nT → ∀ b, b < nT → a ≠ b → (T a).2.1 ≠ (T b).2.1) (hf : f < nT) (ht : ty f = .int) (hfin : (T f).2.2.2 = true) (hown : (T f).1 = own) (hi : X.2.2.2.2.2.2.2.2.2.1.name = "<init>") (q : Cond.fieldLink own idx (T f).1 (T f).2.1 (T f).2.2.1 ∈ lw_all) (hd : decode cc pc = .ok (.putfield idx, 3)) (w : jp_pi h o ci f x K) (kk : ∀ h', K h' → jj_J X nL (pc + 3) vs st h' k) : jj_J X nL pc vs (.inl x :: .inr (.inr (.inl o)) :: st) h k := by
  obtain ⟨a, fs, rfl, hc, w⟩ := w
  exact jj_putJ F hq hin hty hnm hf (Or.inr (Or.inr ⟨hfin, hown, hi, q⟩)) (by rw [ht]; rfl) (by rw [ht]; rfl) hc hd (kk _ w)
theorem jr_prF (F : jj_F X own cc nL) {C : String} {T : u_T} {nT ci f idx : Nat} {o x : Option Nat} {ty : Nat → FieldType} {K : jj_H → Prop} (hq : jj_cl[ci]? = some (C, T, nT)) (hin : ∀ w ∈ u_ws C T nT, w ∈ lw_all) (hty : ∀ k, k < nT → parseFieldDescriptor (T k).2.2.1 = some (ty k)) (hnm : ∀ a, a < nT → ∀ b, b < nT → a ≠ b → (T a).2.1 ≠ (T b).2.1) (hf : f < nT) (ht : (ty f).isReference = true) (hfin : (T f).2.2.2 = true) (hown : (T f).1 = own) (hi : X.2.2.2.2.2.2.2.2.2.1.name = "<init>") (q : Cond.fieldLink own idx (T f).1 (T f).2.1 (T f).2.2.1 ∈ lw_all) (hd : decode cc pc = .ok (.putfield idx, 3)) (w : jp_pr h o ci f x K) (kk : ∀ h', K h' → jj_J X nL (pc + 3) vs st h' k) : jj_J X nL pc vs (.inr (.inr (.inl x)) :: .inr (.inr (.inl o)) :: st) h k := by
  obtain ⟨a, fs, rfl, hc, w⟩ := w
  exact jj_putJ F hq hin hty hnm hf (Or.inr (Or.inr ⟨hfin, hown, hi, q⟩)) (jj_nref ht x).1 (jj_nref ht x).2 hc hd (kk _ w)
/-- arrays of whole numbers -/
theorem jj_icAt {G : jj_G} {H : Heap} (hR : jj_R G h H) {a t n : Nat} {f : Int → Int} (hc : h a = some (.inr (.inl (t, n, f)))) : jj_gb G ≤ a ∧ n < 2147483648 ∧ H[a]? = some (jj_ic G t n f) := by
  obtain ⟨-, -, own, h3⟩ := hR
  exact (h3 a _ hc).2
theorem jj_rcAt {G : jj_G} {H : Heap} (hR : jj_R G h H) {a t n : Nat} {f : Int → Option Nat} (hc : h a = some (.inr (.inr (.inl (t, n, f))))) : jj_gb G ≤ a ∧ n < 2147483648 ∧ H[a]? = some (jj_rc G t n f) := by
  obtain ⟨-, -, own, h3⟩ := hR
  exact (h3 a _ hc).2
theorem jj_arrLt {i : Int} {n : Nat} (hin : vp_in (Int32.ofInt i) n) : (Int32.ofInt i).toNatClampNeg < n := Nat.not_le.mp fun q => hin (Or.inr q)
theorem jr_iald (F : jj_F X own cc nL) {i : Int} {o : Option Nat} {K : Int → Prop} (hd : decode cc pc = .ok (.iaload, 1)) (w : jp_al h o 0 i K) (kk : ∀ x, K x → jj_J X nL (pc + 1) vs (.inl x :: st) h k) : jj_J X nL pc vs (.inl i :: .inr (.inr (.inl o)) :: st) h k := by
  obtain ⟨a, n, f, rfl, hc, h1, h2, w⟩ := w
  obtain ⟨G, p, l, e, R, s, m, args, below, meth, c, Q, A⟩ := X
  obtain ⟨hx, hb, hml, ho, hts, hK, hlk, hz, hold⟩ := F
  intro H locs cells slots ls hR hS hc' hs hl
  obtain ⟨-, hn, hcell⟩ := jj_icAt (G := G) hR hc
  obtain ⟨hin, hi⟩ := jj_ix h1 h2 hn
  exact W.iald (v := .int (Int32.ofInt (f i))) hx hb hcell ((hK.1.2 0 _ rfl).1 n (fun j => jj_pv 0 (f (j : Int)))) (fun q => by cases q) (by show ¬ (_ < 0 ∨ (arrV _ _ _).slots.size ≤ _); rw [arrV_size]; exact hin) (by show (arrV _ _ _).slots[_]? = _; rw [arrV_read _ _ (jj_arrLt hin), hi]; rfl) rfl rfl hd (kk _ w H locs cells slots ls hR hS hc' hs hl)
theorem jr_bald (F : jj_F X own cc nL) {i : Int} {o : Option Nat} {K : Int → Prop} (hd : decode cc pc = .ok (.baload, 1)) (w : jp_al h o 2 i K) (kk : ∀ x, K x → jj_J X nL (pc + 1) vs (.inl x :: st) h k) : jj_J X nL pc vs (.inl i :: .inr (.inr (.inl o)) :: st) h k := by
  obtain ⟨a, n, f, rfl, hc, h1, h2, w⟩ := w
  obtain ⟨G, p, l, e, R, s, m, args, below, meth, c, Q, A⟩ := X
  obtain ⟨hx, hb, hml, ho, hts, hK, hlk, hz, hold⟩ := F
  intro H locs cells slots ls hR hS hc' hs hl
  obtain ⟨-, hn, hcell⟩ := jj_icAt (G := G) hR hc
  obtain ⟨hin, hi⟩ := jj_ix h1 h2 hn
  exact W.bald (v := .int (Int32.ofInt (f i))) hx hb hcell ((hK.1.2 2 _ rfl).1 n (fun j => jj_pv 2 (f (j : Int)))) (fun q => by cases q) (by show ¬ (_ < 0 ∨ (arrV _ _ _).slots.size ≤ _); rw [arrV_size]; exact hin) (by show (arrV _ _ _).slots[_]? = _; rw [arrV_read _ _ (jj_arrLt hin), hi]; rfl) rfl rfl hd (kk _ w H locs cells slots ls hR hS hc' hs hl)
theorem jr_lald (F : jj_F X own cc nL) {i : Int} {o : Option Nat} {K : Int → Prop} (hd : decode cc pc = .ok (.laload, 1)) (w : jp_al h o 1 i K) (kk : ∀ x, K x → jj_J X nL (pc + 1) vs (.inr (.inl x) :: st) h k) : jj_J X nL pc vs (.inl i :: .inr (.inr (.inl o)) :: st) h k := by
  obtain ⟨a, n, f, rfl, hc, h1, h2, w⟩ := w
  obtain ⟨G, p, l, e, R, s, m, args, below, meth, c, Q, A⟩ := X
  obtain ⟨hx, hb, hml, ho, hts, hK, hlk, hz, hold⟩ := F
  intro H locs cells slots ls hR hS hc' hs hl
  obtain ⟨-, hn, hcell⟩ := jj_icAt (G := G) hR hc
  obtain ⟨hin, hi⟩ := jj_ix h1 h2 hn
  exact W.lald (v := .long (Int64.ofInt (f i))) hx hb hcell ((hK.1.2 1 _ rfl).1 n (fun j => jj_pv 1 (f (j : Int)))) (fun q => by cases q) (by show ¬ (_ < 0 ∨ (arrV _ _ _).slots.size ≤ _); rw [arrV_size]; exact hin) (by show (arrV _ _ _).slots[_]? = _; rw [arrV_read _ _ (jj_arrLt hin), hi]; rfl) rfl rfl hd (kk _ w H locs cells slots ls hR hS hc' hs hl)
theorem jj_icPut {G : jj_G} (L : jj_law G) {H H1 : Heap} {a t n : Nat} {f : Int → Int} {i x : Int} (hR : jj_R G h H) (hc : h a = some (.inr (.inl (t, n, f)))) (e1 : H1[a]? = some (jj_ic G t n (fun q => if q = i then x else f q))) (e2 : H1.size = H.size) (e3 : ∀ q, q ≠ a → H1[q]? = H[q]?) : jj_R G (jj_set h a (.inr (.inl (t, n, fun j => if j = i then x else f j)))) H1 :=
  jj_R.put L hR hc (jj_icAt hR hc).1 e2 (qa := a) (fun own h => h.1) (jj_icAt hR hc).1 e3 (fun own h => ⟨h.1, h.2.1, h.2.2.1, e1⟩)
theorem jr_iast (F : jj_F X own cc nL) {i x : Int} {o : Option Nat} {K : jj_H → Prop} (hd : decode cc pc = .ok (.iastore, 1)) (w : jp_as h o 0 i x K) (kk : ∀ h', K h' → jj_J X nL (pc + 1) vs st h' k) : jj_J X nL pc vs (.inl x :: .inl i :: .inr (.inr (.inl o)) :: st) h k := by
  obtain ⟨a, n, f, rfl, hc, h1, h2, w⟩ := w
  obtain ⟨G, p, l, e, R, s, m, args, below, meth, c, Q, A⟩ := X
  obtain ⟨hx, hb, hml, ho, hts, hK, hlk, hz, hold⟩ := F
  intro H locs cells slots ls hR hS hc' hs hl
  obtain ⟨hba, hn, hcell⟩ := jj_icAt (G := G) hR hc
  obtain ⟨hin, hi⟩ := jj_ix h1 h2 hn
  refine W.iast hx hb hcell ((hK.1.2 0 _ rfl).1 n (fun j => jj_pv 0 (f (j : Int)))) (fun q => by cases q) (by show ¬ (_ < 0 ∨ (arrV _ _ _).slots.size ≤ _); rw [arrV_size]; exact hin) rfl rfl hd fun H1 e1 e2 e3 => ?_
  exact kk _ w H1 _ cells slots ls (jj_icPut hK.2.1 hR hc (by rw [e1]; exact congrArg some (jj_upd_ic (t := 0) hi)) e2 e3) (hS.put e2 e3 hba) hc' hs hl
theorem jr_last (F : jj_F X own cc nL) {i x : Int} {o : Option Nat} {K : jj_H → Prop} (hd : decode cc pc = .ok (.lastore, 1)) (w : jp_as h o 1 i x K) (kk : ∀ h', K h' → jj_J X nL (pc + 1) vs st h' k) : jj_J X nL pc vs (.inr (.inl x) :: .inl i :: .inr (.inr (.inl o)) :: st) h k := by
  obtain ⟨a, n, f, rfl, hc, h1, h2, w⟩ := w
  obtain ⟨G, p, l, e, R, s, m, args, below, meth, c, Q, A⟩ := X
  obtain ⟨hx, hb, hml, ho, hts, hK, hlk, hz, hold⟩ := F
  intro H locs cells slots ls hR hS hc' hs hl
  obtain ⟨hba, hn, hcell⟩ := jj_icAt (G := G) hR hc
  obtain ⟨hin, hi⟩ := jj_ix h1 h2 hn
  refine W.last hx hb hcell ((hK.1.2 1 _ rfl).1 n (fun j => jj_pv 1 (f (j : Int)))) (fun q => by cases q) (by show ¬ (_ < 0 ∨ (arrV _ _ _).slots.size ≤ _); rw [arrV_size]; exact hin) rfl rfl hd fun H1 e1 e2 e3 => ?_
  exact kk _ w H1 _ cells slots ls (jj_icPut hK.2.1 hR hc (by rw [e1]; exact congrArg some (jj_upd_ic (t := 1) hi)) e2 e3) (hS.put e2 e3 hba) hc' hs hl
theorem jj_byt {x : Int} (hx : -128 ≤ x ∧ x < 128) : narrow .byte (.int (Int32.ofInt x)) = .int (Int32.ofInt x) := by
  have key : ∀ n : Nat, n < 256 → narrow .byte (.int (Int32.ofInt ((n : Int) - 128))) = .int (Int32.ofInt ((n : Int) - 128)) := by decide +kernel
  have := key (x + 128).toNat (by omega)
  rwa [show (((x + 128).toNat : Int) - 128) = x by omega] at this
theorem jr_bast (F : jj_F X own cc nL) {i x : Int} {o : Option Nat} {K : jj_H → Prop} (hd : decode cc pc = .ok (.bastore, 1)) (hxb : -128 ≤ x ∧ x < 128) (w : jp_as h o 2 i x K) (kk : ∀ h', K h' → jj_J X nL (pc + 1) vs st h' k) : jj_J X nL pc vs (.inl x :: .inl i :: .inr (.inr (.inl o)) :: st) h k := by
  obtain ⟨a, n, f, rfl, hc, h1, h2, w⟩ := w
  obtain ⟨G, p, l, e, R, s, m, args, below, meth, c, Q, A⟩ := X
  obtain ⟨hx, hb, hml, ho, hts, hK, hlk, hz, hold⟩ := F
  intro H locs cells slots ls hR hS hc' hs hl
  obtain ⟨hba, hn, hcell⟩ := jj_icAt (G := G) hR hc
  obtain ⟨hin, hi⟩ := jj_ix h1 h2 hn
  refine W.bast hx hb hcell ((hK.1.2 2 _ rfl).1 n (fun j => jj_pv 2 (f (j : Int)))) (fun q => by cases q) (by show ¬ (_ < 0 ∨ (arrV _ _ _).slots.size ≤ _); rw [arrV_size]; exact hin) rfl rfl hd fun H1 e1 e2 e3 => ?_
  exact kk _ w H1 _ cells slots ls (jj_icPut hK.2.1 hR hc (by rw [e1, jj_byt hxb]; exact congrArg some (jj_upd_ic (t := 2) hi)) e2 e3) (hS.put e2 e3 hba) hc' hs hl
theorem jr_alenI (F : jj_F X own cc nL) {t : Nat} {o : Option Nat} {K : Int → Prop} (ht : ∃ (i : Nat) (ty : FieldType), ∀ G : jj_G, (jj_tys G)[i]? = some (jj_gA G t, ty)) (hd : decode cc pc = .ok (.arraylength, 1)) (w : jp_ai h o t K) (kk : ∀ x, K x → jj_J X nL (pc + 1) vs (.inl x :: st) h k) : jj_J X nL pc vs (.inr (.inr (.inl o)) :: st) h k := by
  obtain ⟨a, n, f, rfl, hc, w⟩ := w
  obtain ⟨G, p, l, e, R, s, m, args, below, meth, c, Q, A⟩ := X
  obtain ⟨hx, hb, hml, ho, hts, hK, hlk, hz, hold⟩ := F
  intro H locs cells slots ls hR hS hc' hs hl
  obtain ⟨hba, hn, hcell⟩ := jj_icAt (G := G) hR hc
  obtain ⟨i0, ty, ht⟩ := ht
  exact W.alen (n := Int32.ofInt (n : Int)) hx hb hcell ((hK.1.2 i0 _ (ht G)).1 n (fun j => jj_pv t (f (j : Int)))) (by show (arrV _ _ _).slots.size.toInt32 = _; rw [arrV_size]; exact Int32.ofInt_eq_ofNat.symm) rfl rfl hd (kk _ w H locs cells slots ls hR hS hc' hs hl)
theorem jr_alenR (F : jj_F X own cc nL) {t : Nat} {o : Option Nat} {K : Int → Prop} (ht : ∃ (i : Nat) (ty : FieldType), ∀ G : jj_G, (jj_tys G)[i]? = some (jj_gR G t, ty)) (hd : decode cc pc = .ok (.arraylength, 1)) (w : jp_ar h o t K) (kk : ∀ x, K x → jj_J X nL (pc + 1) vs (.inl x :: st) h k) : jj_J X nL pc vs (.inr (.inr (.inl o)) :: st) h k := by
  obtain ⟨a, n, f, rfl, hc, w⟩ := w
  obtain ⟨G, p, l, e, R, s, m, args, below, meth, c, Q, A⟩ := X
  obtain ⟨hx, hb, hml, ho, hts, hK, hlk, hz, hold⟩ := F
  intro H locs cells slots ls hR hS hc' hs hl
  obtain ⟨hba, hn, hcell⟩ := jj_rcAt (G := G) hR hc
  obtain ⟨i0, ty, ht⟩ := ht
  exact W.alen (n := Int32.ofInt (n : Int)) hx hb hcell ((hK.1.2 i0 _ (ht G)).1 n (fun j => va_rf (f (j : Int)))) (by show (arrV _ _ _).slots.size.toInt32 = _; rw [arrV_size]; exact Int32.ofInt_eq_ofNat.symm) rfl rfl hd (kk _ w H locs cells slots ls hR hS hc' hs hl)
/-- arrays of references -/
theorem jr_aald (F : jj_F X own cc nL) {i : Int} {t : Nat} {o : Option Nat} {K : Option Nat → Prop} (ht : ∃ (i : Nat) (E : String), ∀ G : jj_G, (jj_tys G)[i]? = some (jj_gR G t, FieldType.object E)) (hd : decode cc pc = .ok (.aaload, 1)) (w : jp_rl h o t i K) (kk : ∀ x, K x → jj_J X nL (pc + 1) vs (.inr (.inr (.inl x)) :: st) h k) : jj_J X nL pc vs (.inl i :: .inr (.inr (.inl o)) :: st) h k := by
  obtain ⟨a, n, f, rfl, hc, h1, h2, w⟩ := w
  obtain ⟨G, p, l, e, R, s, m, args, below, meth, c, Q, A⟩ := X
  obtain ⟨hx, hb, hml, ho, hts, hK, hlk, hz, hold⟩ := F
  intro H locs cells slots ls hR hS hc' hs hl
  obtain ⟨-, hn, hcell⟩ := jj_rcAt (G := G) hR hc
  obtain ⟨hin, hi⟩ := jj_ix h1 h2 hn
  obtain ⟨i0, E, ht⟩ := ht
  exact W.aald (v := va_rf (f i)) (ty := .object E) hx hb hcell ((hK.1.2 i0 _ (ht G)).1 n (fun j => va_rf (f (j : Int)))) rfl (fun q => by cases q) (by show ¬ (_ < 0 ∨ (arrV _ _ _).slots.size ≤ _); rw [arrV_size]; exact hin) (by show (arrV _ _ _).slots[_]? = _; rw [arrV_read _ _ (jj_arrLt hin), hi]) rfl rfl hd (kk _ w H locs cells slots ls hR hS hc' hs hl)
theorem jj_upd_rc {G : jj_G} {t n : Nat} {g : Int → Option Nat} {i : Int} {x : Option Nat} {j : Nat} (hi : (j : Int) = i) : (jj_rc G t n g).setSlot j (va_rf x) = jj_rc G t n (fun q => if q = i then x else g q) := by
  unfold jj_rc
  rw [arrV_store]
  congr 1
  funext q
  by_cases hq : q = j
  · subst hq
    simp [updV, hi]
  · have : ¬ (q : Int) = i := fun e => hq (by omega)
    simp [updV, hq, this]
theorem jr_aast (F : jj_F X own cc nL) {i : Int} {t ci : Nat} {C E : String} {T : u_T} {nT : Nat} {o x : Option Nat} {K : jj_H → Prop} (ht : ∃ i : Nat, ∀ G : jj_G, (jj_tys G)[i]? = some (jj_gR G t, FieldType.object E)) (hq : jj_cl[ci]? = some (C, T, nT)) (hasg : C = E ∨ Cond.castable C E ∈ lw_tbl) (hd : decode cc pc = .ok (.aastore, 1)) (w : jp_rs h o t ci i x K) (kk : ∀ h', K h' → jj_J X nL (pc + 1) vs st h' k) : jj_J X nL pc vs (.inr (.inr (.inl x)) :: .inl i :: .inr (.inr (.inl o)) :: st) h k := by
  obtain ⟨a, n, f, b, cb, rfl, hc, h1, h2, rfl, hcb, hci, w⟩ := w
  obtain ⟨G, p, l, e, R, s, m, args, below, meth, c, Q, A⟩ := X
  obtain ⟨hx, hb, hml, ho, hts, hK, hlk, hz, hold⟩ := F
  intro H locs cells slots ls hR hS hc' hs hl
  have hR0 : jj_R G h H := hR
  obtain ⟨hba, hn, hcell⟩ := jj_rcAt hR0 hc
  obtain ⟨hin, hi⟩ := jj_ix h1 h2 hn
  obtain ⟨i0, ht⟩ := ht
  obtain ⟨kA, comp, k1, k2, k3, -⟩ := (hK.1.2 i0 _ (ht G)).2
  obtain ⟨kE, hkE, -⟩ := Vm.findClass_spec k3
  obtain ⟨cellV, g1, g3, g4⟩ := jj_recv hK hR0 hcb hci hq
  obtain ⟨kC, hkC, -⟩ := Vm.findClass_spec g4
  have has : s.vm.assignable cellV.cls comp = true := by
    rcases hasg with rfl | hca
    · exact vb_asgS comp _ k3 g4
    · exact vb_asgC (hK.2.2.2.1 _ (jj_nwm hca rfl)) comp _ k3 g4
  refine W.aast hx hb hcell (fun q h => by cases h) (fun h => by cases h) k1 k2 rfl hkE ⟨fun q => hin (Or.inl q), by show _ < (arrV _ _ _).slots.size; rw [arrV_size]; exact jj_arrLt hin⟩ g1 (fun q h => by rw [h] at g3; cases g3) hkC has rfl rfl hd fun H1 e1 e2 e3 => ?_
  refine kk _ w H1 _ cells slots ls (jj_R.put hK.2.1 hR0 hc hba e2 (qa := a) (fun own h => h.1) hba e3 (fun own h => ⟨h.1, h.2.1, h.2.2.1, ?_⟩)) (hS.put e2 e3 hba) hc' hs hl
  rw [e1]
  exact congrArg some (jj_upd_rc (x := some b) hi)
end RQ
