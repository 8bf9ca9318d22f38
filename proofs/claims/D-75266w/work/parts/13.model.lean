/-! STORES into objects and into the model's arrays -/
section RP
variable {X : jj_X} {own : String} {cc : ByteArray} {nL pc : Nat} {vs : List (Nat × jj_AV)} {st : List jj_AV} {h : jj_H} {k : Nat}
theorem jj_putW {G : jj_G} {p : Program} {l : Launch} {e : Env} {R : Room} {s : State} {m : MethodId} {args : Array Value} {below : List Frame} {meth : Method} {c : Code} {H : Heap} {locs : List Loc} {cells slots : Nat} {Q : State → Prop} {ls : Array Slot} {rest : List Value} {A : Nat → Prop} {a : Nat}
    (hexec : p.tables.exec = Jvm.exec) (hb : c.code = cc) {ref C : String} {T : u_T} {N0 ci index : Nat} (hts : ∀ w ∈ lw_all, w.before args s = true) (hin : ∀ w ∈ u_ws C T N0, w ∈ lw_all) (ty0 : Nat → FieldType) (hty : ∀ k, k < N0 → parseFieldDescriptor (T k).2.2.1 = some (ty0 k)) (hnm : ∀ a, a < N0 → ∀ b, b < N0 → a ≠ b → (T a).2.1 ≠ (T b).2.1) (hown : s.vm.findClass own = some m.cls) (hK : va_K (jj_gD G) jj_cl (jj_tys G) s) (hS0 : va_S A s.heap H locs) (hA : A a) {fs : List jj_AV} (ho : jj_ob G H a (ci, fs)) (hc : jj_cl[ci]? = some (C, T, N0)) (f : Nat) (hk : f < N0) (hlink : (Cond.fieldLink own index ref (T f).2.1 (T f).2.2.1).before args s = true) (hsame : ∀ x, s.fieldFound? (T f).1 (T f).2.1 (T f).2.2.1 = some x → s.fieldFound? ref (T f).2.1 (T f).2.2.1 = some x) (hfin : (T f).2.2.2 = false) {v : jj_AV} (hn : narrow (ty0 f) (jj_v v) = jj_v v) (hfit : fits (ty0 f) (jj_v v) = true)
    (hdg : decode cc pc = .ok (.putfield index, 3)) (kk : ∀ (H1 : Heap) (locs1 : List Loc), jj_ob G H1 a (ci, fs.set f v) → H1.size = H.size → (∀ q, q ≠ a → H1[q]? = H[q]?) → va_S A s.heap H1 locs1 → W p l e R s m args below meth c H1 locs1 cells slots Q (F0 m (pc + 3) ls rest)) : W p l e R s m args below meth c H locs cells slots Q (F0 m pc ls (jj_v v :: .ref a :: rest)) := by
  have hap := va_apart (own := own) hts hin ty0 hty hnm hK hc
  obtain ⟨r, h1, hlen, cell, q1, q2, q3, q4⟩ := ho
  have hr : r = (C, T, N0) := Option.some.inj (h1.symm.trans hc)
  subst hr
  obtain ⟨hS, hfc, kC, hkC, hkind⟩ := hK.1 ci _ hc
  obtain ⟨cf, kf, fi, fd, hi, hsl⟩ := hS f hk
  have hlay := hts _ (hin _ (u_in_lay hk))
  unfold u_lay at hlay
  rw [if_neg (by rw [hfin]; decide)] at hlay
  have hst := (u_facts hfc hkC (u_lays hts hin hk) hi).1
  have h6 := u_store hfc hkC hkind hlay hi (hty f hk) hn hfit
  have hl : f < (fs.map jj_v).length := by
    have hlen : fs.length = N0 := hlen
    rw [List.length_map]; omega
  refine W.putK hexec hb (f := fd) ⟨hown, hlink, ⟨_, _, _, hsame _ hi⟩, hst⟩ (by rw [q2]; exact h6) q1 q3 (by rw [hsl]; exact k2_hasslot (q4 f hk)) rfl rfl hdg fun H' e1 e2 e3 => ?_
  rw [hsl] at e1 ⊢
  refine kk H' _ ⟨_, hc, by simpa using hlen, ?_⟩ e2 e3 (hS0.put e2 e3 hA)
  have e9 : (fs.set f v).map jj_v = (fs.map jj_v).set f (jj_v v) := List.map_set
  show t_OB _ _ _ _ _ (vp_V ((fs.set f v).map jj_v))
  rw [e9]
  exact t_OB.to (V := updV (vp_V (fs.map jj_v)) f (jj_v v)) ⟨_, e1, q2, q3, t_set q4 hap hk (jj_v v)⟩ (fun j _ => vp_updV_set hl (jj_v v) j)
end RP
section RM2
variable {X : jj_X} {cc : ByteArray} {nL pc : Nat} {vs : List (Nat × jj_AV)} {st : List jj_AV} {h0 : jj_H} {m0 : Nat} {ms : jj_MS} {k : Nat}
theorem jm_put (F : jj_F X RX3 cc nL) {f idx : Nat} {x : Int} {v : jj_AV} (hf : f < 45) (q : Cond.fieldLink RX3 idx RX3 (TX3 f).2.1 (TX3 f).2.2.1 ∈ lw_all) (ht : (TX3 f).1 = RX3) (ha : jj_mt f = none) (hfin : (TX3 f).2.2.2 = false) (hv : (if f = 42 then (.inr (.inl x) : jj_AV) else .inl x) = v) (hn : narrow (tyX3 f) (jj_v v) = jj_v v) (hfit : fits (tyX3 f) (jj_v v) = true) (hd : decode cc pc = .ok (.putfield idx, 3)) (kk : jj_J X nL (pc + 3) vs st (jj_mh h0 m0 (jj_mI ms f x)) k) : jj_J X nL pc vs (v :: .inr (.inr (.inl (some m0))) :: st) (jj_mh h0 m0 ms) k := by
  obtain ⟨G, p, l, e, R, s, m, args, below, meth, c, Q, A⟩ := X
  obtain ⟨hx, hb, hml, ho, hts, hK, hlk, hz, hold⟩ := F
  intro H locs cells slots ls hR hS hc hs hl
  have hR0 : jj_R G (jj_mh h0 m0 ms) H := hR
  obtain ⟨own, ho1, hob, hat, -⟩ := jj_mh_at hR0
  refine jj_putW (G := G) (C := RX3) (T := TX3) (N0 := 45) (ci := 0) hx hb hts in_X3 tyX3 tyX3_ok nmX3 ho hK.1 hS hob hat rfl f hf (hts _ q) (by rw [ht]; exact fun x h => h) hfin hn hfit hd fun H1 locs1 e1 e2 e3 hS1 => ?_
  refine kk H1 locs1 cells slots ls ?_ hS1 hc hs hl
  have e4 : jj_mh h0 m0 (jj_mI ms f x) = jj_set (jj_mh h0 m0 ms) m0 (.inr (.inr (.inr (.inl (jj_mI ms f x))))) := (jj_set_set _ _ _ _).symm
  show jj_R G (jj_mh h0 m0 (jj_mI ms f x)) H1
  rw [e4]
  refine jj_R.put hK.2.1 hR0 (jj_set_self _ _ _) hob e2 (qa := m0) (fun own h => h.1) hob e3 (fun own h => ⟨h.1, h.2.1, ?_, fun j o t n hj => ?_⟩)
  · rw [← jj_mf_set m0 ms hf ha, hv]; exact e1
  · obtain ⟨g1, g2⟩ := h.2.2.2 j o t n hj
    refine ⟨g1, ?_⟩
    rw [e3 _ (by omega)]
    exact g2
/-- an element of an array of the model -/
theorem jm_iald (F : jj_F X RX3 cc nL) {f o n : Nat} {i : Int} (hj : jj_mt f = some (o, 0, n)) (hn : n < 2147483648) (h1 : 0 ≤ i) (h2 : i < n) (hd : decode cc pc = .ok (.iaload, 1)) (kk : jj_J X nL (pc + 1) vs (.inl (ms.2 f i) :: st) (jj_mh h0 m0 ms) k) : jj_J X nL pc vs (.inl i :: .inr (.inr (.inl (some (m0 + 1 + o)))) :: st) (jj_mh h0 m0 ms) k := by
  obtain ⟨G, p, l, e, R, s, m, args, below, meth, c, Q, A⟩ := X
  obtain ⟨hx, hb, hml, ho, hts, hK, hlk, hz, hold⟩ := F
  intro H locs cells slots ls hR hS hc hs hl
  obtain ⟨own, -, -, -, hat⟩ := jj_mh_at (G := G) hR
  obtain ⟨-, hcell⟩ := hat f o 0 n hj
  obtain ⟨hin, hi⟩ := jj_ix h1 h2 hn
  have hlt : (Int32.ofInt i).toNatClampNeg < n := Nat.not_le.mp fun q => hin (Or.inr q)
  exact W.iald (v := .int (Int32.ofInt (ms.2 f i))) hx hb hcell ((hK.1.2 0 _ rfl).1 n (fun j => jj_pv 0 (ms.2 f (j : Int)))) (fun q => by cases q) (by show ¬ (_ < 0 ∨ (arrV _ _ _).slots.size ≤ _); rw [arrV_size]; exact hin) (by show (arrV _ _ _).slots[_]? = _; rw [arrV_read _ _ hlt, hi]; rfl) rfl rfl hd (kk H locs cells slots ls hR hS hc hs hl)
theorem jm_lald (F : jj_F X RX3 cc nL) {f o n : Nat} {i : Int} (hj : jj_mt f = some (o, 1, n)) (hn : n < 2147483648) (h1 : 0 ≤ i) (h2 : i < n) (hd : decode cc pc = .ok (.laload, 1)) (kk : jj_J X nL (pc + 1) vs (.inr (.inl (ms.2 f i)) :: st) (jj_mh h0 m0 ms) k) : jj_J X nL pc vs (.inl i :: .inr (.inr (.inl (some (m0 + 1 + o)))) :: st) (jj_mh h0 m0 ms) k := by
  obtain ⟨G, p, l, e, R, s, m, args, below, meth, c, Q, A⟩ := X
  obtain ⟨hx, hb, hml, ho, hts, hK, hlk, hz, hold⟩ := F
  intro H locs cells slots ls hR hS hc hs hl
  obtain ⟨own, -, -, -, hat⟩ := jj_mh_at (G := G) hR
  obtain ⟨-, hcell⟩ := hat f o 1 n hj
  obtain ⟨hin, hi⟩ := jj_ix h1 h2 hn
  have hlt : (Int32.ofInt i).toNatClampNeg < n := Nat.not_le.mp fun q => hin (Or.inr q)
  exact W.lald (v := .long (Int64.ofInt (ms.2 f i))) hx hb hcell ((hK.1.2 1 _ rfl).1 n (fun j => jj_pv 1 (ms.2 f (j : Int)))) (fun q => by cases q) (by show ¬ (_ < 0 ∨ (arrV _ _ _).slots.size ≤ _); rw [arrV_size]; exact hin) (by show (arrV _ _ _).slots[_]? = _; rw [arrV_read _ _ hlt, hi]; rfl) rfl rfl hd (kk H locs cells slots ls hR hS hc hs hl)
theorem jm_zald (F : jj_F X RX3 cc nL) {f o n : Nat} {i : Int} (hj : jj_mt f = some (o, 3, n)) (hn : n < 2147483648) (h1 : 0 ≤ i) (h2 : i < n) (hd : decode cc pc = .ok (.baload, 1)) (kk : jj_J X nL (pc + 1) vs (.inl (ms.2 f i) :: st) (jj_mh h0 m0 ms) k) : jj_J X nL pc vs (.inl i :: .inr (.inr (.inl (some (m0 + 1 + o)))) :: st) (jj_mh h0 m0 ms) k := by
  obtain ⟨G, p, l, e, R, s, m, args, below, meth, c, Q, A⟩ := X
  obtain ⟨hx, hb, hml, ho, hts, hK, hlk, hz, hold⟩ := F
  intro H locs cells slots ls hR hS hc hs hl
  obtain ⟨own, -, -, -, hat⟩ := jj_mh_at (G := G) hR
  obtain ⟨-, hcell⟩ := hat f o 3 n hj
  obtain ⟨hin, hi⟩ := jj_ix h1 h2 hn
  have hlt : (Int32.ofInt i).toNatClampNeg < n := Nat.not_le.mp fun q => hin (Or.inr q)
  exact W.zald (v := .int (Int32.ofInt (ms.2 f i))) hx hb hcell ((hK.1.2 3 _ rfl).1 n (fun j => jj_pv 3 (ms.2 f (j : Int)))) (fun q => by cases q) (by show ¬ (_ < 0 ∨ (arrV _ _ _).slots.size ≤ _); rw [arrV_size]; exact hin) (by show (arrV _ _ _).slots[_]? = _; rw [arrV_read _ _ hlt, hi]; rfl) rfl rfl hd (kk H locs cells slots ls hR hS hc hs hl)
theorem jj_upd_ic {G : jj_G} {t n : Nat} {g : Int → Int} {i x : Int} {j : Nat} (hi : (j : Int) = i) : (jj_ic G t n g).setSlot j (jj_pv t x) = jj_ic G t n (fun q => if q = i then x else g q) := by
  unfold jj_ic
  rw [arrV_store]
  congr 1
  funext q
  by_cases hq : q = j
  · subst hq
    simp [updV, hi]
  · have : ¬ (q : Int) = i := fun e => hq (by omega)
    simp [updV, hq, this]
/-- the model's array f has one element changed in the machine's heap -/
theorem jj_mh_put {G : jj_G} (L : jj_law G) {H H1 : Heap} {f o t n : Nat} {i x : Int} (hR : jj_R G (jj_mh h0 m0 ms) H) (hj : jj_mt f = some (o, t, n)) (e1 : H1[m0 + 1 + o]? = some (jj_ic G t n (fun q => if q = i then x else ms.2 f q))) (e2 : H1.size = H.size) (e3 : ∀ q, q ≠ m0 + 1 + o → H1[q]? = H[q]?) (hinj : ∀ j o' t' n', jj_mt j = some (o', t', n') → j ≠ f → o' ≠ o) : jj_R G (jj_mh h0 m0 (jj_mA ms f i x)) H1 := by
  have e4 : jj_mh h0 m0 (jj_mA ms f i x) = jj_set (jj_mh h0 m0 ms) m0 (.inr (.inr (.inr (.inl (jj_mA ms f i x))))) := (jj_set_set _ _ _ _).symm
  rw [e4]
  obtain ⟨own, -, hob, -, -⟩ := jj_mh_at (G := G) hR
  refine jj_R.put L hR (jj_set_self _ _ _) hob e2 (qa := m0 + 1 + o) (fun own h => (h.2.2.2 f o t n hj).1) (by omega) e3 (fun own h => ⟨h.1, h.2.1, ?_, fun j o' t' n' hj' => ?_⟩)
  · have : jj_mf m0 (jj_mA ms f i x) = jj_mf m0 ms := rfl
    rw [this]
    exact h.2.2.1.kept (e3 _ (by omega))
  · obtain ⟨g1, g2⟩ := h.2.2.2 j o' t' n' hj'
    refine ⟨g1, ?_⟩
    by_cases ej : j = f
    · subst ej
      cases hj.symm.trans hj'
      simp only [jj_mA, if_true]
      exact e1
    · simp only [jj_mA, if_neg ej]
      rw [e3 _ (fun e => hinj j o' t' n' hj' ej (by omega))]
      exact g2
theorem jj_mt_inj : ∀ f, f < 45 → ∀ o t n, jj_mt f = some (o, t, n) → ∀ j o' t' n', jj_mt j = some (o', t', n') → j ≠ f → o' ≠ o := by
  intro f hf o t n h j o' t' n' h' hjf e
  have hj : j < 45 := by
    rcases Nat.lt_or_ge j 45 with q | q
    · exact q
    · exfalso
      obtain ⟨r, rfl⟩ : ∃ r, j = r + 45 := ⟨j - 45, by omega⟩
      simp [jj_mt] at h'
  have key : ∀ f, f < 45 → ∀ j, j < 45 → j ≠ f → ∀ a ∈ jj_mt f, ∀ b ∈ jj_mt j, b.1 ≠ a.1 := by decide +kernel
  exact key f hf j hj hjf _ h _ h' e
theorem jm_iast (F : jj_F X RX3 cc nL) {f o n : Nat} {i x : Int} (hf : f < 45) (hj : jj_mt f = some (o, 0, n)) (hn : n < 2147483648) (h1 : 0 ≤ i) (h2 : i < n) (hd : decode cc pc = .ok (.iastore, 1)) (kk : jj_J X nL (pc + 1) vs st (jj_mh h0 m0 (jj_mA ms f i x)) k) : jj_J X nL pc vs (.inl x :: .inl i :: .inr (.inr (.inl (some (m0 + 1 + o)))) :: st) (jj_mh h0 m0 ms) k := by
  obtain ⟨G, p, l, e, R, s, m, args, below, meth, c, Q, A⟩ := X
  obtain ⟨hx, hb, hml, ho, hts, hK, hlk, hz, hold⟩ := F
  intro H locs cells slots ls hR hS hc hs hl
  have hR0 : jj_R G (jj_mh h0 m0 ms) H := hR
  obtain ⟨own, -, hob, -, hat⟩ := jj_mh_at hR0
  obtain ⟨-, hcell⟩ := hat f o 0 n hj
  obtain ⟨hin, hi⟩ := jj_ix h1 h2 hn
  refine W.iast hx hb hcell ((hK.1.2 0 _ rfl).1 n (fun j => jj_pv 0 (ms.2 f (j : Int)))) (fun q => by cases q) (by show ¬ (_ < 0 ∨ (arrV _ _ _).slots.size ≤ _); rw [arrV_size]; exact hin) rfl rfl hd fun H1 e1 e2 e3 => ?_
  exact kk H1 _ cells slots ls (jj_mh_put hK.2.1 hR0 hj (by rw [e1]; exact congrArg some (jj_upd_ic (t := 0) hi)) e2 e3 (jj_mt_inj f hf o 0 n hj)) (hS.put e2 e3 (by show jj_gb G ≤ _; omega)) hc hs hl
theorem jm_last (F : jj_F X RX3 cc nL) {f o n : Nat} {i x : Int} (hf : f < 45) (hj : jj_mt f = some (o, 1, n)) (hn : n < 2147483648) (h1 : 0 ≤ i) (h2 : i < n) (hd : decode cc pc = .ok (.lastore, 1)) (kk : jj_J X nL (pc + 1) vs st (jj_mh h0 m0 (jj_mA ms f i x)) k) : jj_J X nL pc vs (.inr (.inl x) :: .inl i :: .inr (.inr (.inl (some (m0 + 1 + o)))) :: st) (jj_mh h0 m0 ms) k := by
  obtain ⟨G, p, l, e, R, s, m, args, below, meth, c, Q, A⟩ := X
  obtain ⟨hx, hb, hml, ho, hts, hK, hlk, hz, hold⟩ := F
  intro H locs cells slots ls hR hS hc hs hl
  have hR0 : jj_R G (jj_mh h0 m0 ms) H := hR
  obtain ⟨own, -, hob, -, hat⟩ := jj_mh_at hR0
  obtain ⟨-, hcell⟩ := hat f o 1 n hj
  obtain ⟨hin, hi⟩ := jj_ix h1 h2 hn
  refine W.last hx hb hcell ((hK.1.2 1 _ rfl).1 n (fun j => jj_pv 1 (ms.2 f (j : Int)))) (fun q => by cases q) (by show ¬ (_ < 0 ∨ (arrV _ _ _).slots.size ≤ _); rw [arrV_size]; exact hin) rfl rfl hd fun H1 e1 e2 e3 => ?_
  exact kk H1 _ cells slots ls (jj_mh_put hK.2.1 hR0 hj (by rw [e1]; exact congrArg some (jj_upd_ic (t := 1) hi)) e2 e3 (jj_mt_inj f hf o 1 n hj)) (hS.put e2 e3 (by show jj_gb G ≤ _; omega)) hc hs hl
theorem jm_zast (F : jj_F X RX3 cc nL) {f o n : Nat} {i x : Int} (hf : f < 45) (hj : jj_mt f = some (o, 3, n)) (hn : n < 2147483648) (h1 : 0 ≤ i) (h2 : i < n) (hx01 : x = 0 ∨ x = 1) (hd : decode cc pc = .ok (.bastore, 1)) (kk : jj_J X nL (pc + 1) vs st (jj_mh h0 m0 (jj_mA ms f i x)) k) : jj_J X nL pc vs (.inl x :: .inl i :: .inr (.inr (.inl (some (m0 + 1 + o)))) :: st) (jj_mh h0 m0 ms) k := by
  obtain ⟨G, p, l, e, R, s, m, args, below, meth, c, Q, A⟩ := X
  obtain ⟨hx, hb, hml, ho, hts, hK, hlk, hz, hold⟩ := F
  intro H locs cells slots ls hR hS hc hs hl
  have hR0 : jj_R G (jj_mh h0 m0 ms) H := hR
  obtain ⟨own, -, hob, -, hat⟩ := jj_mh_at hR0
  obtain ⟨-, hcell⟩ := hat f o 3 n hj
  obtain ⟨hin, hi⟩ := jj_ix h1 h2 hn
  refine W.zast hx hb hcell ((hK.1.2 3 _ rfl).1 n (fun j => jj_pv 3 (ms.2 f (j : Int)))) (fun q => by cases q) (by show ¬ (_ < 0 ∨ (arrV _ _ _).slots.size ≤ _); rw [arrV_size]; exact hin) rfl rfl hd fun H1 e1 e2 e3 => ?_
  have e5 : narrow .boolean (.int (Int32.ofInt x)) = jj_pv 3 x := by rcases hx01 with rfl | rfl <;> rfl
  exact kk H1 _ cells slots ls (jj_mh_put hK.2.1 hR0 hj (by rw [e1]; first | exact congrArg some (jj_upd_ic (t := 3) hi) | (rw [e5]; exact congrArg some (jj_upd_ic (t := 3) hi))) e2 e3 (jj_mt_inj f hf o 3 n hj)) (hS.put e2 e3 (by show jj_gb G ≤ _; omega)) hc hs hl
end RM2
