/-! MORE ROWS for Strings -/
theorem jj_to_4_10 {z : Int} (h4 : ¬ z = 4) (h5 : ¬ z = 5) (h6 : ¬ z = 6) (h7 : ¬ z = 7) (h8 : ¬ z = 8) (h9 : ¬ z = 9) (h10 : ¬ z = 10) : z < 4 ∨ 10 < z := by omega
theorem jj_nrm (x : Int) : jj_v (.inl (jj_i2l x)) = jj_v (.inl x) := by
  show Value.int (Int32.ofInt (Int32.ofInt x).toInt) = Value.int (Int32.ofInt x)
  rw [Int32.ofInt_toInt]
section RS3
variable {X : jj_X} {own : String} {cc : ByteArray} {nL pc : Nat} {vs : List (Nat × jj_AV)} {st : List jj_AV} {h : jj_H} {k : Nat} {ret : Option FieldType} {fr lo : Nat} {N : Option jj_AV → jj_H → Prop} {XN : String → Nat → jj_H → Prop}
theorem jr_gst (F : jj_F X own cc nL) (J : jx_G X.1 X.2.2.1) {idx : Nat} {C n d : String} {v : jj_AV} (i : Nat) (hi : (jx_sl (jj_gk X.1))[i]? = some (C, n, d, v)) (q : Cond.fieldLink own idx C n d ∈ lw_all) (hd : decode cc pc = .ok (.getstatic idx, 3)) (kk : jj_J X nL (pc + 3) vs (v :: st) h k) : jj_J X nL pc vs st h k := by
  obtain ⟨G, p, l, e, R, s, m, args, below, meth, c, Q, A⟩ := X
  obtain ⟨hx, hb, hml, ho, hts, hK, hlk, hz, hold⟩ := F
  intro H locs cells slots ls hR hS hc' hs hl
  have hZ := (J.2.1.2.1 s hK.2.2.2.2 s.heap hz hold).1 _ (List.mem_of_getElem? hi)
  exact va_gets (A := fun q => jj_gb G ≤ q) hx hb hZ hS ho (hts _ q) (fun x h => h) hd (kk H locs cells slots ls hR hS hc' hs hl)
theorem jr_gstF (F : jj_F X own cc nL) (J : jx_G X.1 X.2.2.1) {idx : Nat} {C n d : String} (i : Nat) (hi : jx_sn[i]? = some (C, n, d)) (q : Cond.fieldLink own idx C n d ∈ lw_all) (hd : decode cc pc = .ok (.getstatic idx, 3)) (kk : ∀ r : Option Nat, jj_J X nL (pc + 3) vs (.inr (.inr (.inl r)) :: st) h k) : jj_J X nL pc vs st h k := by
  obtain ⟨G, p, l, e, R, s, m, args, below, meth, c, Q, A⟩ := X
  obtain ⟨hx, hb, hml, ho, hts, hK, hlk, hz, hold⟩ := F
  intro H locs cells slots ls hR hS hc' hs hl
  obtain ⟨r, hZ⟩ := (J.2.1.2.1 s hK.2.2.2.2 s.heap hz hold).2.1 _ (List.mem_of_getElem? hi)
  exact va_gets (A := fun q => jj_gb G ≤ q) hx hb hZ hS ho (hts _ q) (fun x h => h) hd (kk r H locs cells slots ls hR hS hc' hs hl)
/-- an int, brought into its range -/
theorem jr_nrm {x : Int} (kk : jj_J X nL pc vs (.inl (jj_i2l x) :: st) h k) : jj_J X nL pc vs (.inl x :: st) h k := by
  intro H locs cells slots ls hR hS hc hs hl
  have := kk H locs cells slots ls hR hS hc hs hl
  have e : ((.inl (jj_i2l x) :: st : List jj_AV).map jj_v) = ((.inl x :: st : List jj_AV).map jj_v) := by
    rw [List.map_cons, List.map_cons, jj_nrm]
  rw [e] at this
  exact this
/-- a byte, a char is answered -/
theorem jr_nret (F : jj_F X own cc nL) {ty : FieldType} (M : jj_M X (some ty) fr lo N XN) {x : Int} (hd : decode cc pc = .ok (.ireturn, 1)) (hn : narrow ty (.int (Int32.ofInt x)) = .int (Int32.ofInt x)) (hN : N (some (.inl x)) h) : jj_J X nL pc vs [.inl x] h k := by
  obtain ⟨G, p, l, e, R, s, m, args, below, meth, c, Q, A⟩ := X
  obtain ⟨hx, hb, hml, ho, hts, hK, hlk, hz, hold⟩ := F
  obtain ⟨hr, -, -, rfl, -⟩ := M
  intro H locs cells slots ls hR hS hc hs hl
  refine W.widen (k := R.cells) (n := R.slots) (by show cells ≤ R.cells; have : cells + k ≤ R.cells := hc; omega) (by show slots ≤ R.slots; have : slots + 4 * k ≤ R.slots := hs; omega) (vx_ret ?_)
  exact W.zret hx hb hr hn (fun t ht hW => ⟨some (.inl x), h, rfl, hN, by rw [ht]; exact hR, jj_S_F hS ht⟩) hS.2.2 hd hlk
theorem jj_charN {x : Int} (hx : 0 ≤ x ∧ x < 256) : narrow .char (.int (Int32.ofInt x)) = .int (Int32.ofInt x) := by
  have key : ∀ n : Nat, n < 256 → narrow .char (.int (Int32.ofInt (n : Int))) = .int (Int32.ofInt (n : Int)) := by decide +kernel
  have := key x.toNat (by omega)
  rwa [show ((x.toNat : Nat) : Int) = x by omega] at this
/-- a byte array is cast to one -/
theorem jr_castB (F : jj_F X own cc nL) (J : jx_G X.1 X.2.2.1) {idx : Nat} {o : Option Nat} (ql : Cond.classLink own idx "[B" ∈ lw_all) (hd : decode cc pc = .ok (.checkcast idx, 3)) (w : ∃ d n f, o = some d ∧ jp_byS h d n f) (kk : jj_J X nL (pc + 3) vs (.inr (.inr (.inl o)) :: st) h k) : jj_J X nL pc vs (.inr (.inr (.inl o)) :: st) h k := by
  obtain ⟨d, n, f, rfl, hby⟩ := w
  obtain ⟨G, p, l, e, R, s, m, args, below, meth, c, Q, A⟩ := X
  obtain ⟨hx, hb, hml, ho, hts, hK, hlk, hz, hold⟩ := F
  intro H locs cells slots ls hR hS hc' hs hl
  obtain ⟨hn, g, hg, hcell⟩ := jp_byAt (G := G) J.2.1.1 hR hby
  exact va_castE hx hb ho (hts _ ql) ⟨_, hcell, rfl, (hK.1.2 2 _ rfl).2⟩ hd (kk H locs cells slots ls hR hS hc' hs hl)
/-- instanceof String, of a String -/
theorem jr_instS (F : jj_F X own cc nL) {idx : Nat} {o : Option Nat} (ql : Cond.classLink own idx "java/lang/String" ∈ lw_all) (hd : decode cc pc = .ok (.instanceof idx, 3)) (w : jp_is h o 25) (kk : jj_J X nL (pc + 3) vs (.inl 1 :: st) h k) : jj_J X nL pc vs (.inr (.inr (.inl o)) :: st) h k := by
  obtain ⟨a, c0, rfl, hc, hci⟩ := w
  obtain ⟨G, p, l, e, R, s, m, args, below, meth, c, Q, A⟩ := X
  obtain ⟨hx, hb, hml, ho, hts, hK, hlk, hz, hold⟩ := F
  intro H locs cells slots ls hR hS hc' hs hl
  exact va_instE hx hb ho (hts _ ql) (jj_recv hK hR hc hci rfl) hd (kk H locs cells slots ls hR hS hc' hs hl)
end RS3
