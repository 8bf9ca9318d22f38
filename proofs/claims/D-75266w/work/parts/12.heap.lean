/-! BRANCHES; the heap's rows; the reference model's cell -/
section RB
variable {X : jj_X} {own : String} {cc : ByteArray} {nL pc : Nat} {vs : List (Nat × jj_AV)} {st : List jj_AV} {h : jj_H} {k : Nat}
theorem jr_icmp_eq (F : jj_F X own cc nL) {x y : Int} {off : Int} {tgt : Nat} (hx : jj_r x) (hy : jj_r y) (hd : decode cc pc = .ok (.if_icmp .eq off, 3)) (ht : (pc : Int) + off = (tgt : Int)) (kt : x = y → jj_J X nL tgt vs st h k) (kf : ¬ x = y → jj_J X nL (pc + 3) vs st h k) : jj_J X nL pc vs (.inl y :: .inl x :: st) h k := fun H locs cells slots ls hR hS hc hs hl => lv_icmp_eq F.exec F.code hd ht (fun c => kt ((jj_ie hx hy).mp c) H locs cells slots ls hR hS hc hs hl) (fun c => kf (fun q => c ((jj_ie hx hy).mpr q)) H locs cells slots ls hR hS hc hs hl)
theorem jr_icmp_ne (F : jj_F X own cc nL) {x y : Int} {off : Int} {tgt : Nat} (hx : jj_r x) (hy : jj_r y) (hd : decode cc pc = .ok (.if_icmp .ne off, 3)) (ht : (pc : Int) + off = (tgt : Int)) (kt : ¬ x = y → jj_J X nL tgt vs st h k) (kf : x = y → jj_J X nL (pc + 3) vs st h k) : jj_J X nL pc vs (.inl y :: .inl x :: st) h k := fun H locs cells slots ls hR hS hc hs hl => lv_icmp_ne F.exec F.code hd ht (fun c => kt (fun q => c ((jj_ie hx hy).mpr q)) H locs cells slots ls hR hS hc hs hl) (fun c => kf ((jj_ie hx hy).mp (by simpa using c)) H locs cells slots ls hR hS hc hs hl)
theorem jr_icmp_lt (F : jj_F X own cc nL) {x y : Int} {off : Int} {tgt : Nat} (hx : jj_r x) (hy : jj_r y) (hd : decode cc pc = .ok (.if_icmp .lt off, 3)) (ht : (pc : Int) + off = (tgt : Int)) (kt : x < y → jj_J X nL tgt vs st h k) (kf : ¬ x < y → jj_J X nL (pc + 3) vs st h k) : jj_J X nL pc vs (.inl y :: .inl x :: st) h k := fun H locs cells slots ls hR hS hc hs hl => lv_icmp_lt F.exec F.code hd ht (fun c => kt ((jj_it hx hy).mp c) H locs cells slots ls hR hS hc hs hl) (fun c => kf (fun q => c ((jj_it hx hy).mpr q)) H locs cells slots ls hR hS hc hs hl)
theorem jr_icmp_ge (F : jj_F X own cc nL) {x y : Int} {off : Int} {tgt : Nat} (hx : jj_r x) (hy : jj_r y) (hd : decode cc pc = .ok (.if_icmp .ge off, 3)) (ht : (pc : Int) + off = (tgt : Int)) (kt : y ≤ x → jj_J X nL tgt vs st h k) (kf : ¬ y ≤ x → jj_J X nL (pc + 3) vs st h k) : jj_J X nL pc vs (.inl y :: .inl x :: st) h k := fun H locs cells slots ls hR hS hc hs hl => lv_icmp_ge F.exec F.code hd ht (fun c => kt ((jj_il hy hx).mp c) H locs cells slots ls hR hS hc hs hl) (fun c => kf (fun q => c ((jj_il hy hx).mpr q)) H locs cells slots ls hR hS hc hs hl)
theorem jr_icmp_gt (F : jj_F X own cc nL) {x y : Int} {off : Int} {tgt : Nat} (hx : jj_r x) (hy : jj_r y) (hd : decode cc pc = .ok (.if_icmp .gt off, 3)) (ht : (pc : Int) + off = (tgt : Int)) (kt : y < x → jj_J X nL tgt vs st h k) (kf : ¬ y < x → jj_J X nL (pc + 3) vs st h k) : jj_J X nL pc vs (.inl y :: .inl x :: st) h k := fun H locs cells slots ls hR hS hc hs hl => lv_icmp_gt F.exec F.code hd ht (fun c => kt ((jj_it hy hx).mp c) H locs cells slots ls hR hS hc hs hl) (fun c => kf (fun q => c ((jj_it hy hx).mpr q)) H locs cells slots ls hR hS hc hs hl)
theorem jr_icmp_le (F : jj_F X own cc nL) {x y : Int} {off : Int} {tgt : Nat} (hx : jj_r x) (hy : jj_r y) (hd : decode cc pc = .ok (.if_icmp .le off, 3)) (ht : (pc : Int) + off = (tgt : Int)) (kt : x ≤ y → jj_J X nL tgt vs st h k) (kf : ¬ x ≤ y → jj_J X nL (pc + 3) vs st h k) : jj_J X nL pc vs (.inl y :: .inl x :: st) h k := fun H locs cells slots ls hR hS hc hs hl => lv_icmp_le F.exec F.code hd ht (fun c => kt ((jj_il hx hy).mp c) H locs cells slots ls hR hS hc hs hl) (fun c => kf (fun q => c ((jj_il hx hy).mpr q)) H locs cells slots ls hR hS hc hs hl)
theorem jj_00 : Int32.ofInt 0 = 0 := rfl
theorem jr_if_eq (F : jj_F X own cc nL) {x : Int} {off : Int} {tgt : Nat} (hx : jj_r x) (hd : decode cc pc = .ok (.ifCond .eq off, 3)) (ht : (pc : Int) + off = (tgt : Int)) (kt : x = 0 → jj_J X nL tgt vs st h k) (kf : ¬ x = 0 → jj_J X nL (pc + 3) vs st h k) : jj_J X nL pc vs (.inl x :: st) h k := fun H locs cells slots ls hR hS hc hs hl => lv_if_eq F.exec F.code hd ht (fun c => kt ((jj_ie hx jj_r0).mp c) H locs cells slots ls hR hS hc hs hl) (fun c => kf (fun q => c ((jj_ie hx jj_r0).mpr q)) H locs cells slots ls hR hS hc hs hl)
theorem jr_if_ne (F : jj_F X own cc nL) {x : Int} {off : Int} {tgt : Nat} (hx : jj_r x) (hd : decode cc pc = .ok (.ifCond .ne off, 3)) (ht : (pc : Int) + off = (tgt : Int)) (kt : ¬ x = 0 → jj_J X nL tgt vs st h k) (kf : x = 0 → jj_J X nL (pc + 3) vs st h k) : jj_J X nL pc vs (.inl x :: st) h k := fun H locs cells slots ls hR hS hc hs hl => lv_if_ne F.exec F.code hd ht (fun c => kt (fun q => c ((jj_ie hx jj_r0).mpr q)) H locs cells slots ls hR hS hc hs hl) (fun c => kf ((jj_ie hx jj_r0).mp (by simpa using c)) H locs cells slots ls hR hS hc hs hl)
theorem jr_if_lt (F : jj_F X own cc nL) {x : Int} {off : Int} {tgt : Nat} (hx : jj_r x) (hd : decode cc pc = .ok (.ifCond .lt off, 3)) (ht : (pc : Int) + off = (tgt : Int)) (kt : x < 0 → jj_J X nL tgt vs st h k) (kf : ¬ x < 0 → jj_J X nL (pc + 3) vs st h k) : jj_J X nL pc vs (.inl x :: st) h k := fun H locs cells slots ls hR hS hc hs hl => lv_if_lt F.exec F.code hd ht (fun c => kt ((jj_it hx jj_r0).mp c) H locs cells slots ls hR hS hc hs hl) (fun c => kf (fun q => c ((jj_it hx jj_r0).mpr q)) H locs cells slots ls hR hS hc hs hl)
theorem jr_if_ge (F : jj_F X own cc nL) {x : Int} {off : Int} {tgt : Nat} (hx : jj_r x) (hd : decode cc pc = .ok (.ifCond .ge off, 3)) (ht : (pc : Int) + off = (tgt : Int)) (kt : 0 ≤ x → jj_J X nL tgt vs st h k) (kf : ¬ 0 ≤ x → jj_J X nL (pc + 3) vs st h k) : jj_J X nL pc vs (.inl x :: st) h k := fun H locs cells slots ls hR hS hc hs hl => lv_if_ge F.exec F.code hd ht (fun c => kt ((jj_il jj_r0 hx).mp c) H locs cells slots ls hR hS hc hs hl) (fun c => kf (fun q => c ((jj_il jj_r0 hx).mpr q)) H locs cells slots ls hR hS hc hs hl)
theorem jr_if_gt (F : jj_F X own cc nL) {x : Int} {off : Int} {tgt : Nat} (hx : jj_r x) (hd : decode cc pc = .ok (.ifCond .gt off, 3)) (ht : (pc : Int) + off = (tgt : Int)) (kt : 0 < x → jj_J X nL tgt vs st h k) (kf : ¬ 0 < x → jj_J X nL (pc + 3) vs st h k) : jj_J X nL pc vs (.inl x :: st) h k := fun H locs cells slots ls hR hS hc hs hl => lv_if_gt F.exec F.code hd ht (fun c => kt ((jj_it jj_r0 hx).mp c) H locs cells slots ls hR hS hc hs hl) (fun c => kf (fun q => c ((jj_it jj_r0 hx).mpr q)) H locs cells slots ls hR hS hc hs hl)
theorem jr_if_le (F : jj_F X own cc nL) {x : Int} {off : Int} {tgt : Nat} (hx : jj_r x) (hd : decode cc pc = .ok (.ifCond .le off, 3)) (ht : (pc : Int) + off = (tgt : Int)) (kt : x ≤ 0 → jj_J X nL tgt vs st h k) (kf : ¬ x ≤ 0 → jj_J X nL (pc + 3) vs st h k) : jj_J X nL pc vs (.inl x :: st) h k := fun H locs cells slots ls hR hS hc hs hl => lv_if_le F.exec F.code hd ht (fun c => kt ((jj_il hx jj_r0).mp c) H locs cells slots ls hR hS hc hs hl) (fun c => kf (fun q => c ((jj_il hx jj_r0).mpr q)) H locs cells slots ls hR hS hc hs hl)
/-- longs compared -/
def jj_lc (x y : Int) : Int := if y < x then 1 else if x = y then 0 else -1
theorem jj_lc_e {x y : Int} (hx : jj_rl x) (hy : jj_rl y) : lg_cmp (Int64.ofInt x) (Int64.ofInt y) = Int32.ofInt (jj_lc x y) := by
  have e1 : Int64.ofInt y < Int64.ofInt x ↔ y < x := by rw [Int64.lt_iff_toInt_lt, jj_tl hx, jj_tl hy]
  have e2 := jj_le hx hy
  unfold lg_cmp jj_lc
  by_cases h1 : y < x
  · simp [e1, h1]
  · by_cases h2 : x = y
    · simp [h2]
    · have : ¬ Int64.ofInt x = Int64.ofInt y := fun q => h2 (e2.mp q)
      simp [e1, h1, h2, this]
theorem jj_lc_r (x y : Int) : jj_r (jj_lc x y) := by
  unfold jj_lc jj_r
  split
  · omega
  · split <;> omega
theorem jr_lcmp (F : jj_F X own cc nL) {x y : Int} (hx : jj_rl x) (hy : jj_rl y) (hd : decode cc pc = .ok (.lcmp, 1)) (kk : jj_J X nL (pc + 1) vs (.inl (jj_lc x y) :: st) h k) : jj_J X nL pc vs (.inr (.inl y) :: .inr (.inl x) :: st) h k := fun H locs cells slots ls hR hS hc hs hl => W.lcmp F.exec F.code hd (by rw [jj_lc_e hx hy]; exact kk H locs cells slots ls hR hS hc hs hl)
theorem jj_lc_eq (x y : Int) : jj_lc x y = 0 ↔ x = y := by unfold jj_lc; split <;> (try split) <;> omega
theorem jj_lc_lt (x y : Int) : jj_lc x y < 0 ↔ x < y := by unfold jj_lc; split <;> (try split) <;> omega
theorem jj_lc_ge (x y : Int) : 0 ≤ jj_lc x y ↔ y ≤ x := by unfold jj_lc; split <;> (try split) <;> omega
theorem jj_lc_gt (x y : Int) : 0 < jj_lc x y ↔ y < x := by unfold jj_lc; split <;> (try split) <;> omega
theorem jj_lc_le (x y : Int) : jj_lc x y ≤ 0 ↔ x ≤ y := by unfold jj_lc; split <;> (try split) <;> omega
theorem jr_lc_eq (F : jj_F X own cc nL) {x y off : Int} {tgt : Nat} (hx : jj_rl x) (hy : jj_rl y) (hd : decode cc pc = .ok (.lcmp, 1)) (hd1 : decode cc (pc + 1) = .ok (.ifCond .eq off, 3)) (ht : ((pc + 1 : Nat) : Int) + off = (tgt : Int)) (kt : x = y → jj_J X nL tgt vs st h k) (kf : ¬ x = y → jj_J X nL (pc + 1 + 3) vs st h k) : jj_J X nL pc vs (.inr (.inl y) :: .inr (.inl x) :: st) h k := jr_lcmp F hx hy hd (jr_if_eq F (jj_lc_r x y) hd1 ht (fun c => kt ((jj_lc_eq x y).mp c)) (fun c => kf (fun q => c ((jj_lc_eq x y).mpr q))))
theorem jr_lc_ne (F : jj_F X own cc nL) {x y off : Int} {tgt : Nat} (hx : jj_rl x) (hy : jj_rl y) (hd : decode cc pc = .ok (.lcmp, 1)) (hd1 : decode cc (pc + 1) = .ok (.ifCond .ne off, 3)) (ht : ((pc + 1 : Nat) : Int) + off = (tgt : Int)) (kt : ¬ x = y → jj_J X nL tgt vs st h k) (kf : x = y → jj_J X nL (pc + 1 + 3) vs st h k) : jj_J X nL pc vs (.inr (.inl y) :: .inr (.inl x) :: st) h k := jr_lcmp F hx hy hd (jr_if_ne F (jj_lc_r x y) hd1 ht (fun c => kt (fun q => c ((jj_lc_eq x y).mpr q))) (fun c => kf ((jj_lc_eq x y).mp c)))
theorem jr_lc_lt (F : jj_F X own cc nL) {x y off : Int} {tgt : Nat} (hx : jj_rl x) (hy : jj_rl y) (hd : decode cc pc = .ok (.lcmp, 1)) (hd1 : decode cc (pc + 1) = .ok (.ifCond .lt off, 3)) (ht : ((pc + 1 : Nat) : Int) + off = (tgt : Int)) (kt : x < y → jj_J X nL tgt vs st h k) (kf : ¬ x < y → jj_J X nL (pc + 1 + 3) vs st h k) : jj_J X nL pc vs (.inr (.inl y) :: .inr (.inl x) :: st) h k := jr_lcmp F hx hy hd (jr_if_lt F (jj_lc_r x y) hd1 ht (fun c => kt ((jj_lc_lt x y).mp c)) (fun c => kf (fun q => c ((jj_lc_lt x y).mpr q))))
theorem jr_lc_ge (F : jj_F X own cc nL) {x y off : Int} {tgt : Nat} (hx : jj_rl x) (hy : jj_rl y) (hd : decode cc pc = .ok (.lcmp, 1)) (hd1 : decode cc (pc + 1) = .ok (.ifCond .ge off, 3)) (ht : ((pc + 1 : Nat) : Int) + off = (tgt : Int)) (kt : y ≤ x → jj_J X nL tgt vs st h k) (kf : ¬ y ≤ x → jj_J X nL (pc + 1 + 3) vs st h k) : jj_J X nL pc vs (.inr (.inl y) :: .inr (.inl x) :: st) h k := jr_lcmp F hx hy hd (jr_if_ge F (jj_lc_r x y) hd1 ht (fun c => kt ((jj_lc_ge x y).mp c)) (fun c => kf (fun q => c ((jj_lc_ge x y).mpr q))))
theorem jr_lc_gt (F : jj_F X own cc nL) {x y off : Int} {tgt : Nat} (hx : jj_rl x) (hy : jj_rl y) (hd : decode cc pc = .ok (.lcmp, 1)) (hd1 : decode cc (pc + 1) = .ok (.ifCond .gt off, 3)) (ht : ((pc + 1 : Nat) : Int) + off = (tgt : Int)) (kt : y < x → jj_J X nL tgt vs st h k) (kf : ¬ y < x → jj_J X nL (pc + 1 + 3) vs st h k) : jj_J X nL pc vs (.inr (.inl y) :: .inr (.inl x) :: st) h k := jr_lcmp F hx hy hd (jr_if_gt F (jj_lc_r x y) hd1 ht (fun c => kt ((jj_lc_gt x y).mp c)) (fun c => kf (fun q => c ((jj_lc_gt x y).mpr q))))
theorem jr_lc_le (F : jj_F X own cc nL) {x y off : Int} {tgt : Nat} (hx : jj_rl x) (hy : jj_rl y) (hd : decode cc pc = .ok (.lcmp, 1)) (hd1 : decode cc (pc + 1) = .ok (.ifCond .le off, 3)) (ht : ((pc + 1 : Nat) : Int) + off = (tgt : Int)) (kt : x ≤ y → jj_J X nL tgt vs st h k) (kf : ¬ x ≤ y → jj_J X nL (pc + 1 + 3) vs st h k) : jj_J X nL pc vs (.inr (.inl y) :: .inr (.inl x) :: st) h k := jr_lcmp F hx hy hd (jr_if_le F (jj_lc_r x y) hd1 ht (fun c => kt ((jj_lc_le x y).mp c)) (fun c => kf (fun q => c ((jj_lc_le x y).mpr q))))
theorem jr_tabIn (F : jj_F X own cc nL) {dflt lo hi : Int} {offs : Array Int} {len : Nat} {x off : Int} {tgt : Nat} (hx : jj_r x) (hd : decode cc pc = .ok (.tableswitch dflt lo hi offs, len)) (h1 : ¬ x < lo) (h2 : ¬ hi < x) (ho : offs[(x - lo).toNat]? = some off) (ht : (pc : Int) + off = (tgt : Int)) (kk : jj_J X nL tgt vs st h k) : jj_J X nL pc vs (.inl x :: st) h k := fun H locs cells slots ls hR hS hc hs hl => lv_tableIn F.exec F.code hd (by rw [jj_ti hx]; exact h1) (by rw [jj_ti hx]; exact h2) (by rw [jj_ti hx]; exact ho) ht (kk H locs cells slots ls hR hS hc hs hl)
theorem jr_tabOut (F : jj_F X own cc nL) {dflt lo hi : Int} {offs : Array Int} {len : Nat} {x : Int} {tgt : Nat} (hx : jj_r x) (hd : decode cc pc = .ok (.tableswitch dflt lo hi offs, len)) (h1 : x < lo ∨ hi < x) (ht : (pc : Int) + dflt = (tgt : Int)) (kk : jj_J X nL tgt vs st h k) : jj_J X nL pc vs (.inl x :: st) h k := fun H locs cells slots ls hR hS hc hs hl => lv_tableOut F.exec F.code hd (by rw [jj_ti hx]; exact h1) ht (kk H locs cells slots ls hR hS hc hs hl)
end RB
theorem jj_ob.at {G : jj_G} {H : Heap} {a : Nat} {o : jj_O} (h : jj_ob G H a o) : va_P (jj_gD G) jj_cl [(a, .inr (o.1, o.2.map jj_v))] H := by
  intro i q hi
  have hz : i < 1 := (List.getElem?_eq_some_iff.mp hi).1
  rw [show i = 0 by omega] at hi
  cases hi
  obtain ⟨r, h1, -, h3⟩ := h
  exact ⟨r, h1, h3⟩
/-- the model's cell in a heap -/
def jj_mh (h0 : jj_H) (m0 : Nat) (ms : jj_MS) : jj_H := jj_set h0 m0 (.inr (.inr (.inr (.inl ms))))
def jj_mI (ms : jj_MS) (f : Nat) (x : Int) : jj_MS := (fun j => if j = f then x else ms.1 j, ms.2)
def jj_mA (ms : jj_MS) (f : Nat) (i x : Int) : jj_MS := (ms.1, fun j => if j = f then (fun n => if n = i then x else ms.2 j n) else ms.2 j)
theorem jj_mf_get (m0 : Nat) (ms : jj_MS) {f : Nat} (hf : f < 45) : (jj_mf m0 ms)[f]? = some (jj_mv m0 ms f) := by
  unfold jj_mf
  rw [List.getElem?_map, List.getElem?_range hf]
  rfl
theorem jj_mf_set (m0 : Nat) (ms : jj_MS) {f : Nat} {x : Int} (hf : f < 45) (ha : jj_mt f = none) : (jj_mf m0 ms).set f (if f = 42 then .inr (.inl x) else .inl x) = jj_mf m0 (jj_mI ms f x) := by
  apply List.ext_getElem?
  intro j
  by_cases hj : j < 45
  · rw [jj_mf_get m0 _ hj, List.getElem?_set]
    by_cases e : f = j
    · subst e
      rw [if_pos rfl, if_pos (by simp [jj_mf]; exact hf)]
      unfold jj_mv
      rw [ha]
      by_cases e2 : f = 42 <;> simp [jj_mI, e2]
    · rw [if_neg e, jj_mf_get m0 _ hj]
      congr 1
      unfold jj_mv
      cases hm : jj_mt j with
      | some q => rfl
      | none => simp [jj_mI, Ne.symm e]
  · have h1 : (jj_mf m0 (jj_mI ms f x)).length ≤ j := by simp [jj_mf]; omega
    have h2 : ((jj_mf m0 ms).set f (if f = 42 then .inr (.inl x) else .inl x)).length ≤ j := by simp [jj_mf]; omega
    rw [List.getElem?_eq_none h1, List.getElem?_eq_none h2]
section RM
variable {X : jj_X} {cc : ByteArray} {nL pc : Nat} {vs : List (Nat × jj_AV)} {st : List jj_AV} {h0 : jj_H} {m0 : Nat} {ms : jj_MS} {k : Nat}
theorem jj_mh_at {G : jj_G} {H : Heap} (hR : jj_R G (jj_mh h0 m0 ms) H) : ∃ own : Nat → Nat, jj_at G own H m0 (.inr (.inr (.inr (.inl ms)))) := by
  obtain ⟨-, -, own, h3⟩ := hR
  exact ⟨own, h3 m0 _ (jj_set_self _ _ _)⟩
theorem jm_get (F : jj_F X RX3 cc nL) {f idx : Nat} {v : jj_AV} (hf : f < 45) (q : Cond.fieldLink RX3 idx RX3 (TX3 f).2.1 (TX3 f).2.2.1 ∈ lw_all) (ht : (TX3 f).1 = RX3) (hv : jj_mv m0 ms f = v) (hd : decode cc pc = .ok (.getfield idx, 3)) (kk : jj_J X nL (pc + 3) vs (v :: st) (jj_mh h0 m0 ms) k) : jj_J X nL pc vs (.inr (.inr (.inl (some m0))) :: st) (jj_mh h0 m0 ms) k := by
  subst hv
  obtain ⟨G, p, l, e, R, s, m, args, below, meth, c, Q, A⟩ := X
  obtain ⟨hx, hb, hml, ho, hts, hK, hlk, hz, hold⟩ := F
  intro H locs cells slots ls hR hS hc hs hl
  obtain ⟨own, ho1, hob, hat, -⟩ := jj_mh_at (G := G) hR
  refine va_get (T := TX3) (N := 45) (ci := 0) (C := RX3) hx hb hts in_X3 ho hK.1 (jj_ob.at hat) 0 rfl rfl f hf (hts _ q) ?_ (v := jj_v (jj_mv m0 ms f)) ?_ hd (kk H locs cells slots ls hR hS hc hs hl)
  · rw [ht]; exact fun x h => h
  · show ((jj_mf m0 ms).map jj_v)[f]? = _
    rw [List.getElem?_map, jj_mf_get m0 ms hf]; rfl
end RM
