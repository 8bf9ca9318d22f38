/-! StringBuilder: its contracts -/
def ja_o26 (d : Nat) (ml n : Int) : jj_C := .inl (26, [jj_rf (some d), .inl 0, .inl ml, .inl n])
def ja_ba (cap : Nat) (f : Int → Int) : jj_C := .inr (.inl (2, cap, f))
/-- the bytes f are the letters cs, at their start -/
def ja_by (cs : List Int) (cap : Nat) (f : Int → Int) : Prop := cs.length ≤ cap ∧ cap < 1000000 ∧ (∀ i : Nat, i < cs.length → 0 ≤ cs.getD i 0 ∧ cs.getD i 0 < 256 ∧ f i = jj_sb8 (cs.getD i 0)) ∧ ∀ i : Nat, i < cap → -128 ≤ f i ∧ f i < 128
/-- how the builder stands, open; n: its count -/
def ja_sbo (h : jj_H) (a : Nat) (n : Int) (d cap : Nat) (ml : Int) (f : Int → Int) (h' : jj_H) : Prop := h' a = some (ja_o26 d ml n) ∧ h' d = some (ja_ba cap f) ∧ d ≠ a ∧ h d = none ∧ (ml = 0 ∨ ml = 1) ∧ ∀ b c, b ≠ a → h b = some c → h' b = some c
section JBSB
variable {G : jj_G} {l : Launch}
theorem ja_sbc (J : jx_G G l) {h h' : jj_H} {H : Heap} {a d cap : Nat} {cs : List Int} {ml : Int} {f : Int → Int} (hA : ja_sbo h a (cs.length : Int) d cap ml f h') (hB : ja_by cs cap f) (hR : jj_R G h' H) : jj_R G (jj_set h a (jj_sb cs)) H := by
  obtain ⟨g1, g2, g3, g4, g5, g6⟩ := hA
  refine ja_close J.2.1.1 (x := (2, cs.map (fun c => (.inl c : jj_AV)))) (L := [(a, ja_o26 d ml cs.length), (d, ja_ba cap f)]) hR ⟨26, _, _, rfl, rfl, cs, d, cap, ml, f, rfl, rfl, rfl, g3, hB.1, hB.2.1, g5, hB.2.2.1, hB.2.2.2⟩ ?_ ?_ g6
  · intro q hq
    simp only [List.mem_cons, List.not_mem_nil, or_false] at hq
    rcases hq with rfl | rfl
    · exact ⟨g1, trivial⟩
    · exact ⟨g2, trivial⟩
  · intro q hq hne
    simp only [List.mem_cons, List.not_mem_nil, or_false] at hq
    rcases hq with rfl | rfl
    · exact absurd rfl hne
    · exact g4
theorem jb_sb (J : jx_G G l) {y : MethodName} {ws : List Cond} {fr lo : Nat} {As : List jj_AV} {h : jj_H} {K a : Nat} {cs : List Int} (ha : h a = some (jj_sb cs)) {N : Option jj_AV → jj_H → Prop}
    (C : ∀ d cap ml f h1, ja_sbo h a (cs.length : Int) d cap ml f h1 → ja_by cs cap f → jj_Ct G l y ws fr lo As h1 K (fun v h' => ∃ hB cs' d' cap' ml' f', (∀ H, jj_R G h' H → jj_R G hB H) ∧ N v hB ∨ (ja_sbo hB a (cs'.length : Int) d' cap' ml' f' h' ∧ ja_by cs' cap' f' ∧ N v (jj_set hB a (jj_sb cs')))) jj_F0) : jj_Ct G l y ws fr lo As h K N jj_F0 := by
  refine jj_Ct.ex (I := Nat × Nat × Int × (Int → Int)) (Pi := fun i => ja_sbo h a (cs.length : Int) i.1 i.2.1 i.2.2.1 i.2.2.2 (jj_set (jj_set h i.1 (ja_ba i.2.1 i.2.2.2)) a (ja_o26 i.1 i.2.2.1 cs.length)) ∧ ja_by cs i.2.1 i.2.2.2) (hh := fun i => jj_set (jj_set h i.1 (ja_ba i.2.1 i.2.2.2)) a (ja_o26 i.1 i.2.2.1 cs.length)) ?_ (fun i hi => C i.1 i.2.1 i.2.2.1 i.2.2.2 _ hi.1 hi.2) ?_ (fun _ _ _ _ _ _ q => q.elim)
  · intro U hK hR
    rcases ja_open J.2.1.1 hR ha with ⟨L, ⟨ci, fs, R, rfl, hc, hT⟩, hn, hR'⟩ | ⟨-, hx, -⟩ | ⟨-, cell, -, -, -, hx⟩ | hx
    · obtain ⟨cs2, d, cap, ml, f, e1, rfl, rfl, hda, h1, h2, h3, h4, h5⟩ := hT
      cases hc
      have e4 : cs = cs2 := (List.map_inj_right (fun x y hxy => Sum.inl.inj hxy)).mp e1
      subst e4
      have hd : h d = none := hn (d, _) (List.mem_cons_of_mem _ List.mem_cons_self) hda
      refine ⟨(d, cap, ml, f), ⟨⟨jj_set_self _ _ _, ?_, hda, hd, h3, fun b c hb hbc => ?_⟩, h1, h2, h4, h5⟩, ?_⟩
      · show jj_set (jj_set h d _) a _ d = _
        rw [jj_set_ne _ _ hda, jj_set_self]
      · show jj_set (jj_set h d _) a _ b = _
        rw [jj_set_ne _ _ hb, jj_set_ne _ _ (fun e => by rw [e, hd] at hbc; cases hbc)]
        exact hbc
      · rw [ja_ov2] at hR'
        exact hR'
    · rcases hx with hx | hx <;> cases hx
    · cases hx
    · cases hx
  · rintro i v h' H hi ⟨hB, cs', d', cap', ml', f', ⟨q1, q2⟩ | ⟨q1, q2, q3⟩⟩ hR
    · exact ⟨_, q2, q1 H hR⟩
    · exact ⟨_, q3, ja_sbc J q1 q2 hR⟩
theorem jj_shr0i {x : Int} (h0 : 0 ≤ x) (h : x < 2147483648) : jj_shr x 0 = x := by
  have := jj_shr0 (m := x.toNat) (by omega)
  rwa [show ((x.toNat : Nat) : Int) = x by omega] at this
theorem ja_is26 {h : jj_H} {a d : Nat} {ml n : Int} (e : h a = some (ja_o26 d ml n)) : jp_is h (some a) 26 := ⟨a, _, rfl, e, rfl⟩
theorem pJ_copyOfB {gk : Nat → Nat} {d cap : Nat} {f : Int → Int} {n : Int} {Q : Option Nat → jj_H → Prop} {E : String → Nat → jj_H → Prop} {h : jj_H} {k : Nat} (hd : h d = some (ja_ba cap f)) (hc : cap < 1000000) (hcn : (cap : Int) < n) (hn : n < 16777216) (hb : ∀ i : Nat, i < cap → -128 ≤ f i ∧ f i < 128) (hk : 1 + n.toNat / 4 ≤ k) (q : ∀ a1 f', h a1 = none → (∀ i : Nat, (i : Int) < n → f' i = if i < cap then f i else 0) → Q (some a1) (jj_set h a1 (ja_ba n.toNat f'))) : fC_J13_copyOf gk (some d) n Q E h k := by
  refine ⟨d, cap, f, rfl, hd, ⟨by omega, by omega⟩, ⟨by omega, by omega⟩, fun _ => ⟨by omega, hn, hk, fun a1 h1 => ?_⟩, fun c => absurd c (by omega)⟩
  have hda : d ≠ a1 := fun e => by rw [e, h1] at hd; cases hd
  have e1 : jj_set h a1 (.inr (.inl (2, n.toNat, fun _ => 0))) d = some (ja_ba cap f) := (jj_set_ne _ _ hda).trans hd
  refine ⟨d, cap, f, rfl, e1, ⟨by omega, by omega⟩, ⟨by omega, by omega⟩, d, cap, f, a1, n.toNat, _, rfl, Or.inl e1, rfl, jj_set_self _ _ _, by omega, by omega, by omega, by omega, by omega, by omega, by omega, ?_, ?_⟩
  · intro i hi1 hi2
    have := hb i.toNat (by omega)
    rwa [show ((i.toNat : Nat) : Int) = i by omega] at this
  · rw [jj_set_set]
    refine q a1 _ h1 fun i hi => ?_
    show (if (0 : Int) ≤ (i : Int) ∧ (i : Int) < 0 + min (cap : Int) n then f ((i : Int) - 0 + 0) else 0) = _
    by_cases hic : i < cap
    · rw [if_pos (by omega), if_pos hic, show (i : Int) - 0 + 0 = i by omega]
    · rw [if_neg (by omega), if_neg hic]
theorem pJ_newCap {gk : Nat → Nat} {h1 : jj_H} {a d cap : Nat} {ml n : Int} {f : Int → Int} {need : Int} {Q : Int → jj_H → Prop} {E : String → Nat → jj_H → Prop} {k : Nat} (g1 : h1 a = some (ja_o26 d ml n)) (g2 : h1 d = some (ja_ba cap f)) (hneed : (cap : Int) < need) (hn : need < 300000) (q : ∀ v : Int, need ≤ v → v ≤ 2 * need → Q v h1) : fC_J7_newCapacity gk (some a) need Q E h1 k := by
  refine ⟨a, _, some d, rfl, g1, rfl, d, cap, f, rfl, g2, a, _, 0, rfl, g1, rfl, fun v4 h4 v5 h5 => ⟨a, _, 0, rfl, g1, rfl, ?_⟩⟩
  rw [jj_shl0 (by omega) (by omega)] at h4
  have e2 : jj_shl 2 0 = 2 := by decide
  rw [e2]
  refine ⟨⟨by omega, by omega⟩, ⟨by omega, by omega⟩, fun v hv => ?_⟩
  have hvb : need ≤ v ∧ v ≤ 2 * need := by omega
  refine ⟨⟨by omega, by omega⟩, fun c => absurd c (by omega), fun _ => ⟨⟨by omega, by omega⟩, fun c => absurd c (by omega), fun _ => ⟨⟨by omega, by omega⟩, fun _ => ⟨a, _, 0, rfl, g1, rfl, ?_⟩, fun c => absurd c (by omega)⟩⟩⟩
  show Q (jj_shr v 0) h1
  rw [jj_shr0i (by omega) (by omega)]
  exact q v hvb.1 hvb.2
theorem pJ_ensure {gk : Nat → Nat} {h h1 : jj_H} {a d cap : Nat} {cs : List Int} {ml : Int} {f : Int → Int} {need : Int} {Q : jj_H → Prop} {E : String → Nat → jj_H → Prop} {k : Nat} (hA : ja_sbo h a (cs.length : Int) d cap ml f h1) (hB : ja_by cs cap f) (h0 : 0 ≤ need) (hn : need < 300000) (hk : (cap : Int) < need → 1 + need.toNat / 2 ≤ k)
    (q : ∀ (d' cap' : Nat) (f' : Int → Int) (h' : jj_H), need ≤ (cap' : Int) → ja_sbo h a (cs.length : Int) d' cap' ml f' h' → ja_by cs cap' f' → (∀ b c, b ≠ a → h1 b = some c → h' b = some c) → Q h') : fC_J7_ensureCapacityInternal gk (some a) need Q E h1 k := by
  obtain ⟨g1, g2, g3, g4, g5, g6⟩ := id hA
  obtain ⟨b1, b2, b3, b4⟩ := id hB
  refine ⟨a, _, some d, rfl, g1, rfl, d, cap, f, rfl, g2, a, _, 0, rfl, g1, rfl, fun v hv => ?_⟩
  rw [jj_shr0 (by omega)] at hv
  refine ⟨⟨by omega, by omega⟩, fun c => q d cap f h1 (by omega) hA hB (fun _ _ _ e => e), fun c => ⟨a, _, some d, rfl, g1, rfl, ja_is26 g1, ?_⟩⟩
  refine pJ_newCap g1 g2 (by omega) hn fun v1 v2 v3 => ⟨a, _, 0, rfl, g1, rfl, k, Nat.le_refl _, ?_⟩
  rw [jj_shl0 (by omega) (by omega)]
  refine pJ_copyOfB g2 b2 (by omega) (by omega) b4 (by have := hk (by omega); omega) fun d' f' hd' hf' => ?_
  have hda : d' ≠ a := fun e => by rw [e, g1] at hd'; cases hd'
  refine ⟨a, _, rfl, (jj_set_ne _ _ (Ne.symm hda)).trans g1, q d' v1.toNat f' _ (by omega) ⟨jj_set_self _ _ _, ?_, hda, ?_, g5, ?_⟩ ⟨by omega, by omega, fun i hi => ?_, fun i hi => ?_⟩ ?_⟩
  · rw [jj_set_ne _ _ hda, jj_set_self]
  · cases hh : h d' with
    | none => rfl
    | some c => rw [g6 d' c hda hh] at hd'; cases hd'
  · intro b c hb hbc
    have := g6 b c hb hbc
    rw [jj_set_ne _ _ hb, jj_set_ne _ _ (fun e => by rw [e, hd'] at this; cases this)]
    exact this
  · rw [hf' i (by omega), if_pos (by omega)]
    exact b3 i hi
  · rw [hf' i (by omega)]
    by_cases hic : i < cap
    · rw [if_pos hic]; exact b4 i hic
    · rw [if_neg hic]; exact ⟨by omega, by omega⟩
  · intro b c hb hbc
    rw [jj_set_ne _ _ hb, jj_set_ne _ _ (fun e => by rw [e, hd'] at hbc; cases hbc)]
    exact hbc
theorem pJ_isL {gk : Nat → Nat} {h1 : jj_H} {a d : Nat} {ml n : Int} {Q : Int → jj_H → Prop} {E : String → Nat → jj_H → Prop} {k : Nat} (g1 : h1 a = some (ja_o26 d ml n)) (q : Q 1 h1) : fC_J7_isLatin1 gk (some a) Q E h1 k :=
  ⟨⟨by decide, by decide⟩, fun c => absurd c (by decide), fun _ => ⟨a, _, 0, rfl, g1, rfl, ⟨by decide, by decide⟩, fun c => absurd rfl c, fun _ => q⟩⟩
theorem jb_J8_length (J : jx_G G l) : jJ_J8_length G l := by
  intro o Q h k w
  obtain ⟨a, cs, rfl, ha, w⟩ := w
  refine ⟨a, _, 0, rfl, ha, rfl, Nat.zero_le _, jb_sb J ha fun d cap ml f h1 hA hB => ?_⟩
  refine (cC_J8_length J (Q := fun r h' => r = cs.length ∧ h' = h1) (E := jj_F0) ⟨ja_is26 hA.1, a, _, _, rfl, hA.1, rfl, rfl, rfl⟩).to ?_ (fun _ _ _ q => q)
  rintro v h' ⟨r, rfl, rfl, rfl⟩
  exact ⟨h, cs, d, cap, ml, f, Or.inr ⟨hA, hB, _, rfl, by rw [jj_set_same ha]; exact w⟩⟩
theorem jb_J8_charAt (J : jx_G G l) : jJ_J8_charAt G l := by
  intro o i Q h k w
  obtain ⟨a, cs, rfl, ha, h0, hi, w⟩ := w
  refine ⟨a, _, 0, rfl, ha, rfl, Nat.zero_le _, jb_sb J ha fun d cap ml f h1 hA hB => ?_⟩
  obtain ⟨g1, g2, g3, g4, g5, g6⟩ := id hA
  obtain ⟨b1, b2, b3, b4⟩ := id hB
  obtain ⟨c1, c2, c3⟩ := jj_getD_i (P := fun _ => True) b3 h0 hi
  have e9 := (jj_b255 ⟨c1, c2⟩).2
  refine (cC_J8_charAt J (Q := fun r h' => r = cs.getD i.toNat 0 ∧ h' = h1) (E := jj_F0) ⟨ja_is26 g1, ?_⟩).to ?_ (fun _ _ _ q => q)
  · refine ⟨a, _, 0, rfl, g1, rfl, a, _, some d, rfl, g1, rfl, a, _, _, rfl, g1, rfl, d, cap, f, rfl, g2, ⟨by omega, by omega⟩, ?_, fun v hv => ?_⟩
    · rw [jj_shr0 (by omega)]; exact ⟨by omega, by omega⟩
    rw [jj_shr0 (by omega)] at hv
    intro r
    refine ⟨⟨by omega, by omega⟩, fun c => absurd c (by omega), fun _ => ⟨⟨by omega, by omega⟩, ⟨by omega, by omega⟩, fun _ => ⟨⟨by decide, by decide⟩, fun c => absurd rfl c, fun _ => ⟨d, cap, f, rfl, g2, h0, by omega, ?_⟩⟩, fun c => absurd (by omega) c⟩⟩
    show (0 ≤ jj_i2c (jj_and (f i) 255) ∧ jj_i2c (jj_and (f i) 255) < 256) ∧ (0 ≤ jj_i2c (jj_and (f i) 255) ∧ jj_i2c (jj_and (f i) 255) < 256) ∧ (jj_i2c (jj_and (f i) 255) = cs.getD i.toNat 0 ∧ h1 = h1)
    rw [c3, e9]
    exact ⟨⟨c1, c2⟩, ⟨c1, c2⟩, rfl, rfl⟩
  · rintro v h' ⟨r, rfl, rfl, rfl⟩
    exact ⟨h, cs, d, cap, ml, f, Or.inr ⟨hA, hB, _, rfl, by rw [jj_set_same ha]; exact w⟩⟩
theorem jb_J8_setLength (J : jx_G G l) : jJ_J8_setLength G l := by
  intro o n Q h k w
  obtain ⟨a, cs, rfl, ha, rfl, w⟩ := w
  refine ⟨a, _, 0, rfl, ha, rfl, Nat.zero_le _, jb_sb J ha fun d cap ml f h1 hA hB => ?_⟩
  obtain ⟨g1, g2, g3, g4, g5, g6⟩ := id hA
  obtain ⟨b1, b2, b3, b4⟩ := id hB
  refine (cC_J8_setLength J (Q := fun h' => ∃ ml', ja_sbo h a 0 d cap ml' f h') (E := jj_F0) ⟨ja_is26 g1, 0, Nat.le_refl _, ⟨by decide, by decide⟩, fun _ => ⟨ja_is26 g1, 0, Nat.le_refl _, ?_⟩, fun c => absurd (by decide) c⟩).to ?_ (fun _ _ _ q => q)
  · refine ⟨a, _, some d, rfl, g1, rfl, d, cap, f, rfl, g2, a, _, 0, rfl, g1, rfl, fun v hv => ?_⟩
    rw [jj_shr0 (by omega)] at hv
    refine ⟨⟨by omega, by omega⟩, fun _ => ?_, fun c => absurd (by omega) c⟩
    refine ⟨a, _, _, rfl, g1, rfl, ⟨by omega, by omega⟩, ⟨by decide, by decide⟩, fun _ => ⟨a, _, _, rfl, g1, rfl, ⟨by omega, by omega⟩, ⟨by decide, by decide⟩, fun _ => ?_, fun _ => ?_⟩, fun c => absurd (by omega) c⟩
    · exact ⟨a, _, rfl, g1, ml, jj_set_self _ _ _, (jj_set_ne _ _ g3).trans g2, g3, g4, g5, fun b c hb hbc => (jj_set_ne _ _ hb).trans (g6 b c hb hbc)⟩
    · refine ⟨a, _, rfl, g1, Or.inr rfl, a, _, rfl, jj_set_self _ _ _, 1, ?_, ?_, g3, g4, Or.inr rfl, fun b c hb hbc => ?_⟩
      · rw [jj_set_self]; rfl
      · rw [jj_set_set, jj_set_ne _ _ g3]; exact g2
      · rw [jj_set_set, jj_set_ne _ _ hb]; exact g6 b c hb hbc
  · rintro v h' ⟨rfl, ml', q⟩
    exact ⟨h, [], d, cap, ml', f, Or.inr ⟨q, ⟨Nat.zero_le _, b2, fun i hi => absurd hi (Nat.not_lt_zero _), b4⟩, rfl, w⟩⟩
theorem jj_i2b8 {x : Int} (h : 0 ≤ x ∧ x < 256) : jj_i2b x = jj_sb8 x := by
  have key : ∀ n : Nat, n < 256 → jj_i2b (n : Int) = jj_sb8 (n : Int) := by decide +kernel
  have := key x.toNat (by omega)
  rwa [show ((x.toNat : Nat) : Int) = x by omega] at this
theorem jj_lay_by {cs ds : List Int} {cap : Nat} {f : Int → Int} (hB : ja_by cs cap f) (hd : ∀ i : Nat, i < ds.length → 0 ≤ ds.getD i 0 ∧ ds.getD i 0 < 256) (hl : cs.length + ds.length ≤ cap) : ja_by (cs ++ ds) cap (jj_lay ds cs.length f) := by
  obtain ⟨b1, b2, b3, b4⟩ := hB
  refine ⟨by rw [List.length_append]; exact hl, b2, fun i hi => ?_, fun i hi => ?_⟩
  · rw [List.length_append] at hi
    unfold jj_lay
    rw [List.getD_eq_getElem?_getD, List.getElem?_append]
    by_cases hc : i < cs.length
    · rw [if_pos hc, if_neg (by omega), ← List.getD_eq_getElem?_getD]
      exact b3 i hc
    · rw [if_neg hc, if_pos (by omega), ← List.getD_eq_getElem?_getD, show ((i : Int) - (cs.length : Int)).toNat = i - cs.length by omega]
      exact ⟨(hd _ (by omega)).1, (hd _ (by omega)).2, rfl⟩
  · unfold jj_lay
    by_cases hc : (cs.length : Int) ≤ (i : Int) ∧ (i : Int) < (cs.length : Int) + (ds.length : Int)
    · rw [if_pos hc]
      exact jj_sb8_b (hd _ (by omega))
    · rw [if_neg hc]
      exact b4 i hi
theorem jb_J8_append_3 (J : jx_G G l) : jJ_J8_append_3 G l := by
  intro o x Q h k w
  obtain ⟨a, cs, rfl, ha, hlen, x0, x1, hk, w⟩ := w
  refine ⟨a, _, 2 + cs.length, rfl, ha, rfl, hk, jb_sb J ha fun d cap ml f h1 hA hB => ?_⟩
  obtain ⟨g1, g2, g3, g4, g5, g6⟩ := id hA
  refine (cC_J8_append_3 J (Q := fun r h' => r = some a ∧ ∃ d' cap' f', ja_sbo h a ((cs ++ [x]).length : Int) d' cap' ml f' h' ∧ ja_by (cs ++ [x]) cap' f') (E := jj_F0) ⟨ja_is26 g1, 2 + cs.length, Nat.le_refl _, a, _, _, rfl, g1, rfl, ja_is26 g1, 2 + cs.length, Nat.le_refl _, ?_⟩).to ?_ (fun _ _ _ q => q)
  · refine pJ_ensure hA hB (by omega) (by omega) (fun c => by have := hB.1; omega) fun d' cap' f' h' p1 p2 p3 p4 => ?_
    obtain ⟨r1, r2, r3, r4, r5, r6⟩ := id p2
    refine ⟨ja_is26 r1, pJ_isL r1 ⟨⟨by decide, by decide⟩, fun c => absurd c (by decide), fun _ => ⟨⟨by omega, by omega⟩, fun c => absurd c (by omega), fun _ => ⟨⟨by decide, by decide⟩, fun c => absurd c (by decide), fun _ => ?_⟩⟩⟩⟩
    refine ⟨a, _, some d', rfl, r1, rfl, a, _, _, rfl, r1, rfl, a, _, rfl, r1, ?_⟩
    rw [jj_i2b8 ⟨x0, x1⟩]
    refine ⟨jj_sb8_b ⟨x0, x1⟩, d', cap', f', rfl, (jj_set_ne _ _ r3).trans r2, by omega, by omega, rfl, d', cap', jj_lay [x] cs.length f', ⟨?_, ?_, r3, r4, r5, fun b c hb hbc => ?_⟩, jj_lay_by p3 ?_ (by simp; omega)⟩
    · rw [jj_set_ne _ _ (Ne.symm r3), jj_set_self, List.length_append]
      rfl
    · rw [jj_set_self]
      unfold ja_ba jj_lay
      congr 5
      funext i
      by_cases hc : i = (cs.length : Int)
      · rw [if_pos hc, if_pos (by simp; omega), show (i - (cs.length : Int)).toNat = 0 by omega]
        rfl
      · rw [if_neg hc, if_neg (by simp; omega)]
    · rw [jj_set_ne _ _ (fun e => by rw [e, r4] at hbc; cases hbc), jj_set_ne _ _ hb]
      exact r6 b c hb hbc
    · intro i hi
      have : i = 0 := by simpa using hi
      subst this
      exact ⟨x0, x1⟩
  · rintro v h' ⟨r, rfl, rfl, d', cap', f', q1, q2⟩
    exact ⟨h, cs ++ [x], d', cap', ml, f', Or.inr ⟨q1, q2, _, rfl, w⟩⟩
theorem jb_J8_append (J : jx_G G l) : jJ_J8_append G l := by
  intro o x Q h k w
  obtain ⟨a, b, cs, ds, rfl, rfl, ha, hb, hlen, hlen2, hk, w⟩ := w
  have hba : b ≠ a := fun e => by rw [e, ha] at hb; cases hb
  refine ⟨a, _, 2 + cs.length + ds.length, rfl, ha, rfl, hk, jb_sb J ha fun d cap ml f h1 hA hB => ?_⟩
  obtain ⟨g1, g2, g3, g4, g5, g6⟩ := id hA
  have hb1 := g6 b _ hba hb
  refine (cC_J8_append J (Q := fun r h' => r = some a ∧ ∃ d' cap' f', ja_sbo h a ((cs ++ ds).length : Int) d' cap' ml f' h' ∧ ja_by (cs ++ ds) cap' f') (E := jj_F0) ⟨ja_is26 g1, 2 + cs.length + ds.length, Nat.le_refl _, fun _ => ⟨b, ds, rfl, hb1, a, _, _, rfl, g1, rfl, ja_is26 g1, 2 + cs.length + ds.length, Nat.le_refl _, ?_⟩, fun c => by cases c⟩).to ?_ (fun _ _ _ q => q)
  · refine pJ_ensure hA hB (by omega) (by omega) (fun c => by have := hB.1; omega) fun d' cap' f' h' p1 p2 p3 p4 => ?_
    obtain ⟨r1, r2, r3, r4, r5, r6⟩ := id p2
    have hb' := r6 b _ hba hb
    refine ⟨a, _, _, rfl, r1, rfl, ja_is26 r1, ja_is26 r1, ⟨by decide, by decide⟩, fun c => absurd c (by decide), fun _ => ⟨a, _, 0, rfl, r1, rfl, b, ds, rfl, hb', ⟨by decide, by decide⟩, ⟨by decide, by decide⟩, fun _ => ?_, fun c => absurd rfl c⟩⟩
    refine ⟨a, _, some d', rfl, r1, rfl, a, _, 0, rfl, r1, rfl, b, d', ds, cap', f', rfl, hb', rfl, r2, rfl, by omega, by omega, by have := p3.2.1; omega, fun hds => ?_⟩
    have e1 : jj_set h' d' (.inr (.inl (2, cap', jj_lay ds cs.length f'))) a = some (ja_o26 d' ml cs.length) := (jj_set_ne _ _ (Ne.symm r3)).trans r1
    refine ⟨a, _, _, rfl, e1, rfl, a, _, rfl, e1, rfl, d', cap', jj_lay ds cs.length f', ⟨?_, ?_, r3, r4, r5, fun b c hb hbc => ?_⟩, jj_lay_by p3 hds (by omega)⟩
    · rw [jj_set_self, List.length_append]
      rfl
    · rw [jj_set_ne _ _ r3, jj_set_self]
      rfl
    · rw [jj_set_ne _ _ hb, jj_set_ne _ _ (fun e => by rw [e, r4] at hbc; cases hbc)]
      exact r6 b c hb hbc
  · rintro v h' ⟨r, rfl, rfl, d', cap', f', q1, q2⟩
    exact ⟨h, cs ++ ds, d', cap', ml, f', Or.inr ⟨q1, q2, _, rfl, w⟩⟩
theorem jb_J8_init (J : jx_G G l) : jJ_J8_init G l := by
  intro o Q h k w
  obtain ⟨a, rfl, ha, hk, w⟩ := w
  refine ⟨a, 5, rfl, hk, ?_⟩
  refine jj_Ct.ex (I := Unit) (Pi := fun _ => True) (hh := fun _ => h) (fun _ _ hR => ⟨(), trivial, hR⟩) (fun _ _ => (cC_J8_init J (Q := fun h' => ∃ d, ja_sbo h a 0 d 16 0 (fun _ => 0) h') (E := jj_F0) ?_).room (by decide) (by decide)) ?_ (fun _ _ _ _ _ _ q => q.elim)
  · refine ⟨⟨a, rfl⟩, 5, Nat.le_refl _, ⟨a, rfl⟩, ⟨by decide, by decide⟩, fun c => absurd c (by decide), fun _ => ⟨by decide, by decide, by decide, fun d hd => ?_⟩⟩
    have hda : d ≠ a := fun e => by rw [e, ha] at hd; cases hd
    refine ⟨a, _, rfl, (jj_set_ne _ _ (Ne.symm hda)).trans ha, a, _, rfl, jj_set_self _ _ _, Or.inl rfl, d, ?_, ?_, hda, hd, Or.inl rfl, fun b c hb hbc => ?_⟩
    · rw [jj_set_self]; rfl
    · rw [jj_set_set, jj_set_ne _ _ hda, jj_set_self]; rfl
    · rw [jj_set_set, jj_set_ne _ _ hb, jj_set_ne _ _ (fun e => by rw [e, hd] at hbc; cases hbc)]
      exact hbc
  · rintro - v h' H - ⟨rfl, d, q⟩ hR
    exact ⟨_, ⟨rfl, w⟩, ja_sbc J (cs := []) q ⟨Nat.zero_le _, by decide, fun i hi => absurd hi (Nat.not_lt_zero _), fun i hi => ⟨(by decide : (-128 : Int) ≤ 0), (by decide : (0 : Int) < 128)⟩⟩ hR⟩
theorem pJ_copyRange {gk : Nat → Nat} {h : jj_H} {d cap n : Nat} {f : Int → Int} {Q : Option Nat → jj_H → Prop} {E : String → Nat → jj_H → Prop} {k : Nat} (hd : h d = some (ja_ba cap f)) (hc : cap < 1000000) (hn : n ≤ cap) (hb : ∀ i : Nat, i < cap → -128 ≤ f i ∧ f i < 128) (hk : 1 + n / 4 ≤ k) (q : ∀ a1 f', h a1 = none → (∀ i : Nat, i < n → f' i = f i) → Q (some a1) (jj_set h a1 (ja_ba n f'))) : fC_J13_copyOfRange gk (some d) 0 (n : Int) Q E h k := by
  have hb' : ∀ i : Int, 0 ≤ i → i < (cap : Int) → -128 ≤ f i ∧ f i < 128 := fun i i0 i1 => by
    have := hb i.toNat (by omega)
    rwa [show ((i.toNat : Nat) : Int) = i by omega] at this
  refine ⟨⟨by decide, by decide⟩, fun c => absurd rfl c, fun _ => ⟨d, cap, f, rfl, hd, ⟨by omega, by omega⟩, ⟨by omega, by omega⟩, fun c => ?_, fun c => ?_⟩⟩
  · have e : n = cap := by omega
    subst e
    exact ⟨d, n, f, rfl, hd, hk, hb', fun a1 h1 => ⟨⟨a1, _, _, rfl, Or.inl (jj_set_self _ _ _)⟩, q a1 f h1 (fun i _ => rfl)⟩⟩
  · refine ⟨k, Nat.le_refl _, ⟨by omega, by omega⟩, ⟨by decide, by decide⟩, fun _ => ?_, fun c => absurd (by omega) c⟩
    intro v hv
    rw [Int.sub_zero] at hv
    subst hv
    refine ⟨by omega, by omega, hk, fun a1 h1 => ?_⟩
    have hda : d ≠ a1 := fun e => by rw [e, h1] at hd; cases hd
    have e1 : jj_set h a1 (.inr (.inl (2, ((n : Int)).toNat, fun _ => 0))) d = some (ja_ba cap f) := (jj_set_ne _ _ hda).trans hd
    refine ⟨d, cap, f, rfl, e1, ⟨by omega, by omega⟩, ⟨by omega, by omega⟩, d, cap, f, a1, n, _, rfl, Or.inl e1, rfl, jj_set_self _ _ _, by omega, by omega, by omega, by omega, by omega, by omega, by omega, fun i i0 i1 => hb' i (by omega) (by omega), ?_⟩
    rw [jj_set_set]
    refine q a1 _ h1 fun i hi => ?_
    show (if (0 : Int) ≤ (i : Int) ∧ (i : Int) < 0 + min ((cap : Int) - 0) (n : Int) then f ((i : Int) - 0 + 0) else 0) = _
    rw [if_pos (by omega), show (i : Int) - 0 + 0 = i by omega]
theorem jb_J8_toString (J : jx_G G l) : jJ_J8_toString G l := by
  intro o Q h k w
  obtain ⟨a, cs, rfl, ha, hk, w⟩ := w
  refine ⟨a, _, 3 + cs.length / 4, rfl, ha, rfl, hk, jb_sb J ha fun d cap ml f h1 hA hB => ?_⟩
  obtain ⟨g1, g2, g3, g4, g5, g6⟩ := id hA
  obtain ⟨b1, b2, b3, b4⟩ := id hB
  refine (cC_J8_toString J (Q := fun r h' => ∃ a1 a5 f', r = some a1 ∧ h1 a1 = none ∧ a5 ≠ a1 ∧ h1 a5 = none ∧ h' = jj_set (jj_set h1 a5 (ja_ba cs.length f')) a1 (ja_o25 a5 0 0) ∧ ∀ i : Nat, i < cs.length → f' i = f i) (E := jj_F0) ⟨by omega, fun a1 ha1 => ⟨⟨a1, rfl⟩, 2 + cs.length / 4, by omega, ⟨a1, rfl⟩, 2 + cs.length / 4, Nat.le_refl _, ⟨a1, rfl⟩, ?_⟩⟩).to ?_ (fun _ _ _ q => q)
  · have hne : ∀ q c, h1 q = some c → q ≠ a1 := fun q c e e2 => by rw [e2, ha1] at e; cases e
    have e1 : jj_set h1 a1 (.inl (25, df_J9)) a = some (ja_o26 d ml cs.length) := (jj_set_ne _ _ (hne a _ g1)).trans g1
    refine ⟨ja_is26 e1, a, _, some d, rfl, e1, rfl, ja_is26 e1, ja_is26 e1, a, _, _, rfl, e1, rfl, ja_is26 e1, pJ_isL e1 ⟨⟨by decide, by decide⟩, fun c => absurd c (by decide), fun _ => ?_⟩⟩
    refine ⟨a1, _, rfl, jj_set_self _ _ _, Or.inl rfl, 2 + cs.length / 4, Nat.le_refl _, ?_⟩
    rw [jj_set_set]
    refine pJ_copyRange ((jj_set_ne _ _ (hne d _ g2)).trans g2) b2 b1 b4 (by omega) fun a5 f' h5 hf => ?_
    have h51 : a5 ≠ a1 := fun e => by rw [e, jj_set_self] at h5; cases h5
    refine ⟨a1, _, rfl, (jj_set_ne _ _ (Ne.symm h51)).trans (jj_set_self _ _ _), a1, a5, f', rfl, ha1, h51, (jj_set_ne _ _ h51).symm.trans h5, ?_, hf⟩
    funext q
    unfold jj_set
    by_cases q1 : q = a1
    · rw [if_pos q1, if_pos q1]; rfl
    · by_cases q2 : q = a5
      · simp only [if_neg q1, if_pos q2]
      · simp only [if_neg q1, if_neg q2]
  · rintro v h' ⟨r, rfl, a1, a5, f', rfl, ha1, h51, h5, rfl, hf⟩
    have hne : ∀ q c, h1 q = some c → q ≠ a1 := fun q c e e2 => by rw [e2, ha1] at e; cases e
    have hh1 : h a1 = none := by
      cases hc : h a1 with
      | none => rfl
      | some c =>
        by_cases e : a1 = a
        · rw [e, g1] at ha1; cases ha1
        · rw [g6 a1 c e hc] at ha1; cases ha1
    have haa1 : a ≠ a1 := hne a _ g1
    refine ⟨jj_set h a1 (jj_str cs), cs, d, cap, ml, f, Or.inl ⟨fun H hR => ?_, _, rfl, w a1 hh1⟩⟩
    have hR1 := ja_close J.2.1.1 (h := h1) (x := (1, cs.map (fun c => (.inl c : jj_AV)))) (L := [(a1, ja_o25 a5 0 0), (a5, .inr (.inl (2, cs.length, f')))]) hR ⟨25, _, _, rfl, rfl, cs, a5, 0, 0, f', rfl, rfl, rfl, h51, by omega, Or.inl rfl, fun c => absurd rfl c, fun c => absurd c (by decide), ⟨by decide, by decide⟩, fun i hi => ⟨(b3 i hi).1, (b3 i hi).2.1, (hf i hi).trans (b3 i hi).2.2⟩⟩ ?_ ?_ ?_
    · have hs : jj_set (jj_set h a1 (jj_str cs)) a (jj_sb cs) = jj_set h a1 (jj_str cs) := jj_set_same ((jj_set_ne _ _ haa1).trans ha)
      rw [← hs]
      refine ja_sbc J (h' := jj_set h1 a1 (jj_str cs)) (d := d) (cap := cap) (ml := ml) (f := f) ⟨(jj_set_ne _ _ haa1).trans g1, (jj_set_ne _ _ (hne d _ g2)).trans g2, g3, (jj_set_ne _ _ (hne d _ g2)).trans g4, g5, fun b c hb hbc => ?_⟩ hB hR1
      by_cases e : b = a1
      · subst e
        rw [jj_set_self] at hbc ⊢
        exact hbc
      · rw [jj_set_ne _ _ e] at hbc ⊢
        exact g6 b c hb hbc
    · intro q hq
      simp only [List.mem_cons, List.not_mem_nil, or_false] at hq
      rcases hq with rfl | rfl
      · exact ⟨jj_set_self _ _ _, trivial⟩
      · exact ⟨(jj_set_ne _ _ h51).trans (jj_set_self _ _ _), trivial⟩
    · intro q hq hne'
      simp only [List.mem_cons, List.not_mem_nil, or_false] at hq
      rcases hq with rfl | rfl
      · exact absurd rfl hne'
      · exact h5
    · intro b c hb hbc
      rw [jj_set_ne _ _ hb, jj_set_ne _ _ (fun e => by rw [e, h5] at hbc; cases hbc)]
      exact hbc
end JBSB
