/-! ArrayList: its contracts -/
def ja_o14 (mc : Int) (d n : Nat) : jj_C := .inl (14, [.inl mc, jj_rf (some d), .inl n])
def ja_ra (cap : Nat) (f : Int → Option Nat) : jj_C := .inr (.inr (.inl (0, cap, f)))
theorem ja_ov2 {h : jj_H} {a d : Nat} {A B : jj_C} : ja_ov h [(a, A), (d, B)] = jj_set (jj_set h d B) a A := by
  funext b
  unfold ja_ov jj_set
  by_cases h1 : a = b
  · simp [List.find?, h1]
  · by_cases h2 : d = b
    · simp [List.find?, h1, h2, Ne.symm h1]
    · simp [List.find?, h1, h2, Ne.symm h1, Ne.symm h2]
/-- how the list stands, open -/
def ja_al (h : jj_H) (a : Nat) (xs : List (Option Nat)) (mc : Int) (d cap : Nat) (f : Int → Option Nat) (h' : jj_H) : Prop := h' a = some (ja_o14 mc d xs.length) ∧ h' d = some (ja_ra cap f) ∧ d ≠ a ∧ h d = none ∧ xs.length ≤ cap ∧ 0 < cap ∧ cap < 100000 ∧ (∀ i : Nat, i < cap → f i = xs.getD i none) ∧ ∀ b c, b ≠ a → h b = some c → h' b = some c
theorem ja_alc {G : jj_G} {l : Launch} (J : jx_G G l) {h h' : jj_H} {H : Heap} {a d cap : Nat} {xs : List (Option Nat)} {mc : Int} {f : Int → Option Nat} (hA : ja_al h a xs mc d cap f h') (hR : jj_R G h' H) : jj_R G (jj_set h a (jj_al mc xs)) H := by
  obtain ⟨g1, g2, g3, g4, g5, g6, g7, g8, g9⟩ := hA
  refine ja_close J.2.1.1 (x := (0, .inl mc :: xs.map jj_rf)) (L := [(a, ja_o14 mc d xs.length), (d, ja_ra cap f)]) hR ⟨14, _, _, rfl, rfl, mc, xs, d, cap, f, rfl, rfl, rfl, g3, g5, g6, g7, g8⟩ ?_ ?_ g9
  · intro q hq
    simp only [List.mem_cons, List.not_mem_nil, or_false] at hq
    rcases hq with rfl | rfl
    · exact ⟨g1, trivial⟩
    · exact ⟨g2, trivial⟩
  · intro q hq hne
    simp only [List.mem_cons, List.not_mem_nil, or_false] at hq
    rcases hq with rfl | rfl
    · exact absurd rfl hne
    · exact g4
theorem jb_al {G : jj_G} {l : Launch} (J : jx_G G l) {y : MethodName} {ws : List Cond} {fr lo : Nat} {As : List jj_AV} {h : jj_H} {K a : Nat} {mc : Int} {xs : List (Option Nat)} (ha : h a = some (jj_al mc xs)) {N : Option jj_AV → jj_H → Prop}
    (C : ∀ d cap f h1, ja_al h a xs mc d cap f h1 → h1 = jj_set (jj_set h d (ja_ra cap f)) a (ja_o14 mc d xs.length) → jj_Ct G l y ws fr lo As h1 K (fun v h' => ∃ hB xs' mc' d' cap' f', ja_al hB a xs' mc' d' cap' f' h' ∧ N v (jj_set hB a (jj_al mc' xs'))) jj_F0) : jj_Ct G l y ws fr lo As h K N jj_F0 := by
  refine jj_Ct.ex (I := Nat × Nat × (Int → Option Nat)) (Pi := fun i => ja_al h a xs mc i.1 i.2.1 i.2.2 (jj_set (jj_set h i.1 (ja_ra i.2.1 i.2.2)) a (ja_o14 mc i.1 xs.length))) (hh := fun i => jj_set (jj_set h i.1 (ja_ra i.2.1 i.2.2)) a (ja_o14 mc i.1 xs.length)) ?_ (fun i hi => C i.1 i.2.1 i.2.2 _ hi rfl) ?_ (fun _ _ _ _ _ _ q => q.elim)
  · intro U hK hR
    rcases ja_open J.2.1.1 hR ha with ⟨L, ⟨ci, fs, R, rfl, hc, hT⟩, hn, hR'⟩ | ⟨-, hx, -⟩ | ⟨-, cell, -, -, -, hx⟩ | hx
    · obtain ⟨mc2, xs2, d, cap, f, e1, rfl, rfl, hda, h1, h2, h3, h4⟩ := hT
      cases hc
      have e2 : mc = mc2 ∧ xs.map jj_rf = xs2.map jj_rf := by
        have := List.cons.inj e1
        exact ⟨Sum.inl.inj this.1, this.2⟩
      obtain ⟨rfl, e3⟩ := e2
      have e4 : xs = xs2 := by
        refine (List.map_inj_right (fun x y hxy => ?_)).mp e3
        exact Sum.inl.inj (Sum.inr.inj (Sum.inr.inj hxy))
      subst e4
      have hd : h d = none := hn (d, _) (List.mem_cons_of_mem _ List.mem_cons_self) hda
      refine ⟨(d, cap, f), ⟨jj_set_self _ _ _, ?_, hda, hd, h1, h2, h3, h4, fun b c hb hbc => ?_⟩, ?_⟩
      · show jj_set (jj_set h d _) a _ d = _
        rw [jj_set_ne _ _ hda, jj_set_self]
      · show jj_set (jj_set h d _) a _ b = _
        rw [jj_set_ne _ _ hb, jj_set_ne _ _ (fun e => by rw [e, hd] at hbc; cases hbc)]
        exact hbc
      · rw [ja_ov2] at hR'
        exact hR'
    · rcases hx with hx | hx <;> cases hx
    · cases hx
    · cases hx
  · rintro i v h' H hi ⟨hB, xs', mc', d', cap', f', hA', hN⟩ hR
    exact ⟨_, hN, ja_alc J hA' hR⟩
theorem ja_keep {h : jj_H} {a : Nat} {c : jj_C} (e : h a = some c) : jj_set h a c = h := jj_set_same e
section JBAL
variable {G : jj_G} {l : Launch}
theorem jj_Ct.to {y : MethodName} {ws : List Cond} {fr lo fr0 lo0 : Nat} {As : List jj_AV} {h : jj_H} {K : Nat} {N N' : Option jj_AV → jj_H → Prop} {XN XN' : String → Nat → jj_H → Prop} (C : jj_Ct G l y ws fr0 lo0 As h K N XN) (hN : ∀ v h', N v h' → N' v h') (hX : ∀ e q h', XN e q h' → XN' e q h') (h1 : fr0 ≤ fr := by omega) (h2 : lo0 ≤ lo := by omega) : jj_Ct G l y ws fr lo As h K N' XN' :=
  jj_Ct.ex (I := Unit) (Pi := fun _ => True) (hh := fun _ => h) (fun _ _ hR => ⟨(), trivial, hR⟩) (fun _ _ => C.room h1 h2) (fun _ v h' _ _ q hR => ⟨h', hN v h' q, hR⟩) (fun _ e q h' _ _ x hR => ⟨h', hX e q h' x, hR⟩)
/-- an index that is checked -/
theorem pJ_checkIndex {gk : Nat → Nat} {i n : Int} {Q : Int → jj_H → Prop} {E : String → Nat → jj_H → Prop} {h : jj_H} {k : Nat} (h0 : 0 ≤ i) (h1 : i < n) (hn : n < 1000000) (q : Q i h) : fC_J32_checkIndex gk i n Q E h k := by
  have r0 : jj_r i := ⟨by omega, by omega⟩
  have r1 : jj_r n := ⟨by omega, by omega⟩
  exact ⟨r0, fun c => absurd c (by omega), fun _ => ⟨r0, r1, fun _ => q, fun c => absurd h1 c⟩⟩
theorem ja_is {h : jj_H} {a : Nat} {mc : Int} {d n : Nat} (e : h a = some (ja_o14 mc d n)) : jp_is h (some a) 14 := ⟨a, _, rfl, e, rfl⟩
theorem ja_get {h h1 : jj_H} {a : Nat} {mc : Int} {xs : List (Option Nat)} {d cap : Nat} {f : Int → Option Nat} (hA : ja_al h a xs mc d cap f h1) {i : Int} (h0 : 0 ≤ i) (hi : i < (xs.length : Int)) : f i = xs.getD i.toNat none := by
  have := hA.2.2.2.2.2.2.2.1 i.toNat (by have := hA.2.2.2.2.1; omega)
  rwa [show ((i.toNat : Nat) : Int) = i by omega] at this
theorem jb_J2_size (J : jx_G G l) : jJ_J2_size G l := by
  intro o Q h k w
  obtain ⟨a, mc, xs, rfl, ha, w⟩ := w
  refine ⟨a, _, 0, rfl, ha, rfl, Nat.zero_le _, jb_al J ha fun d cap f h1 hA e1 => ?_⟩
  refine (cC_J2_size J (Q := fun r h' => r = xs.length ∧ h' = h1) (E := jj_F0) ⟨a, _, _, rfl, hA.1, rfl, rfl, rfl⟩).to ?_ (fun _ _ _ q => q)
  rintro v h' ⟨r, rfl, rfl, rfl⟩
  exact ⟨h, xs, mc, d, cap, f, hA, _, rfl, by rw [ja_keep ha]; exact w⟩
theorem jb_J2_isEmpty (J : jx_G G l) : jJ_J2_isEmpty G l := by
  intro o Q h k w
  obtain ⟨a, mc, xs, rfl, ha, w⟩ := w
  refine ⟨a, _, 0, rfl, ha, rfl, Nat.zero_le _, jb_al J ha fun d cap f h1 hA e1 => ?_⟩
  refine (cC_J2_isEmpty J (Q := fun r h' => r = (if xs.length = 0 then 1 else 0) ∧ h' = h1) (E := jj_F0) ⟨a, _, _, rfl, hA.1, rfl, ⟨by omega, ?_⟩, fun c => ⟨?_, rfl⟩, fun c => ⟨?_, rfl⟩⟩).to ?_ (fun _ _ _ q => q)
  · obtain ⟨-, -, -, -, g1, g2, g3, -⟩ := hA
    omega
  · rw [if_neg (by omega)]
  · rw [if_pos (by omega)]
  rintro v h' ⟨r, rfl, rfl, rfl⟩
  exact ⟨h, xs, mc, d, cap, f, hA, _, rfl, by rw [ja_keep ha]; exact w⟩
theorem jb_J2_get (J : jx_G G l) : jJ_J2_get G l := by
  intro o i Q h k w
  obtain ⟨a, mc, xs, rfl, ha, h0, hi, w⟩ := w
  refine ⟨a, _, 0, rfl, ha, rfl, Nat.zero_le _, jb_al J ha fun d cap f h1 hA e1 => ?_⟩
  have hA' := hA
  obtain ⟨g1, g2, g3, g4, g5, g6, g7, g8, g9⟩ := hA'
  refine (cC_J2_get J (Q := fun r h' => r = xs.getD i.toNat none ∧ h' = h1) (E := jj_F0) ?_).to ?_ (fun _ _ _ q => q)
  · refine ⟨a, _, _, rfl, g1, rfl, pJ_checkIndex h0 hi (by omega) ⟨ja_is g1, ?_⟩⟩
    exact ⟨a, _, _, rfl, g1, rfl, d, cap, f, rfl, g2, h0, by omega, ja_get hA h0 hi, rfl⟩
  rintro v h' ⟨r, rfl, rfl, rfl⟩
  exact ⟨h, xs, mc, d, cap, f, hA, _, rfl, by rw [ja_keep ha]; exact w⟩
theorem jb_J2_set (J : jx_G G l) : jJ_J2_set G l := by
  intro o i x Q h k w
  obtain ⟨a, mc, xs, rfl, ha, h0, hi, hel, w⟩ := w
  refine ⟨a, _, 0, rfl, ha, rfl, Nat.zero_le _, jb_al J ha fun d cap f h1 hA e1 => ?_⟩
  have hA' := hA
  obtain ⟨g1, g2, g3, g4, g5, g6, g7, g8, g9⟩ := hA'
  refine (cC_J2_set J (Q := fun r h' => r = xs.getD i.toNat none ∧ h' = jj_set h1 d (ja_ra cap (fun j => if j = i then x else f j))) (E := jj_F0) ?_).to ?_ (fun _ _ _ q => q)
  · refine ⟨a, _, _, rfl, g1, rfl, pJ_checkIndex h0 hi (by omega) ⟨ja_is g1, ?_⟩⟩
    refine ⟨a, _, _, rfl, g1, rfl, d, cap, f, rfl, g2, h0, by omega, a, _, _, rfl, g1, rfl, d, cap, f, rfl, g2, h0, by omega, ?_, ja_get hA h0 hi, rfl⟩
    intro b hb
    obtain ⟨c, ci, e2, e3, e4⟩ := hel b hb
    by_cases hba : b = a
    · subst hba
      exact ⟨_, 14, g1, rfl, by omega⟩
    · exact ⟨c, ci, g9 b c hba e2, e3, e4⟩
  rintro v h' ⟨r, rfl, rfl, rfl⟩
  refine ⟨h, xs.set i.toNat x, mc, d, cap, _, ⟨?_, jj_set_self _ _ _, g3, g4, by simpa using g5, g6, g7, ?_, ?_⟩, _, rfl, w⟩
  · rw [jj_set_ne _ _ (Ne.symm g3), List.length_set]; exact g1
  · intro j hj
    have e9 := g8 j hj
    rw [List.getD_eq_getElem?_getD, List.getElem?_set]
    by_cases e : (j : Int) = i
    · rw [if_pos e, if_pos (by omega), if_pos (by omega)]; rfl
    · rw [if_neg e, if_neg (by omega), e9, List.getD_eq_getElem?_getD]
  · intro b c hb hbc
    rw [jj_set_ne _ _ (fun e => by rw [e, g4] at hbc; cases hbc)]
    exact g9 b c hb hbc
theorem jb_J2_init (J : jx_G G l) : jJ_J2_init G l := by
  intro o n Q h k w
  obtain ⟨a, rfl, ha, h0, hn, hk, w⟩ := w
  refine ⟨a, 1 + n.toNat / 4, rfl, hk, ?_⟩
  refine jj_Ct.ex (I := Unit) (Pi := fun _ => True) (hh := fun _ => h) (fun _ _ hR => ⟨(), trivial, hR⟩) (fun _ _ => (cC_J2_init J (Q := fun h' => ∃ d, h d = none ∧ h' = jj_set (jj_set h d (ja_ra n.toNat (fun _ => none))) a (ja_o14 0 d 0)) (E := jj_F0) ?_).room (by decide) (by decide)) ?_ (fun _ _ _ _ _ _ q => q.elim)
  · refine ⟨⟨a, rfl⟩, ⟨a, rfl⟩, ⟨a, rfl⟩, a, _, rfl, ha, ?_⟩
    refine ⟨⟨by omega, by omega⟩, fun c => absurd c (by omega), fun _ => ⟨by omega, by omega, Nat.le_refl _, fun d hd => ?_⟩⟩
    have e1 : jj_set h a (.inl (14, ([.inl 0, jj_rf none, .inl 0] : List jj_AV).set 0 (.inl 0))) = h := jj_set_same ha
    rw [e1] at hd ⊢
    have hda : d ≠ a := fun e => by rw [e, ha] at hd; cases hd
    exact ⟨a, _, rfl, (jj_set_ne _ _ (Ne.symm hda)).trans ha, d, hd, rfl⟩
  · rintro - v h' H - ⟨rfl, d, hd, rfl⟩ hR
    have hda : d ≠ a := fun e => by rw [e, ha] at hd; cases hd
    refine ⟨_, ⟨rfl, w⟩, ja_alc J (d := d) (cap := n.toNat) (f := fun _ => none) ⟨jj_set_self _ _ _, ?_, hda, hd, Nat.zero_le _, by omega, by omega, fun i _ => rfl, fun b c hb hbc => ?_⟩ hR⟩
    · rw [jj_set_ne _ _ hda, jj_set_self]
    · rw [jj_set_ne _ _ hb, jj_set_ne _ _ (fun e => by rw [e, hd] at hbc; cases hbc)]
      exact hbc
theorem jj_shr1 {m : Nat} (hm : m < 2147483648) : jj_shr (m : Int) 1 = ((m / 2 : Nat) : Int) := by
  have e : Int32.ofInt (m : Int) = nI m := Int32.ofInt_eq_ofNat
  unfold jj_shr
  rw [e, pk_shrN (by omega) _ 1 (by decide)]
  have e2 : nI (m / 2 ^ 1) = Int32.ofInt ((m / 2 : Nat) : Int) := Int32.ofInt_eq_ofNat.symm
  rw [e2]
  exact jj_ti ⟨by omega, by omega⟩
theorem pJ_copyOf {gk : Nat → Nat} {d cap : Nat} {f : Int → Option Nat} {n : Int} {Q : Option Nat → jj_H → Prop} {E : String → Nat → jj_H → Prop} {h : jj_H} {k : Nat} (hd : h d = some (ja_ra cap f)) (hc : cap < 100000) (h0 : 0 ≤ n) (hn : n < 1000000) (hel : ∀ i : Nat, i < cap → (i : Int) < n → jj_el h (f i)) (hk : 1 + n.toNat / 4 ≤ k) (q : ∀ a1 f', h a1 = none → (∀ i : Nat, (i : Int) < n → f' i = if i < cap then f i else none) → Q (some a1) (jj_set h a1 (ja_ra n.toNat f'))) : fC_J13_copyOf_2 gk (some d) n Q E h k := by
  refine ⟨⟨d, cap, f, rfl, hd⟩, k, Nat.le_refl _, fun c => absurd rfl c, fun _ => ⟨h0, by omega, hk, fun a1 h1 => ?_⟩⟩
  have hda : d ≠ a1 := fun e => by rw [e, h1] at hd; cases hd
  have e1 : jj_set h a1 (.inr (.inr (.inl (0, n.toNat, fun _ => none)))) d = some (ja_ra cap f) := (jj_set_ne _ _ hda).trans hd
  refine ⟨d, cap, f, rfl, e1, ⟨by omega, by omega⟩, ⟨by omega, by omega⟩, d, cap, f, a1, n.toNat, _, rfl, e1, rfl, jj_set_self _ _ _, by omega, by omega, by omega, by omega, by omega, by omega, by omega, ?_, ?_⟩
  · intro i hi1 hi2
    intro b hb
    have := hel i.toNat (by omega) (by omega)
    rw [show ((i.toNat : Nat) : Int) = i by omega] at this
    obtain ⟨c, ci, e2, e3, e4⟩ := this b hb
    exact ⟨c, ci, (jj_set_ne _ _ (fun e => by rw [e, h1] at e2; cases e2)).trans e2, e3, e4⟩
  · rw [jj_set_set]
    refine q a1 _ h1 fun i hi => ?_
    show (if (0 : Int) ≤ (i : Int) ∧ (i : Int) < 0 + min (cap : Int) n then f ((i : Int) - 0 + 0) else none) = _
    by_cases hic : i < cap
    · rw [if_pos (by omega), if_pos hic, show (i : Int) - 0 + 0 = i by omega]
    · rw [if_neg (by omega), if_neg hic]
/-- the array is made longer -/
theorem pJ_grow {gk : Nat → Nat} {h h1 : jj_H} {a d cap : Nat} {xs : List (Option Nat)} {mc : Int} {f : Int → Option Nat} {need : Int} {Q : Option Nat → jj_H → Prop} {E : String → Nat → jj_H → Prop} {k : Nat} (hA : ja_al h a xs mc d cap f h1) (hel : ∀ y ∈ xs, jj_el h1 y) (hneed : (cap : Int) < need) (hn : need < 30000) (hk : 2 + need.toNat * 3 / 8 ≤ k)
    (q : ∀ (d' cap' : Nat) (f' : Int → Option Nat) (h' : jj_H), need ≤ (cap' : Int) → ja_al h a xs mc d' cap' f' h' → (∀ b c, b ≠ a → h1 b = some c → h' b = some c) → Q (some d') h') : fC_J2_grow_2 gk (some a) need Q E h1 k := by
  obtain ⟨g1, g2, g3, g4, g5, g6, g7, g8, g9⟩ := hA
  refine ⟨a, _, _, rfl, g1, rfl, d, cap, f, rfl, g2, ⟨by omega, by omega⟩, fun _ => ?_, fun c => absurd (by omega) c⟩
  have es := jj_shr1 (m := cap) (by omega)
  refine ⟨⟨by omega, by omega⟩, by rw [es]; exact ⟨by omega, by omega⟩, fun v hv => ?_⟩
  rw [es] at hv
  have hvb : need ≤ v ∧ v < 50000 ∧ v.toNat * 2 ≤ need.toNat * 3 + 2 := by omega
  refine ⟨⟨by omega, by omega⟩, fun c => absurd c (by omega), fun _ => ⟨⟨by omega, by omega⟩, fun c => absurd c (by omega), fun _ => ?_⟩⟩
  refine ⟨a, _, _, rfl, g1, rfl, k, Nat.le_refl _, pJ_copyOf g2 (by omega) (by omega) (by omega) ?_ (by omega) ?_⟩
  · intro i hi _
    rw [g8 i hi]
    by_cases hix : i < xs.length
    · rw [List.getD_eq_getElem?_getD, List.getElem?_eq_getElem hix]
      exact hel _ (List.getElem_mem hix)
    · rw [List.getD_eq_getElem?_getD, List.getElem?_eq_none (by omega)]
      exact fun b hb => by cases hb
  · intro d' f' hd' hf'
    have hda : d' ≠ a := fun e => by rw [e, g1] at hd'; cases hd'
    refine ⟨a, _, rfl, (jj_set_ne _ _ (Ne.symm hda)).trans g1, q d' v.toNat f' _ (by omega) ⟨jj_set_self _ _ _, ?_, hda, ?_, by omega, by omega, by omega, ?_, ?_⟩ ?_⟩
    · rw [jj_set_ne _ _ hda, jj_set_self]
    · cases hh : h d' with
      | none => rfl
      | some c => rw [g9 d' c hda hh] at hd'; cases hd'
    · intro i hi
      rw [hf' i (by omega)]
      by_cases hic : i < cap
      · rw [if_pos hic]; exact g8 i hic
      · rw [if_neg hic, List.getD_eq_getElem?_getD, List.getElem?_eq_none (by omega)]; rfl
    · intro b c hb hbc
      have := g9 b c hb hbc
      rw [jj_set_ne _ _ hb, jj_set_ne _ _ (fun e => by rw [e, hd'] at this; cases this)]
      exact this
    · intro b c hb hbc
      rw [jj_set_ne _ _ hb, jj_set_ne _ _ (fun e => by rw [e, hd'] at hbc; cases hbc)]
      exact hbc
theorem jj_el_none {h : jj_H} : jj_el h none := fun b hb => by cases hb
theorem ja_el_up {h h1 : jj_H} {a : Nat} {mc : Int} {d n : Nat} (g1 : h1 a = some (ja_o14 mc d n)) (g9 : ∀ b c, b ≠ a → h b = some c → h1 b = some c) {y : Option Nat} (hy : jj_el h y) : jj_el h1 y := by
  intro b hb
  obtain ⟨c, ci, e2, e3, e4⟩ := hy b hb
  by_cases hba : b = a
  · subst hba
    exact ⟨_, 14, g1, rfl, by omega⟩
  · exact ⟨c, ci, g9 b c hba e2, e3, e4⟩
/-- modCount and size are written -/
theorem ja_al_mc {h h1 : jj_H} {a d cap : Nat} {xs : List (Option Nat)} {mc mc' : Int} {f : Int → Option Nat} (hA : ja_al h a xs mc d cap f h1) : ja_al h a xs mc' d cap f (jj_set h1 a (ja_o14 mc' d xs.length)) := by
  obtain ⟨g1, g2, g3, g4, g5, g6, g7, g8, g9⟩ := hA
  exact ⟨jj_set_self _ _ _, (jj_set_ne _ _ g3).trans g2, g3, g4, g5, g6, g7, g8, fun b c hb hbc => (jj_set_ne _ _ hb).trans (g9 b c hb hbc)⟩
theorem pJ_add_2_j {gk : Nat → Nat} {h h1 : jj_H} {a d cap : Nat} {xs : List (Option Nat)} {mc : Int} {f : Int → Option Nat} {x : Option Nat} {Q : jj_H → Prop} {E : String → Nat → jj_H → Prop} {k : Nat} (hA : ja_al h a xs mc d cap f h1) (hx : jj_el h1 x) (hc : xs.length < cap) (q : ∀ h' f', ja_al h a (xs ++ [x]) mc d cap f' h' → Q h') : fC_J2_add_2_j11 gk (some a) x (some d) xs.length Q E h1 k := by
  obtain ⟨g1, g2, g3, g4, g5, g6, g7, g8, g9⟩ := hA
  refine ⟨d, cap, f, rfl, g2, by omega, by omega, hx, a, _, rfl, (jj_set_ne _ _ (Ne.symm g3)).trans g1, q _ (fun j => if j = (xs.length : Int) then x else f j) ⟨?_, ?_, g3, g4, by simp; omega, g6, g7, ?_, ?_⟩⟩
  · rw [jj_set_self, List.length_append]; rfl
  · rw [jj_set_ne _ _ g3, jj_set_self]; rfl
  · intro i hi
    show (if (i : Int) = (xs.length : Int) then x else f i) = _
    rw [List.getD_eq_getElem?_getD, List.getElem?_append]
    by_cases e : i = xs.length
    · rw [if_pos (by omega), if_neg (by omega), e]; simp
    · rw [if_neg (by omega), g8 i hi, List.getD_eq_getElem?_getD]
      by_cases e2 : i < xs.length
      · rw [if_pos e2]
      · rw [if_neg e2, List.getElem?_eq_none (by omega), List.getElem?_eq_none (by simp; omega)]
  · intro b c hb hbc
    rw [jj_set_ne _ _ hb, jj_set_ne _ _ (fun e => by rw [e, g4] at hbc; cases hbc)]
    exact g9 b c hb hbc
theorem jb_J2_add (J : jx_G G l) : jJ_J2_add G l := by
  intro o x Q h k w
  obtain ⟨a, mc, xs, rfl, ha, hel, hlen, hk, w⟩ := w
  refine ⟨a, _, 2 + xs.length / 2, rfl, ha, rfl, hk, jb_al J ha fun d cap f h1 hA e1 => ?_⟩
  have hA2 := ja_al_mc (mc' := mc + 1) hA
  have hA' := hA
  obtain ⟨g1, g2, g3, g4, g5, g6, g7, g8, g9⟩ := hA'
  have hel' : ∀ y ∈ x :: xs, jj_el (jj_set h1 a (ja_o14 (mc + 1) d xs.length)) y := fun y hy => ja_el_up hA2.1 hA2.2.2.2.2.2.2.2.2 (hel y hy)
  refine (cC_J2_add J (Q := fun r h' => r = 1 ∧ ∃ d' cap' f', ja_al h a (xs ++ [x]) (mc + 1) d' cap' f' h') (E := jj_F0) ?_).to ?_ (fun _ _ _ q => q)
  · refine ⟨a, _, _, rfl, g1, rfl, a, _, rfl, g1, a, _, _, rfl, jj_set_self _ _ _, rfl, a, _, _, rfl, jj_set_self _ _ _, rfl, ja_is hA2.1, 2 + xs.length / 2, Nat.le_refl _, ?_⟩
    refine ⟨d, cap, f, rfl, hA2.2.1, ⟨by omega, by omega⟩, ⟨by omega, by omega⟩, fun c => ?_, fun c => ?_⟩
    · exact pJ_add_2_j hA2 (hel' x List.mem_cons_self) (by omega) fun h' f' q => ⟨rfl, d, cap, f', q⟩
    · refine ⟨ja_is hA2.1, 2 + xs.length / 2, Nat.le_refl _, a, _, _, rfl, hA2.1, rfl, ja_is hA2.1, 2 + xs.length / 2, Nat.le_refl _, ?_⟩
      refine pJ_grow hA2 (fun y hy => hel' y (List.mem_cons_of_mem _ hy)) (by omega) (by omega) (by omega) fun d' cap' f' h' q1 q2 q3 => ?_
      refine pJ_add_2_j q2 (fun b hb => ?_) (by omega) fun h'' f'' q => ⟨rfl, d', cap', f'', q⟩
      obtain ⟨c, ci, e2, e3, e4⟩ := hel' x List.mem_cons_self b hb
      by_cases hba : b = a
      · subst hba
        exact ⟨_, 14, q2.1, rfl, by omega⟩
      · exact ⟨c, ci, q3 b c hba e2, e3, e4⟩
  · rintro v h' ⟨r, rfl, rfl, d', cap', f', q⟩
    exact ⟨h, xs ++ [x], mc + 1, d', cap', f', q, _, rfl, w⟩
/-- what a list's open cell keeps under a shift of its array -/
theorem jb_J2_remove (J : jx_G G l) : jJ_J2_remove G l := by
  intro o i Q h k w
  obtain ⟨a, mc, xs, rfl, ha, h0, hi, hel, hlen, w⟩ := w
  refine ⟨a, _, 0, rfl, ha, rfl, Nat.zero_le _, jb_al J ha fun d cap f h1 hA e1 => ?_⟩
  have hA2 := ja_al_mc (mc' := mc + 1) hA
  have hA' := hA
  obtain ⟨g1, g2, g3, g4, g5, g6, g7, g8, g9⟩ := hA'
  obtain ⟨p1, p2, -, -, -, -, -, -, p9⟩ := id hA2
  refine (cC_J2_remove J (Q := fun r h' => r = xs.getD i.toNat none ∧ ∃ f', ja_al h a (xs.eraseIdx i.toNat) (mc + 1) d cap f' h') (E := jj_F0) ?_).to ?_ (fun _ _ _ q => q)
  · refine ⟨a, _, _, rfl, g1, rfl, pJ_checkIndex h0 hi (by omega) ⟨a, _, _, rfl, g1, rfl, d, cap, f, rfl, g2, h0, by omega, ja_is g1, ?_⟩⟩
    refine ⟨a, _, _, rfl, g1, rfl, a, _, rfl, g1, a, _, _, rfl, jj_set_self _ _ _, rfl, fun v hv => ⟨⟨by omega, by omega⟩, ⟨by omega, by omega⟩, fun c => ?_, fun c => ?_⟩⟩
    · -- the last one goes
      refine ⟨a, _, rfl, jj_set_self _ _ _, d, cap, f, rfl, ?_, by omega, by omega, jj_el_none, ja_get hA h0 hi, fun j => if j = v then none else f j, ?_⟩
      · rw [jj_set_ne _ _ g3, jj_set_ne _ _ g3]; exact g2
      · have hil : i.toNat = xs.length - 1 := by omega
        refine ⟨?_, jj_set_self _ _ _, g3, g4, by rw [List.length_eraseIdx]; split <;> omega, g6, g7, ?_, ?_⟩
        · rw [jj_set_ne _ _ (Ne.symm g3), jj_set_self, List.length_eraseIdx, if_pos (by omega), hv]
          unfold ja_o14
          rw [show ((xs.length - 1 : Nat) : Int) = (xs.length : Int) - 1 by omega]
          rfl
        · intro j hj
          show (if (j : Int) = v then none else f j) = _
          rw [List.getD_eq_getElem?_getD, List.getElem?_eraseIdx]
          by_cases e : (j : Int) = v
          · rw [if_pos e, if_neg (by omega), List.getElem?_eq_none (by omega)]; rfl
          · rw [if_neg e, g8 j hj, List.getD_eq_getElem?_getD]
            by_cases e2 : j < i.toNat
            · rw [if_pos e2]
            · rw [if_neg e2, List.getElem?_eq_none (by omega), List.getElem?_eq_none (by omega)]
        · intro b c hb hbc
          have hbd : b ≠ d := fun e => by rw [e, g4] at hbc; cases hbc
          rw [jj_set_ne _ _ hbd, jj_set_ne _ _ hb, jj_set_ne _ _ hb]
          exact g9 b c hb hbc
    · refine ⟨d, cap, f, d, cap, f, rfl, p2, rfl, p2, by omega, by omega, by omega, by omega, by omega, by omega, by omega, ?_, ?_⟩
      · intro j j1 j2
        have := g8 j.toNat (by omega)
        rw [show ((j.toNat : Nat) : Int) = j by omega] at this
        rw [this]
        have hjx : j.toNat < xs.length := by omega
        rw [List.getD_eq_getElem?_getD, List.getElem?_eq_getElem hjx]
        exact ja_el_up p1 p9 (hel _ (List.getElem_mem hjx))
      · refine ⟨a, _, rfl, (jj_set_ne _ _ (Ne.symm g3)).trans p1, d, cap, (fun j => if i ≤ j ∧ j < i + (v - i) then f (j - i + (i + 1)) else f j), rfl, ?_, by omega, by omega, jj_el_none, ja_get hA h0 hi, (fun j => if j = v then none else if i ≤ j ∧ j < i + (v - i) then f (j - i + (i + 1)) else f j), ?_, jj_set_self _ _ _, g3, g4, ?_, g6, g7, ?_, ?_⟩
        · rw [jj_set_ne _ _ g3, jj_set_self]
        · rw [jj_set_ne _ _ (Ne.symm g3), jj_set_self, List.length_eraseIdx, if_pos (by omega), hv]
          unfold ja_o14
          rw [show ((xs.length - 1 : Nat) : Int) = (xs.length : Int) - 1 by omega]
          rfl
        · rw [List.length_eraseIdx]; split <;> omega
        · intro j hj
          show (if (j : Int) = v then none else if i ≤ (j : Int) ∧ (j : Int) < i + (v - i) then f ((j : Int) - i + (i + 1)) else f j) = _
          rw [List.getD_eq_getElem?_getD, List.getElem?_eraseIdx]
          by_cases e : (j : Int) = v
          · rw [if_pos e, if_neg (by omega), List.getElem?_eq_none (by omega)]; rfl
          · rw [if_neg e]
            by_cases e2 : j < i.toNat
            · rw [if_neg (by omega), if_pos e2, g8 j hj, List.getD_eq_getElem?_getD]
            · rw [if_neg e2]
              by_cases e3 : (j : Int) < v
              · rw [if_pos (by omega), show (j : Int) - i + (i + 1) = ((j + 1 : Nat) : Int) by omega, g8 (j + 1) (by omega), List.getD_eq_getElem?_getD]
              · rw [if_neg (by omega), g8 j hj, List.getD_eq_getElem?_getD, List.getElem?_eq_none (by omega), List.getElem?_eq_none (by omega)]
        · intro b c hb hbc
          have hbd : b ≠ d := fun e => by rw [e, g4] at hbc; cases hbc
          rw [jj_set_ne _ _ hbd, jj_set_ne _ _ hb, jj_set_ne _ _ hbd]
          exact p9 b c hb hbc
  · rintro v h' ⟨r, rfl, rfl, f', q⟩
    exact ⟨h, xs.eraseIdx i.toNat, mc + 1, d, cap, f', q, _, rfl, w⟩
/-- beside the list another cell is written or made -/
theorem ja_al_beside {h h1 : jj_H} {a b d cap : Nat} {xs : List (Option Nat)} {mc : Int} {f : Int → Option Nat} (hA : ja_al h a xs mc d cap f h1) (c : jj_C) (hba : b ≠ a) (hbd : b ≠ d) : ja_al (jj_set h b c) a xs mc d cap f (jj_set h1 b c) := by
  obtain ⟨g1, g2, g3, g4, g5, g6, g7, g8, g9⟩ := hA
  refine ⟨(jj_set_ne _ _ (Ne.symm hba)).trans g1, (jj_set_ne _ _ (Ne.symm hbd)).trans g2, g3, (jj_set_ne _ _ (Ne.symm hbd)).trans g4, g5, g6, g7, g8, fun b' c' hb hbc => ?_⟩
  by_cases e : b' = b
  · subst e
    rw [jj_set_self] at hbc ⊢
    exact hbc
  · rw [jj_set_ne _ _ e] at hbc ⊢
    exact g9 b' c' hb hbc
theorem cb_J2_iterator (J : jx_G G l) {fr lo : Nat} (hf9 : 2 ≤ fr) (hl9 : 41 ≤ lo) : ∀ (o : Option Nat) (Q : Option Nat → jj_H → Nat → Prop) (h : jj_H) (k : Nat), jq_J2_iterator o Q h k → jj_jcR G l fr lo yJ2_iterator cJ2_iterator 1 (some ((.object "java/util/Iterator"))) 14 o [] h k (jn_r Q) := by
  intro o Q h k w
  obtain ⟨a, mc, xs, rfl, ha, hk, w⟩ := w
  refine ⟨a, _, 2, rfl, ha, rfl, hk, jb_al J ha fun d cap f h1 hA e1 => ?_⟩
  have hA' := hA
  obtain ⟨g1, g2, g3, g4, g5, g6, g7, g8, g9⟩ := hA'
  refine (cC_J2_iterator J (Q := fun r h' => ∃ b, h1 b = none ∧ r = some b ∧ h' = jj_set h1 b (.inl (15, [.inl 0, .inl (-1), .inl mc, jj_rf (some a)]))) (E := jj_F0) ?_).to ?_ (fun _ _ _ q => q)
  · refine ⟨by omega, fun b hb => ⟨⟨b, rfl⟩, b, _, rfl, jj_set_self _ _ _, ⟨b, rfl⟩, b, _, rfl, jj_set_self _ _ _, b, _, _, rfl, jj_set_self _ _ _, rfl, a, [.inl mc, jj_rf (some d), .inl xs.length], mc, rfl, ?_, rfl, b, _, rfl, jj_set_self _ _ _, b, hb, rfl, ?_⟩⟩
    · have hba : a ≠ b := fun e => by rw [← e, g1] at hb; cases hb
      rw [jj_set_ne _ _ hba, jj_set_ne _ _ hba, jj_set_ne _ _ hba]
      exact g1
    · rw [jj_set_set, jj_set_set, jj_set_set]; rfl
  · rintro v h' ⟨r, rfl, b, hb, rfl, rfl⟩
    have hba : b ≠ a := fun e => by rw [e, g1] at hb; cases hb
    have hbd : b ≠ d := fun e => by rw [e, g2] at hb; cases hb
    have hhb : h b = none := by
      cases hh : h b with
      | none => rfl
      | some c => rw [g9 b c hba hh] at hb; cases hb
    refine ⟨_, xs, mc, d, cap, f, ja_al_beside hA _ hba hbd, _, rfl, ?_⟩
    rw [ja_keep ((jj_set_ne _ _ (Ne.symm hba)).trans ha)]
    exact w b hhb
theorem jb_J2_iterator (J : jx_G G l) : jJ_J2_iterator G l := cb_J2_iterator J (by decide) (by decide)
theorem cb_J21_hasNext (J : jx_G G l) {fr lo : Nat} (hf9 : 0 ≤ fr) (hl9 : 0 ≤ lo) : ∀ (o : Option Nat) (Q : Int → jj_H → Nat → Prop) (h : jj_H) (k : Nat), jq_J21_hasNext o Q h k → jj_jcR G l fr lo yJ21_hasNext cJ21_hasNext 1 (some (.boolean)) 15 o [] h k (jn_i Q) := by
  intro o Q h k w
  obtain ⟨b, a, mc, xs, i, lr, rfl, hb, ha, h0, hi, w⟩ := w
  have hba : b ≠ a := fun e => by rw [e, ha] at hb; cases hb
  refine ⟨b, _, 0, rfl, hb, rfl, Nat.zero_le _, jb_al J ha fun d cap f h1 hA e1 => ?_⟩
  have hA' := hA
  obtain ⟨g1, g2, g3, g4, g5, g6, g7, g8, g9⟩ := hA'
  have hb1 := g9 b _ hba hb
  refine (cC_J21_hasNext J (Q := fun r h' => r = (if i = (xs.length : Int) then 0 else 1) ∧ h' = h1) (E := jj_F0) ⟨b, _, _, rfl, hb1, rfl, b, _, _, rfl, hb1, rfl, a, _, _, rfl, g1, rfl, ⟨by omega, by omega⟩, ⟨by omega, by omega⟩, fun c => ⟨(if_pos c).symm, rfl⟩, fun c => ⟨(if_neg c).symm, rfl⟩⟩).to ?_ (fun _ _ _ q => q)
  rintro v h' ⟨r, rfl, rfl, rfl⟩
  exact ⟨h, xs, mc, d, cap, f, hA, _, rfl, by rw [ja_keep ha]; exact w⟩
theorem jb_J21_hasNext (J : jx_G G l) : jJ_J21_hasNext G l := cb_J21_hasNext J (by decide) (by decide)
theorem cb_J21_next (J : jx_G G l) {fr lo : Nat} (hf9 : 1 ≤ fr) (hl9 : 20 ≤ lo) : ∀ (o : Option Nat) (Q : Option Nat → jj_H → Nat → Prop) (h : jj_H) (k : Nat), jq_J21_next o Q h k → jj_jcR G l fr lo yJ21_next cJ21_next 3 (some ((.object "java/lang/Object"))) 15 o [] h k (jn_r Q) := by
  intro o Q h k w
  obtain ⟨b, a, mc, xs, i, lr, rfl, hb, ha, h0, hi, w⟩ := w
  have hba : b ≠ a := fun e => by rw [e, ha] at hb; cases hb
  refine ⟨b, _, 0, rfl, hb, rfl, Nat.zero_le _, jb_al J ha fun d cap f h1 hA e1 => ?_⟩
  have hA' := hA
  obtain ⟨g1, g2, g3, g4, g5, g6, g7, g8, g9⟩ := hA'
  have hb1 := g9 b _ hba hb
  have hbd : b ≠ d := fun e => by rw [e, g4] at hb; cases hb
  refine (cC_J21_next J (Q := fun r h' => r = xs.getD i.toNat none ∧ h' = jj_set h1 b (.inl (15, [.inl (i + 1), .inl i, .inl mc, jj_rf (some a)]))) (E := jj_F0) ?_).to ?_ (fun _ _ _ q => q)
  · refine ⟨⟨b, _, rfl, hb1, rfl⟩, b, _, _, rfl, hb1, rfl, a, _, _, rfl, g1, rfl, b, _, _, rfl, hb1, rfl, Or.inl rfl, fun _ => ?_, fun c => absurd rfl c⟩
    refine ⟨b, _, _, rfl, hb1, rfl, b, _, _, rfl, hb1, rfl, a, _, _, rfl, g1, rfl, ⟨by omega, by omega⟩, ⟨by omega, by omega⟩, fun _ => ?_, fun c => absurd hi c⟩
    refine ⟨b, _, _, rfl, hb1, rfl, a, _, _, rfl, g1, rfl, d, cap, f, rfl, g2, ⟨by omega, by omega⟩, ⟨by omega, by omega⟩, fun _ => ?_, fun c => absurd (by omega) c⟩
    refine ⟨b, _, rfl, hb1, b, _, rfl, jj_set_self _ _ _, d, cap, f, rfl, ?_, h0, by omega, ja_get hA h0 hi, ?_⟩
    · rw [jj_set_ne _ _ (Ne.symm hbd), jj_set_ne _ _ (Ne.symm hbd)]; exact g2
    · rw [jj_set_set]; rfl
  · rintro v h' ⟨r, rfl, rfl, rfl⟩
    refine ⟨_, xs, mc, d, cap, f, ja_al_beside hA _ hba hbd, _, rfl, ?_⟩
    rw [ja_keep ((jj_set_ne _ _ (Ne.symm hba)).trans ha)]
    exact w
theorem jb_J21_next (J : jx_G G l) : jJ_J21_next G l := cb_J21_next J (by decide) (by decide)
theorem ja_ins {xs : List (Option Nat)} {m : Nat} (hm : m ≤ xs.length) (x : Option Nat) (j : Nat) : (xs.take m ++ x :: xs.drop m).getD j none = if j < m then xs.getD j none else if j = m then x else xs.getD (j - 1) none := by
  rw [List.getD_eq_getElem?_getD, List.getElem?_append, List.length_take, Nat.min_eq_left hm]
  by_cases h1 : j < m
  · rw [if_pos h1, if_pos h1, List.getElem?_take, if_pos h1, List.getD_eq_getElem?_getD]
  · rw [if_neg h1, if_neg h1]
    by_cases h2 : j = m
    · rw [if_pos h2, h2, Nat.sub_self]; rfl
    · rw [if_neg h2, show j - m = (j - 1 - m) + 1 by omega, List.getElem?_cons_succ, List.getElem?_drop, List.getD_eq_getElem?_getD, show m + (j - 1 - m) = j - 1 by omega]
theorem pJ_add_3_j {gk : Nat → Nat} {h h1 : jj_H} {a d cap : Nat} {xs : List (Option Nat)} {mc i : Int} {f : Int → Option Nat} {x : Option Nat} {Q : jj_H → Prop} {E : String → Nat → jj_H → Prop} {k : Nat} (hA : ja_al h a xs mc d cap f h1) (hx : jj_el h1 x) (hel : ∀ y ∈ xs, jj_el h1 y) (hc : xs.length < cap) (h0 : 0 ≤ i) (hi : i ≤ (xs.length : Int)) (q : ∀ h' f', ja_al h a (xs.take i.toNat ++ x :: xs.drop i.toNat) mc d cap f' h' → Q h') : fC_J2_add_3_j38 gk (some a) i x xs.length (some d) Q E h1 k := by
  obtain ⟨g1, g2, g3, g4, g5, g6, g7, g8, g9⟩ := hA
  have hlen : (xs.take i.toNat ++ x :: xs.drop i.toNat).length = xs.length + 1 := by
    rw [List.length_append, List.length_cons, List.length_take, List.length_drop]
    omega
  refine ⟨d, cap, f, d, cap, f, rfl, g2, rfl, g2, by omega, by omega, by omega, by omega, by omega, by omega, by omega, ?_, ?_⟩
  · intro j j1 j2
    have := g8 j.toNat (by omega)
    rw [show ((j.toNat : Nat) : Int) = j by omega] at this
    rw [this]
    have hjx : j.toNat < xs.length := by omega
    rw [List.getD_eq_getElem?_getD, List.getElem?_eq_getElem hjx]
    exact hel _ (List.getElem_mem hjx)
  · refine ⟨d, cap, (fun j => if i + 1 ≤ j ∧ j < i + 1 + ((xs.length : Int) - i) then f (j - (i + 1) + i) else f j), rfl, jj_set_self _ _ _, h0, by omega, ?_, a, [.inl mc, jj_rf (some d), .inl xs.length], rfl, ?_, ?_⟩
    · intro b hb
      obtain ⟨c, ci, e2, e3, e4⟩ := hx b hb
      by_cases hbd : b = d
      · subst hbd
        rw [g2] at e2
        cases e2
        cases e3
      · exact ⟨c, ci, (jj_set_ne _ _ hbd).trans e2, e3, e4⟩
    · rw [jj_set_ne _ _ (Ne.symm g3), jj_set_ne _ _ (Ne.symm g3)]; exact g1
    · refine q _ (fun j => if j = i then x else if i + 1 ≤ j ∧ j < i + 1 + ((xs.length : Int) - i) then f (j - (i + 1) + i) else f j) ⟨?_, ?_, g3, g4, by rw [hlen]; omega, g6, g7, ?_, ?_⟩
      · rw [jj_set_self, hlen]; rfl
      · rw [jj_set_ne _ _ g3, jj_set_self]; rfl
      · intro j hj
        show (if (j : Int) = i then x else if i + 1 ≤ (j : Int) ∧ (j : Int) < i + 1 + ((xs.length : Int) - i) then f ((j : Int) - (i + 1) + i) else f j) = _
        rw [ja_ins (by omega)]
        by_cases e1 : (j : Int) = i
        · rw [if_pos e1, if_neg (by omega), if_pos (by omega)]
        · rw [if_neg e1]
          by_cases e2 : j < i.toNat
          · rw [if_neg (by omega), if_pos e2]
            exact g8 j hj
          · rw [if_neg e2, if_neg (show ¬ j = i.toNat by omega)]
            by_cases e3 : (j : Int) < i + 1 + ((xs.length : Int) - i)
            · rw [if_pos (by omega), show (j : Int) - (i + 1) + i = ((j - 1 : Nat) : Int) by omega]
              exact g8 (j - 1) (by omega)
            · rw [if_neg (by omega), g8 j hj, List.getD_eq_getElem?_getD, List.getD_eq_getElem?_getD, List.getElem?_eq_none (by omega), List.getElem?_eq_none (by omega)]
      · intro b c hb hbc
        have hbd : b ≠ d := fun e => by rw [e, g4] at hbc; cases hbc
        rw [jj_set_ne _ _ hb, jj_set_ne _ _ hbd, jj_set_ne _ _ hbd]
        exact g9 b c hb hbc
theorem jb_J2_add_3 (J : jx_G G l) : jJ_J2_add_3 G l := by
  intro o i x Q h k w
  obtain ⟨a, mc, xs, rfl, ha, h0, hi, hel, hlen, hk, w⟩ := w
  refine ⟨a, _, 2 + xs.length / 2, rfl, ha, rfl, hk, jb_al J ha fun d cap f h1 hA e1 => ?_⟩
  have hA2 := ja_al_mc (mc' := mc + 1) hA
  have hA' := hA
  obtain ⟨g1, g2, g3, g4, g5, g6, g7, g8, g9⟩ := hA'
  have hel' : ∀ y ∈ x :: xs, jj_el (jj_set h1 a (ja_o14 (mc + 1) d xs.length)) y := fun y hy => ja_el_up hA2.1 hA2.2.2.2.2.2.2.2.2 (hel y hy)
  refine (cC_J2_add_3 J (Q := fun h' => ∃ d' cap' f', ja_al h a (xs.take i.toNat ++ x :: xs.drop i.toNat) (mc + 1) d' cap' f' h') (E := jj_F0) ?_).to ?_ (fun _ _ _ q => q)
  · refine ⟨ja_is g1, a, _, _, rfl, g1, rfl, ⟨by omega, by omega⟩, ⟨by omega, by omega⟩, fun c => absurd c (by omega), fun _ => ⟨⟨by omega, by omega⟩, fun _ => ?_, fun c => absurd h0 c⟩⟩
    refine ⟨a, _, _, rfl, g1, rfl, a, _, rfl, g1, a, _, _, rfl, jj_set_self _ _ _, rfl, a, _, _, rfl, jj_set_self _ _ _, rfl, d, cap, f, rfl, hA2.2.1, ⟨by omega, by omega⟩, ⟨by omega, by omega⟩, fun c => ?_, fun c => ?_⟩
    · exact pJ_add_3_j hA2 (hel' x List.mem_cons_self) (fun y hy => hel' y (List.mem_cons_of_mem _ hy)) (by omega) h0 hi fun h' f' q => ⟨d, cap, f', q⟩
    · refine ⟨ja_is hA2.1, 2 + xs.length / 2, Nat.le_refl _, a, _, _, rfl, hA2.1, rfl, ja_is hA2.1, 2 + xs.length / 2, Nat.le_refl _, ?_⟩
      refine pJ_grow hA2 (fun y hy => hel' y (List.mem_cons_of_mem _ hy)) (by omega) (by omega) (by omega) fun d' cap' f' h' q1 q2 q3 => ?_
      have hel2 : ∀ y ∈ x :: xs, jj_el h' y := fun y hy => ja_el_up q2.1 q3 (hel' y hy)
      exact pJ_add_3_j q2 (hel2 x List.mem_cons_self) (fun y hy => hel2 y (List.mem_cons_of_mem _ hy)) (by omega) h0 hi fun h'' f'' q => ⟨d', cap', f'', q⟩
  · rintro v h' ⟨rfl, d', cap', f', q⟩
    exact ⟨h, _, mc + 1, d', cap', f', q, rfl, w⟩
theorem ja_al_fresh {h h1 : jj_H} {a b d cap : Nat} {xs : List (Option Nat)} {mc : Int} {f : Int → Option Nat} (hA : ja_al h a xs mc d cap f h1) (c : jj_C) (hb : h1 b = none) : ja_al h a xs mc d cap f (jj_set h1 b c) := by
  obtain ⟨g1, g2, g3, g4, g5, g6, g7, g8, g9⟩ := hA
  refine ⟨(jj_set_ne _ _ (fun e => by rw [e, hb] at g1; cases g1)).trans g1, (jj_set_ne _ _ (fun e => by rw [e, hb] at g2; cases g2)).trans g2, g3, g4, g5, g6, g7, g8, fun b' c' hn hbc => ?_⟩
  have := g9 b' c' hn hbc
  exact (jj_set_ne _ _ (fun e => by rw [e, hb] at this; cases this)).trans this
theorem pJ_addAll_j {gk : Nat → Nat} {h h1 : jj_H} {a d cap t : Nat} {xs ys : List (Option Nat)} {mc : Int} {f f1 : Int → Option Nat} {Q : Int → jj_H → Prop} {E : String → Nat → jj_H → Prop} {k : Nat} (hA : ja_al h a xs mc d cap f h1) (ht : h1 t = some (ja_ra ys.length f1)) (hf1 : ∀ i : Nat, i < ys.length → f1 i = ys.getD i none) (hel : ∀ y ∈ ys, jj_el h1 y) (hc : xs.length + ys.length ≤ cap) (hy : ys.length < 1000) (q : ∀ h' f', ja_al h a (xs ++ ys) mc d cap f' h' → Q 1 h') : fC_J2_addAll_j56 gk (some a) (some t) ys.length (some d) xs.length Q E h1 k := by
  obtain ⟨g1, g2, g3, g4, g5, g6, g7, g8, g9⟩ := hA
  refine ⟨t, ys.length, f1, d, cap, f, rfl, ht, rfl, g2, by omega, by omega, by omega, by omega, by omega, by omega, by omega, ?_, ?_⟩
  · intro j j1 j2
    have := hf1 j.toNat (by omega)
    rw [show ((j.toNat : Nat) : Int) = j by omega] at this
    rw [this]
    have hjx : j.toNat < ys.length := by omega
    rw [List.getD_eq_getElem?_getD, List.getElem?_eq_getElem hjx]
    exact hel _ (List.getElem_mem hjx)
  · refine ⟨a, [.inl mc, jj_rf (some d), .inl xs.length], rfl, (jj_set_ne _ _ (Ne.symm g3)).trans g1, q _ (fun j => if (xs.length : Int) ≤ j ∧ j < (xs.length : Int) + (ys.length : Int) then f1 (j - (xs.length : Int) + 0) else f j) ⟨?_, ?_, g3, g4, by rw [List.length_append]; omega, g6, g7, ?_, ?_⟩⟩
    · rw [jj_set_self, List.length_append]; rfl
    · rw [jj_set_ne _ _ g3, jj_set_self]; rfl
    · intro j hj
      show (if (xs.length : Int) ≤ (j : Int) ∧ (j : Int) < (xs.length : Int) + (ys.length : Int) then f1 ((j : Int) - (xs.length : Int) + 0) else f j) = _
      rw [List.getD_eq_getElem?_getD, List.getElem?_append]
      by_cases e1 : j < xs.length
      · rw [if_neg (by omega), if_pos e1, g8 j hj, List.getD_eq_getElem?_getD]
      · rw [if_neg e1]
        by_cases e2 : j < xs.length + ys.length
        · rw [if_pos (by omega), show (j : Int) - (xs.length : Int) + 0 = ((j - xs.length : Nat) : Int) by omega, hf1 _ (by omega), List.getD_eq_getElem?_getD]
        · rw [if_neg (by omega), g8 j hj, List.getD_eq_getElem?_getD, List.getElem?_eq_none (by omega), List.getElem?_eq_none (by omega)]
    · intro b c hb hbc
      have hbd : b ≠ d := fun e => by rw [e, g4] at hbc; cases hbc
      rw [jj_set_ne _ _ hb, jj_set_ne _ _ hbd]
      exact g9 b c hb hbc
theorem jb_J2_addAll (J : jx_G G l) : jJ_J2_addAll G l := by
  intro o o2 Q h k w
  obtain ⟨a, b, mc, md, xs, ys, rfl, rfl, hab, ha, hb, hel, hlx, hly, hk, w⟩ := w
  refine ⟨a, _, 3 + xs.length + ys.length, rfl, ha, rfl, hk, jb_al J hb fun d2 cap2 f2 h1 hB e1 => ?_⟩
  have ha1 : h1 a = some (jj_al mc xs) := hB.2.2.2.2.2.2.2.2 a _ hab ha
  refine jb_al J ha1 fun d cap f h2 hA e2 => ?_
  obtain ⟨g1, g2, g3, g4, g5, g6, g7, g8, g9⟩ := id hA
  obtain ⟨p1, p2, p3, p4, p5, p6, p7, p8, p9⟩ := id hB
  have hb2 : h2 b = some (ja_o14 md d2 ys.length) := g9 b _ (Ne.symm hab) p1
  have had2 : a ≠ d2 := fun e => by rw [e, p2] at ha1; cases ha1
  have hd2 : h2 d2 = some (ja_ra cap2 f2) := g9 d2 _ (Ne.symm had2) p2
  have hel1 : ∀ y ∈ xs ++ ys, jj_el h1 y := fun y hy => ja_el_up p1 p9 (hel y hy)
  have hel2 : ∀ y ∈ xs ++ ys, jj_el h2 y := fun y hy => ja_el_up g1 g9 (hel1 y hy)
  refine (cC_J2_addAll J (Q := fun r h' => ∃ d' cap' f', ja_al h1 a (xs ++ ys) (mc + 1) d' cap' f' h') (E := jj_F0) ?_).to ?_ (fun _ _ _ q => q)
  · refine ⟨⟨b, _, rfl, hb2, rfl⟩, 1 + ys.length / 4, by omega, b, _, _, rfl, hb2, rfl, b, _, _, rfl, hb2, rfl, _, Nat.le_refl _, pJ_copyOf hd2 (by omega) (by omega) (by omega) ?_ (by omega) ?_⟩
    · intro i hi hin
      rw [p8 i hi, List.getD_eq_getElem?_getD, List.getElem?_eq_getElem (show i < ys.length by omega)]
      exact hel2 _ (List.mem_append_right _ (List.getElem_mem _))
    · intro t f1 ht hf1
      rw [show ((ys.length : Nat) : Int).toNat = ys.length by omega]
      have hA3 := ja_al_fresh hA (ja_ra ys.length f1) ht
      have hA4 := ja_al_mc (mc' := mc + 1) hA3
      have hat : a ≠ t := fun e => by rw [e, ht] at g1; cases g1
      have q1 : jj_set (jj_set h2 t (ja_ra ys.length f1)) a (ja_o14 (mc + 1) d xs.length) t = some (ja_ra ys.length f1) := by
        rw [jj_set_ne _ _ (Ne.symm hat), jj_set_self]
      have hf1' : ∀ i : Nat, i < ys.length → f1 i = ys.getD i none := fun i hi => by
        rw [hf1 i (by omega), if_pos (by omega)]
        exact p8 i (by omega)
      have hel3 : ∀ y ∈ xs ++ ys, jj_el (jj_set (jj_set h2 t (ja_ra ys.length f1)) a (ja_o14 (mc + 1) d xs.length)) y := fun y hy => ja_el_up hA4.1 hA4.2.2.2.2.2.2.2.2 (hel1 y hy)
      refine ⟨a, _, _, rfl, hA3.1, rfl, a, _, rfl, hA3.1, t, _, _, rfl, q1, ⟨by omega, by omega⟩, fun c => ?_, fun c => ?_⟩
      · refine ⟨a, _, _, rfl, jj_set_self _ _ _, rfl, d, cap, f, rfl, hA4.2.1, a, _, _, rfl, jj_set_self _ _ _, rfl, ⟨by omega, by omega⟩, ⟨by omega, by omega⟩, fun c2 => ?_, fun c2 => ?_⟩
        · exact pJ_addAll_j hA4 q1 hf1' (fun y hy => hel3 y (List.mem_append_right _ hy)) (by omega) hly fun h' f' q => ⟨d, cap, f', q⟩
        · refine ⟨ja_is hA4.1, _, Nat.le_refl _, pJ_grow hA4 (fun y hy => hel3 y (List.mem_append_left _ hy)) (by omega) (by omega) (by omega) fun d' cap' f' h' q2 q3 q4 => ?_⟩
          refine pJ_addAll_j q3 (q4 t _ (Ne.symm hat) q1) hf1' (fun y hy => ja_el_up q3.1 q4 (hel3 y (List.mem_append_right _ hy))) (by omega) hly fun h'' f'' q => ⟨d', cap', f'', q⟩
      · have hy0 : ys = [] := List.length_eq_zero_iff.mp (by omega)
        subst hy0
        rw [List.append_nil]
        exact ⟨d, cap, f, hA4⟩
  · rintro v h' ⟨r, rfl, d', cap', f', q⟩
    refine ⟨h1, xs ++ ys, mc + 1, d', cap', f', q, jj_set h a (jj_al (mc + 1) (xs ++ ys)), ys, md, d2, cap2, f2, ja_al_beside hB _ hab had2, r, rfl, ?_⟩
    rw [ja_keep ((jj_set_ne _ _ (Ne.symm hab)).trans hb)]
    exact w r
end JBAL
