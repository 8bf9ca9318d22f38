/-! String: its contracts -/
/-- how a String can be read, open -/
def ja_sr (h1 : jj_H) (a d : Nat) (hv z : Int) (cs : List Int) : Prop := (h1 a = some (ja_o25 d hv z) ∨ (h1 a = some (ja_fz d hv z cs) ∧ (cs ≠ [] → hv ≠ 0))) ∧ ∃ f, jp_byS h1 d cs.length f ∧ ∀ i : Nat, i < cs.length → 0 ≤ cs.getD i 0 ∧ cs.getD i 0 < 256 ∧ f i = jj_sb8 (cs.getD i 0)
def ja_hs (hv z : Int) (cs : List Int) : Prop := cs.length < 1000000 ∧ (z = 0 ∨ z = 1) ∧ (hv ≠ 0 → hv = jj_hash cs) ∧ (z = 1 → jj_hash cs = 0) ∧ jj_r hv
theorem jb_str {G : jj_G} {l : Launch} (J : jx_G G l) {y : MethodName} {ws : List Cond} {fr lo : Nat} {As : List jj_AV} {h : jj_H} {K a : Nat} {cs : List Int} (ha : h a = some (jj_str cs)) {N : Option jj_AV → jj_H → Prop}
    (C : ∀ d hv z h1, ja_sr h1 a d hv z cs → ja_hs hv z cs → (∀ b c, b ≠ a → h b = some c → h1 b = some c) → jj_Ct G l y ws fr lo As h1 K (fun v h' => (h' = h1 ∨ ∃ hv' z', h1 a = some (ja_o25 d hv z) ∧ h' = jj_set h1 a (ja_o25 d hv' z') ∧ ja_hs hv' z' cs) ∧ N v h) jj_F0) : jj_Ct G l y ws fr lo As h K N jj_F0 := by
  have hsame : jj_set h a (jj_str cs) = h := jj_set_same ha
  refine jj_Ct.ex (I := (Nat × Int × Int × jj_H)) (Pi := fun i => ja_sr i.2.2.2 a i.1 i.2.1 i.2.2.1 cs ∧ ja_hs i.2.1 i.2.2.1 cs ∧ (∀ b c, b ≠ a → h b = some c → i.2.2.2 b = some c) ∧ ((i.2.2.2 = jj_set h a (ja_fz i.1 i.2.1 i.2.2.1 cs)) ∨ (h i.1 = none ∧ i.1 ≠ a ∧ ∃ f, i.2.2.2 = jj_set (jj_set h i.1 (.inr (.inl (2, cs.length, f)))) a (ja_o25 i.1 i.2.1 i.2.2.1) ∧ ∀ j : Nat, j < cs.length → 0 ≤ cs.getD j 0 ∧ cs.getD j 0 < 256 ∧ f j = jj_sb8 (cs.getD j 0)))) (hh := fun i => i.2.2.2) ?_ (fun i hi => C _ _ _ _ hi.1 hi.2.1 hi.2.2.1) ?_ (fun _ _ _ _ _ _ q => q.elim)
  · intro U hK hR
    obtain ⟨d, hv, z, f, ⟨cs2, d2, hv2, z2, f2, e1, e2, e3, e4, e5, e6, e7, e8, e9, e10⟩, hR'⟩ := ja_opens J.2.1.1 hR ha
    have q1 : cs = cs2 := (List.map_inj_right (fun x y hxy => Sum.inl.inj hxy)).mp e1
    subst q1
    have q2 : d = d2 ∧ hv = hv2 ∧ z = z2 := by
      simp only [jj_rf, List.cons.injEq, Sum.inr.injEq, Sum.inl.injEq, Option.some.injEq, and_true, true_and] at e2
      exact e2
    obtain ⟨rfl, rfl, rfl⟩ := q2
    have q3 : f = f2 := by
      have := (List.cons.inj e3).1
      simp only [Prod.mk.injEq, Sum.inr.injEq, Sum.inl.injEq, true_and] at this
      exact this
    subst q3
    rcases hR' with ⟨hd, hR'⟩ | ⟨hz9, hR'⟩
    · refine ⟨(d, hv, z, _), ⟨⟨Or.inl (jj_set_self _ _ _), f, Or.inl ?_, e10⟩, ⟨e5, e6, e7, e8, e9⟩, fun b c hb hbc => ?_, Or.inr ⟨hd, e4, f, rfl, e10⟩⟩, hR'⟩
      · show jj_set (jj_set h d _) a _ d = _
        rw [jj_set_ne _ _ e4, jj_set_self]
      · show jj_set (jj_set h d _) a _ b = _
        rw [jj_set_ne _ _ hb, jj_set_ne _ _ (fun e => by rw [e, hd] at hbc; cases hbc)]
        exact hbc
    · refine ⟨(d, hv, z, _), ⟨⟨Or.inr ⟨jj_set_self _ _ _, hz9⟩, f, Or.inr ⟨a, hv, z, cs, jj_set_self _ _ _, rfl, fun i hi => (e10 i hi).2.2⟩, e10⟩, ⟨e5, e6, e7, e8, e9⟩, fun b c hb hbc => (jj_set_ne _ _ hb).trans hbc, Or.inl rfl⟩, hR'⟩
  · rintro ⟨d, hv, z, h1⟩ v h' H ⟨hs, hh, hk, hc⟩ ⟨h2, hN⟩ hR
    refine ⟨h, hN, ?_⟩
    dsimp only at hs hh hk hc h2
    rcases hc with hc | ⟨hd, hda, f, hc, hf⟩
    · subst hc
      rcases h2 with h2 | ⟨hv', z', h3, -⟩
      · subst h2
        have := ja_unfz J.2.1.1 hR
        rwa [hsame] at this
      · rw [jj_set_self] at h3
        cases h3
    · have key : ∀ hv' z', ja_hs hv' z' cs → jj_R G (jj_set (jj_set h d (.inr (.inl (2, cs.length, f)))) a (ja_o25 d hv' z')) H → jj_R G h H := by
        intro hv' z' ⟨r1, r2, r3, r4, r5⟩ hR9
        have := ja_close J.2.1.1 (h := h) (x := (1, cs.map (fun c => (.inl c : jj_AV)))) (L := [(a, ja_o25 d hv' z'), (d, .inr (.inl (2, cs.length, f)))]) hR9 ⟨25, _, _, rfl, rfl, cs, d, hv', z', f, rfl, rfl, rfl, hda, r1, r2, r3, r4, r5, hf⟩ ?_ ?_ ?_
        · have e9 : jj_set h a (.inr (.inr (.inr (.inr (1, cs.map (fun c => (.inl c : jj_AV))))))) = h := hsame
          rwa [e9] at this
        · intro q hq
          simp only [List.mem_cons, List.not_mem_nil, or_false] at hq
          rcases hq with rfl | rfl
          · exact ⟨jj_set_self _ _ _, trivial⟩
          · exact ⟨(jj_set_ne _ _ hda).trans (jj_set_self _ _ _), trivial⟩
        · intro q hq hne
          simp only [List.mem_cons, List.not_mem_nil, or_false] at hq
          rcases hq with rfl | rfl
          · exact absurd rfl hne
          · exact hd
        · intro b c hb hbc
          rw [jj_set_ne _ _ hb, jj_set_ne _ _ (fun e => by rw [e, hd] at hbc; cases hbc)]
          exact hbc
      subst hc
      rcases h2 with h2 | ⟨hv', z', -, h2, hh'⟩
      · subst h2
        exact key hv z hh hR
      · subst h2
        rw [jj_set_set] at hR
        exact key hv' z' hh' hR
section JBST
variable {G : jj_G} {l : Launch}
theorem ja_sr_is {h1 : jj_H} {a d : Nat} {hv z : Int} {cs : List Int} (hs : ja_sr h1 a d hv z cs) : jp_is h1 (some a) 25 := by
  rcases hs.1 with e | ⟨e, -⟩
  · exact ⟨a, _, rfl, e, rfl⟩
  · exact ⟨a, _, rfl, e, rfl⟩
theorem ja_sr_g {h1 : jj_H} {a d : Nat} {hv z : Int} {cs : List Int} (hs : ja_sr h1 a d hv z cs) : h1 a = some (.inl (25, [jj_rf (some d), .inl 0, .inl hv, .inl z])) ∨ ∃ d' hv' z' cs', h1 a = some (ja_fz d' hv' z' cs') ∧ [jj_rf (some d), .inl 0, .inl hv, .inl z] = [jj_rf (some d'), .inl 0, .inl hv', .inl z'] := by
  rcases hs.1 with e | ⟨e, -⟩
  · exact Or.inl e
  · exact Or.inr ⟨d, hv, z, cs, e, rfl⟩
theorem pJ_isLatin1 {gk : Nat → Nat} {h1 : jj_H} {a d : Nat} {hv z : Int} {cs : List Int} {Q : Int → jj_H → Prop} {E : String → Nat → jj_H → Prop} {k : Nat} (hs : ja_sr h1 a d hv z cs) (q : Q 1 h1) : fC_J9_isLatin1 gk (some a) Q E h1 k :=
  ⟨⟨by omega, by omega⟩, fun c => absurd c (by omega), fun _ => ⟨a, _, 0, rfl, ja_sr_g hs, rfl, ⟨by omega, by omega⟩, fun c => absurd rfl c, fun _ => q⟩⟩
theorem jj_shr0 {m : Nat} (hm : m < 2147483648) : jj_shr (m : Int) 0 = (m : Int) := by
  have e : Int32.ofInt (m : Int) = nI m := Int32.ofInt_eq_ofNat
  unfold jj_shr
  rw [e, pk_shrN (by omega) _ 0 (by decide)]
  have e2 : nI (m / 2 ^ 0) = Int32.ofInt (m : Int) := by rw [Nat.pow_zero, Nat.div_one]; exact e.symm
  rw [e2]
  exact jj_ti ⟨by omega, by omega⟩
theorem cb_J9_length (J : jx_G G l) {fr lo : Nat} (hf9 : 1 ≤ fr) (hl9 : 20 ≤ lo) : ∀ (o : Option Nat) (Q : Int → jj_H → Nat → Prop) (h : jj_H) (k : Nat), jq_J9_length o Q h k → jj_jcR G l fr lo yJ9_length cJ9_length 1 (some (.int)) 25 o [] h k (jn_i Q) := by
  intro o Q h k w
  obtain ⟨a, cs, rfl, ha, w⟩ := w
  refine ⟨a, _, 0, rfl, ha, rfl, Nat.zero_le _, jb_str J ha fun d hv z h1 hs hh hk => ?_⟩
  refine (cC_J9_length J (Q := fun r h' => r = cs.length ∧ h' = h1) (E := jj_F0) ?_).to ?_ (fun _ _ _ q => q)
  · obtain ⟨f, hby, hf⟩ := hs.2
    refine ⟨a, _, some d, rfl, ja_sr_g hs, rfl, d, _, f, rfl, hby, ja_sr_is hs, ⟨by omega, by omega⟩, fun c => absurd c (by omega), fun _ => ⟨a, _, 0, rfl, ja_sr_g hs, rfl, ⟨by omega, by omega⟩, ?_, rfl⟩⟩
    exact jj_shr0 (by have := hh.1; omega)
  · rintro v h' ⟨r, rfl, rfl, rfl⟩
    exact ⟨Or.inl rfl, _, rfl, w⟩
theorem jb_J9_length (J : jx_G G l) : jJ_J9_length G l := cb_J9_length J (by decide) (by decide)
theorem jj_b255 {c : Int} (h : 0 ≤ c ∧ c < 256) : jj_and (jj_sb8 c) 255 = c ∧ jj_i2c (jj_and (jj_sb8 c) 255) = c := by
  have key : ∀ n : Nat, n < 256 → jj_and (jj_sb8 (n : Int)) 255 = (n : Int) ∧ jj_i2c (jj_and (jj_sb8 (n : Int)) 255) = (n : Int) := by decide +kernel
  have := key c.toNat (by omega)
  rwa [show ((c.toNat : Nat) : Int) = c by omega] at this
theorem jb_J9_charAt (J : jx_G G l) : jJ_J9_charAt G l := by
  intro o i Q h k w
  obtain ⟨a, cs, rfl, ha, h0, hi, w⟩ := w
  refine ⟨a, _, 0, rfl, ha, rfl, Nat.zero_le _, jb_str J ha fun d hv z h1 hs hh hk => ?_⟩
  refine (cC_J9_charAt J (Q := fun r h' => r = cs.getD i.toNat 0 ∧ h' = h1) (E := jj_F0) ?_).to ?_ (fun _ _ _ q => q)
  · obtain ⟨f, hby, hf⟩ := hs.2
    obtain ⟨c1, c2, c3⟩ := hf i.toNat (by omega)
    rw [show ((i.toNat : Nat) : Int) = i by omega] at c3
    have hl := hh.1
    refine ⟨ja_sr_is hs, pJ_isLatin1 hs ⟨⟨by omega, by omega⟩, fun c => absurd c (by omega), fun _ => ⟨a, _, some d, rfl, ja_sr_g hs, rfl, d, _, f, rfl, hby, fun r => ?_⟩⟩⟩
    refine ⟨⟨by omega, by omega⟩, fun c => absurd c (by omega), fun _ => ⟨⟨by omega, by omega⟩, ⟨by omega, by omega⟩, fun _ => ⟨d, _, f, rfl, hby, h0, hi, ?_⟩, fun c => absurd hi c⟩⟩
    rw [c3]
    have e9 := (jj_b255 ⟨c1, c2⟩).2
    exact ⟨⟨by rw [e9]; exact c1, by rw [e9]; exact c2⟩, ⟨by rw [e9]; exact c1, by rw [e9]; exact c2⟩, e9, rfl⟩
  · rintro v h' ⟨r, rfl, rfl, rfl⟩
    exact ⟨Or.inl rfl, _, rfl, w⟩
theorem jj_and8 {c : Int} (h : 0 ≤ c ∧ c < 256) : jj_and (jj_sb8 c) 255 = c := (jj_b255 h).1
theorem jj_sb8_inj {c e : Int} (hc : 0 ≤ c ∧ c < 256) (he : 0 ≤ e ∧ e < 256) (h : jj_sb8 c = jj_sb8 e) : c = e := by
  rw [← jj_and8 hc, ← jj_and8 he, h]
theorem jj_sb8_r {c : Int} (h : 0 ≤ c ∧ c < 256) : jj_r (jj_sb8 c) := by
  unfold jj_sb8
  split <;> exact ⟨by omega, by omega⟩
/-- the bytes are compared, one by one -/
theorem pJ_eqB {gk : Nat → Nat} {h : jj_H} {d e : Nat} {cs ds : List Int} {f g : Int → Int} {Q : Int → jj_H → Prop} {E : String → Nat → jj_H → Prop} {k : Nat} (hf : jp_byS h d cs.length f) (hf' : ∀ i : Nat, i < cs.length → 0 ≤ cs.getD i 0 ∧ cs.getD i 0 < 256 ∧ f i = jj_sb8 (cs.getD i 0)) (hg : jp_byS h e ds.length g) (hg' : ∀ i : Nat, i < ds.length → 0 ≤ ds.getD i 0 ∧ ds.getD i 0 < 256 ∧ g i = jj_sb8 (ds.getD i 0)) (hl : cs.length < 1000000) (he : cs.length = ds.length) (q : Q (if cs = ds then 1 else 0) h) : ∀ (n i : Nat), i ≤ cs.length → cs.length - i < n → (∀ j : Nat, j < i → cs.getD j 0 = ds.getD j 0) → fC_J15_equals_l9 gk (some d) (some e) Q E n (i : Int) h k := by
  intro n
  induction n with
  | zero => intro i _ hn; omega
  | succ n ih =>
    intro i hi hn hp
    rw [fC_J15_equals_l9]
    refine ⟨d, _, f, rfl, hf, ⟨by omega, by omega⟩, ⟨by omega, by omega⟩, fun c => ?_, fun c => ?_⟩
    · have : cs = ds := by
        apply List.ext_getElem?
        intro j
        by_cases hj : j < cs.length
        · have := hp j (by omega)
          rw [List.getD_eq_getElem?_getD, List.getD_eq_getElem?_getD, List.getElem?_eq_getElem hj, List.getElem?_eq_getElem (show j < ds.length by omega)] at this
          rw [List.getElem?_eq_getElem hj, List.getElem?_eq_getElem (show j < ds.length by omega)]
          exact congrArg some this
        · rw [List.getElem?_eq_none (by omega), List.getElem?_eq_none (by omega)]
      rwa [if_pos this] at q
    · obtain ⟨a1, a2, a3⟩ := hf' i (by omega)
      obtain ⟨b1, b2, b3⟩ := hg' i (by omega)
      refine ⟨d, _, f, rfl, hf, by omega, by omega, e, _, g, rfl, hg, by omega, by omega, by rw [a3]; exact jj_sb8_r ⟨a1, a2⟩, by rw [b3]; exact jj_sb8_r ⟨b1, b2⟩, fun c9 => ?_, fun c9 => ?_⟩
      · intro v hv
        rw [show v = ((i + 1 : Nat) : Int) by omega]
        refine ih (i + 1) (by omega) (by omega) fun j hj => ?_
        by_cases hji : j = i
        · rw [hji]
          exact jj_sb8_inj ⟨a1, a2⟩ ⟨b1, b2⟩ (by rw [← a3, ← b3]; exact c9)
        · exact hp j (by omega)
      · have : ¬ cs = ds := fun e9 => c9 (by rw [a3, b3, e9])
        rwa [if_neg this] at q
theorem pJ_equals {gk : Nat → Nat} {h1 : jj_H} {a b d e : Nat} {hv z hw y : Int} {cs ds : List Int} {Q : Int → jj_H → Prop} {E : String → Nat → jj_H → Prop} {k : Nat} (hs : ja_sr h1 a d hv z cs) (ht : ja_sr h1 b e hw y ds) (hl : cs.length < 1000000) (hl2 : ds.length < 1000000) (hab : a ≠ b) (q : Q (if cs = ds then 1 else 0) h1) : fC_J9_equals gk (some a) (some b) Q E h1 k := by
  obtain ⟨f, hf, hf'⟩ := hs.2
  obtain ⟨g, hg, hg'⟩ := ht.2
  refine ⟨fun _ => ⟨ja_sr_is ht, ⟨by omega, by omega⟩, fun c => absurd c (by omega), fun _ => ⟨ja_sr_is ht, ⟨by omega, by omega⟩, fun c => absurd c (by omega), fun _ => ⟨a, _, 0, rfl, ja_sr_g hs, rfl, b, _, 0, rfl, ja_sr_g ht, rfl, ⟨by omega, by omega⟩, ⟨by omega, by omega⟩, fun c => absurd rfl c, fun _ => ?_⟩⟩⟩, fun c => absurd (Option.some.inj c) hab⟩
  refine ⟨a, _, some d, rfl, ja_sr_g hs, rfl, b, _, some e, rfl, ja_sr_g ht, rfl, d, _, f, rfl, hf, e, _, g, rfl, hg, ⟨by omega, by omega⟩, ⟨by omega, by omega⟩, fun c => ?_, fun c => ⟨cs.length + 1, ?_⟩⟩
  · have : ¬ cs = ds := fun e9 => c (by rw [e9])
    rw [if_neg this] at q
    exact ⟨⟨by omega, by omega⟩, fun _ => q, fun c => absurd rfl c⟩
  · refine pJ_eqB (cs := cs) (ds := ds) hf hf' hg hg' hl (by omega) ?_ (cs.length + 1) 0 (Nat.zero_le _) (by omega) (fun j hj => absurd hj (Nat.not_lt_zero _))
    by_cases e9 : cs = ds
    · rw [if_pos e9] at q ⊢
      exact ⟨⟨by omega, by omega⟩, fun c => absurd c (by omega), fun _ => q⟩
    · rw [if_neg e9] at q ⊢
      exact ⟨⟨by omega, by omega⟩, fun _ => q, fun c => absurd rfl c⟩
theorem ja_sr_up {h1 h2 : jj_H} {a b d : Nat} {hv z : Int} {cs ds : List Int} (hs : ja_sr h1 a d hv z cs) (hb : h1 b = some (jj_str ds)) (hab : a ≠ b) (hk : ∀ b' c, b' ≠ b → h1 b' = some c → h2 b' = some c) : ja_sr h2 a d hv z cs := by
  obtain ⟨h3, f, hf, hf'⟩ := hs
  refine ⟨?_, f, ?_, hf'⟩
  · rcases h3 with e | ⟨e, e3⟩
    · exact Or.inl (hk a _ hab e)
    · exact Or.inr ⟨hk a _ hab e, e3⟩
  · rcases hf with e | ⟨a', hv', z', cs', e, e2⟩
    · exact Or.inl (hk d _ (fun q => by rw [q, hb] at e; cases e) e)
    · exact Or.inr ⟨a', hv', z', cs', hk a' _ (fun q => by rw [q, hb] at e; cases e) e, e2⟩
theorem cb_J9_equals (J : jx_G G l) {fr lo : Nat} (hf9 : 1 ≤ fr) (hl9 : 22 ≤ lo) : ∀ (o : Option Nat) (x0 : Option Nat) (Q : Int → jj_H → Nat → Prop) (h : jj_H) (k : Nat), jq_J9_equals o x0 Q h k → jj_jcR G l fr lo yJ9_equals cJ9_equals 3 (some (.boolean)) 25 o [.inr (.inr (.inl x0))] h k (jn_i Q) := by
  intro o x Q h k w
  obtain ⟨a, b, cs, ds, rfl, rfl, ha, hb, w⟩ := w
  refine ⟨a, _, 0, rfl, ha, rfl, Nat.zero_le _, jb_str J ha fun d hv z h1 hs hh hk => ?_⟩
  by_cases hab : a = b
  · subst hab
    have e9 : cs = ds := by
      rw [ha] at hb
      have := Option.some.inj hb
      simp only [jj_str, Sum.inr.injEq, Prod.mk.injEq, true_and] at this
      exact (List.map_inj_right (fun x y hxy => Sum.inl.inj hxy)).mp this
    refine (cC_J9_equals J (Q := fun r h' => r = 1 ∧ h' = h1) (E := jj_F0) ⟨fun c => absurd rfl c, fun _ => ⟨rfl, rfl⟩⟩).to ?_ (fun _ _ _ q => q)
    rintro v h' ⟨r, rfl, rfl, rfl⟩
    rw [if_pos e9] at w
    exact ⟨Or.inl rfl, _, rfl, w⟩
  · have hb1 := hk b _ (Ne.symm hab) hb
    refine jb_str J hb1 fun e hw y h2 ht hh2 hk2 => ?_
    refine (cC_J9_equals J (Q := fun r h' => r = (if cs = ds then 1 else 0) ∧ h' = h2) (E := jj_F0) (pJ_equals (ja_sr_up hs hb1 hab hk2) ht hh.1 hh2.1 hab ⟨rfl, rfl⟩)).to ?_ (fun _ _ _ q => q)
    rintro v h' ⟨r, rfl, rfl, rfl⟩
    exact ⟨Or.inl rfl, Or.inl rfl, _, rfl, w⟩
theorem jb_J9_equals (J : jx_G G l) : jJ_J9_equals G l := cb_J9_equals J (by decide) (by decide)
end JBST
