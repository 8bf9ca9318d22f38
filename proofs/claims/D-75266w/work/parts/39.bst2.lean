/-! String.hashCode, coder, getBytes: contracts -/
section JBS2
variable {G : jj_G} {l : Launch}
theorem jj_i2l_r (x : Int) : jj_r (jj_i2l x) := ⟨Int32.le_toInt _, Int32.toInt_lt _⟩
theorem jj_hash_snoc (cs : List Int) (c : Int) : jj_hash (cs ++ [c]) = jj_i2l (31 * jj_hash cs + c) := by
  unfold jj_hash
  rw [List.foldl_append]
  rfl
theorem jj_hash_r (cs : List Int) : jj_r (jj_hash cs) := by
  rcases List.eq_nil_or_concat cs with rfl | ⟨ds, c, rfl⟩
  · exact ⟨by decide, by decide⟩
  · rw [List.concat_eq_append, jj_hash_snoc]
    exact jj_i2l_r _
theorem jj_take1 (cs : List Int) {i : Nat} (hi : i < cs.length) : cs.take (i + 1) = cs.take i ++ [cs.getD i 0] := by
  rw [List.take_succ_eq_append_getElem hi, List.getD_eq_getElem?_getD, List.getElem?_eq_getElem hi]
  rfl
theorem pJ_hashL {gk : Nat → Nat} {h : jj_H} {d : Nat} {cs : List Int} {f : Int → Int} {Q : Int → jj_H → Prop} {E : String → Nat → jj_H → Prop} {k : Nat} (hby : jp_byS h d cs.length f) (hf : ∀ i : Nat, i < cs.length → 0 ≤ cs.getD i 0 ∧ cs.getD i 0 < 256 ∧ f i = jj_sb8 (cs.getD i 0)) (hl : cs.length < 1000000) (q : Q (jj_hash cs) h) : ∀ (n i : Nat), i ≤ cs.length → cs.length - i < n → fC_J11_signedHashCode_l8 gk (some d) (cs.length : Int) Q E n (jj_hash (cs.take i)) (i : Int) h k := by
  intro n
  induction n with
  | zero => intro i _ hn; omega
  | succ n ih =>
    intro i hi hn
    rw [fC_J11_signedHashCode_l8]
    refine ⟨⟨by omega, by omega⟩, ⟨by omega, by omega⟩, fun c => ?_, fun c => ?_⟩
    · rw [List.take_of_length_le (by omega)]
      exact q
    · obtain ⟨a1, a2, a3⟩ := hf i (by omega)
      refine ⟨d, _, f, rfl, hby, by omega, by omega, fun v hv w hw => ?_⟩
      have e := ih (i + 1) (by omega) (by omega)
      rw [jj_take1 cs (by omega), jj_hash_snoc] at e
      rw [a3, jj_and8 ⟨a1, a2⟩] at hv
      rw [hv, hw]
      exact e
theorem pJ_hash15 {gk : Nat → Nat} {h : jj_H} {d : Nat} {cs : List Int} {f : Int → Int} {Q : Int → jj_H → Prop} {E : String → Nat → jj_H → Prop} {k : Nat} (hby : jp_byS h d cs.length f) (hf : ∀ i : Nat, i < cs.length → 0 ≤ cs.getD i 0 ∧ cs.getD i 0 < 256 ∧ f i = jj_sb8 (cs.getD i 0)) (hl : cs.length < 1000000) (q : Q (jj_hash cs) h) : fC_J15_hashCode gk (some d) Q E h k := by
  refine ⟨d, _, f, rfl, hby, ⟨by omega, by omega⟩, fun c => ?_, fun c => ?_, fun c => ?_⟩
  · have : cs = [] := List.eq_nil_of_length_eq_zero (by omega)
    rw [this] at q
    exact q
  · obtain ⟨x, rfl⟩ : ∃ x, cs = [x] := List.length_eq_one_iff.mp (by omega)
    obtain ⟨a1, a2, a3⟩ := hf 0 (by simp)
    refine ⟨d, _, f, rfl, hby, by omega, by simp, ?_⟩
    show Q (jj_and (f ((0 : Nat) : Int)) 255) h
    rw [a3, jj_and8 ⟨a1, a2⟩]
    have e : jj_hash [x] = x := by
      show (Int32.ofInt (31 * 0 + x)).toInt = x
      have a1' : 0 ≤ x := a1
      have a2' : x < 256 := a2
      rw [show (31 * 0 + x) = x by omega]
      exact jj_ti ⟨by omega, by omega⟩
    rw [e] at q
    exact q
  · refine ⟨d, _, f, rfl, hby, ⟨by decide, by decide⟩, fun _ => ⟨⟨d, _, f, rfl, hby⟩, ?_⟩, fun c => absurd c (by decide), fun c => absurd c (by decide), fun c => absurd c (by decide), fun c => absurd c (by decide), fun c => absurd c (by decide), fun c => absurd c (by decide), fun c => absurd c (by omega)⟩
    intro v hv
    refine ⟨cs.length + 1, ?_⟩
    rw [show v = (cs.length : Int) by omega]
    exact pJ_hashL hby hf hl q (cs.length + 1) 0 (Nat.zero_le _) (by omega)
theorem pJ_hashCode {gk : Nat → Nat} {h1 : jj_H} {a d : Nat} {hv z : Int} {cs : List Int} {Q : Int → jj_H → Prop} {E : String → Nat → jj_H → Prop} {k : Nat} (hs : ja_sr h1 a d hv z cs) (hh : ja_hs hv z cs) (hne : cs ≠ []) (q0 : Q (jj_hash cs) h1) (q : ∀ hv' z', h1 a = some (ja_o25 d hv z) → ja_hs hv' z' cs → Q (jj_hash cs) (jj_set h1 a (ja_o25 d hv' z'))) : fC_J9_hashCode gk (some a) Q E h1 k := by
  obtain ⟨r1, r2, r3, r4, r5⟩ := hh
  refine ⟨a, _, hv, rfl, ja_sr_g hs, rfl, r5, fun c => ?_, fun c => ⟨a, _, z, rfl, ja_sr_g hs, rfl, ⟨by omega, by omega⟩, fun c2 => ?_, fun c2 => ?_⟩⟩
  · rw [r3 c]; exact q0
  · rw [c, ← r4 (by omega)]; exact q0
  · have hown : h1 a = some (ja_o25 d hv z) := hs.1.elim id (fun e => absurd c (e.2 hne))
    obtain ⟨f, hby, hf⟩ := hs.2
    refine ⟨ja_sr_is hs, pJ_isLatin1 hs ⟨⟨by omega, by omega⟩, fun c => absurd c (by omega), fun _ => ⟨a, _, some d, rfl, ja_sr_g hs, rfl, pJ_hash15 hby hf r1 ⟨jj_hash_r cs, fun c3 => ?_, fun c3 => ?_⟩⟩⟩⟩
    · exact ⟨a, _, rfl, hown, q (jj_hash cs) z hown ⟨r1, r2, fun _ => rfl, r4, jj_hash_r cs⟩⟩
    · exact ⟨a, _, rfl, hown, Or.inr rfl, q hv 1 hown ⟨r1, Or.inr rfl, r3, fun _ => c3, r5⟩⟩
theorem cb_J9_hashCode (J : jx_G G l) {fr lo : Nat} (hf9 : 3 ≤ fr) (hl9 : 69 ≤ lo) : ∀ (o : Option Nat) (Q : Int → jj_H → Nat → Prop) (h : jj_H) (k : Nat), jq_J9_hashCode o Q h k → jj_jcR G l fr lo yJ9_hashCode cJ9_hashCode 2 (some (.int)) 25 o [] h k (jn_i Q) := by
  intro o Q h k w
  obtain ⟨a, cs, rfl, ha, hne, w⟩ := w
  refine ⟨a, _, 0, rfl, ha, rfl, Nat.zero_le _, jb_str J ha fun d hv z h1 hs hh hk => ?_⟩
  refine (cC_J9_hashCode J (Q := fun r h' => r = jj_hash cs ∧ (h' = h1 ∨ ∃ hv' z', h1 a = some (ja_o25 d hv z) ∧ h' = jj_set h1 a (ja_o25 d hv' z') ∧ ja_hs hv' z' cs)) (E := jj_F0) (pJ_hashCode hs hh hne ⟨rfl, Or.inl rfl⟩ (fun hv' z' q1 q2 => ⟨rfl, Or.inr ⟨hv', z', q1, rfl, q2⟩⟩))).to ?_ (fun _ _ _ q => q)
  rintro v h' ⟨r, rfl, rfl, q⟩
  exact ⟨q, _, rfl, w⟩
theorem jb_J9_hashCode (J : jx_G G l) : jJ_J9_hashCode G l := cb_J9_hashCode J (by decide) (by decide)
theorem hj_J9_coder : yJ9_coder.cls = RJ9 ∧ yJ9_coder.cls ≠ "java/lang/invoke/MethodHandle" ∧ yJ9_coder.cls ≠ "java/lang/invoke/VarHandle" ∧ (parseMethodDescriptor yJ9_coder.desc).map (fun d => d.parameters.length) = some 0 := hC_J9_coder
theorem hj_J9_getBytes : yJ9_getBytes.cls = RJ9 ∧ yJ9_getBytes.cls ≠ "java/lang/invoke/MethodHandle" ∧ yJ9_getBytes.cls ≠ "java/lang/invoke/VarHandle" ∧ (parseMethodDescriptor yJ9_getBytes.desc).map (fun d => d.parameters.length) = some 3 := hC_J9_getBytes
def jq_J9_coder (o : Option Nat) (Q : Int → jj_H → Nat → Prop) (h : jj_H) (k : Nat) : Prop := ∃ a cs, o = some a ∧ h a = some (jj_str cs) ∧ Q 0 h k
/-- the letters of cs, as bytes, from place dp on -/
def jj_lay (cs : List Int) (dp : Int) (g : Int → Int) : Int → Int := fun j => if dp ≤ j ∧ j < dp + (cs.length : Int) then jj_sb8 (cs.getD (j - dp).toNat 0) else g j
def jq_J9_getBytes (o x : Option Nat) (dp c : Int) (Q : jj_H → Nat → Prop) (h : jj_H) (k : Nat) : Prop := ∃ a b cs n g, o = some a ∧ h a = some (jj_str cs) ∧ x = some b ∧ h b = some (.inr (.inl (2, n, g))) ∧ c = 0 ∧ 0 ≤ dp ∧ dp + (cs.length : Int) ≤ (n : Int) ∧ n < 16777216 ∧ ((∀ i : Nat, i < cs.length → 0 ≤ cs.getD i 0 ∧ cs.getD i 0 < 256) → Q (jj_set h b (.inr (.inl (2, n, jj_lay cs dp g)))) k)
theorem pJ_coder {gk : Nat → Nat} {h1 : jj_H} {a d : Nat} {hv z : Int} {cs : List Int} {Q : Int → jj_H → Prop} {E : String → Nat → jj_H → Prop} {k : Nat} (hs : ja_sr h1 a d hv z cs) (q : Q 0 h1) : fC_J9_coder gk (some a) Q E h1 k :=
  ⟨⟨by decide, by decide⟩, fun c => absurd c (by decide), fun _ => ⟨a, _, 0, rfl, ja_sr_g hs, rfl, ⟨by decide, by decide⟩, q⟩⟩
theorem cb_J9_coder (J : jx_G G l) {fr lo : Nat} (hf9 : 0 ≤ fr) (hl9 : 0 ≤ lo) : ∀ (o : Option Nat) (Q : Int → jj_H → Nat → Prop) (h : jj_H) (k : Nat), jq_J9_coder o Q h k → jj_jcR G l fr lo yJ9_coder cJ9_coder 1 (some (.byte)) 25 o [] h k (jn_i Q) := by
  intro o Q h k w
  obtain ⟨a, cs, rfl, ha, w⟩ := w
  refine ⟨a, _, 0, rfl, ha, rfl, Nat.zero_le _, jb_str J ha fun d hv z h1 hs hh hk => ?_⟩
  refine (cC_J9_coder J (Q := fun r h' => r = 0 ∧ h' = h1) (E := jj_F0) (pJ_coder hs ⟨rfl, rfl⟩)).to ?_ (fun _ _ _ q => q)
  rintro v h' ⟨r, rfl, rfl, rfl⟩
  exact ⟨Or.inl rfl, _, rfl, w⟩
theorem jj_shlN {m : Nat} (s : Int) (c : Nat) (hs : (((Int32.ofInt s) &&& 31).toBitVec.smod 32).toNat = c) (h : m * 2 ^ c < 2147483648) : jj_shl (m : Int) s = ((m * 2 ^ c : Nat) : Int) := by
  have e : Int32.ofInt (m : Int) = nI m := Int32.ofInt_eq_ofNat
  unfold jj_shl
  rw [e, pk_shlN _ c hs (by omega)]
  have e2 : nI (m * 2 ^ c) = Int32.ofInt ((m * 2 ^ c : Nat) : Int) := Int32.ofInt_eq_ofNat.symm
  rw [e2]
  exact jj_ti ⟨by omega, by omega⟩
theorem jj_shl0 {x : Int} (h0 : 0 ≤ x) (h : x < 2147483648) : jj_shl x 0 = x := by
  have := jj_shlN (m := x.toNat) 0 0 (by decide) (by omega)
  rw [show ((x.toNat : Nat) : Int) = x by omega] at this
  rw [this]
  omega
theorem jj_sb8_b {c : Int} (h : 0 ≤ c ∧ c < 256) : -128 ≤ jj_sb8 c ∧ jj_sb8 c < 128 := by
  unfold jj_sb8
  split <;> exact ⟨by omega, by omega⟩
theorem jj_getD_i {cs : List Int} {P : Int → Prop} {f : Int → Int} (hf : ∀ i : Nat, i < cs.length → 0 ≤ cs.getD i 0 ∧ cs.getD i 0 < 256 ∧ f i = jj_sb8 (cs.getD i 0)) {i : Int} (h0 : 0 ≤ i) (h : i < (cs.length : Int)) : 0 ≤ cs.getD i.toNat 0 ∧ cs.getD i.toNat 0 < 256 ∧ f i = jj_sb8 (cs.getD i.toNat 0) := by
  have := hf i.toNat (by omega)
  rwa [show ((i.toNat : Nat) : Int) = i by omega] at this
/-- a String is read while another cell is written -/
theorem jb_strB (J : jx_G G l) {y : MethodName} {ws : List Cond} {fr lo : Nat} {As : List jj_AV} {h : jj_H} {K a b : Nat} {cs : List Int} (ha : h a = some (jj_str cs)) {c0 : jj_C} (hb : h b = some c0) (hba : b ≠ a) {N : Option jj_AV → jj_H → Prop}
    (C : ∀ d hv z h1, ja_sr h1 a d hv z cs → ja_hs hv z cs → (∀ b c, b ≠ a → h b = some c → h1 b = some c) → jj_Ct G l y ws fr lo As h1 K (fun v h' => ∃ c, h' = jj_set h1 b c ∧ N v (jj_set h b c)) jj_F0) : jj_Ct G l y ws fr lo As h K N jj_F0 := by
  refine jj_Ct.ex (I := (Nat × Int × Int × jj_H)) (Pi := fun i => ja_sr i.2.2.2 a i.1 i.2.1 i.2.2.1 cs ∧ ja_hs i.2.1 i.2.2.1 cs ∧ (∀ b c, b ≠ a → h b = some c → i.2.2.2 b = some c) ∧ ((i.2.2.2 = jj_set h a (ja_fz i.1 i.2.1 i.2.2.1 cs)) ∨ (h i.1 = none ∧ i.1 ≠ a ∧ ∃ f, i.2.2.2 = jj_set (jj_set h i.1 (.inr (.inl (2, cs.length, f)))) a (ja_o25 i.1 i.2.1 i.2.2.1) ∧ ∀ j : Nat, j < cs.length → 0 ≤ cs.getD j 0 ∧ cs.getD j 0 < 256 ∧ f j = jj_sb8 (cs.getD j 0)))) (hh := fun i => i.2.2.2) ?_ (fun i hi => C _ _ _ _ hi.1 hi.2.1 hi.2.2.1) ?_ (fun _ _ _ _ _ _ q => q.elim)
  · intro U hK hR
    obtain ⟨d, hv, z, f, ⟨cs2, d2, hv2, z2, f2, e1, e2, e3, e4, e5, e6, e7, e8, e9, e10⟩, hR'⟩ := ja_opens J.2.1.1 hR ha
    have q1 : cs = cs2 := (List.map_inj_right (fun x y hxy => Sum.inl.inj hxy)).mp e1
    subst q1
    have q2 : d = d2 ∧ hv = hv2 ∧ z = z2 := by
      simp only [jj_rf, List.cons.injEq, Sum.inr.injEq, Sum.inl.injEq, Option.some.injEq, and_true, true_and] at e2
      exact e2
    obtain ⟨rfl, rfl, rfl⟩ := q2
    have q3 : f = f2 := by
      have := (List.cons.inj e3).1
      simp only [Prod.mk.injEq, Sum.inr.injEq, Sum.inl.injEq, true_and] at this
      exact this
    subst q3
    rcases hR' with ⟨hd, hR'⟩ | ⟨hz9, hR'⟩
    · refine ⟨(d, hv, z, _), ⟨⟨Or.inl (jj_set_self _ _ _), f, Or.inl ?_, e10⟩, ⟨e5, e6, e7, e8, e9⟩, fun b c hb hbc => ?_, Or.inr ⟨hd, e4, f, rfl, e10⟩⟩, hR'⟩
      · show jj_set (jj_set h d _) a _ d = _
        rw [jj_set_ne _ _ e4, jj_set_self]
      · show jj_set (jj_set h d _) a _ b = _
        rw [jj_set_ne _ _ hb, jj_set_ne _ _ (fun e => by rw [e, hd] at hbc; cases hbc)]
        exact hbc
    · refine ⟨(d, hv, z, _), ⟨⟨Or.inr ⟨jj_set_self _ _ _, hz9⟩, f, Or.inr ⟨a, hv, z, cs, jj_set_self _ _ _, rfl, fun i hi => (e10 i hi).2.2⟩, e10⟩, ⟨e5, e6, e7, e8, e9⟩, fun b c hb hbc => (jj_set_ne _ _ hb).trans hbc, Or.inl rfl⟩, hR'⟩
  · rintro ⟨d, hv, z, h1⟩ v h' H ⟨hs, hh, hk, hc⟩ ⟨c, h2, hN⟩ hR
    refine ⟨jj_set h b c, hN, ?_⟩
    dsimp only at hs hh hk hc h2
    subst h2
    have hsame : jj_set (jj_set h b c) a (jj_str cs) = jj_set h b c := jj_set_same ((jj_set_ne _ _ (Ne.symm hba)).trans ha)
    rcases hc with hc | ⟨hd, hda, f, hc, hf⟩
    · subst hc
      have e9 : jj_set (jj_set h a (ja_fz d hv z cs)) b c = jj_set (jj_set h b c) a (ja_fz d hv z cs) := by
        funext q
        unfold jj_set
        by_cases e1 : q = b
        · rw [if_pos e1, if_neg (fun e2 => hba (e1.symm.trans e2)), if_pos e1]
        · rw [if_neg e1, if_neg e1]
      rw [e9] at hR
      have := ja_unfz J.2.1.1 hR
      rwa [hsame] at this
    · subst hc
      obtain ⟨r1, r2, r3, r4, r5⟩ := hh
      have hbd : b ≠ d := fun e => by rw [e, hd] at hb; cases hb
      have := ja_close J.2.1.1 (h := jj_set h b c) (x := (1, cs.map (fun c => (.inl c : jj_AV)))) (L := [(a, ja_o25 d hv z), (d, .inr (.inl (2, cs.length, f)))]) hR ⟨25, _, _, rfl, rfl, cs, d, hv, z, f, rfl, rfl, rfl, hda, r1, r2, r3, r4, r5, hf⟩ ?_ ?_ ?_
      · have e9 : jj_set (jj_set h b c) a (.inr (.inr (.inr (.inr (1, cs.map (fun c => (.inl c : jj_AV))))))) = jj_set h b c := hsame
        rwa [e9] at this
      · intro q hq
        simp only [List.mem_cons, List.not_mem_nil, or_false] at hq
        rcases hq with rfl | rfl
        · exact ⟨(jj_set_ne _ _ (Ne.symm hba)).trans (jj_set_self _ _ _), trivial⟩
        · exact ⟨(jj_set_ne _ _ (Ne.symm hbd)).trans ((jj_set_ne _ _ hda).trans (jj_set_self _ _ _)), trivial⟩
      · intro q hq hne
        simp only [List.mem_cons, List.not_mem_nil, or_false] at hq
        rcases hq with rfl | rfl
        · exact absurd rfl hne
        · exact (jj_set_ne _ _ (Ne.symm hbd)).trans hd
      · intro q c' hq hqc
        by_cases e1 : q = b
        · subst e1
          rw [jj_set_self] at hqc ⊢
          exact hqc
        · rw [jj_set_ne _ _ e1] at hqc
          rw [jj_set_ne _ _ e1, jj_set_ne _ _ hq, jj_set_ne _ _ (fun e => by rw [e, hd] at hqc; cases hqc)]
          exact hqc
theorem cb_J9_getBytes (J : jx_G G l) {fr lo : Nat} (hf9 : 1 ≤ fr) (hl9 : 60 ≤ lo) : ∀ (o x : Option Nat) (dp c : Int) (Q : jj_H → Nat → Prop) (h : jj_H) (k : Nat), jq_J9_getBytes o x dp c Q h k → jj_jcR G l fr lo yJ9_getBytes cJ9_getBytes 4 none 25 o [.inr (.inr (.inl x)), .inl dp, .inl c] h k (jn_v Q) := by
  intro o x dp c Q h k w
  obtain ⟨a, b, cs, n, g, rfl, ha, rfl, hb, rfl, h0, hle, hn, w⟩ := w
  have hba : b ≠ a := fun e => by rw [e, ha] at hb; cases hb
  refine ⟨a, _, 0, rfl, ha, rfl, Nat.zero_le _, ?_⟩
  refine jb_strB J ha hb hba fun d hv z h1 hs hh hk => ?_
  have hb1 := hk b _ hba hb
  obtain ⟨f, hby, hf⟩ := id hs.2
  have hl := hh.1
  refine (cC_J9_getBytes J (Q := fun h' => h' = jj_set h1 b (.inr (.inl (2, n, jj_lay cs dp g)))) (E := jj_F0) ?_).to ?_ (fun _ _ _ q => q)
  · refine ⟨ja_sr_is hs, pJ_coder hs ⟨⟨by decide, by decide⟩, ⟨by decide, by decide⟩, fun c => absurd rfl c, fun _ => ⟨a, _, some d, rfl, ja_sr_g hs, rfl, a, _, some d, rfl, ja_sr_g hs, rfl, d, _, f, rfl, hby, d, _, f, b, n, g, rfl, hby, rfl, hb1, by omega, ?_, by omega, by omega, ?_, by omega, hn, ?_, ?_⟩⟩⟩
    · rw [jj_shl0 h0 (by omega)]; exact h0
    · rw [jj_shl0 h0 (by omega)]; exact hle
    · intro i i0 i1
      obtain ⟨a1, a2, a3⟩ := jj_getD_i (P := fun _ => True) hf i0 (by omega)
      rw [a3]
      exact jj_sb8_b ⟨a1, a2⟩
    · rw [jj_shl0 h0 (by omega)]
      congr 5
      funext i
      unfold jj_lay
      by_cases hc : dp ≤ i ∧ i < dp + (cs.length : Int)
      · rw [if_pos hc, if_pos hc, show i - dp + 0 = i - dp by omega]
        exact (jj_getD_i (P := fun _ => True) hf (by omega) (by omega)).2.2
      · rw [if_neg hc, if_neg hc]
  · rintro v h' ⟨rfl, rfl⟩
    exact ⟨_, rfl, rfl, w fun i hi => ⟨(hf i hi).1, (hf i hi).2.1⟩⟩
end JBS2
