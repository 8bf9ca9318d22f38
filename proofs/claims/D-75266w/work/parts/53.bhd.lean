/-! HashSet.addAll -/
/-- es with e behind those of lower and of its own bucket -/
def ja_put (es : List ja_E) (e : ja_E) : List ja_E := es.filter (fun x => decide (ja_bk x ≤ ja_bk e)) ++ e :: es.filter (fun x => !decide (ja_bk x ≤ ja_bk e))
theorem ja_put_ins (es : List ja_E) (e : ja_E) : ja_insE es e (ja_put es e) := by
  refine ⟨fun b => ?_, ?_⟩
  · unfold ja_put ja_F
    rw [List.filter_append]
    have hlo : ∀ b, b ≤ ja_bk e → (es.filter (fun x => decide (ja_bk x ≤ ja_bk e))).filter (fun x => decide (ja_bk x = b)) = es.filter (fun x => decide (ja_bk x = b)) := fun b hb => by
      rw [List.filter_filter]
      refine List.filter_congr fun x _ => ?_
      by_cases h : ja_bk x = b
      · simp [h, hb]
      · simp [h]
    have hlo2 : ∀ b, ¬ b ≤ ja_bk e → (es.filter (fun x => decide (ja_bk x ≤ ja_bk e))).filter (fun x => decide (ja_bk x = b)) = [] := fun b hb => by
      rw [List.filter_filter]
      refine List.filter_eq_nil_iff.mpr fun x _ => ?_
      simp
      omega
    have hhi : ∀ b, ¬ b ≤ ja_bk e → (es.filter (fun x => !decide (ja_bk x ≤ ja_bk e))).filter (fun x => decide (ja_bk x = b)) = es.filter (fun x => decide (ja_bk x = b)) := fun b hb => by
      rw [List.filter_filter]
      refine List.filter_congr fun x _ => ?_
      by_cases h : ja_bk x = b
      · simp [h]; omega
      · simp [h]
    have hhi2 : ∀ b, b ≤ ja_bk e → (es.filter (fun x => !decide (ja_bk x ≤ ja_bk e))).filter (fun x => decide (ja_bk x = b)) = [] := fun b hb => by
      rw [List.filter_filter]
      refine List.filter_eq_nil_iff.mpr fun x _ => ?_
      simp
      omega
    by_cases hb : b = ja_bk e
    · rw [if_pos hb, hlo b (by omega), List.filter_cons_of_pos (by simp [hb]), hhi2 b (by omega)]
    · rw [if_neg hb, List.filter_cons_of_neg (by simpa using Ne.symm hb)]
      by_cases h2 : b ≤ ja_bk e
      · rw [hlo b h2, hhi2 b h2, List.append_nil]
      · rw [hlo2 b h2, hhi b h2, List.nil_append]
  · unfold ja_put
    refine List.perm_middle.trans ?_
    refine List.Perm.trans ?_ (List.perm_append_singleton e es).symm
    exact List.Perm.cons e (List.filter_append_perm _ _)
theorem ja_put_srt {es : List ja_E} (e : ja_E) (hs : ja_srt es) : ja_srt (ja_put es e) := by
  unfold ja_put
  refine List.pairwise_append.mpr ⟨hs.sublist List.filter_sublist, List.pairwise_cons.mpr ⟨fun x hx => ?_, hs.sublist List.filter_sublist⟩, fun x hx y hy => ?_⟩
  · have := (List.mem_filter.mp hx).2
    simp at this
    omega
  · have h1 := (List.mem_filter.mp hx).2
    simp at h1
    rcases List.mem_cons.mp hy with rfl | hy
    · exact h1
    · have h2 := (List.mem_filter.mp hy).2
      simp at h2
      omega
/-- what stands after the first i words -/
def ja_afa (h : jj_H) (xs : List (Option Nat)) (i : Nat) (es : List ja_E) : Prop := (∀ e ∈ es, some e.1 ∈ xs ∧ ∃ ds, h e.1 = some (jj_str ds) ∧ e.2.2.1 = jj_hash ds) ∧ (∀ x ∈ xs.take i, ∃ b cs, x = some b ∧ h b = some (jj_str cs) ∧ ∃ e ∈ es, h e.1 = some (jj_str cs)) ∧ es.Pairwise (fun p q => h p.1 ≠ h q.1) ∧ es.length ≤ i
theorem ja_afa.fin {h : jj_H} {xs : List (Option Nat)} {es : List ja_E} (hf : ja_afa h xs xs.length es) : jj_sadd h xs (es.map ja_k3) := by
  obtain ⟨h1, h2, h3, h4⟩ := hf
  refine ⟨fun q hq => ?_, fun q hq => ?_, fun x hx => ?_, fun i j p q hp hq hpq => ?_⟩
  · obtain ⟨e, he, rfl⟩ := List.mem_map.mp hq
    exact (h1 e he).2
  · obtain ⟨e, he, rfl⟩ := List.mem_map.mp hq
    exact (h1 e he).1
  · rw [List.take_length] at h2
    obtain ⟨b, cs, e1, e2, e, he, e3⟩ := h2 x hx
    exact ⟨b, cs, e1, e2, ja_k3 e, List.mem_map.mpr ⟨e, he, rfl⟩, e3⟩
  · rw [List.getElem?_map] at hp hq
    obtain ⟨e, he, rfl⟩ := Option.map_eq_some_iff.mp hp
    obtain ⟨e', he', rfl⟩ := Option.map_eq_some_iff.mp hq
    obtain ⟨hi, hie⟩ := List.getElem?_eq_some_iff.mp he
    obtain ⟨hj, hje⟩ := List.getElem?_eq_some_iff.mp he'
    have key := List.pairwise_iff_getElem.mp h3
    rcases Nat.lt_trichotomy i j with c | c | c
    · exact absurd (by rw [hie, hje]; exact hpq) (key i j hi hj c)
    · exact c
    · exact absurd (by rw [hie, hje]; exact hpq.symm) (key j i hj hi c)
section HD1
variable {G : jj_G} {l : Launch}
theorem pJ_addAll {gk : Nat → Nat} {h : jj_H} {a mp b it : Nat} {mc : Int} {xs : List (Option Nat)} {Q : Int → jj_H → Prop} {E : String → Nat → jj_H → Prop} (ha : h a = some (jj_ht mp [])) (hb : h b = some (jj_al mc xs)) (hlen : xs.length ≤ 6) (hstr : ∀ y ∈ xs, ∃ c cs, y = some c ∧ h c = some (jj_str cs) ∧ cs ≠ []) (hit0 : h it = none) (q : ∀ r h' es T f nx ks lf, ja_sop h a h' mp es T f nx ks lf (gk 30) → ja_afa h xs xs.length es → Q r h') : ∀ (n i : Nat) (x2 lr : Int) (h1 : jj_H) (k : Nat) (es : List ja_E) (T : Option Nat) (f : Int → Option Nat) (nx : Nat → Option Nat) (ks : Option Nat) (lf : UInt32), i ≤ xs.length → xs.length - i < n → (x2 = 0 ∨ x2 = 1) → ja_sop h a h1 mp es T f nx ks lf (gk 30) → ja_afa h xs i es → h1 it = some (.inl (15, [.inl i, .inl lr, .inl mc, jj_rf (some b)])) → (T = none → i < xs.length → 5 + (xs.length - i) ≤ k) → xs.length - i ≤ k → fC_J0_addAll_l9 gk (some a) (some it) Q E n x2 h1 k := by
  have hba : b ≠ a := fun e => by
    rw [e, ha] at hb
    have := Option.some.inj hb
    simp [jj_ht, jj_al] at this
  intro n
  induction n with
  | zero => intro i x2 lr h1 k es T f nx ks lf _ hn; omega
  | succ n ih =>
    intro i x2 lr h1 k es T f nx ks lf hi hn hx2 hS hf hit hkT hk
    have hb1 := hS.1.2.2.2.2.2.1 b _ hba hb
    rw [fC_J0_addAll_l9]
    refine ⟨it, b, mc, xs, i, lr, rfl, hit, hb1, by omega, by omega, ?_⟩
    by_cases hend : i = xs.length
    · rw [if_pos (by omega)]
      subst hend
      exact ⟨⟨by decide, by decide⟩, fun _ => ⟨hx2, q x2 h1 es T f nx ks lf hS hf⟩, fun c => absurd rfl c⟩
    · rw [if_neg (by omega)]
      refine ⟨⟨by decide, by decide⟩, fun c => absurd c (by decide), fun _ => ⟨it, b, mc, xs, i, lr, rfl, hit, hb1, by omega, by omega, ?_⟩⟩
      have hix : i < xs.length := by omega
      have hxi : xs.getD ((i : Int)).toNat none = xs[i] := by
        rw [List.getD_eq_getElem?_getD, show ((i : Int)).toNat = i by omega, List.getElem?_eq_getElem hix]
        rfl
      rw [hxi]
      obtain ⟨c, cs, e1, hc, hne⟩ := hstr xs[i] (List.getElem_mem hix)
      rw [e1]
      have hca : c ≠ a := fun e => by
        rw [e, ha] at hc
        exact jj_ht_str cs hc
      generalize hh4 : jj_set h1 it (.inl (15, [.inl ((i : Int) + 1), .inl (i : Int), .inl mc, jj_rf (some b)])) = h4
      have hS4 : ja_sop h a h4 mp es T f nx ks lf (gk 30) := by
        rw [← hh4]
        exact ja_sop_w hS hit0 (fun o ho => by rw [hit] at ho; cases ho; rfl) (fun z hz => by rw [hit] at hz; cases hz)
      have hit4 : h4 it = some (.inl (15, [.inl ((i : Int) + 1), .inl (i : Int), .inl mc, jj_rf (some b)])) := by rw [← hh4]; exact jj_set_self _ _ _
      have hc4 := hS4.1.2.2.2.2.2.1 c _ hca hc
      obtain ⟨k1, k2⟩ := ja_sok_of hS4.1 (fun cs e => jj_ht_str cs (ha.symm.trans e)) (fun e he => (hf.1 e he).2)
      have hmp4 : jp_is h4 (some mp) 16 := ⟨mp, _, rfl, hS4.1.1, rfl⟩
      have hlen1 : es.length < 7 := by have := hf.2.2.2; omega
      have hi1 : ((i : Int) + 1) = ((i + 1 : Nat) : Int) := by omega
      have htake : ∀ (es2 : List ja_E), (∀ x ∈ xs.take i, ∃ b cs, x = some b ∧ h b = some (jj_str cs) ∧ ∃ e ∈ es2, h e.1 = some (jj_str cs)) → (∃ e ∈ es2, h e.1 = some (jj_str cs)) → ∀ x ∈ xs.take (i + 1), ∃ b cs, x = some b ∧ h b = some (jj_str cs) ∧ ∃ e ∈ es2, h e.1 = some (jj_str cs) := by
        intro es2 g1 g2 x hx
        rw [List.take_succ_eq_append_getElem hix] at hx
        rcases List.mem_append.mp hx with hx | hx
        · exact g1 x hx
        · have : x = xs[i] := by simpa using hx
          rw [this, e1]
          exact ⟨c, cs, rfl, hc, g2⟩
      refine ⟨⟨a, _, rfl, hS4.2.1, rfl⟩, if T = none then 6 else 1, ?_, a, _, some mp, rfl, hS4.2.1, rfl, hmp4, if T = none then 6 else 1, Nat.le_refl _, ?_⟩
      · by_cases hT : T = none
        · rw [if_pos hT]
          have := hkT hT hix
          omega
        · rw [if_neg hT]
          omega
      cases hfd : es.find? (ja_fd h4 cs) with
      | some e0 =>
        have hem := List.mem_of_find?_eq_some hfd
        have hp := ja_fd_iff.mp (List.find?_some hfd)
        have hTs : T ≠ none := fun e => by rw [hS4.1.2.2.2.2.1.1 e] at hem; cases hem
        rw [if_neg hTs]
        refine pJ_putOld hS4.1 k1 hc4 hne hfd (hS4.2.2.2.2.1 e0 hem) (Nat.le_refl _) hlen1 ⟨fun _ => ⟨⟨by decide, by decide⟩, fun _ => ?_, fun c => absurd rfl c⟩, fun c => by cases c⟩
        have hhp : h e0.1 = some (jj_str cs) := by
          obtain ⟨ds, d1, d2⟩ := (hf.1 e0 hem).2
          have := hS4.1.2.2.2.2.2.1 e0.1 _ (fun e => by rw [e, ha] at d1; exact jj_ht_str ds d1) d1
          rw [this] at hp
          rw [d1]
          exact hp
        exact ih (i + 1) x2 i h4 _ es T f nx ks lf (by omega) (by omega) hx2 hS4 ⟨hf.1, htake es hf.2.1 ⟨e0, hem, hhp⟩, hf.2.2.1, by have := hf.2.2.2; omega⟩ (by rw [hit4, hi1]) (fun e => absurd e hTs) (by omega)
      | none =>
        refine pJ_putNew (b := c) (v := gk 30) hS4.1 k1 hc4 hne hfd (fun hT => by rw [if_pos hT]; exact Nat.le_refl _) (by split <;> omega) hlen1 (ins := fun nd => ja_put es (c, gk 30, jj_hash cs, nd)) (fun nd => ja_put_ins es _) fun nd h9 T' f' nx' hO' hkeep => ⟨fun c => absurd rfl c, fun _ => ⟨⟨by decide, by decide⟩, fun c => absurd c (by decide), fun _ => ?_⟩⟩
        have hins := ja_put_ins es (c, gk 30, jj_hash cs, nd)
        have hnew : ∀ e ∈ es, h e.1 ≠ some (jj_str cs) := fun e he hh => by
          have h5 := hS4.1.2.2.2.2.2.1 e.1 _ (fun e2 => by rw [e2, ha] at hh; exact jj_ht_str cs hh) hh
          exact ja_find_none hfd e he h5
        have kp : ∀ q o, h4 q = some (.inl o) → o.1 ≠ 16 → o.1 ≠ 17 → h9 q = some (.inl o) := fun q o h2 h3 h5 => hkeep q _ h2 (fun e => by rw [e, hS4.1.1] at h2; cases h2; exact h3 rfl) (fun t ht e => by rw [e, (hS4.1.2.1 t ht).1] at h2; cases h2) (fun e he e2 => by rw [e2, (hS4.1.2.2.1 e he).1] at h2; cases h2; exact h5 rfl)
        have hT' : T' ≠ none := fun e => by
          have h6 := hO'.2.2.2.2.1.1 e
          have h7 := hins.len
          rw [h6] at h7
          cases h7
        have hS9 : ja_sop h a h9 mp (ja_put es (c, gk 30, jj_hash cs, nd)) T' f' nx' ks lf (gk 30) := by
          refine ⟨?_, kp a _ hS4.2.1 (by decide : (20 : Nat) ≠ 16) (by decide : (20 : Nat) ≠ 17), fun q e => ⟨kp q _ (hS4.2.2.1 q e).1 (by decide : (18 : Nat) ≠ 16) (by decide : (18 : Nat) ≠ 17), (hS4.2.2.1 q e).2⟩, ja_put_srt _ hS4.2.2.2.1, fun e he => ?_, hS4.2.2.2.2.2⟩
          · rw [hins.len]
            exact hO'
          · rcases hins.mem he with he | rfl
            · exact hS4.2.2.2.2.1 e he
            · rfl
        refine ih (i + 1) 1 i h9 _ _ T' f' nx' ks lf (by omega) (by omega) (Or.inr rfl) hS9 ⟨fun e he => ?_, ?_, ?_, ?_⟩ ?_ (fun e => absurd e hT') ?_
        · rcases hins.mem he with he | rfl
          · exact hf.1 e he
          · exact ⟨by rw [← e1]; exact List.getElem_mem hix, cs, hc, rfl⟩
        · refine htake _ (fun x hx => ?_) ⟨_, hins.2.mem_iff.mpr (List.mem_append_right _ List.mem_cons_self), hc⟩
          obtain ⟨b', cs', g1, g2, e, he, g3⟩ := hf.2.1 x hx
          exact ⟨b', cs', g1, g2, e, hins.2.mem_iff.mpr (List.mem_append_left _ he), g3⟩
        · refine (hins.2.pairwise_iff (fun hxy => Ne.symm hxy)).mpr (List.pairwise_append.mpr ⟨hf.2.2.1, by simp, fun x hx y hy => ?_⟩)
          have : y = (c, gk 30, jj_hash cs, nd) := by simpa using hy
          subst this
          intro e
          exact hnew x hx (e.trans hc)
        · rw [hins.len]
          have := hf.2.2.2
          omega
        · rw [kp it _ hit4 (by decide : (15 : Nat) ≠ 16) (by decide : (15 : Nat) ≠ 17), hi1]
        · by_cases hT : T = none
          · rw [if_pos hT]
            have := hkT hT hix
            omega
          · rw [if_neg hT]
            omega
theorem jb_J0_addAll (J : jx_G G l) : jJ_J0_addAll G l := by
  intro o x Q h k w
  obtain ⟨a, b, mp, mc, xs, rfl, rfl, ha, hb, hlen, hstr, hk, w⟩ := w
  have hba : b ≠ a := fun e => by
    rw [e, ha] at hb
    have := Option.some.inj hb
    simp [jj_ht, jj_al] at this
  refine ⟨a, _, 8 + 2 * xs.length, rfl, ha, rfl, hk, jb_ht J ha fun es T f nx ks lf pv h1 e1 hS => ?_⟩
  have hes : es = [] := List.map_eq_nil_iff.mp e1.symm
  subst hes
  have hb1 := hS.1.2.2.2.2.2.1 b _ hba hb
  refine (cC_J0_addAll J (Q := fun r h' => ∃ es T f nx ks lf, ja_sop h a h' mp es T f nx ks lf (jj_gk G 30) ∧ ja_afa h xs xs.length es) (E := jj_F0) ⟨b, mc, xs, rfl, hb1, by omega, fun it hit => ⟨xs.length + 1, ?_⟩⟩).to ?_ (fun _ _ _ q => q)
  · have hn := ja_sop_none hS hit
    have hS0 : ja_sop h a h1 mp [] T f nx ks lf (jj_gk G 30) := ⟨hS.1, hS.2.1, hS.2.2.1, hS.2.2.2.1, (fun e he => by cases he), hS.2.2.2.2.2⟩
    refine pJ_addAll (gk := jj_gk G) ha hb hlen hstr hn.1 (fun r h' es T f nx ks lf q1 q2 => ⟨es, T, f, nx, ks, lf, q1, q2⟩) (xs.length + 1) 0 0 (-1) _ _ [] T f nx ks lf (Nat.zero_le _) (by omega) (Or.inl rfl) (ja_sop_w hS0 hn.1 (fun o ho => by rw [hit] at ho; cases ho) (fun z hz => by rw [hit] at hz; cases hz)) ⟨(fun e he => by cases he), (fun x hx => by simp at hx), List.Pairwise.nil, Nat.le_refl _⟩ (jj_set_self _ _ _) (fun _ _ => by omega) (by omega)
  · rintro v h' ⟨r, rfl, es, T, f, nx, ks, lf, q1, q2⟩
    exact ⟨h, es, T, f, nx, ks, lf, jj_gk G 30, q1, _, rfl, w r _ q2.fin⟩
end HD1
