/-! HashSet and its iterator: contracts -/
def ja_k3 (e : ja_E) : Nat × Int × Nat := (e.1, e.2.2.1, e.2.2.2)
def ja_srt (es : List ja_E) : Prop := es.Pairwise (fun p q => ja_bk p ≤ ja_bk q)
/-- how a set stands, open -/
def ja_sop (hB : jj_H) (a : Nat) (h1 : jj_H) (mp : Nat) (es : List ja_E) (T : Option Nat) (f : Int → Option Nat) (nx : Nat → Option Nat) (ks : Option Nat) (lf : UInt32) (pv : Nat) : Prop :=
  ja_hop hB a h1 mp es T f nx ks (es.length : Int) lf ∧ h1 a = some (.inl (20, [jj_rf (some mp)])) ∧ (∀ q, ks = some q → h1 q = some (.inl (18, [jj_rf (some mp)])) ∧ hB q = none) ∧ ja_srt es ∧ (∀ e ∈ es, e.2.1 = pv) ∧ hB mp = none
theorem jj_ht_eq {mp : Nat} {es : List ja_E} : jj_ht mp (es.map ja_k3) = .inr (.inr (.inr (.inr (4, jj_rf (some mp) :: (es.map (fun q => [jj_rf (some q.1), .inl q.2.2.1, jj_rf (some q.2.2.2)])).flatten)))) := by
  unfold jj_ht jj_hcs
  rw [List.map_map]
  rfl
section HS1
variable {G : jj_G} {l : Launch}
theorem ja_sopc (J : jx_G G l) {hB h' : jj_H} {H : Heap} {a mp : Nat} {es : List ja_E} {T : Option Nat} {f : Int → Option Nat} {nx : Nat → Option Nat} {ks : Option Nat} {lf : UInt32} {pv : Nat} (hS : ja_sop hB a h' mp es T f nx ks lf pv) (hR : jj_R G h' H) : jj_R G (jj_set hB a (jj_ht mp (es.map ja_k3))) H := by
  rw [jj_ht_eq]
  obtain ⟨hO, ha, hks, hsr, hpv, hmp⟩ := hS
  obtain ⟨w1, w2⟩ := ja_hop_R hO
  have w3 : ∀ z ∈ ja_hk ks mp, h' z.1 = some z.2 ∧ hB z.1 = none ∧ ja_w z.2 ∧ z.2 = .inl (18, [jj_rf (some mp)]) := by
    intro z hz
    cases ks with
    | none => cases hz
    | some q =>
      have : z = (q, .inl (18, [jj_rf (some mp)])) := by simpa [ja_hk] using hz
      subst this
      exact ⟨(hks q rfl).1, (hks q rfl).2, trivial, rfl⟩
  have hcls : ∀ z ∈ ja_hk ks mp ++ ja_hR es T f nx, z.1 ≠ a ∧ z.1 ≠ mp ∧ h' z.1 = some z.2 ∧ hB z.1 = none ∧ ja_w z.2 := by
    intro z hz
    rcases List.mem_append.mp hz with hz | hz
    · obtain ⟨q1, q2, q3, q4⟩ := w3 z hz
      rw [q4] at q1
      exact ⟨(fun e => by rw [e, ha] at q1; cases q1), (fun e => by rw [e, hO.1] at q1; cases q1), by rw [q4]; exact q1, q2, q3⟩
    · obtain ⟨q1, q2, q3, q4⟩ := w1 z hz
      refine ⟨fun e => ?_, fun e => ?_, q1, q2, q3⟩
      · rw [e, ha] at q1
        have := q4 _ (Option.some.inj q1).symm
        cases this
      · rw [e, hO.1] at q1
        have := q4 _ (Option.some.inj q1).symm
        cases this
  have hmpa : mp ≠ a := fun e => by
    have := hO.1
    rw [e, ha] at this
    cases this
  refine ja_close J.2.1.1 (x := (4, _)) (L := (a, .inl (20, [jj_rf (some mp)])) :: (mp, .inl (16, ja_hf ks T es.length es.length lf)) :: (ja_hk ks mp ++ ja_hR es T f nx)) hR ⟨20, _, _, rfl, rfl, mp, es, T, f, nx, lf, ks, pv, rfl, rfl, rfl, ?_, hO.2.2.2.2.1, hsr, hpv⟩ ?_ ?_ hO.2.2.2.2.2.1
  · refine List.nodup_cons.mpr ⟨fun hm => ?_, List.nodup_cons.mpr ⟨fun hm => ?_, ?_⟩⟩
    · obtain ⟨z, hz, e⟩ := List.mem_map.mp hm
      rcases List.mem_cons.mp hz with rfl | hz
      · exact hmpa e
      · exact (hcls z hz).1 e
    · obtain ⟨z, hz, e⟩ := List.mem_map.mp hm
      exact (hcls z hz).2.1 e
    · show ((ja_hk ks mp ++ ja_hR es T f nx).map Prod.fst).Nodup
      rw [List.map_append, List.nodup_append]
      refine ⟨by cases ks <;> simp [ja_hk], w2, fun x hx y hy e => ?_⟩
      obtain ⟨z, hz, rfl⟩ := List.mem_map.mp hx
      obtain ⟨z', hz', rfl⟩ := List.mem_map.mp hy
      have q1 := (w3 z hz).1
      rw [e, (w1 z' hz').1] at q1
      have q2 := (w1 z' hz').2.2.2
      rw [Option.some.inj q1, (w3 z hz).2.2.2] at q2
      have := q2 _ rfl
      cases this
  · intro z hz
    rcases List.mem_cons.mp hz with rfl | hz
    · exact ⟨ha, trivial⟩
    · rcases List.mem_cons.mp hz with rfl | hz
      · exact ⟨hO.1, trivial⟩
      · exact ⟨(hcls z hz).2.2.1, (hcls z hz).2.2.2.2⟩
  · intro z hz hne
    rcases List.mem_cons.mp hz with rfl | hz
    · exact absurd rfl hne
    · rcases List.mem_cons.mp hz with rfl | hz
      · exact hmp
      · exact (hcls z hz).2.2.2.1
theorem jb_ht (J : jx_G G l) {y : MethodName} {ws : List Cond} {fr lo : Nat} {As : List jj_AV} {h : jj_H} {K a mp : Nat} {es3 : List (Nat × Int × Nat)} (ha : h a = some (jj_ht mp es3)) {N : Option jj_AV → jj_H → Prop}
    (C : ∀ es T f nx ks lf pv h1, es3 = es.map ja_k3 → ja_sop h a h1 mp es T f nx ks lf pv → jj_Ct G l y ws fr lo As h1 K (fun v h' => ∃ hB es' T' f' nx' ks' lf' pv', ja_sop hB a h' mp es' T' f' nx' ks' lf' pv' ∧ N v (jj_set hB a (jj_ht mp (es'.map ja_k3)))) jj_F0) : jj_Ct G l y ws fr lo As h K N jj_F0 := by
  refine jj_Ct.ex (I := List ja_E × Option Nat × (Int → Option Nat) × (Nat → Option Nat) × Option Nat × UInt32 × Nat × jj_H) (Pi := fun i => es3 = i.1.map ja_k3 ∧ ja_sop h a i.2.2.2.2.2.2.2 mp i.1 i.2.1 i.2.2.1 i.2.2.2.1 i.2.2.2.2.1 i.2.2.2.2.2.1 i.2.2.2.2.2.2.1) (hh := fun i => i.2.2.2.2.2.2.2) ?_ (fun i hi => C _ _ _ _ _ _ _ _ hi.1 hi.2) ?_ (fun _ _ _ _ _ _ q => q.elim)
  · intro U hK hR
    rcases ja_open J.2.1.1 hR ha with ⟨L, ⟨ci, fs, R, rfl, hc, hT⟩, hn, hR'⟩ | ⟨-, hx, -⟩ | ⟨-, cell, -, -, -, hx⟩ | hx
    · obtain ⟨mp2, es, T, f, nx, lf, ks, pv, e1, rfl, rfl, hnd, hcc, hsr, hpv⟩ := hT
      cases hc
      have e0 : mp = mp2 := by
        have := (List.cons.inj e1).1
        simp only [jj_rf, Sum.inr.injEq, Sum.inl.injEq, Option.some.injEq] at this
        exact this
      subst e0
      have e2 : es3 = es.map ja_k3 := by
        refine jj_flat3 (g := fun q : Nat × Int × Nat => [jj_rf (some q.1), .inl q.2.1, jj_rf (some q.2.2)]) (fun _ => rfl) (fun x y hxy => ?_) ?_
        · simp only [jj_rf, List.cons.injEq, Sum.inr.injEq, Sum.inl.injEq, Option.some.injEq, and_true] at hxy
          exact Prod.ext hxy.1 (Prod.ext hxy.2.1 hxy.2.2)
        · rw [List.map_map]
          exact (List.cons.inj e1).2
      have hnd' : (((a, (.inl (20, [jj_rf (some mp)]) : jj_C)) :: (mp, .inl (16, ja_hf ks T es.length es.length lf)) :: (ja_hk ks mp ++ ja_hR es T f nx)).map Prod.fst).Nodup := hnd
      have hna : ∀ z ∈ ((mp, (.inl (16, ja_hf ks T es.length es.length lf) : jj_C)) :: (ja_hk ks mp ++ ja_hR es T f nx)), z.1 ≠ a := fun z hz e => (List.nodup_cons.mp hnd).1 (List.mem_map.mpr ⟨z, hz, e⟩)
      have hin : ∀ z ∈ ((mp, (.inl (16, ja_hf ks T es.length es.length lf) : jj_C)) :: (ja_hk ks mp ++ ja_hR es T f nx)), ja_ov h ((a, (.inl (20, [jj_rf (some mp)]) : jj_C)) :: (mp, .inl (16, ja_hf ks T es.length es.length lf)) :: (ja_hk ks mp ++ ja_hR es T f nx)) z.1 = some z.2 ∧ h z.1 = none := fun z hz => ⟨ja_ov_mem hnd' (List.mem_cons_of_mem _ hz), hn z (List.mem_cons_of_mem _ hz) (hna z hz)⟩
      have hkeep : ∀ q c, q ≠ a → h q = some c → ja_ov h ((a, (.inl (20, [jj_rf (some mp)]) : jj_C)) :: (mp, .inl (16, ja_hf ks T es.length es.length lf)) :: (ja_hk ks mp ++ ja_hR es T f nx)) q = some c := by
        intro q c hq hqc
        refine (ja_ov_out fun z hz e => ?_).trans hqc
        rcases List.mem_cons.mp hz with rfl | hz
        · exact hq e.symm
        · have := (hin z hz).2
          rw [e, hqc] at this
          cases this
      have hnd2 := (List.nodup_cons.mp (List.nodup_cons.mp hnd').2).2
      rw [List.map_append] at hnd2
      refine ⟨(es, T, f, nx, ks, lf, pv, _), ⟨e2, ja_hop_of (hin _ List.mem_cons_self).1 (fun z hz => hin z (List.mem_cons_of_mem _ (List.mem_append_right _ hz))) (List.nodup_append.mp hnd2).2.1 hcc hkeep ⟨_, ja_ov_mem hnd' (z := (a, _)) List.mem_cons_self⟩ (Or.inr (hin _ List.mem_cons_self).2), ja_ov_mem hnd' (z := (a, _)) List.mem_cons_self, fun q hq => ?_, hsr, hpv, (hin _ List.mem_cons_self).2⟩, hR'⟩
      dsimp only at hq
      subst hq
      exact hin (q, _) (List.mem_cons_of_mem _ (List.mem_append_left _ List.mem_cons_self))
    · rcases hx with hx | hx <;> cases hx
    · cases hx
    · cases hx
  · rintro i v h' H hi ⟨hB, es', T', f', nx', ks', lf', pv', hS', hN⟩ hR
    exact ⟨_, hN, ja_sopc J hS' hR⟩
theorem jj_ht_str {mp : Nat} {es : List (Nat × Int × Nat)} (cs : List Int) : (some (jj_ht mp es) : Option jj_C) ≠ some (jj_str cs) := fun e => by
  have := Option.some.inj e
  simp [jj_ht, jj_str] at this
theorem jb_J33_init (J : jx_G G l) : jJ_J33_init G l := by
  intro o Q h k w
  obtain ⟨a, rfl, ha, hk, w⟩ := w
  refine ⟨a, 3, rfl, hk, ?_⟩
  refine jj_Ct.ex (I := Unit) (Pi := fun _ => True) (hh := fun _ => h) (fun _ _ hR => ⟨(), trivial, hR⟩) (fun _ _ => (cC_J33_init J (Q := fun h' => ∃ mp, h mp = none ∧ mp ≠ a ∧ h' = jj_set (jj_set h mp (.inl (16, ja_hf none none 0 0 1061158912))) a (.inl (20, [jj_rf (some mp)]))) (E := jj_F0) ?_).room (by decide) (by decide)) ?_ (fun _ _ _ _ _ _ q => q.elim)
  · refine ⟨⟨a, rfl⟩, ⟨a, rfl⟩, ⟨a, rfl⟩, by decide, fun mp hmp => ⟨⟨mp, rfl⟩, ⟨mp, rfl⟩, ⟨mp, rfl⟩, mp, _, rfl, jj_set_self _ _ _, ?_⟩⟩
    have hma : mp ≠ a := fun e => by rw [e, ha] at hmp; cases hmp
    refine ⟨a, [jj_rf none], rfl, ?_, mp, hmp, hma, ?_⟩
    · rw [jj_set_set, jj_set_ne _ _ (Ne.symm hma)]; exact ha
    · rw [jj_set_set]; rfl
  · rintro - v h' H - ⟨rfl, mp, hmp, hma, rfl⟩ hR
    have hm : jj_set (jj_set h mp (.inl (16, ja_hf none none 0 0 1061158912))) a (.inl (20, [jj_rf (some mp)])) mp = some (.inl (16, ja_hf none none 0 0 1061158912)) := (jj_set_ne _ _ hma).trans (jj_set_self _ _ _)
    refine ⟨_, ⟨rfl, w mp⟩, ja_sopc J (es := []) (T := none) (f := fun _ => none) (nx := fun _ => none) (ks := none) (lf := 1061158912) (pv := 0) ⟨ja_hop_of hm (fun z hz => by cases hz) List.nodup_nil ⟨fun _ => rfl, Nat.zero_le _, fun b _ => rfl⟩ (fun q c hq hc => ?_) ⟨_, jj_set_self _ _ _⟩ (Or.inr hmp), jj_set_self _ _ _, (fun q hq => by cases hq), List.Pairwise.nil, (fun e he => by cases he), hmp⟩ hR⟩
    rw [jj_set_ne _ _ hq, jj_set_ne _ _ (fun e => by rw [e, hmp] at hc; cases hc)]
    exact hc
theorem jb_J33_size (J : jx_G G l) : jJ_J33_size G l := by
  intro o Q h k w
  obtain ⟨a, mp, es3, rfl, ha, w⟩ := w
  refine ⟨a, _, 0, rfl, ha, rfl, Nat.zero_le _, jb_ht J ha fun es T f nx ks lf pv h1 e1 hS => ?_⟩
  subst e1
  refine (cC_J33_size J (Q := fun r h' => r = ((es.map ja_k3).length : Int) ∧ h' = h1) (E := jj_F0) ⟨a, _, some mp, rfl, hS.2.1, rfl, ⟨mp, _, rfl, hS.1.1, rfl⟩, mp, _, _, rfl, hS.1.1, rfl, by rw [List.length_map], rfl⟩).to ?_ (fun _ _ _ q => q)
  rintro v h' ⟨r, rfl, rfl, rfl⟩
  exact ⟨h, es, T, f, nx, ks, lf, pv, hS, _, rfl, by rw [jj_set_same ha]; exact w⟩
theorem ja_sok_of {h h1 : jj_H} {a m : Nat} {es : List ja_E} {T : Option Nat} {f : Int → Option Nat} {nx : Nat → Option Nat} {ks : Option Nat} {mc : Int} {lf : UInt32} (hO : ja_hop h a h1 m es T f nx ks mc lf) (hs : ∀ cs, h a ≠ some (jj_str cs)) (key : ∀ e ∈ es, ∃ ds, h e.1 = some (jj_str ds) ∧ e.2.2.1 = jj_hash ds) : ja_kok h1 es ∧ ∀ cs, es.find? (ja_fd h1 cs) = es.find? (ja_fd h cs) := by
  have k2 : ∀ e ∈ es, ∀ ds, h e.1 = some (jj_str ds) → h1 e.1 = some (jj_str ds) := fun e he ds h2 => hO.2.2.2.2.2.1 e.1 _ (fun e3 => hs ds (by rw [← e3]; exact h2)) h2
  refine ⟨fun e he => ?_, fun cs => ja_find_congr fun e he => ?_⟩
  · obtain ⟨ds, h2, h3⟩ := key e he
    exact ⟨ds, k2 e he ds h2, h3⟩
  · obtain ⟨ds, h2, h3⟩ := key e he
    rw [h2, k2 e he ds h2]
theorem jb_J33_contains (J : jx_G G l) : jJ_J33_contains G l := by
  intro o x Q h k w
  obtain ⟨a, b, mp, es3, cs, rfl, rfl, ha, hb, hne, hk, w⟩ := w
  have hba : b ≠ a := fun e => by rw [e, ha] at hb; exact jj_ht_str cs hb
  refine ⟨a, _, 0, rfl, ha, rfl, Nat.zero_le _, jb_ht J ha fun es T f nx ks lf pv h1 e1 hS => ?_⟩
  subst e1
  obtain ⟨k1, k2⟩ := ja_sok_of hS.1 (fun cs e => jj_ht_str cs (ha.symm.trans e)) (fun e he => hk (ja_k3 e) (List.mem_map.mpr ⟨e, he, rfl⟩))
  refine (cC_J33_contains J (Q := fun r h' => ((r = 1 ∧ jj_shas h cs (es.map ja_k3)) ∨ (r = 0 ∧ ¬ jj_shas h cs (es.map ja_k3))) ∧ h' = h1) (E := jj_F0) ⟨a, _, some mp, rfl, hS.2.1, rfl, ⟨mp, _, rfl, hS.1.1, rfl⟩, ⟨mp, _, rfl, hS.1.1, rfl⟩, pJ_getNode hS.1 k1 (hS.1.2.2.2.2.2.1 b _ hba hb) hne ?_⟩).to ?_ (fun _ _ _ q => q)
  · rw [k2]
    cases hf : es.find? (ja_fd h cs) with
    | none =>
      refine ⟨fun _ => ⟨Or.inl rfl, Or.inr ⟨rfl, ?_⟩, rfl⟩, fun c => absurd rfl c⟩
      rintro ⟨q, hq, hq2⟩
      obtain ⟨e, he, rfl⟩ := List.mem_map.mp hq
      exact ja_find_none hf e he hq2
    | some e =>
      have he := List.mem_of_find?_eq_some hf
      have hp := ja_fd_iff.mp (List.find?_some hf)
      exact ⟨(fun c => by cases c), fun _ => ⟨Or.inr rfl, Or.inl ⟨rfl, ja_k3 e, List.mem_map.mpr ⟨e, he, rfl⟩, hp⟩, rfl⟩⟩
  · rintro v h' ⟨r, rfl, hr, rfl⟩
    exact ⟨h, es, T, f, nx, ks, lf, pv, hS, _, rfl, by rw [jj_set_same ha]; exact w r hr⟩
end HS1
