/-! PriorityQueue: its contracts -/
def ja_o21 (d : Nat) (n : Int) (cmp : Nat) (mc : Int) : jj_C := .inl (21, [jj_rf (some d), .inl n, jj_rf (some cmp), .inl mc])
/-- how the queue stands, open -/
def ja_pqo (hB : jj_H) (a : Nat) (h1 : jj_H) (cmp d cap : Nat) (n mc : Int) (f : Int → Option Nat) : Prop := h1 a = some (ja_o21 d n cmp mc) ∧ h1 d = some (ja_ra cap f) ∧ d ≠ a ∧ hB d = none ∧ 0 < cap ∧ cap < 100000 ∧ ∀ q c, q ≠ a → hB q = some c → h1 q = some c
section BPC
variable {G : jj_G} {l : Launch}
theorem ja_pqc (J : jx_G G l) {hB h' : jj_H} {H : Heap} {a cmp d cap : Nat} {es : List Nat} {mc : Int} {f : Int → Option Nat} (hA : ja_pqo hB a h' cmp d cap (es.length : Int) mc f) (hl : es.length ≤ cap) (hf : ∀ i : Nat, i < cap → f i = es[i]?) (hR : jj_R G h' H) : jj_R G (jj_set hB a (jj_pq cmp es)) H := by
  obtain ⟨g1, g2, g3, g4, g5, g6, g7⟩ := hA
  refine ja_close J.2.1.1 (x := (5, _)) (L := [(a, ja_o21 d es.length cmp mc), (d, ja_ra cap f)]) hR ⟨21, _, _, rfl, rfl, cmp, es, d, cap, mc, f, rfl, rfl, rfl, g3, hl, g5, g6, hf⟩ ?_ ?_ g7
  · intro q hq
    simp only [List.mem_cons, List.not_mem_nil, or_false] at hq
    rcases hq with rfl | rfl
    · exact ⟨g1, trivial⟩
    · exact ⟨g2, trivial⟩
  · intro q hq hne
    simp only [List.mem_cons, List.not_mem_nil, or_false] at hq
    rcases hq with rfl | rfl
    · exact absurd rfl hne
    · exact g4
theorem jb_pq (J : jx_G G l) {y : MethodName} {ws : List Cond} {fr lo : Nat} {As : List jj_AV} {h : jj_H} {K a cmp : Nat} {es : List Nat} (ha : h a = some (jj_pq cmp es)) {N : Option jj_AV → jj_H → Prop}
    (C : ∀ d cap mc f h1, ja_pqo h a h1 cmp d cap (es.length : Int) mc f → es.length ≤ cap → (∀ i : Nat, i < cap → f i = es[i]?) → jj_Ct G l y ws fr lo As h1 K (fun v h' => ∃ hB es' d' cap' mc' f', ja_pqo hB a h' cmp d' cap' (es'.length : Int) mc' f' ∧ es'.length ≤ cap' ∧ (∀ i : Nat, i < cap' → f' i = es'[i]?) ∧ N v (jj_set hB a (jj_pq cmp es'))) jj_F0) : jj_Ct G l y ws fr lo As h K N jj_F0 := by
  refine jj_Ct.ex (I := Nat × Nat × Int × (Int → Option Nat)) (Pi := fun i => ja_pqo h a (jj_set (jj_set h i.1 (ja_ra i.2.1 i.2.2.2)) a (ja_o21 i.1 es.length cmp i.2.2.1)) cmp i.1 i.2.1 (es.length : Int) i.2.2.1 i.2.2.2 ∧ es.length ≤ i.2.1 ∧ ∀ j : Nat, j < i.2.1 → i.2.2.2 j = es[j]?) (hh := fun i => jj_set (jj_set h i.1 (ja_ra i.2.1 i.2.2.2)) a (ja_o21 i.1 es.length cmp i.2.2.1)) ?_ (fun i hi => C i.1 i.2.1 i.2.2.1 i.2.2.2 _ hi.1 hi.2.1 hi.2.2) ?_ (fun _ _ _ _ _ _ q => q.elim)
  · intro U hK hR
    rcases ja_open J.2.1.1 hR ha with ⟨L, ⟨ci, fs, R, rfl, hc, hT⟩, hn, hR'⟩ | ⟨-, hx, -⟩ | ⟨-, cell, -, -, -, hx⟩ | hx
    · obtain ⟨cmp2, es2, d, cap, mc, f, e1, rfl, rfl, hda, h1, h2, h3, h4⟩ := hT
      cases hc
      have e0 : cmp = cmp2 := by
        have := (List.cons.inj e1).1
        simp only [jj_rf, Sum.inr.injEq, Sum.inl.injEq, Option.some.injEq] at this
        exact this
      subst e0
      have e4 : es = es2 := by
        refine (List.map_inj_right (fun x y hxy => ?_)).mp (List.cons.inj e1).2
        simp only [jj_rf, Sum.inr.injEq, Sum.inl.injEq, Option.some.injEq] at hxy
        exact hxy
      subst e4
      have hd : h d = none := hn (d, _) (List.mem_cons_of_mem _ List.mem_cons_self) hda
      refine ⟨(d, cap, mc, f), ⟨⟨jj_set_self _ _ _, ?_, hda, hd, h2, h3, fun b c hb hbc => ?_⟩, h1, h4⟩, ?_⟩
      · show jj_set (jj_set h d _) a _ d = _
        rw [jj_set_ne _ _ hda, jj_set_self]
      · show jj_set (jj_set h d _) a _ b = _
        rw [jj_set_ne _ _ hb, jj_set_ne _ _ (fun e => by rw [e, hd] at hbc; cases hbc)]
        exact hbc
      · rw [ja_ov2] at hR'
        exact hR'
    · rcases hx with hx | hx <;> cases hx
    · cases hx
    · cases hx
  · rintro i v h' H hi ⟨hB, es', d', cap', mc', f', q1, q2, q3, q4⟩ hR
    exact ⟨_, q4, ja_pqc J q1 q2 q3 hR⟩
theorem jb_J41_init (J : jx_G G l) : jJ_J41_init G l := by
  intro o x Q h k w
  obtain ⟨a, b, rfl, rfl, ha, he, hk, w⟩ := w
  refine ⟨a, 3, rfl, hk, ?_⟩
  refine jj_Ct.ex (I := Unit) (Pi := fun _ => True) (hh := fun _ => h) (fun _ _ hR => ⟨(), trivial, hR⟩) (fun _ _ => (cC_J41_init J (Q := fun h' => ∃ d, ja_pqo h a h' b d 11 0 0 (fun _ => none)) (E := jj_F0) ?_).room (by decide) (by decide)) ?_ (fun _ _ _ _ _ _ q => q.elim)
  · refine ⟨⟨a, rfl⟩, 3, Nat.le_refl _, ⟨a, rfl⟩, ⟨a, rfl⟩, ⟨a, rfl⟩, ⟨by decide, by decide⟩, fun _ => ⟨by decide, by decide, by decide, fun d hd => ?_⟩, fun c => absurd (by decide) c⟩
    have hda : d ≠ a := fun e => by rw [e, ha] at hd; cases hd
    refine ⟨a, _, rfl, (jj_set_ne _ _ (Ne.symm hda)).trans ha, a, _, rfl, jj_set_self _ _ _, d, ?_, ?_, hda, hd, by decide, by decide, fun q c hq hqc => ?_⟩
    · rw [jj_set_self]; rfl
    · rw [jj_set_set, jj_set_ne _ _ hda, jj_set_self]; rfl
    · rw [jj_set_set, jj_set_ne _ _ hq, jj_set_ne _ _ (fun e => by rw [e, hd] at hqc; cases hqc)]
      exact hqc
  · rintro - v h' H - ⟨rfl, d, q⟩ hR
    exact ⟨_, ⟨rfl, w⟩, ja_pqc J (es := []) q (Nat.zero_le _) (fun i _ => rfl) hR⟩
theorem jb_J0_isEmpty (J : jx_G G l) : jJ_J0_isEmpty G l := by
  intro o Q h k w
  obtain ⟨a, cmp, es, rfl, ha, w⟩ := w
  refine ⟨a, _, 0, rfl, ha, rfl, Nat.zero_le _, jb_pq J ha fun d cap mc f h1 hA hl hf => ?_⟩
  obtain ⟨g1, g2, g3, g4, g5, g6, g7⟩ := id hA
  refine (cC_J0_isEmpty J (Q := fun r h' => r = (if es.length = 0 then 1 else 0) ∧ h' = h1) (E := jj_F0) ⟨⟨a, _, rfl, g1, rfl⟩, a, _, _, rfl, g1, rfl, ⟨by omega, by omega⟩, fun c => ⟨?_, rfl⟩, fun c => ⟨?_, rfl⟩⟩).to ?_ (fun _ _ _ q => q)
  · rw [if_neg (by omega)]
  · rw [if_pos (by omega)]
  · rintro v h' ⟨r, rfl, rfl, rfl⟩
    exact ⟨h, es, d, cap, mc, f, hA, hl, hf, _, rfl, by rw [jj_set_same ha]; exact w⟩
theorem ja_gk_keep {hB h1 : jj_H} {a cmp cmp2 d cap : Nat} {es : List Nat} {n mc : Int} {f : Int → Option Nat} (ha : hB a = some (jj_pq cmp es)) (hA : ja_pqo hB a h1 cmp d cap n mc f) {g : Nat} {p : Int × Int} (hp : jj_gkey hB cmp2 g p) : jj_gkey h1 cmp2 g p :=
  hp.keep fun q z h2 h3 _ => hA.2.2.2.2.2.2 q z (fun e => by rw [e, ha] at h2; exact h3 _ (Option.some.inj h2).symm) h2
theorem ja_hord_heap {h : jj_H} {cmp : Nat} {es : List Nat} (ho : jj_hord h cmp es) : ja_heap (ja_ky h cmp) es := by
  intro i i0 i1
  have h1 := jj_getD_some i1
  have h2 := jj_getD_some (l := es) (i := (i - 1) / 2) (by omega)
  exact ho.2 i _ _ _ _ i0 h1 h2 (ja_ky_spec (ho.1 _ (List.mem_of_getElem? h2))) (ja_ky_spec (ho.1 _ (List.mem_of_getElem? h1)))
theorem ja_heap_hord {h : jj_H} {cmp : Nat} {es : List Nat} (hk : ∀ g ∈ es, ∃ q, jj_gkey h cmp g q) (hh : ja_heap (ja_ky h cmp) es) : jj_hord h cmp es := by
  refine ⟨hk, fun i a b p q i0 hb ha hp hq => ?_⟩
  have i1 : i < es.length := (List.getElem?_eq_some_iff.mp hb).1
  have h1 := jj_getD_some i1
  have h2 := jj_getD_some (l := es) (i := (i - 1) / 2) (by omega)
  rw [hb] at h1
  rw [ha] at h2
  have := hh i i0 i1
  rw [← Option.some.inj h1, ← Option.some.inj h2, (ja_ky_spec (hk _ (List.mem_of_getElem? hb))).uniq hq, (ja_ky_spec (hk _ (List.mem_of_getElem? ha))).uniq hp] at this
  exact this
theorem pJ_pqgrow {gk : Nat → Nat} {hB h1 : jj_H} {a cmp d cap : Nat} {n mc : Int} {f : Int → Option Nat} {Q : jj_H → Prop} {E : String → Nat → jj_H → Prop} {k : Nat} (hA : ja_pqo hB a h1 cmp d cap n mc f) (hc : cap < 64) (hel : ∀ i : Nat, i < cap → jj_el h1 (f i)) (hk : 1 + (2 * cap + 2) / 4 ≤ k)
    (q : ∀ d' f' h', ja_pqo hB a h' cmp d' (2 * cap + 2) n mc f' → (∀ i : Nat, i < 2 * cap + 2 → f' i = if i < cap then f i else none) → (∀ q c, q ≠ a → h1 q = some c → h' q = some c) → Q h') : fC_J41_grow gk (some a) ((cap : Int) + 1) Q E h1 k := by
  obtain ⟨g1, g2, g3, g4, g5, g6, g7⟩ := hA
  refine ⟨a, _, some d, rfl, g1, rfl, d, cap, f, rfl, g2, ⟨by omega, by omega⟩, fun c => absurd c (by omega), fun _ => ⟨⟨by omega, by omega⟩, ⟨by omega, by omega⟩, fun v hv => ?_⟩⟩
  have hv2 : v = ((2 * cap + 2 : Nat) : Int) := by omega
  subst hv2
  refine ⟨⟨by omega, by omega⟩, fun c => absurd c (by omega), fun _ => ⟨⟨by omega, by omega⟩, fun c => absurd c (by omega), fun _ => ⟨a, _, some d, rfl, g1, rfl, k, Nat.le_refl _, ?_⟩⟩⟩
  refine pJ_copyOf g2 (by omega) (by omega) (by omega) (fun i hi _ => hel i hi) (by omega) fun d' f' hd' hf' => ?_
  have hda : d' ≠ a := fun e => by rw [e, g1] at hd'; cases hd'
  have hBd : hB d' = none := by
    cases hh : hB d' with
    | none => rfl
    | some c => rw [g7 d' c hda hh] at hd'; cases hd'
  refine ⟨a, _, rfl, (jj_set_ne _ _ (Ne.symm hda)).trans g1, q d' f' _ ⟨jj_set_self _ _ _, ?_, hda, hBd, by omega, by omega, fun q c hq hc => ?_⟩ (fun i hi => hf' i (by omega)) (fun q c hq hc => ?_)⟩
  · rw [jj_set_ne _ _ hda, jj_set_self]
    rfl
  · rw [jj_set_ne _ _ hq, jj_set_ne _ _ (fun e => by rw [e, hBd] at hc; cases hc)]
    exact g7 q c hq hc
  · rw [jj_set_ne _ _ hq, jj_set_ne _ _ (fun e => by rw [e, hd'] at hc; cases hc)]
    exact hc
theorem jb_J41_add (J : jx_G G l) : jJ_J41_add G l := by
  intro o x Q h k w
  obtain ⟨a, b, cmp, es, rfl, rfl, ha, ho, hbk, hlen, hk, w⟩ := w
  refine ⟨a, _, 2 + es.length / 2, rfl, ha, rfl, hk, jb_pq J ha fun d cap mc f h1 hA hl hf => ?_⟩
  have hall : ∀ g ∈ es ++ [b], ∃ q, jj_gkey h cmp g q := fun g hg => by
    rcases List.mem_append.mp hg with hg | hg
    · exact ho.1 g hg
    · have : g = b := by simpa using hg
      rw [this]; exact hbk
  -- the array stands, with room for one more
  have sift : ∀ (d cap : Nat) (f : Int → Option Nat) (h2 : jj_H) (kk : Nat), ja_pqo h a h2 cmp d cap (es.length : Int) (mc + 1) f → es.length < cap → (∀ i : Nat, i < cap → f i = es[i]?) → fC_J41_offer_j43 (jj_gk G) (some a) (some b) (es.length : Int) (fun r h' => (r = 0 ∨ r = 1) ∧ (r = 1 ∧ ∃ es' d' cap' f', es'.Perm (b :: es) ∧ jj_hord h cmp es' ∧ ja_pqo h a h' cmp d' cap' (es'.length : Int) (mc + 1) f' ∧ es'.length ≤ cap' ∧ ∀ i : Nat, i < cap' → f' i = es'[i]?)) jj_F0 h2 kk := by
    intro d cap f h2 kk hA2 hlc hf2
    obtain ⟨g1, g2, g3, g4, g5, g6, g7⟩ := id hA2
    refine ⟨⟨a, _, rfl, g1, rfl⟩, a, _, some cmp, rfl, g1, rfl, (fun c => by cases c), fun _ => ⟨a, _, some d, rfl, g1, rfl, a, _, some cmp, rfl, g1, rfl, es.length + 1, ?_⟩⟩
    have hgk : ∀ g ∈ es ++ [b], jj_gkey h2 cmp g (ja_ky h cmp g) := fun g hg => ja_gk_keep ha hA2 (ja_ky_spec (hall g hg))
    have hsame : jj_set h2 d (ja_ra cap f) = h2 := jj_set_same g2
    have hup := pJ_up (gk := jj_gk G) (x := b) (E := jj_F0) (Q := fun h' => jp_pi h' (some a) 21 1 ((es.length : Int) + 1) (fun h4 => ((1 : Int) = 0 ∨ (1 : Int) = 1) ∧ ((1 : Int) = 1 ∧ ∃ es' d' cap' f', es'.Perm (b :: es) ∧ jj_hord h cmp es' ∧ ja_pqo h a h4 cmp d' cap' (es'.length : Int) (mc + 1) f' ∧ es'.length ≤ cap' ∧ ∀ i : Nat, i < cap' → f' i = es'[i]?))) g2 g6 (es.length + 1) es.length (es ++ [b]) f 0 (Nat.lt_succ_self _) (by simp) (by simp; omega) (fun j hj hne => ?_) hgk ?_ ⟨fun i i0 i1 i2 => ?_, fun i k0 i0 i1 i2 => ?_⟩ fun L' f' p1 p2 p3 => ?_
    · rw [hsame] at hup
      exact hup
    · rw [hf2 j hj, List.getElem?_append]
      by_cases c : j < es.length
      · rw [if_pos c]
      · rw [if_neg c, List.getElem?_eq_none (by omega), List.getElem?_eq_none (by simp; omega)]
    · rw [List.getD_eq_getElem?_getD, List.getElem?_append, if_neg (Nat.lt_irrefl _), Nat.sub_self]
      rfl
    · have hi : i < es.length := by simp at i1; omega
      have e1 : ∀ j, j < es.length → (es ++ [b]).getD j 0 = es.getD j 0 := fun j hj => by
        rw [List.getD_eq_getElem?_getD, List.getElem?_append, if_pos hj, List.getD_eq_getElem?_getD]
      rw [e1 i hi, e1 _ (by omega)]
      exact ja_hord_heap ho i i0 hi
    · simp at i1
      omega
    · have hperm : L'.Perm (b :: es) := p1.trans (List.perm_append_singleton b es)
      have hmem : ∀ g ∈ L', ∃ q, jj_gkey h cmp g q := fun g hg => hall g (p1.mem_iff.mp hg)
      have hlen' : L'.length = es.length + 1 := by rw [hperm.length_eq]; rfl
      have hah : jj_set h2 d (ja_ra cap f') a = some (ja_o21 d es.length cmp (mc + 1)) := (jj_set_ne _ _ (Ne.symm g3)).trans g1
      refine ⟨a, _, rfl, hah, Or.inr rfl, rfl, L', d, cap, f', hperm, ja_heap_hord hmem p2, ⟨?_, ?_, g3, g4, g5, g6, fun q c hq hc => ?_⟩, by omega, p3⟩
      · rw [jj_set_self, hlen']
        rfl
      · rw [jj_set_ne _ _ g3, jj_set_self]
      · rw [jj_set_ne _ _ hq, jj_set_ne _ _ (fun e => by rw [e, g4] at hc; cases hc)]
        exact g7 q c hq hc
  obtain ⟨g1, g2, g3, g4, g5, g6, g7⟩ := id hA
  have hA2 : ja_pqo h a (jj_set h1 a (ja_o21 d es.length cmp (mc + 1))) cmp d cap (es.length : Int) (mc + 1) f := ⟨jj_set_self _ _ _, (jj_set_ne _ _ g3).trans g2, g3, g4, g5, g6, fun q c hq hc => (jj_set_ne _ _ hq).trans (g7 q c hq hc)⟩
  refine (cC_J41_add J (Q := fun r h' => r = 1 ∧ ∃ es' d' cap' f', es'.Perm (b :: es) ∧ jj_hord h cmp es' ∧ ja_pqo h a h' cmp d' cap' (es'.length : Int) (mc + 1) f' ∧ es'.length ≤ cap' ∧ ∀ i : Nat, i < cap' → f' i = es'[i]?) (E := jj_F0) ⟨⟨a, _, rfl, g1, rfl⟩, 2 + es.length / 2, Nat.le_refl _, fun _ => ?_, fun c => by cases c⟩).to ?_ (fun _ _ _ q => q)
  · refine ⟨a, _, mc, rfl, g1, rfl, a, _, rfl, g1, a, _, (es.length : Int), rfl, jj_set_self _ _ _, rfl, a, _, some d, rfl, jj_set_self _ _ _, rfl, d, cap, f, rfl, (jj_set_ne _ _ g3).trans g2, ⟨by omega, by omega⟩, ⟨by omega, by omega⟩, fun c => ?_, fun c => ?_⟩
    · exact sift d cap f _ _ hA2 (by omega) hf
    · have hcap : cap = es.length := by omega
      refine ⟨⟨a, _, rfl, jj_set_self _ _ _, rfl⟩, 2 + es.length / 2, Nat.le_refl _, ?_⟩
      rw [show ((es.length : Int) + 1) = (cap : Int) + 1 by omega]
      refine pJ_pqgrow hA2 (by omega) (fun i hi => ?_) (by omega) fun d' f' h' q1 q2 q3 => ?_
      · rw [hf i hi, jj_getD_some (by omega)]
        have hm := List.mem_of_getElem? (jj_getD_some (l := es) (i := i) (by omega))
        exact (ja_gk_keep ha hA2 (ja_ky_spec (ho.1 _ hm))).el
      · exact sift d' (2 * cap + 2) f' h' _ q1 (by omega) (fun i hi => by
          rw [q2 i hi]
          by_cases c2 : i < cap
          · rw [if_pos c2]; exact hf i c2
          · rw [if_neg c2, List.getElem?_eq_none (by omega)])
  · rintro v h' ⟨r, rfl, rfl, es', d', cap', f', q1, q2, q3, q4, q5⟩
    exact ⟨h, es', d', cap', mc + 1, f', q3, q4, q5, _, rfl, w es' q1 q2⟩
theorem jb_J41_poll (J : jx_G G l) : jJ_J41_poll G l := by
  intro o Q h k w
  obtain ⟨a, cmp, e, es, rfl, ha, ho, hlen, w⟩ := w
  refine ⟨a, _, 0, rfl, ha, rfl, Nat.zero_le _, jb_pq J ha fun d cap mc f h1 hA hl hf => ?_⟩
  obtain ⟨g1, g2, g3, g4, g5, g6, g7⟩ := id hA
  have hlen2 : (e :: es).length = es.length + 1 := rfl
  rw [hlen2] at hl hlen
  have hf0 : f 0 = some e := hf 0 (by omega)
  have hfn : f ((es.length : Nat) : Int) = some ((e :: es).getD es.length 0) := by rw [hf _ (by omega), jj_getD_some (by simp)]
  have hperm : ∀ x, (e :: es).getD es.length 0 = x → es ≠ [] → (x :: es.dropLast).Perm es := fun x hx hne => by
    have h2 : es = es.dropLast ++ [es.getLast hne] := (List.dropLast_concat_getLast hne).symm
    have h3 : x = es.getLast hne := by
      obtain ⟨m, hm⟩ : ∃ m, es.length = m + 1 := ⟨es.length - 1, by have := List.length_pos_iff.mpr hne; omega⟩
      rw [← hx, List.getD_eq_getElem?_getD, hm, List.getElem?_cons_succ, List.getLast_eq_getElem, List.getElem?_eq_getElem (by omega)]
      show es[m] = es[es.length - 1]
      congr 1
      omega
    rw [h3]
    conv => rhs; rw [h2]
    exact (List.perm_append_singleton _ _).symm
  have hd1 : ∀ m n, jj_set h1 a (ja_o21 d m cmp n) d = some (ja_ra cap f) := fun m n => (jj_set_ne _ _ g3).trans g2
  refine (cC_J41_poll J (Q := fun r h' => r = some e ∧ ∃ es' f', es'.Perm es ∧ jj_hord h cmp es' ∧ ja_pqo h a h' cmp d cap (es'.length : Int) (mc + 1) f' ∧ es'.length ≤ cap ∧ ∀ i : Nat, i < cap → f' i = es'[i]?) (E := jj_F0) ⟨a, _, some d, rfl, g1, rfl, d, cap, f, rfl, g2, by omega, by omega, ?_⟩).to ?_ (fun _ _ _ q => q)
  · rw [hf0]
    refine ⟨(fun c => by cases c), fun _ => ⟨a, _, mc, rfl, g1, rfl, a, _, rfl, g1, a, _, _, rfl, jj_set_self _ _ _, rfl, a, _, rfl, jj_set_self _ _ _, ?_⟩⟩
    rw [jj_set_set]
    intro v hv
    have hv2 : v = (es.length : Int) := by rw [hv, hlen2]; omega
    rw [show (((e :: es).length : Nat) : Int) - 1 = (es.length : Int) by rw [hlen2]; omega]
    subst hv2
    refine ⟨d, cap, f, rfl, (jj_set_ne _ _ g3).trans g2, by omega, by omega, ?_⟩
    rw [hfn]
    generalize hxx : (e :: es).getD es.length 0 = x at hperm
    refine ⟨d, cap, f, rfl, (jj_set_ne _ _ g3).trans g2, by omega, by omega, jj_el_none, ?_⟩
    generalize hh2 : jj_set (jj_set h1 a (.inl (21, (([jj_rf (some d), .inl (((e :: es).length : Nat) : Int), jj_rf (some cmp), .inl mc] : List jj_AV).set 3 (.inl (mc + 1))).set 1 (.inl (es.length : Int))))) d (.inr (.inr (.inl (0, cap, fun j => if j = (es.length : Int) then none else f j)))) = h2
    have hA2 : ja_pqo h a h2 cmp d cap (es.length : Int) (mc + 1) (fun j => if j = (es.length : Int) then none else f j) := by
      rw [← hh2]
      refine ⟨(jj_set_ne _ _ (Ne.symm g3)).trans (jj_set_self _ _ _), jj_set_self _ _ _, g3, g4, g5, g6, fun q c hq hc => ?_⟩
      rw [jj_set_ne _ _ (fun e2 => by rw [e2, g4] at hc; cases hc), jj_set_ne _ _ hq]
      exact g7 q c hq hc
    refine ⟨⟨by omega, by omega⟩, fun c => ?_, fun c => ?_⟩
    · have hes : es = [] := List.eq_nil_of_length_eq_zero (by omega)
      subst hes
      refine ⟨rfl, [], _, List.Perm.refl _, ⟨(fun g hg => by cases hg), fun i a b p q i0 hb => by cases hb⟩, hA2, Nat.zero_le _, fun i hi => ?_⟩
      show (if (i : Int) = ((([] : List Nat).length : Nat) : Int) then none else f i) = none
      by_cases c2 : (i : Int) = ((([] : List Nat).length : Nat) : Int)
      · rw [if_pos c2]
      · rw [if_neg c2, hf i hi, List.getElem?_eq_none (by simp at c2 ⊢; omega)]
    · have hne : es ≠ [] := fun e2 => by rw [e2] at c; exact c (by simp)
      have hn0 : 0 < es.length := List.length_pos_iff.mpr hne
      obtain ⟨k1, k2, k3, k4, k5, k6, k7⟩ := id hA2
      refine ⟨a, _, some cmp, rfl, k1, rfl, fun _ => ?_, fun c => by cases c⟩
      have hx : x ∈ e :: es := by rw [← hxx]; exact List.mem_of_getElem? (jj_getD_some (by simp))
      have hp := hperm x rfl hne
      intro v15 hv15
      rw [jj_ushr1 (by omega)] at hv15
      subst hv15
      refine ⟨es.length + 1, ?_⟩
      have hLlen : (x :: es.dropLast).length = es.length := hp.length_eq
      have hmem : ∀ g ∈ x :: es.dropLast, ∃ q, jj_gkey h cmp g q := fun g hg => ho.1 g (List.mem_cons_of_mem _ (hp.mem_iff.mp hg))
      have hgk : ∀ g ∈ x :: es.dropLast, jj_gkey h2 cmp g (ja_ky h cmp g) := fun g hg => ja_gk_keep ha hA2 (ja_ky_spec (hmem g hg))
      have hsame : jj_set h2 d (ja_ra cap (fun j => if j = (es.length : Int) then none else f j)) = h2 := jj_set_same k2
      have hdl : ∀ j, j < es.length → 0 < j → (x :: es.dropLast).getD j 0 = (e :: es).getD j 0 := fun j hj h0 => by
        obtain ⟨j', rfl⟩ : ∃ j', j = j' + 1 := ⟨j - 1, by omega⟩
        rw [List.getD_eq_getElem?_getD, List.getD_eq_getElem?_getD, List.getElem?_cons_succ, List.getElem?_cons_succ, List.getElem?_dropLast, if_pos (by omega)]
      have hdn := pJ_down (gk := jj_gk G) (x := x) (E := jj_F0) (Q := fun h' => some e = some e ∧ ∃ es' f', es'.Perm es ∧ jj_hord h cmp es' ∧ ja_pqo h a h' cmp d cap (es'.length : Int) (mc + 1) f' ∧ es'.length ≤ cap ∧ ∀ i : Nat, i < cap → f' i = es'[i]?) (κ := ja_ky h cmp) k2 g6 (es.length + 1) 0 (x :: es.dropLast) (fun j => if j = (es.length : Int) then none else f j) 0 (by rw [hLlen]; omega) (by rw [hLlen]; exact hn0) (by rw [hLlen]; omega) (fun j hj hne2 => ?_) hgk rfl ⟨fun i i0 i1 i2 => ?_, fun i k0 => absurd k0 (Nat.lt_irrefl 0)⟩ fun L' f' p1 p2 p3 => ?_
      · rw [hsame, hLlen] at hdn
        exact hdn
      · show (if (j : Int) = (es.length : Int) then none else f j) = _
        by_cases c2 : j < es.length
        · rw [if_neg (by omega), hf j hj, jj_getD_some (by rw [hlen2]; omega), jj_getD_some (by rw [hLlen]; exact c2), hdl j c2 (by omega)]
        · rw [List.getElem?_eq_none (by rw [hLlen]; omega)]
          by_cases c3 : (j : Int) = (es.length : Int)
          · rw [if_pos c3]
          · rw [if_neg c3, hf j hj, List.getElem?_eq_none (by rw [hlen2]; omega)]
      · rw [hLlen] at i1
        have := ja_hord_heap ho i i0 (by rw [hlen2]; omega)
        rw [hdl i i1 i0, hdl _ (by omega) (by omega)]
        exact this
      · have hperm2 := p1.trans hp
        have hmem2 : ∀ g ∈ L', ∃ q, jj_gkey h cmp g q := fun g hg => ho.1 g (List.mem_cons_of_mem _ (hperm2.mem_iff.mp hg))
        refine ⟨rfl, L', f', hperm2, ja_heap_hord hmem2 p2, ⟨?_, jj_set_self _ _ _, k3, k4, k5, k6, fun q c hq hc => ?_⟩, by rw [hperm2.length_eq]; omega, p3⟩
        · rw [jj_set_ne _ _ (Ne.symm k3), k1, hperm2.length_eq]
        · rw [jj_set_ne _ _ (fun e2 => by rw [e2, k4] at hc; cases hc)]
          exact k7 q c hq hc
  · rintro v h' ⟨r, rfl, rfl, es', f', q1, q2, q3, q4, q5⟩
    exact ⟨h, es', d, cap, mc + 1, f', q3, q4, q5, _, rfl, w es' q1 q2⟩
end BPC
