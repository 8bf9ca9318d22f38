/-! HashSet: its iterator, addAll -/
def ja_it (nx cur : Option Nat) (emc ix : Int) (mp : Nat) : jj_C := .inl (19, [jj_rf nx, jj_rf cur, .inl emc, .inl ix, jj_rf (some mp)])
theorem ja_hd {post : List ja_E} {i : Nat} (hs : ja_srt post) (hi : ∀ e ∈ post, i ≤ ja_bk e) {x : ja_E} {r : List ja_E} (hF : ja_F post i = x :: r) : ∃ r', post = x :: r' := by
  cases post with
  | nil => cases hF
  | cons e r' =>
    have hx : x ∈ ja_F (e :: r') i := by rw [hF]; exact List.mem_cons_self
    obtain ⟨x1, x2⟩ := ja_F_mem hx
    have he : ja_bk e = i := by
      have h1 := hi e List.mem_cons_self
      rcases List.mem_cons.mp x1 with rfl | x1
      · exact x2
      · have := (List.pairwise_cons.mp hs).1 x x1
        omega
    unfold ja_F at hF
    rw [List.filter_cons_of_pos (by simpa using he)] at hF
    exact ⟨r', by rw [(List.cons.inj hF).1]⟩
theorem ja_F_nil {post : List ja_E} {i : Nat} (hi : ∀ e ∈ post, i ≤ ja_bk e) (hF : ja_F post i = []) : ∀ e ∈ post, i + 1 ≤ ja_bk e := by
  intro e he
  have h1 := hi e he
  have h2 : ja_bk e ≠ i := fun e2 => by
    have : e ∈ ja_F post i := List.mem_filter.mpr ⟨he, by simpa using e2⟩
    rw [hF] at this
    cases this
  omega
section HI1
variable {gk : Nat → Nat} {es : List ja_E} {f : Int → Option Nat} {nx : Nat → Option Nat} {E : String → Nat → jj_H → Prop} {it t mp : Nat} {cur : Option Nat} {emc : Int}
theorem ja_itset {h : jj_H} {ix ix' : Int} {n n' : Option Nat} (hit : h it = some (ja_it n cur emc ix mp)) {X : jj_C} : jj_set (jj_set h it (ja_it n' cur emc ix' mp)) it X = jj_set h it X := jj_set_set _ _ _ _
theorem pJ_adv0 (hch : ∀ b : Nat, b < 16 → ja_chn nx ((ja_F es b).map (fun e => e.2.2.2)) (f (b : Int))) (hti : t ≠ it) {Q : jj_H → Prop} : ∀ (n i : Nat) (post : List ja_E) (h : jj_H) (k : Nat), i ≤ 16 → 16 - i < n → ja_srt post → (∀ e ∈ post, i ≤ ja_bk e) → (∀ b, i ≤ b → ja_F es b = ja_F post b) → h it = some (ja_it none cur emc i mp) → h t = some (.inr (.inr (.inl (4, 16, f)))) → (∀ ix : Int, (∀ e, post.head? = some e → ix = (ja_bk e : Int) + 1) → Q (jj_set h it (ja_it (post.head?.map (fun e => e.2.2.2)) cur emc ix mp))) → fC_J24_init_l48 gk (some it) (some t) Q E n h k := by
  intro n
  induction n with
  | zero => intro i post h k _ hn; omega
  | succ n ih =>
    intro i post h k hi hn hs hp hF hit ht q
    rw [fC_J24_init_l48]
    refine ⟨it, _, (i : Int), rfl, hit, rfl, t, 16, f, rfl, ht, ⟨by omega, by omega⟩, ⟨by decide, by decide⟩, fun c => ?_, fun c => ?_⟩
    · have hp0 : post = [] := by
        cases post with
        | nil => rfl
        | cons e r =>
          have h1 := hp e List.mem_cons_self
          have h2 := ja_bk_lt e
          omega
      subst hp0
      have := q (i : Int) (fun e he => by cases he)
      rwa [show (([] : List ja_E).head?.map (fun e => e.2.2.2)) = none from rfl, jj_set_same hit] at this
    · have hit4 : jj_set h it (ja_it none cur emc ((i : Int) + 1) mp) it = some (ja_it none cur emc ((i : Int) + 1) mp) := jj_set_self _ _ _
      refine ⟨it, _, (i : Int), rfl, hit, rfl, it, _, rfl, hit, t, 16, f, rfl, (jj_set_ne _ _ hti).trans ht, by omega, by omega, it, _, rfl, hit4, ?_⟩
      have hc := hch i (by omega)
      rw [hF i (Nat.le_refl _)] at hc
      refine ⟨fun c2 => ?_, fun c2 => ?_⟩
      · rw [c2] at hc
        have hF0 : ja_F post i = [] := List.map_eq_nil_iff.mp (ja_chn_none hc)
        show fC_J24_init_l48 gk (some it) (some t) Q E n (jj_set (jj_set h it (ja_it none cur emc ((i : Int) + 1) mp)) it (ja_it (f (i : Int)) cur emc ((i : Int) + 1) mp)) k
        rw [jj_set_set, c2]
        refine ih (i + 1) post _ k (by omega) (by omega) hs (ja_F_nil hp hF0) (fun b hb => hF b (by omega)) (jj_set_self _ _ _) ((jj_set_ne _ _ hti).trans ht) fun ix hix => ?_
        rw [jj_set_set]
        exact q ix hix
      · obtain ⟨x, hx⟩ := Option.ne_none_iff_exists'.mp c2
        rw [hx] at hc
        obtain ⟨r, e1, -⟩ := ja_chn_some hc
        cases hl : ja_F post i with
        | nil => rw [hl] at e1; cases e1
        | cons y r2 =>
          rw [hl, List.map_cons] at e1
          obtain ⟨r', hr'⟩ := ja_hd hs hp hl
          have hyi : ja_bk y = i := (ja_F_mem (b := i) (es := post) (by rw [hl]; exact List.mem_cons_self)).2
          have := q ((i : Int) + 1) (fun e he => by
            rw [hr'] at he
            cases he
            rw [hyi])
          rw [hr'] at this
          show Q (jj_set (jj_set h it (ja_it none cur emc ((i : Int) + 1) mp)) it (ja_it (f (i : Int)) cur emc ((i : Int) + 1) mp))
          rw [jj_set_set, hx, ← (List.cons.inj e1).1]
          exact this
theorem pJ_adv1 {x2 : Option Nat} (hch : ∀ b : Nat, b < 16 → ja_chn nx ((ja_F es b).map (fun e => e.2.2.2)) (f (b : Int))) (hti : t ≠ it) {Q : Option Nat → jj_H → Prop} : ∀ (n i : Nat) (post : List ja_E) (h : jj_H) (k : Nat), i ≤ 16 → 16 - i < n → ja_srt post → (∀ e ∈ post, i ≤ ja_bk e) → (∀ b, i ≤ b → ja_F es b = ja_F post b) → h it = some (ja_it none cur emc i mp) → h t = some (.inr (.inr (.inl (4, 16, f)))) → (∀ ix : Int, (∀ e, post.head? = some e → ix = (ja_bk e : Int) + 1) → Q x2 (jj_set h it (ja_it (post.head?.map (fun e => e.2.2.2)) cur emc ix mp))) → fC_J24_nextNode_l68 gk (some it) (some t) x2 Q E n h k := by
  intro n
  induction n with
  | zero => intro i post h k _ hn; omega
  | succ n ih =>
    intro i post h k hi hn hs hp hF hit ht q
    rw [fC_J24_nextNode_l68]
    refine ⟨it, _, (i : Int), rfl, hit, rfl, t, 16, f, rfl, ht, ⟨by omega, by omega⟩, ⟨by decide, by decide⟩, fun c => ?_, fun c => ?_⟩
    · have hp0 : post = [] := by
        cases post with
        | nil => rfl
        | cons e r =>
          have h1 := hp e List.mem_cons_self
          have h2 := ja_bk_lt e
          omega
      subst hp0
      have := q (i : Int) (fun e he => by cases he)
      rwa [show (([] : List ja_E).head?.map (fun e => e.2.2.2)) = none from rfl, jj_set_same hit] at this
    · have hit4 : jj_set h it (ja_it none cur emc ((i : Int) + 1) mp) it = some (ja_it none cur emc ((i : Int) + 1) mp) := jj_set_self _ _ _
      refine ⟨it, _, (i : Int), rfl, hit, rfl, it, _, rfl, hit, t, 16, f, rfl, (jj_set_ne _ _ hti).trans ht, by omega, by omega, it, _, rfl, hit4, ?_⟩
      have hc := hch i (by omega)
      rw [hF i (Nat.le_refl _)] at hc
      refine ⟨fun c2 => ?_, fun c2 => ?_⟩
      · rw [c2] at hc
        have hF0 : ja_F post i = [] := List.map_eq_nil_iff.mp (ja_chn_none hc)
        show fC_J24_nextNode_l68 gk (some it) (some t) x2 Q E n (jj_set (jj_set h it (ja_it none cur emc ((i : Int) + 1) mp)) it (ja_it (f (i : Int)) cur emc ((i : Int) + 1) mp)) k
        rw [jj_set_set, c2]
        refine ih (i + 1) post _ k (by omega) (by omega) hs (ja_F_nil hp hF0) (fun b hb => hF b (by omega)) (jj_set_self _ _ _) ((jj_set_ne _ _ hti).trans ht) fun ix hix => ?_
        rw [jj_set_set]
        exact q ix hix
      · obtain ⟨x, hx⟩ := Option.ne_none_iff_exists'.mp c2
        rw [hx] at hc
        obtain ⟨r, e1, -⟩ := ja_chn_some hc
        cases hl : ja_F post i with
        | nil => rw [hl] at e1; cases e1
        | cons y r2 =>
          rw [hl, List.map_cons] at e1
          obtain ⟨r', hr'⟩ := ja_hd hs hp hl
          have hyi : ja_bk y = i := (ja_F_mem (b := i) (es := post) (by rw [hl]; exact List.mem_cons_self)).2
          have := q ((i : Int) + 1) (fun e he => by
            rw [hr'] at he
            cases he
            rw [hyi])
          rw [hr'] at this
          show Q x2 (jj_set (jj_set h it (ja_it none cur emc ((i : Int) + 1) mp)) it (ja_it (f (i : Int)) cur emc ((i : Int) + 1) mp))
          rw [jj_set_set, hx, ← (List.cons.inj e1).1]
          exact this
theorem ja_chn_mid : ∀ (l1 : List Nat) (x : Nat) (l2 : List Nat) (s : Option Nat), ja_chn nx (l1 ++ x :: l2) s → ja_chn nx l2 (nx x)
  | [], _, _, _, h => h.2
  | _ :: l1, x, l2, _, h => ja_chn_mid l1 x l2 _ h.2
end HI1
section HI2
variable {G : jj_G} {l : Launch}
theorem jj_hi_nz {j j2 s s2 mp mp2 : Nat} {es es2 : List (Nat × Int × Nat)} (h : (.inl (j : Int) :: jj_rf (some s) :: jj_rf (some mp) :: jj_hcs es : List jj_AV) = .inl (j2 : Int) :: jj_rf (some s2) :: jj_rf (some mp2) :: jj_hcs es2) : j = j2 ∧ s = s2 ∧ mp = mp2 ∧ es = es2 := by
  obtain ⟨h1, h⟩ := List.cons.inj h
  obtain ⟨h2, h⟩ := List.cons.inj h
  obtain ⟨h3, h⟩ := List.cons.inj h
  have e1 : (j : Int) = (j2 : Int) := Sum.inl.inj h1
  simp only [jj_rf, Sum.inr.injEq, Sum.inl.injEq, Option.some.injEq] at h2 h3
  refine ⟨by omega, h2, h3, jj_flat3 (g := fun q : Nat × Int × Nat => [jj_rf (some q.1), .inl q.2.1, jj_rf (some q.2.2)]) (fun _ => rfl) (fun x y hxy => ?_) h⟩
  simp only [jj_rf, List.cons.injEq, Sum.inr.injEq, Sum.inl.injEq, Option.some.injEq, and_true] at hxy
  exact Prod.ext hxy.1 (Prod.ext hxy.2.1 hxy.2.2)
def ja_ixc (es : List (Nat × Int × Nat)) (j : Nat) (ix : Int) : Prop := ∀ e, es[j]? = some e → ix = ((jj_and 15 (ja_sp e.2.1)).toNat : Int) + 1
theorem ja_hic (J : jx_G G l) {hB h' : jj_H} {H : Heap} {b j s mp : Nat} {es : List (Nat × Int × Nat)} {cur : Option Nat} {ix : Int} (hb : h' b = some (ja_it (es[j]?.map (fun q => q.2.2)) cur es.length ix mp)) (hix : ja_ixc es j ix) (hk : ∀ q c, q ≠ b → hB q = some c → h' q = some c) (hR : jj_R G h' H) : jj_R G (jj_set hB b (jj_hi j s mp es)) H := by
  refine ja_close J.2.1.1 (x := (8, _)) (L := [(b, ja_it (es[j]?.map (fun q => q.2.2)) cur es.length ix mp)]) hR ⟨19, _, _, rfl, rfl, j, s, mp, es, cur, ix, rfl, rfl, rfl, hix⟩ ?_ ?_ hk
  · intro z hz
    have : z = (b, ja_it (es[j]?.map (fun q => q.2.2)) cur es.length ix mp) := by simpa using hz
    subst this
    exact ⟨hb, trivial⟩
  · intro z hz hne
    have : z = (b, ja_it (es[j]?.map (fun q => q.2.2)) cur es.length ix mp) := by simpa using hz
    subst this
    exact absurd rfl hne
theorem jb_hi (J : jx_G G l) {y : MethodName} {ws : List Cond} {fr lo : Nat} {As : List jj_AV} {h : jj_H} {K b j s mp : Nat} {es : List (Nat × Int × Nat)} (hb : h b = some (jj_hi j s mp es)) {N : Option jj_AV → jj_H → Prop}
    (C : ∀ cur ix, ja_ixc es j ix → jj_Ct G l y ws fr lo As (jj_set h b (ja_it (es[j]?.map (fun q => q.2.2)) cur es.length ix mp)) K (fun v h' => ∃ hB j' cur' ix', h' b = some (ja_it (es[j']?.map (fun q => q.2.2)) cur' es.length ix' mp) ∧ ja_ixc es j' ix' ∧ (∀ q c, q ≠ b → hB q = some c → h' q = some c) ∧ N v (jj_set hB b (jj_hi j' s mp es))) jj_F0) : jj_Ct G l y ws fr lo As h K N jj_F0 := by
  refine jj_Ct.ex (I := Option Nat × Int) (Pi := fun i => ja_ixc es j i.2) (hh := fun i => jj_set h b (ja_it (es[j]?.map (fun q => q.2.2)) i.1 es.length i.2 mp)) ?_ (fun i hi => C i.1 i.2 hi) ?_ (fun _ _ _ _ _ _ q => q.elim)
  · intro U hK hR
    rcases ja_open J.2.1.1 hR hb with ⟨L, ⟨ci, fs, R, rfl, hc, hT⟩, hn, hR'⟩ | ⟨-, hx, -⟩ | ⟨-, cell, -, -, -, hx⟩ | hx
    · obtain ⟨j2, s2, mp2, es2, cur, ix, e1, rfl, rfl, hix⟩ := hT
      cases hc
      obtain ⟨rfl, rfl, rfl, rfl⟩ := jj_hi_nz e1
      refine ⟨(cur, ix), hix, ?_⟩
      have e3 : ja_ov h [(b, ja_it (es[j]?.map (fun q => q.2.2)) cur es.length ix mp)] = jj_set h b (ja_it (es[j]?.map (fun q => q.2.2)) cur es.length ix mp) := by
        funext q
        unfold ja_ov jj_set
        by_cases h1 : b = q
        · simp [List.find?, h1]
        · simp [List.find?, h1, Ne.symm h1]
      rw [← e3]
      exact hR'
    · rcases hx with hx | hx <;> cases hx
    · cases hx
    · cases hx
  · rintro i v h' H hi ⟨hB, j', cur', ix', q1, q2, q3, hN⟩ hR
    exact ⟨_, hN, ja_hic J q1 q2 q3 hR⟩
theorem jb_J24_hasNext (J : jx_G G l) : jJ_J24_hasNext G l := by
  intro o Q h k w
  obtain ⟨b, s, mp, es, j, rfl, hb, hs, hj, w⟩ := w
  refine ⟨b, _, 0, rfl, hb, rfl, Nat.zero_le _, jb_hi J hb fun cur ix hix => ?_⟩
  refine (cC_J24_hasNext J (Q := fun r h' => r = (if j = es.length then 0 else 1) ∧ h' = jj_set h b (ja_it (es[j]?.map (fun q => q.2.2)) cur es.length ix mp)) (E := jj_F0) ⟨b, _, _, rfl, jj_set_self _ _ _, rfl, fun c => ⟨?_, rfl⟩, fun c => ⟨?_, rfl⟩⟩).to ?_ (fun _ _ _ q => q)
  · by_cases e : j = es.length
    · rw [if_pos e]
    · have h2 : j < es.length := by omega
      rw [List.getElem?_eq_getElem h2] at c
      cases c
  · by_cases e : j = es.length
    · rw [List.getElem?_eq_none (by omega)] at c
      exact absurd rfl c
    · rw [if_neg e]
  · rintro v h' ⟨r, rfl, rfl, rfl⟩
    exact ⟨h, j, cur, ix, jj_set_self _ _ _, hix, (fun q c hq hc => (jj_set_ne _ _ hq).trans hc), _, rfl, by rw [jj_set_same hb]; exact w⟩
/-- another cell is written -/
theorem ja_hop_put {hB h1 : jj_H} {a m q0 : Nat} {es : List ja_E} {T : Option Nat} {f : Int → Option Nat} {nx : Nat → Option Nat} {ks : Option Nat} {mc : Int} {lf : UInt32} {c0 c' : jj_C} (hO : ja_hop hB a h1 m es T f nx ks mc lf) (hm : hB m = none) (hq : hB q0 = some c0) (hqa : q0 ≠ a) : ja_hop (jj_set hB q0 c') a (jj_set h1 q0 c') m es T f nx ks mc lf := by
  obtain ⟨o1, o2, o3, o4, o5, o6, ⟨ca, o7⟩, o8⟩ := hO
  have hmq : m ≠ q0 := fun e => by rw [e, hq] at hm; cases hm
  refine ⟨(jj_set_ne _ _ hmq).trans o1, fun t e => ?_, fun e he => ?_, o4, o5, fun q c hqa' hqc => ?_, ⟨ca, (jj_set_ne _ _ (Ne.symm hqa)).trans o7⟩, Or.inr ((jj_set_ne _ _ hmq).trans hm)⟩
  · have htq : t ≠ q0 := fun e2 => by have := (o2 t e).2; rw [e2, hq] at this; cases this
    exact ⟨(jj_set_ne _ _ htq).trans (o2 t e).1, (jj_set_ne _ _ htq).trans (o2 t e).2⟩
  · have htq : e.2.2.2 ≠ q0 := fun e2 => by have := (o3 e he).2; rw [e2, hq] at this; cases this
    exact ⟨(jj_set_ne _ _ htq).trans (o3 e he).1, (jj_set_ne _ _ htq).trans (o3 e he).2⟩
  · by_cases e : q = q0
    · subst e
      rw [jj_set_self] at hqc ⊢
      exact hqc
    · rw [jj_set_ne _ _ e] at hqc ⊢
      exact o6 q c hqa' hqc
theorem ja_sop_put {hB h1 : jj_H} {a mp q0 : Nat} {es : List ja_E} {T : Option Nat} {f : Int → Option Nat} {nx : Nat → Option Nat} {ks : Option Nat} {lf : UInt32} {pv : Nat} {c0 c' : jj_C} (hS : ja_sop hB a h1 mp es T f nx ks lf pv) (hq : hB q0 = some c0) (hqa : q0 ≠ a) : ja_sop (jj_set hB q0 c') a (jj_set h1 q0 c') mp es T f nx ks lf pv := by
  obtain ⟨hO, ha, hks, hsr, hpv, hmp⟩ := hS
  have hmq : mp ≠ q0 := fun e => by rw [e, hq] at hmp; cases hmp
  refine ⟨ja_hop_put hO hmp hq hqa, (jj_set_ne _ _ (Ne.symm hqa)).trans ha, fun q e => ?_, hsr, hpv, (jj_set_ne _ _ hmq).trans hmp⟩
  have htq : q ≠ q0 := fun e2 => by have := (hks q e).2; rw [e2, hq] at this; cases this
  exact ⟨(jj_set_ne _ _ htq).trans (hks q e).1, (jj_set_ne _ _ htq).trans (hks q e).2⟩
theorem jb_J25_next (J : jx_G G l) : jJ_J25_next G l := by
  intro o Q h k w
  obtain ⟨b, s, mp, es3, j, e3, rfl, hb, hs, he3, w⟩ := w
  have hsb : s ≠ b := fun e => by
    rw [e, hb] at hs
    have := Option.some.inj hs
    simp [jj_hi, jj_ht] at this
  refine ⟨b, _, 0, rfl, hb, rfl, Nat.zero_le _, jb_hi J hb fun cur ix hix => ?_⟩
  have hs1 := (jj_set_ne h (ja_it (es3[j]?.map (fun q => q.2.2)) cur es3.length ix mp) hsb).trans hs
  refine jb_ht J hs1 fun es T f nx ks lf pv h1 e1 hS => ?_
  subst e1
  obtain ⟨hO, hsa, hks, hsr, hpv, hmp⟩ := id hS
  obtain ⟨o1, o2, o3, o4, ⟨o5, o6, o7⟩, o8, o9, o10⟩ := id hO
  rw [List.getElem?_map] at he3
  obtain ⟨e, he, rfl⟩ := Option.map_eq_some_iff.mp he3
  have hje : j < es.length := (List.getElem?_eq_some_iff.mp he).1
  have hes : es = es.take j ++ e :: es.drop (j + 1) := by
    have h2 := (List.getElem?_eq_some_iff.mp he).2
    rw [← h2, List.getElem_cons_drop, List.take_append_drop]
  have hix' : ix = (ja_bk e : Int) + 1 := hix (ja_k3 e) (by rw [List.getElem?_map, he]; rfl)
  have hem : e ∈ es := List.mem_of_getElem? he
  have hcell := (o3 e hem).1
  have hit0 : jj_set h b (ja_it ((es.map ja_k3)[j]?.map (fun q => q.2.2)) cur (es.map ja_k3).length ix mp) b = some (ja_it (some e.2.2.2) cur es.length ix mp) := by
    rw [jj_set_self, List.getElem?_map, he, List.length_map]
    rfl
  have hit := o8 b _ (Ne.symm hsb) hit0
  obtain ⟨t, rfl⟩ : ∃ t, T = some t := by
    cases T with
    | none => rw [o5 rfl] at hem; cases hem
    | some t => exact ⟨t, rfl⟩
  have ht1 := (o2 t rfl).1
  have hmb : mp ≠ b := fun e2 => by rw [e2, hit] at o1; cases o1
  have htb : t ≠ b := fun e2 => by rw [e2, hit] at ht1; cases ht1
  have heb : e.2.2.2 ≠ b := fun e2 => by rw [e2, hit] at hcell; cases hcell
  have hsplit := List.pairwise_append.mp (show ja_srt (es.take j ++ e :: es.drop (j + 1)) from hes ▸ hsr)
  have hpost := List.pairwise_cons.mp hsplit.2.1
  have hFe : ja_F es (ja_bk e) = ja_F (es.take j) (ja_bk e) ++ e :: ja_F (es.drop (j + 1)) (ja_bk e) := by
    conv => lhs; rw [hes]
    unfold ja_F
    rw [List.filter_append, List.filter_cons_of_pos (by simp)]
  have hFo : ∀ b', ja_bk e + 1 ≤ b' → ja_F es b' = ja_F (es.drop (j + 1)) b' := by
    intro b' hb'
    conv => lhs; rw [hes]
    unfold ja_F
    rw [List.filter_append, List.filter_cons_of_neg (by simp; omega)]
    have : (es.take j).filter (fun e => decide (ja_bk e = b')) = [] := by
      refine List.filter_eq_nil_iff.mpr fun x hx => ?_
      have := hsplit.2.2 x hx e List.mem_cons_self
      simp
      omega
    rw [this]
    rfl
  have hnx : ja_chn nx ((ja_F (es.drop (j + 1)) (ja_bk e)).map (fun e => e.2.2.2)) (nx e.2.2.2) := by
    have := o7 (ja_bk e) (ja_bk_lt e)
    rw [hFe, List.map_append, List.map_cons] at this
    exact ja_chn_mid _ _ _ _ this
  have hhd : ∀ e', es[j + 1]? = some e' ↔ (es.drop (j + 1)).head? = some e' := fun e' => by rw [List.head?_drop]
  have hlenj : (es.map ja_k3).length = es.length := List.length_map _
  have hgoal : ∀ (ix2 : Int), (∀ e', (es.drop (j + 1)).head? = some e' → ix2 = (ja_bk e' : Int) + 1) → ∃ ix', ja_ixc (es.map ja_k3) (j + 1) ix' ∧ jj_set h1 b (ja_it ((es.drop (j + 1)).head?.map (fun e => e.2.2.2)) (some e.2.2.2) es.length ix2 mp) = jj_set h1 b (ja_it ((es.map ja_k3)[j + 1]?.map (fun q => q.2.2)) (some e.2.2.2) (es.map ja_k3).length ix' mp) := by
    intro ix2 hq
    refine ⟨ix2, fun z hz => ?_, ?_⟩
    · rw [List.getElem?_map] at hz
      obtain ⟨e', he', rfl⟩ := Option.map_eq_some_iff.mp hz
      exact hq e' ((hhd e').mp he')
    · rw [List.getElem?_map, hlenj, List.head?_drop, Option.map_map]
      rfl
  refine (cC_J25_next J (Q := fun r h' => r = some e.1 ∧ ∃ cur' ix', ja_ixc (es.map ja_k3) (j + 1) ix' ∧ h' = jj_set h1 b (ja_it ((es.map ja_k3)[j + 1]?.map (fun q => q.2.2)) cur' (es.map ja_k3).length ix' mp)) (E := jj_F0) ⟨⟨b, _, rfl, hit, rfl⟩, ?_⟩).to ?_ (fun _ _ _ q => q)
  · have fin : ∀ ix2 : Int, (∀ e', (es.drop (j + 1)).head? = some e' → ix2 = (ja_bk e' : Int) + 1) → jp_gr (jj_set h1 b (ja_it ((es.drop (j + 1)).head?.map (fun e => e.2.2.2)) (some e.2.2.2) es.length ix2 mp)) (some e.2.2.2) 17 1 (fun g4 => g4 = some e.1 ∧ ∃ cur' ix', ja_ixc (es.map ja_k3) (j + 1) ix' ∧ jj_set h1 b (ja_it ((es.drop (j + 1)).head?.map (fun e => e.2.2.2)) (some e.2.2.2) es.length ix2 mp) = jj_set h1 b (ja_it ((es.map ja_k3)[j + 1]?.map (fun q => q.2.2)) cur' (es.map ja_k3).length ix' mp)) := by
      intro ix2 hq
      obtain ⟨ix', g1, g2⟩ := hgoal ix2 hq
      exact ⟨e.2.2.2, _, some e.1, rfl, (jj_set_ne _ _ heb).trans hcell, rfl, rfl, _, ix', g1, g2⟩
    refine ⟨b, _, some e.2.2.2, rfl, hit, rfl, b, _, some mp, rfl, hit, rfl, mp, _, (es.length : Int), rfl, o1, rfl, b, _, (es.length : Int), rfl, hit, rfl, ⟨by omega, by omega⟩, ⟨by omega, by omega⟩, fun _ => ⟨fun _ => ?_, fun c => by cases c⟩, fun c => absurd rfl c⟩
    refine ⟨b, _, rfl, hit, e.2.2.2, _, nx e.2.2.2, rfl, (jj_set_ne _ _ heb).trans hcell, rfl, b, _, rfl, jj_set_self _ _ _, ?_⟩
    rw [jj_set_set]
    refine ⟨fun c => ?_, fun c => ⟨b, _, some mp, rfl, jj_set_self _ _ _, rfl, mp, _, some t, rfl, (jj_set_ne _ _ hmb).trans o1, rfl, (fun c2 => by cases c2), fun _ => ⟨17, ?_⟩⟩⟩
    · obtain ⟨x, hx⟩ := Option.ne_none_iff_exists'.mp c
      rw [hx] at hnx
      obtain ⟨r, e1, -⟩ := ja_chn_some hnx
      cases hl : ja_F (es.drop (j + 1)) (ja_bk e) with
      | nil => rw [hl] at e1; cases e1
      | cons y r2 =>
        rw [hl, List.map_cons] at e1
        obtain ⟨r', hr'⟩ := ja_hd hpost.2 hpost.1 hl
        have hyi : ja_bk y = ja_bk e := (ja_F_mem (b := ja_bk e) (es := es.drop (j + 1)) (by rw [hl]; exact List.mem_cons_self)).2
        have := fin ix (fun e' he' => by
          rw [hr'] at he'
          cases he'
          rw [hyi]
          exact hix')
        rw [hr'] at this
        rw [hx, ← (List.cons.inj e1).1]
        exact this
    · rw [c] at hnx
      have hF0 : ja_F (es.drop (j + 1)) (ja_bk e) = [] := List.map_eq_nil_iff.mp (ja_chn_none hnx)
      have hb16 := ja_bk_lt e
      refine pJ_adv1 (f := f) (cur := some e.2.2.2) (emc := es.length) (mp := mp) o7 htb 17 (ja_bk e + 1) (es.drop (j + 1)) _ _ (by omega) (by omega) hpost.2 (ja_F_nil hpost.1 hF0) hFo ?_ ((jj_set_ne _ _ htb).trans ht1) fun ix2 hq => ?_
      · rw [jj_set_self, c, hix']
        rfl
      · rw [jj_set_set]
        exact fin ix2 hq
  · rintro v h' ⟨r, rfl, rfl, cur', ix', g1, rfl⟩
    have hput := ja_sop_put (c' := ja_it ((es.map ja_k3)[j + 1]?.map (fun q => q.2.2)) cur' (es.map ja_k3).length ix' mp) hS hit0 (Ne.symm hsb)
    refine ⟨_, es, some t, f, nx, ks, lf, pv, hput, h, j + 1, cur', ix', ?_, g1, fun q c hq hc => ?_, _, rfl, w⟩
    · rw [jj_set_ne _ _ (Ne.symm hsb), jj_set_self]
    · by_cases e2 : q = s
      · subst e2
        rw [jj_set_self]
        rw [hs] at hc
        exact hc
      · rw [jj_set_ne _ _ e2, jj_set_ne _ _ hq, jj_set_ne _ _ hq]
        exact hc
end HI2
