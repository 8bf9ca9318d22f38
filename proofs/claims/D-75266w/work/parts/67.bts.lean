/-! TreeSet: its contracts -/
def ja_tso (hB : jj_H) (a : Nat) (h1 : jj_H) (mp : Nat) (ns : List Nat) : Prop := h1 a = some (.inl (22, [jj_rf (some mp)])) ∧ mp ≠ a ∧ a ∉ ns ∧ hB mp = none ∧ (∀ x ∈ ns, hB x = none) ∧ ∀ q c, q ≠ a → hB q = some c → h1 q = some c
theorem jj_flat2 {α : Type} {g : α → List jj_AV} (hg : ∀ x, (g x).length = 2) (hi : ∀ x y, g x = g y → x = y) : ∀ {xs ys : List α}, (xs.map g).flatten = (ys.map g).flatten → xs = ys
  | [], [], _ => rfl
  | [], y :: ys, h => by
    have := congrArg List.length h
    simp [hg] at this
    omega
  | x :: xs, [], h => by
    have := congrArg List.length h
    simp [hg] at this
  | x :: xs, y :: ys, h => by
    rw [List.map_cons, List.map_cons, List.flatten_cons, List.flatten_cons] at h
    obtain ⟨e1, e2⟩ := List.append_inj h ((hg x).trans (hg y).symm)
    rw [hi x y e1, jj_flat2 hg hi e2]
section BTS
variable {G : jj_G} {l : Launch}
theorem ja_tsc (J : jx_G G l) {hB h1 h' : jj_H} {H : Heap} {a mp : Nat} {ns ns' : List Nat} {ky pv : Nat → Nat} {vl : Nat → Int} {lf rg pa : Nat → Option Nat} {co : Nat → Int} {rt : Option Nat} {mc : Int} {pos lo hi : Nat → Int} {A B : Int} (O : ja_tso hB a h1 mp ns) (S : jt_H h1 h' mp rt ns'.length mc ns' ky pv lf rg pa co) (W : jt_W ns' vl lf rg pa rt pos lo hi A B) (hnd : ns'.Nodup) (hnw : ∀ x ∈ ns', x ∈ ns ∨ h1 x = none) (hR : jj_R G h' H) : jj_R G (jj_set hB a (jj_ts (ns'.map (fun n => (ky n, vl n))))) H := by
  obtain ⟨o1, o2, o3, o4, o5, o6⟩ := O
  have oB : ∀ x ∈ ns', x ≠ a ∧ hB x = none := fun x hx => by
    rcases hnw x hx with h | h
    · exact ⟨fun e => o3 (by rw [← e]; exact h), o5 x h⟩
    · have hxa : x ≠ a := fun e => by rw [e, o1] at h; cases h
      refine ⟨hxa, ?_⟩
      cases hb : hB x with
      | none => rfl
      | some c => rw [o6 x c hxa hb] at h; cases h
  have ean : a ∉ ns' := fun h => (oB a h).1 rfl
  refine ja_close J.2.1.1 (x := (6, _)) (L := (a, .inl (22, [jj_rf (some mp)])) :: (mp, jt_m rt ns'.length mc) :: ns'.map (fun n => (n, jt_n (ky n) (pv n) (lf n) (rg n) (pa n) (co n)))) hR ⟨22, _, _, rfl, rfl, mp, ns', ky, pv, vl, lf, rg, pa, co, rt, mc, pos, lo, hi, A, B, ?_, rfl, rfl, ?_, S.2.2.2.1, W⟩ ?_ ?_ ?_
  · rw [List.map_map]
    rfl
  · have e : (ns'.map (fun n => (n, jt_n (ky n) (pv n) (lf n) (rg n) (pa n) (co n)))).map Prod.fst = ns' := by
      rw [List.map_map]
      exact List.map_id' ns'
    rw [List.map_cons, e]
    refine List.nodup_cons.mpr ⟨fun h => ?_, List.nodup_cons.mpr ⟨S.2.1, hnd⟩⟩
    rcases List.mem_cons.mp h with h | h
    · exact o2 h.symm
    · exact ean h
  · intro q hq
    rcases List.mem_cons.mp hq with rfl | hq
    · exact ⟨(S.2.2.2.2 a (Ne.symm o2) ean).trans o1, trivial⟩
    · rcases List.mem_cons.mp hq with rfl | hq
      · exact ⟨S.1, trivial⟩
      · obtain ⟨n, hn, rfl⟩ := List.mem_map.mp hq
        exact ⟨S.2.2.1 n hn, trivial⟩
  · intro q hq hne
    rcases List.mem_cons.mp hq with rfl | hq
    · exact absurd rfl hne
    · rcases List.mem_cons.mp hq with rfl | hq
      · exact o4
      · obtain ⟨n, hn, rfl⟩ := List.mem_map.mp hq
        exact (oB n hn).2
  · intro b c hb hbc
    refine (S.2.2.2.2 b (fun e => ?_) (fun e => ?_)).trans (o6 b c hb hbc)
    · rw [e, o4] at hbc; cases hbc
    · rw [(oB b e).2] at hbc; cases hbc
theorem jb_ts (J : jx_G G l) {y : MethodName} {ws : List Cond} {fr lo : Nat} {As : List jj_AV} {h : jj_H} {K a : Nat} {es : List (Nat × Int)} (ha : h a = some (jj_ts es)) {N : Option jj_AV → jj_H → Prop}
    (C : ∀ h1 mp ns ky pv vl lf rg pa co rt mc pos lo' hi A B, es = ns.map (fun n => (ky n, vl n)) → ja_tso h a h1 mp ns → jt_H h1 h1 mp rt ns.length mc ns ky pv lf rg pa co → jt_W ns vl lf rg pa rt pos lo' hi A B → ns.Nodup → jj_Ct G l y ws fr lo As h1 K (fun v h' => ∃ h2, (∀ H, jj_R G h' H → jj_R G h2 H) ∧ N v h2) jj_F0) : jj_Ct G l y ws fr lo As h K N jj_F0 := by
  refine jj_Ct.ex (I := jj_H) (Pi := fun h1 => ∃ mp ns ky pv vl lf rg pa co rt mc pos lo' hi A B, es = ns.map (fun n => (ky n, vl n)) ∧ ja_tso h a h1 mp ns ∧ jt_H h1 h1 mp rt ns.length mc ns ky pv lf rg pa co ∧ jt_W ns vl lf rg pa rt pos lo' hi A B ∧ ns.Nodup) (hh := fun h1 => h1) (N' := fun _ v h' => ∃ h2, (∀ H, jj_R G h' H → jj_R G h2 H) ∧ N v h2) (XN' := fun _ => jj_F0) ?_ (fun h1 hi => ?_) ?_ (fun _ _ _ _ _ _ q => q.elim)
  · intro U hK hR
    rcases ja_open J.2.1.1 hR ha with ⟨L, ⟨ci, fs, R, rfl, hc, hT⟩, hn, hR'⟩ | ⟨-, hx, -⟩ | ⟨-, cell, -, -, -, hx⟩ | hx
    · obtain ⟨mp, ns, ky, pv, vl, lf, rg, pa, co, rt, mc, pos, lo', hi, A, B, e1, rfl, rfl, hnd, hco, W⟩ := hT
      cases hc
      have e2 : es = ns.map (fun n => (ky n, vl n)) := by
        refine jj_flat2 (g := fun q : Nat × Int => [jj_rf (some q.1), .inl q.2]) (fun _ => rfl) (fun x y hxy => ?_) ?_
        · simp only [jj_rf, List.cons.injEq, Sum.inr.injEq, Sum.inl.injEq, Option.some.injEq, and_true] at hxy
          exact Prod.ext hxy.1 hxy.2
        · rw [List.map_map]
          exact e1
      have e3 : (ns.map (fun n => (n, jt_n (ky n) (pv n) (lf n) (rg n) (pa n) (co n)))).map Prod.fst = ns := by
        rw [List.map_map]
        exact List.map_id' ns
      have hnd' : (((a, (.inl (22, [jj_rf (some mp)]) : jj_C)) :: (mp, jt_m rt ns.length mc) :: ns.map (fun n => (n, jt_n (ky n) (pv n) (lf n) (rg n) (pa n) (co n)))).map Prod.fst).Nodup := hnd
      have hnd2 := hnd'
      rw [List.map_cons, List.map_cons, e3] at hnd2
      obtain ⟨n1, n2⟩ := List.nodup_cons.mp hnd2
      obtain ⟨n3, n4⟩ := List.nodup_cons.mp n2
      rw [List.mem_cons, not_or] at n1
      have hmem : ∀ n ∈ ns, (n, jt_n (ky n) (pv n) (lf n) (rg n) (pa n) (co n)) ∈ ns.map (fun n => (n, jt_n (ky n) (pv n) (lf n) (rg n) (pa n) (co n))) := fun n hn => List.mem_map.mpr ⟨n, hn, rfl⟩
      have hmp := ja_ov_mem (h := h) hnd' (z := (mp, _)) (List.mem_cons_of_mem _ List.mem_cons_self)
      refine ⟨_, ⟨mp, ns, ky, pv, vl, lf, rg, pa, co, rt, mc, pos, lo', hi, A, B, e2, ⟨ja_ov_mem hnd' (z := (a, _)) List.mem_cons_self, fun e => n1.1 e.symm, n1.2, hn (mp, _) (List.mem_cons_of_mem _ List.mem_cons_self) (fun e => n1.1 e.symm), fun x hx => hn (x, _) (List.mem_cons_of_mem _ (List.mem_cons_of_mem _ (hmem x hx))) (fun e => n1.2 (by rw [← e]; exact hx)), fun q c hq hqc => ?_⟩, ⟨hmp, n3, fun x hx => ja_ov_mem hnd' (z := (x, _)) (List.mem_cons_of_mem _ (List.mem_cons_of_mem _ (hmem x hx))), hco, fun _ _ _ => rfl⟩, W, n4⟩, hR'⟩
      refine (ja_ov_out fun z hz e => ?_).trans hqc
      have := hn z hz (fun e9 => hq (e.symm.trans e9))
      rw [e, hqc] at this
      cases this
    · rcases hx with hx | hx <;> cases hx
    · cases hx
    · cases hx
  · obtain ⟨mp, ns, ky, pv, vl, lf, rg, pa, co, rt, mc, pos, lo', hi', A, B, k1, k2, k3, k4, k5⟩ := hi
    exact C h1 mp ns ky pv vl lf rg pa co rt mc pos lo' hi' A B k1 k2 k3 k4 k5
  · rintro i v h' H hi ⟨h2, g1, g2⟩ hR
    exact ⟨_, g2, g1 H hR⟩
theorem jb_J42_size (J : jx_G G l) : jJ_J42_size G l := by
  intro o Q h k w
  obtain ⟨a, es, rfl, ha, w⟩ := w
  refine ⟨a, _, 0, rfl, ha, rfl, Nat.zero_le _, jb_ts J ha fun h1 mp ns ky pv vl lf rg pa co rt mc pos lo' hi A B e1 O S W hnd => ?_⟩
  refine (cC_J42_size J (Q := fun r h' => r = (es.length : Int) ∧ h' = h1) (E := jj_F0) ⟨a, _, some mp, rfl, O.1, rfl, jt_is S, mp, _, _, rfl, S.1, rfl, ?_, rfl⟩).to ?_ (fun _ _ _ q => q)
  · rw [e1, List.length_map]
  · rintro v h' ⟨r, rfl, rfl, rfl⟩
    refine ⟨h, fun H hR => ?_, _, rfl, w⟩
    have := ja_tsc J O S W hnd (fun x hx => Or.inl hx) hR
    rw [← e1, jj_set_same ha] at this
    exact this
theorem jb_J42_add (J : jx_G G l) : jJ_J42_add G l := by
  intro o x Q h k w
  obtain ⟨a, b, es, v, rfl, rfl, ha, hb, hv, hes, hlen, hk, w1, w2⟩ := w
  have hba : ∀ (q : Nat) (u : Int), h q = some (jj_bx u) → q ≠ a := fun q u hq e => by
    rw [e, ha] at hq
    have := Option.some.inj hq
    simp [jj_ts, jj_bx] at this
  refine ⟨a, _, 2, rfl, ha, rfl, hk, jb_ts J ha fun h1 mp ns ky pv vl lf rg pa co rt mc pos lo' hi A B e1 O S W hnd => ?_⟩
  have hkeep := O.2.2.2.2.2
  have hky : ∀ x ∈ ns, h1 (ky x) = some (jj_bx (vl x)) ∧ jj_r (vl x) := fun x hx => by
    have := hes (ky x, vl x) (by rw [e1]; exact List.mem_map.mpr ⟨x, hx, rfl⟩)
    exact ⟨hkeep _ _ (hba _ _ this.1) this.1, this.2⟩
  refine (cC_J42_add J (Q := fun r h' => ∃ h2, (∀ H, jj_R G h' H → jj_R G h2 H) ∧ Q r h2 (k - 2)) (E := jj_F0) ⟨a, _, some mp, rfl, O.1, rfl, jt_is S, 2, Nat.le_refl _, pJ_put S W rfl (hkeep _ _ (hba _ _ hb) hb) hv hky (Nat.le_refl _) (fun x hx hxv h' pv' S' => ⟨fun _ => ⟨h, fun H hR => ?_, ?_⟩, fun c => by cases c⟩) (fun hne e h' lf' rg' pa' rt' co' pos' a' b' A' B' he S' W' => ⟨fun c => absurd rfl c, fun _ => ⟨_, fun H hR => ja_tsc J O S' W' ?_ ?_ hR, ?_⟩⟩)⟩).to ?_ (fun _ _ _ q => q)
  · have := ja_tsc J O S' W hnd (fun x hx => Or.inl hx) hR
    rw [← e1, jj_set_same ha] at this
    exact this
  · exact w1 ⟨(ky x, vl x), by rw [e1]; exact List.mem_map.mpr ⟨x, hx, rfl⟩, hxv⟩
  · refine List.nodup_cons.mpr ⟨fun c => ?_, hnd⟩
    rw [S.2.2.1 e c] at he
    cases he
  · intro x hx
    rcases List.mem_cons.mp hx with rfl | hx
    · exact Or.inr he
    · exact Or.inl hx
  · refine w2 (fun q hq => ?_) _ ?_
    · rw [e1] at hq
      obtain ⟨x, hx, rfl⟩ := List.mem_map.mp hq
      exact hne x hx
    · have hen : ∀ x ∈ ns, x ≠ e := fun x hx c => by
        rw [← c, S.2.2.1 x hx] at he
        cases he
      have e2 : (e :: ns).map (fun n => (jt_u ky e b n, jt_u vl e v n)) = (b, v) :: es := by
        rw [List.map_cons, jt_u_eq, jt_u_eq, e1]
        refine congrArg _ (List.map_congr_left fun x hx => ?_)
        rw [jt_u_ne (hen x hx), jt_u_ne (hen x hx)]
      rw [e2]
  · rintro v' h' ⟨r, rfl, h2, g1, g2⟩
    exact ⟨h2, g1, r, rfl, g2⟩
theorem jb_J42_init (J : jx_G G l) : jJ_J42_init G l := by
  intro o Q h k w
  obtain ⟨a, rfl, ha, hk, w⟩ := w
  refine ⟨a, 3, rfl, hk, ?_⟩
  refine jj_Ct.ex (I := Unit) (Pi := fun _ => True) (hh := fun _ => h) (fun _ _ hR => ⟨(), trivial, hR⟩) (fun _ _ => (cC_J42_init J (Q := fun h' => ∃ d, h d = none ∧ h' = jj_set (jj_set h d (jt_m none 0 0)) a (.inl (22, [jj_rf (some d)]))) (E := jj_F0) ?_).room (by decide) (by decide)) ?_ (fun _ _ _ _ _ _ q => q.elim)
  · refine ⟨Nat.le_refl _, fun d hd => ⟨⟨d, rfl⟩, ?_⟩⟩
    have hda : d ≠ a := fun e => by rw [e, ha] at hd; cases hd
    refine ⟨⟨d, rfl⟩, ?_⟩
    refine ⟨⟨d, rfl⟩, d, _, rfl, jj_set_self _ _ _, d, _, rfl, jj_set_self _ _ _, d, _, rfl, jj_set_self _ _ _, ⟨a, rfl⟩, ⟨a, rfl⟩, ?_⟩
    rw [jj_set_set, jj_set_set, jj_set_set]
    refine ⟨⟨a, rfl⟩, ⟨a, rfl⟩, a, _, rfl, (jj_set_ne _ _ (Ne.symm hda)).trans ha, d, hd, rfl⟩
  · rintro - v h' H - ⟨rfl, d, hd, rfl⟩ hR
    have hda : d ≠ a := fun e => by rw [e, ha] at hd; cases hd
    refine ⟨_, ⟨rfl, w⟩, ?_⟩
    refine ja_tsc J (h1 := jj_set (jj_set h d (jt_m none 0 0)) a (.inl (22, [jj_rf (some d)]))) (mp := d) (ns := []) (ns' := []) (ky := fun _ => 0) (pv := fun _ => 0) (vl := fun _ => 0) (lf := fun _ => none) (rg := fun _ => none) (pa := fun _ => none) (co := fun _ => 0) (rt := none) (mc := 0) (pos := fun _ => 0) (lo := fun _ => 0) (hi := fun _ => 0) (A := 0) (B := 0) ⟨jj_set_self _ _ _, hda, (fun c => by cases c), hd, (fun x hx => by cases hx), fun q c hq hqc => ?_⟩ ⟨?_, (fun c => by cases c), (fun x hx => by cases hx), (fun x hx => by cases hx), fun _ _ _ => rfl⟩ jt_nil List.nodup_nil (fun x hx => by cases hx) hR
    · rw [jj_set_ne _ _ hq, jj_set_ne _ _ (fun e => by rw [e, hd] at hqc; cases hqc)]
      exact hqc
    · rw [jj_set_ne _ _ hda, jj_set_self]
      rfl
end BTS
