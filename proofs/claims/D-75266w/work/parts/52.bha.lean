/-! HashSet: iterator(), addAll -/
section HA1
variable {G : jj_G} {l : Launch}
/-- the end, by other words -/
theorem jj_Ct.post {y : MethodName} {ws : List Cond} {fr lo : Nat} {As : List jj_AV} {h : jj_H} {K : Nat} {N N' : Option jj_AV → jj_H → Prop} (C : jj_Ct G l y ws fr lo As h K N' jj_F0) (hN : ∀ v h', N' v h' → ∃ h'', N v h'' ∧ ∀ H, jj_R G h' H → jj_R G h'' H) : jj_Ct G l y ws fr lo As h K N jj_F0 :=
  jj_Ct.ex (I := Unit) (Pi := fun _ => True) (hh := fun _ => h) (fun _ _ hR => ⟨(), trivial, hR⟩) (fun _ _ => C) (fun _ v h' H _ q hR => by
    obtain ⟨h'', q1, q2⟩ := hN v h' q
    exact ⟨h'', q1, q2 H hR⟩) (fun _ _ _ _ _ _ q => q.elim)
/-- a cell beside the set is written -/
theorem ja_sop_w {hB h1 : jj_H} {a mp q0 : Nat} {es : List ja_E} {T : Option Nat} {f : Int → Option Nat} {nx : Nat → Option Nat} {ks : Option Nat} {lf : UInt32} {pv : Nat} {c' : jj_C} (hS : ja_sop hB a h1 mp es T f nx ks lf pv) (hq : hB q0 = none) (hx : ∀ o, h1 q0 = some (.inl o) → o.1 = 15) (hy : ∀ z, h1 q0 ≠ some (.inr z)) : ja_sop hB a (jj_set h1 q0 c') mp es T f nx ks lf pv := by
  obtain ⟨⟨o1, o2, o3, o4, o5, o6, o7, o8⟩, ha, hks, hsr, hpv, hmp⟩ := hS
  have hne : ∀ q o, h1 q = some (.inl o) → o.1 ≠ 15 → q ≠ q0 := fun q o h2 h3 e => h3 (hx o (by rw [← e]; exact h2))
  have hna : a ≠ q0 := hne a _ ha (by decide : (20 : Nat) ≠ 15)
  refine ⟨⟨(jj_set_ne _ _ (hne mp _ o1 (by decide : (16 : Nat) ≠ 15))).trans o1, fun t e => ⟨(jj_set_ne _ _ (fun e2 => hy _ (by rw [← e2]; exact (o2 t e).1))).trans (o2 t e).1, (o2 t e).2⟩, fun e he => ⟨(jj_set_ne _ _ (hne e.2.2.2 _ (o3 e he).1 (by decide : (17 : Nat) ≠ 15))).trans (o3 e he).1, (o3 e he).2⟩, o4, o5, fun q c h2 h3 => (jj_set_ne _ _ (fun e => by rw [e, hq] at h3; cases h3)).trans (o6 q c h2 h3), ⟨_, (jj_set_ne _ _ hna).trans ha⟩, o8⟩, (jj_set_ne _ _ hna).trans ha, fun q e => ⟨(jj_set_ne _ _ (hne q _ (hks q e).1 (by decide : (18 : Nat) ≠ 15))).trans (hks q e).1, (hks q e).2⟩, hsr, hpv, hmp⟩
theorem ja_sop_none {hB h1 : jj_H} {a mp q0 : Nat} {es : List ja_E} {T : Option Nat} {f : Int → Option Nat} {nx : Nat → Option Nat} {ks : Option Nat} {lf : UInt32} {pv : Nat} (hS : ja_sop hB a h1 mp es T f nx ks lf pv) (hq : h1 q0 = none) : hB q0 = none ∧ q0 ≠ a := by
  have hna : q0 ≠ a := fun e => by rw [e, hS.2.1] at hq; cases hq
  refine ⟨?_, hna⟩
  cases hc : hB q0 with
  | none => rfl
  | some c => rw [hS.1.2.2.2.2.2.1 q0 c hna hc] at hq; cases hq
/-- a new cell beside it, that stays -/
theorem ja_sop_new {hB h1 : jj_H} {a mp q0 : Nat} {es : List ja_E} {T : Option Nat} {f : Int → Option Nat} {nx : Nat → Option Nat} {ks : Option Nat} {lf : UInt32} {pv : Nat} {c' : jj_C} (hS : ja_sop hB a h1 mp es T f nx ks lf pv) (hq : h1 q0 = none) : ja_sop (jj_set hB q0 c') a (jj_set h1 q0 c') mp es T f nx ks lf pv := by
  obtain ⟨⟨o1, o2, o3, o4, o5, o6, ⟨ca, o7⟩, o8⟩, ha, hks, hsr, hpv, hmp⟩ := hS
  have hne : ∀ q c, h1 q = some c → q ≠ q0 := fun q c h2 e => by rw [e, hq] at h2; cases h2
  have hna := hne a _ ha
  have hnm := hne mp _ o1
  refine ⟨⟨(jj_set_ne _ _ hnm).trans o1, fun t e => ⟨(jj_set_ne _ _ (hne t _ (o2 t e).1)).trans (o2 t e).1, (jj_set_ne _ _ (hne t _ (o2 t e).1)).trans (o2 t e).2⟩, fun e he => ⟨(jj_set_ne _ _ (hne _ _ (o3 e he).1)).trans (o3 e he).1, (jj_set_ne _ _ (hne _ _ (o3 e he).1)).trans (o3 e he).2⟩, o4, o5, fun q c h2 h3 => ?_, ⟨_, (jj_set_ne _ _ hna).trans ha⟩, Or.inr ((jj_set_ne _ _ hnm).trans hmp)⟩, (jj_set_ne _ _ hna).trans ha, fun q e => ⟨(jj_set_ne _ _ (hne q _ (hks q e).1)).trans (hks q e).1, (jj_set_ne _ _ (hne q _ (hks q e).1)).trans (hks q e).2⟩, hsr, hpv, (jj_set_ne _ _ hnm).trans hmp⟩
  by_cases e : q = q0
  · subst e
    rw [jj_set_self] at h3 ⊢
    exact h3
  · rw [jj_set_ne _ _ e] at h3 ⊢
    exact o6 q c h2 h3
theorem pJ_keySet {gk : Nat → Nat} {hB h1 : jj_H} {a mp : Nat} {es : List ja_E} {T : Option Nat} {f : Int → Option Nat} {nx : Nat → Option Nat} {ks : Option Nat} {lf : UInt32} {pv : Nat} {Q : Option Nat → jj_H → Prop} {E : String → Nat → jj_H → Prop} (hS : ja_sop hB a h1 mp es T f nx ks lf pv) (q : ∀ q0 h', ja_sop hB a h' mp es T f nx (some q0) lf pv → (∀ q, h' q = none → h1 q = none) → Q (some q0) h') : fC_J19_keySet gk (some mp) Q E h1 1 := by
  obtain ⟨⟨o1, o2, o3, o4, o5, o6, ⟨ca, o7⟩, o8⟩, ha, hks, hsr, hpv, hmp⟩ := id hS
  refine ⟨mp, _, ks, rfl, o1, rfl, fun c => ?_, fun c => ?_⟩
  · obtain ⟨x, hx⟩ := Option.ne_none_iff_exists'.mp c
    subst hx
    exact q x h1 hS (fun _ e => e)
  · subst c
    refine ⟨Nat.le_refl _, fun q0 hq0 => ⟨⟨q0, rfl⟩, q0, _, rfl, jj_set_self _ _ _, ⟨q0, rfl⟩, ⟨q0, rfl⟩, ⟨q0, rfl⟩, ?_⟩⟩
    have hmq : mp ≠ q0 := fun e => by rw [← e, o1] at hq0; cases hq0
    have hBq := ja_sop_none hS hq0
    rw [jj_set_set]
    refine ⟨mp, _, rfl, (jj_set_ne _ _ hmq).trans o1, ?_⟩
    have hne : ∀ q c, h1 q = some c → q ≠ q0 := fun q c h2 e => by rw [e, hq0] at h2; cases h2
    have key : ∀ q c, h1 q = some c → q ≠ mp → jj_set (jj_set h1 q0 (.inl (18, df_J27.set 0 (.inr (.inr (.inl (some mp))))))) mp (.inl (16, (ja_hf none T es.length es.length lf).set 0 (.inr (.inr (.inl (some q0)))))) q = some c := fun q c h2 h3 => by
      rw [jj_set_ne _ _ h3, jj_set_ne _ _ (hne q c h2)]
      exact h2
    refine q q0 _ ⟨⟨jj_set_self _ _ _, fun t e => ⟨key t _ (o2 t e).1 (fun e2 => by have := (o2 t e).1; rw [e2, o1] at this; cases this), (o2 t e).2⟩, fun e he => ⟨key _ _ (o3 e he).1 (fun e2 => by have := (o3 e he).1; rw [e2, o1] at this; cases this), (o3 e he).2⟩, o4, o5, fun q c h2 h3 => key q c (o6 q c h2 h3) (fun e => by rw [e, hmp] at h3; cases h3), ⟨_, key a _ ha (fun e => by rw [e, o1] at ha; cases ha)⟩, o8⟩, key a _ ha (fun e => by rw [e, o1] at ha; cases ha), fun q2 e => ?_, hsr, hpv, hmp⟩ (fun q2 e => ?_)
    · cases e
      exact ⟨(jj_set_ne _ _ (Ne.symm hmq)).trans (jj_set_self _ _ _), hBq.1⟩
    · by_cases e2 : q2 = mp
      · rw [e2, jj_set_self] at e; cases e
      · rw [jj_set_ne _ _ e2] at e
        by_cases e3 : q2 = q0
        · rw [e3, jj_set_self] at e; cases e
        · rw [jj_set_ne _ _ e3] at e
          exact e
theorem jb_J33_iterator (J : jx_G G l) : jJ_J33_iterator G l := by
  intro o Q h k w
  obtain ⟨a, mp, es3, rfl, ha, hk, w⟩ := w
  refine ⟨a, _, 3, rfl, ha, rfl, hk, ?_⟩
  refine jj_Ct.post (jb_ht J ha (N := fun v hX => ∃ it ix, v = some (.inr (.inr (.inl (some it)))) ∧ h it = none ∧ it ≠ a ∧ ja_ixc es3 0 ix ∧ hX = jj_set h it (ja_it (es3[0]?.map (fun q => q.2.2)) none es3.length ix mp)) fun es T f nx ks lf pv h1 e1 hS => ?_) ?_
  · subst e1
    refine (cC_J33_iterator J (Q := fun r h' => ∃ it ix ks' h4, r = some it ∧ h4 it = none ∧ h1 it = none ∧ ja_sop h a h4 mp es T f nx ks' lf pv ∧ ja_ixc (es.map ja_k3) 0 ix ∧ h' = jj_set h4 it (ja_it ((es.map ja_k3)[0]?.map (fun q => q.2.2)) none (es.map ja_k3).length ix mp)) (E := jj_F0) ⟨a, _, some mp, rfl, hS.2.1, rfl, ⟨mp, _, rfl, hS.1.1, rfl⟩, 1, by decide, pJ_keySet hS fun q0 h4 hS4 hn4 => ?_⟩).to ?_ (fun _ _ _ q => q)
    · obtain ⟨⟨o1, o2, o3, o4, ⟨o5, o6, o7⟩, o8, o9, o10⟩, ha4, hks, hsr, hpv, hmp⟩ := id hS4
      have hq4 := (hks q0 rfl).1
      refine ⟨⟨q0, _, rfl, hq4, rfl⟩, 2, by decide, by decide, fun it hit => ?_⟩
      have hne : ∀ q c, h4 q = some c → q ≠ it := fun q c h2 e => by rw [e, hit] at h2; cases h2
      have hk4 : ∀ q c X, h4 q = some c → jj_set h4 it X q = some c := fun q c X h2 => (jj_set_ne _ _ (hne q c h2)).trans h2
      refine ⟨q0, _, some mp, rfl, hk4 _ _ _ hq4, rfl, ⟨it, rfl⟩, ⟨it, rfl⟩, it, _, rfl, jj_set_self _ _ _, ⟨it, rfl⟩, ?_⟩
      rw [jj_set_set]
      refine ⟨mp, _, (es.length : Int), rfl, hk4 _ _ _ o1, rfl, it, _, rfl, jj_set_self _ _ _, ?_⟩
      rw [jj_set_set]
      refine ⟨mp, _, T, rfl, hk4 _ _ _ o1, rfl, it, _, rfl, jj_set_self _ _ _, ?_⟩
      rw [jj_set_set]
      refine ⟨it, _, rfl, jj_set_self _ _ _, ?_⟩
      rw [jj_set_set]
      refine ⟨it, _, rfl, jj_set_self _ _ _, ?_⟩
      rw [jj_set_set]
      have fin : ∀ ix : Int, (∀ e, es.head? = some e → ix = (ja_bk e : Int) + 1) → ∃ it' ix' ks' h4', some it = some it' ∧ h4' it' = none ∧ h1 it' = none ∧ ja_sop h a h4' mp es T f nx ks' lf pv ∧ ja_ixc (es.map ja_k3) 0 ix' ∧ jj_set h4 it (ja_it (es.head?.map (fun e => e.2.2.2)) none es.length ix mp) = jj_set h4' it' (ja_it ((es.map ja_k3)[0]?.map (fun q => q.2.2)) none (es.map ja_k3).length ix' mp) := by
        intro ix hix
        refine ⟨it, ix, some q0, h4, rfl, hit, hn4 it hit, hS4, fun z hz => ?_, ?_⟩
        · rw [List.getElem?_map] at hz
          obtain ⟨e', he', rfl⟩ := Option.map_eq_some_iff.mp hz
          exact hix e' (by rw [List.head?_eq_getElem?]; exact he')
        · rw [List.getElem?_map, List.length_map, List.head?_eq_getElem?, Option.map_map]
          rfl
      refine ⟨fun c => ?_, fun c => ?_⟩
      · have := o5 c
        subst this
        exact fin 0 (fun e he => by cases he)
      · obtain ⟨t, rfl⟩ := Option.ne_none_iff_exists'.mp c
        refine ⟨mp, _, (es.length : Int), rfl, hk4 _ _ _ o1, rfl, ⟨by omega, by omega⟩, fun c2 => ?_, fun c2 => ⟨17, ?_⟩⟩
        · have : es = [] := List.eq_nil_of_length_eq_zero (by omega)
          subst this
          exact fin 0 (fun e he => by cases he)
        · have ht4 := (o2 t rfl).1
          refine pJ_adv0 (f := f) (cur := none) (emc := es.length) (mp := mp) o7 (hne t _ ht4) 17 0 es _ _ (by omega) (by omega) hsr (fun e _ => Nat.zero_le _) (fun b _ => rfl) (jj_set_self _ _ _) (hk4 _ _ _ ht4) fun ix hix => ?_
          rw [jj_set_set]
          exact fin ix hix
    · rintro v h' ⟨r, rfl, it, ix, ks', h4, rfl, hit, hit1, hS4, hix, rfl⟩
      obtain ⟨hhit, hita⟩ := ja_sop_none hS hit1
      refine ⟨_, es, T, f, nx, ks', lf, pv, ja_sop_new hS4 hit, it, ix, rfl, hhit, hita, hix, ?_⟩
      exact jj_set_same ((jj_set_ne _ _ (Ne.symm hita)).trans ha)
  · rintro v hX ⟨it, ix, rfl, hit, hita, hix, rfl⟩
    exact ⟨_, ⟨_, rfl, w it hit⟩, fun H hR => ja_hic J (hB := h) (jj_set_self _ _ _) hix (fun q c hq hc => (jj_set_ne _ _ hq).trans hc) hR⟩
end HA1
