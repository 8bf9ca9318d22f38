/-! put on trees -/
section TRP
variable {h0 h : jj_H} {mp : Nat} {rt : Option Nat} {n mc : Int} {ns : List Nat} {ky pv : Nat → Nat} {lf rg pa : Nat → Option Nat} {co : Nat → Int} {gk : Nat → Nat} {E : String → Nat → jj_H → Prop} {k : Nat}
theorem pJ_node {e key pvn : Nat} {po : Option Nat} {Q : jj_H → Prop} (he : h e = some (.inl (24, df_J43))) (q : Q (jj_set h e (jt_n key pvn none none po 1))) : fC_J43_init gk (some e) (some key) (some pvn) po Q E h k := by
  refine ⟨⟨e, rfl⟩, e, _, rfl, he, Or.inr rfl, e, _, rfl, jj_set_self _ _ _, e, _, rfl, jj_set_self _ _ _, e, _, rfl, jj_set_self _ _ _, ?_⟩
  rw [jj_set_set, jj_set_set, jj_set_set]
  exact q
theorem jt_new (S : jt_H h0 h mp rt n mc ns ky pv lf rg pa co) {e key pvn : Nat} {po : Option Nat} (he : h e = none) (hen : e ∉ ns) : jt_H h0 (jj_set h e (jt_n key pvn none none po 1)) mp rt n mc (e :: ns) (jt_u ky e key) (jt_u pv e pvn) (jt_u lf e none) (jt_u rg e none) (jt_u pa e po) (jt_u co e 1) := by
  obtain ⟨s1, s2, s3, s4, s5⟩ := S
  have hm : mp ≠ e := fun c => by rw [c, he] at s1; cases s1
  have hz : ∀ z ∈ ns, z ≠ e := fun z hz c => hen (by rw [← c]; exact hz)
  refine ⟨(jj_set_ne _ _ hm).trans s1, fun c => ?_, fun z hm => ?_, fun z hm => ?_, fun q q1 q2 => ?_⟩
  · rcases List.mem_cons.mp c with c | c
    · exact hm c
    · exact s2 c
  · rcases List.mem_cons.mp hm with c | c
    · subst c
      rw [jj_set_self, jt_u_eq, jt_u_eq, jt_u_eq, jt_u_eq, jt_u_eq, jt_u_eq]
    · rw [jj_set_ne _ _ (hz z c), jt_u_ne (hz z c), jt_u_ne (hz z c), jt_u_ne (hz z c), jt_u_ne (hz z c), jt_u_ne (hz z c), jt_u_ne (hz z c)]
      exact s3 z c
  · rcases List.mem_cons.mp hm with c | c
    · subst c
      rw [jt_u_eq]; exact Or.inr rfl
    · rw [jt_u_ne (hz z c)]; exact s4 z c
  · rw [List.mem_cons, not_or] at q2
    exact (jj_set_ne _ _ q2.1).trans (s5 q q1 q2.2)
/-- the new node stands: mend the tree, count -/
theorem pJ_j32 {vl : Nat → Int} {pos a b : Nat → Int} {A B : Int} (S : jt_H h0 h mp rt n mc ns ky pv lf rg pa co) (W : jt_W ns vl lf rg pa rt pos a b A B) {e : Nat} (he : e ∈ ns) {Q : jj_H → Prop}
    (q : ∀ h' lf' rg' pa' rt' co' a' b', jt_H h0 h' mp rt' (n + 1) (mc + 1) ns ky pv lf' rg' pa' co' → jt_W ns vl lf' rg' pa' rt' pos a' b' A B → Q h') : fC_J23_addEntry_j32 gk (some mp) (some e) Q E h k := by
  refine ⟨jt_is S, jp_sco S he (Or.inl rfl) fun h1 S1 => ⟨((B - A) - (b e - a e)).toNat + 1 + 1, ?_⟩⟩
  refine pJ_fix (fun h' lf' rg' pa' rt' co' a' b' S' W' => ?_) (((B - A) - (b e - a e)).toNat + 1) S1 W he (by omega)
  refine ⟨mp, _, n, rfl, S'.1, rfl, mp, _, rfl, S'.1, mp, _, mc, rfl, jj_set_self _ _ _, rfl, mp, _, rfl, jj_set_self _ _ _, ?_⟩
  exact q _ lf' rg' pa' rt' co' a' b' (jt_um (jt_um S' (rt' := rt') (n' := n + 1) (mc' := mc))) W'
theorem pJ_add {vl : Nat → Int} {pos a b : Nat → Int} {A B v : Int} (S : jt_H h0 h mp rt n mc ns ky pv lf rg pa co) (W : jt_W ns vl lf rg pa rt pos a b A B) {p key pvn : Nat} {s : Int} (hp : p ∈ ns) (hs : (s = 1 ∧ lf p = none ∧ (∀ z ∈ ns, pos z < pos p → vl z < v) ∧ (∀ z ∈ ns, pos p ≤ pos z → v < vl z)) ∨ (s = 0 ∧ rg p = none ∧ (∀ z ∈ ns, pos p < pos z → v < vl z) ∧ (∀ z ∈ ns, pos z ≤ pos p → vl z < v))) (hk : 2 ≤ k) {Q : jj_H → Prop}
    (q : ∀ e h' lf' rg' pa' rt' co' pos' a' b' A' B', h e = none → jt_H h0 h' mp rt' (n + 1) (mc + 1) (e :: ns) (jt_u ky e key) (jt_u pv e pvn) lf' rg' pa' co' → jt_W (e :: ns) (jt_u vl e v) lf' rg' pa' rt' pos' a' b' A' B' → Q h') : fC_J23_addEntry gk (some mp) (some key) (some pvn) (some p) s Q E h k := by
  refine ⟨hk, fun e he => ⟨⟨e, rfl⟩, pJ_node (jj_set_self _ _ _) ?_⟩⟩
  rw [jj_set_set]
  have hen : e ∉ ns := fun c => by
    rw [S.2.2.1 e c] at he
    cases he
  have S1 := jt_new S (key := key) (pvn := pvn) (po := some p) he hen
  have hpm : p ∈ e :: ns := List.mem_cons_of_mem _ hp
  rcases hs with ⟨rfl, hl, g1, g2⟩ | ⟨rfl, hl, g1, g2⟩
  · refine ⟨⟨by decide, by decide⟩, fun c => absurd c (by decide), fun _ => jp_slf S1 hpm fun h2 S2 => ?_⟩
    obtain ⟨pos', a', b', W'⟩ := jt_ins W hp hl hen g1 g2
    exact pJ_j32 S2 W' List.mem_cons_self fun h' lf' rg' pa' rt' co' a' b' S' W2 => q e h' _ _ _ _ _ _ _ _ _ _ he S' W2
  · refine ⟨⟨by decide, by decide⟩, fun _ => jp_srg S1 hpm fun h2 S2 => ?_, fun c => absurd rfl c⟩
    obtain ⟨pos', a', b', A', W'⟩ := jt_insR W hp hl hen g1 g2
    exact pJ_j32 S2 W' List.mem_cons_self fun h' lf' rg' pa' rt' co' a' b' S' W2 => q e h' _ _ _ _ _ _ _ _ _ _ he S' W2
theorem pJ_find {vl : Nat → Int} {pos a b : Nat → Int} {A B v : Int} (S : jt_H h0 h mp rt n mc ns ky pv lf rg pa co) (W : jt_W ns vl lf rg pa rt pos a b A B) {key pvn : Nat} (hkb : h key = some (jj_bx v)) (hv : jj_r v) (hky : ∀ x ∈ ns, h (ky x) = some (jj_bx (vl x)) ∧ jj_r (vl x)) {Q : Option Nat → jj_H → Prop}
    (found : ∀ x ∈ ns, vl x = v → ∀ h' pv', jt_H h0 h' mp rt n mc ns ky pv' lf rg pa co → Q (some (pv x)) h')
    (new : ∀ p ∈ ns, ∀ s : Int, ((s = 1 ∧ lf p = none ∧ (∀ z ∈ ns, pos z < pos p → vl z < v) ∧ (∀ z ∈ ns, pos p ≤ pos z → v < vl z)) ∨ (s = 0 ∧ rg p = none ∧ (∀ z ∈ ns, pos p < pos z → v < vl z) ∧ (∀ z ∈ ns, pos z ≤ pos p → vl z < v))) → fC_J23_put_2_j216 gk (some mp) (some key) (some pvn) (some p) s Q E h k) :
    ∀ (N : Nat) (x : Nat), x ∈ ns → b x - a x < (N : Int) → (∀ z ∈ ns, pos z < a x → vl z < v) → (∀ z ∈ ns, b x < pos z → v < vl z) → fC_J23_put_2_l123 gk (some mp) (some key) (some pvn) 1 (some key) Q E N (some x) h k := by
  obtain ⟨iv, ln, ls, rn, rs, pn, ps, tn, ts, mo, ij⟩ := id W
  intro N
  induction N with
  | zero =>
    intro x hx hN
    have := iv x hx
    exact absurd hN (by omega)
  | succ N ih =>
    intro x hx hN g1 g2
    have ivx := iv x hx
    refine jp_tky S hx ⟨key, ky x, v, vl x, rfl, rfl, hkb, (hky x hx).1, hv, (hky x hx).2, ?_⟩
    rcases Int.lt_trichotomy v (vl x) with c | c | c
    · have e : ja_cm2 v (vl x) = -1 := if_pos c
      rw [e]
      refine ⟨⟨by decide, by decide⟩, fun c => absurd c (by decide), fun _ => ?_⟩
      cases hl : lf x with
      | none =>
        refine jp_tlf S hx hl ⟨fun c => absurd rfl c, fun _ => ⟨⟨by decide, by decide⟩, fun c => absurd c (by decide), fun _ => new x hx 1 (Or.inl ⟨rfl, hl, fun z hz hlt => g1 z hz ?_, fun z hz hle => ?_⟩)⟩⟩
        · have := ln x hx hl
          omega
        · by_cases hpz : pos x < pos z
          · have := mo x hx z hz hpz
            omega
          · have := ij x hx z hz (by omega)
            rw [← this]
            exact c
      | some y =>
        obtain ⟨y1, y2, y3, y4⟩ := ls x hx y hl
        refine jp_tlf S hx hl ⟨fun _ => ih y y1 (by omega) (fun z hz hlt => g1 z hz (by omega)) (fun z hz hlt => ?_), fun c => by cases c⟩
        by_cases hpz : pos x < pos z
        · have := mo x hx z hz hpz
          omega
        · have := ij x hx z hz (by omega)
          rw [← this]
          exact c
    · have e : ja_cm2 v (vl x) = 0 := by
        unfold ja_cm2
        rw [if_neg (by omega), if_pos c]
      rw [e]
      refine ⟨⟨by decide, by decide⟩, fun _ => ⟨⟨by decide, by decide⟩, fun _ => jp_tpv S hx ⟨⟨by decide, by decide⟩, fun _ => jp_spv S hx fun h' S' => found x hx c.symm h' _ S', fun c => absurd c (by decide)⟩, fun c => absurd c (by decide)⟩, fun c => absurd c (by decide)⟩
    · have e : ja_cm2 v (vl x) = 1 := by
        unfold ja_cm2
        rw [if_neg (by omega), if_neg (by omega)]
      rw [e]
      refine ⟨⟨by decide, by decide⟩, fun _ => ⟨⟨by decide, by decide⟩, fun c => absurd c (by decide), fun _ => ?_⟩, fun c => absurd c (by decide)⟩
      cases hl : rg x with
      | none =>
        refine jp_trg S hx hl ⟨fun c => absurd rfl c, fun _ => ⟨⟨by decide, by decide⟩, fun _ => new x hx 0 (Or.inr ⟨rfl, hl, fun z hz hlt => g2 z hz ?_, fun z hz hle => ?_⟩), fun c => absurd c (by decide)⟩⟩
        · have := rn x hx hl
          omega
        · by_cases hpz : pos z < pos x
          · have := mo z hz x hx hpz
            omega
          · have := ij x hx z hz (by omega)
            rw [← this]
            exact c
      | some y =>
        obtain ⟨y1, y2, y3, y4⟩ := rs x hx y hl
        refine jp_trg S hx hl ⟨fun _ => ih y y1 (by omega) (fun z hz hlt => ?_) (fun z hz hlt => g2 z hz (by omega)), fun c => by cases c⟩
        by_cases hpz : pos z < pos x
        · have := mo z hz x hx hpz
          omega
        · have := ij x hx z hz (by omega)
          rw [← this]
          exact c
theorem pJ_put {vl : Nat → Int} {pos a b : Nat → Int} {A B v : Int} (S : jt_H h0 h mp rt n mc ns ky pv lf rg pa co) (W : jt_W ns vl lf rg pa rt pos a b A B) (hn : n = ns.length) {key pvn : Nat} (hkb : h key = some (jj_bx v)) (hv : jj_r v) (hky : ∀ x ∈ ns, h (ky x) = some (jj_bx (vl x)) ∧ jj_r (vl x)) (hk : 2 ≤ k) {Q : Option Nat → jj_H → Prop}
    (found : ∀ x ∈ ns, vl x = v → ∀ h' pv', jt_H h0 h' mp rt n mc ns ky pv' lf rg pa co → Q (some (pv x)) h')
    (new : (∀ x ∈ ns, vl x ≠ v) → ∀ e h' lf' rg' pa' rt' co' pos' a' b' A' B', h e = none → jt_H h0 h' mp rt' (n + 1) (mc + 1) (e :: ns) (jt_u ky e key) (jt_u pv e pvn) lf' rg' pa' co' → jt_W (e :: ns) (jt_u vl e v) lf' rg' pa' rt' pos' a' b' A' B' → Q none h') : fC_J23_put gk (some mp) (some key) (some pvn) Q E h k := by
  refine ⟨jt_is S, k, Nat.le_refl _, jp_trt S ⟨fun hne => ⟨mp, _, none, rfl, S.1, rfl, fun _ => ⟨fun _ => ⟨⟨key, _, rfl, hkb, rfl⟩, ?_⟩, fun c => by cases c⟩, fun c => absurd rfl c⟩, fun hrt => ?_⟩⟩
  · cases hr : rt with
    | none => exact absurd hr hne
    | some t =>
      obtain ⟨t1, t2, t3, t4⟩ := W.2.2.2.2.2.2.2.2.1 t hr
      refine ⟨(b t - a t).toNat + 1, ?_⟩
      refine pJ_find S W hkb hv hky found (fun p hp s hs => ⟨jt_is S, k, Nat.le_refl _, pJ_add S W hp hs hk fun e h' lf' rg' pa' rt' co' pos' a' b' A' B' he S' W' => new (fun x hx hxv => ?_) e h' lf' rg' pa' rt' co' pos' a' b' A' B' he S' W'⟩) _ t t1 (by omega) (fun z hz hlt => ?_) (fun z hz hlt => ?_)
      · rcases hs with ⟨-, -, g1, g2⟩ | ⟨-, -, g1, g2⟩
        · by_cases c : pos x < pos p
          · have := g1 x hx c; omega
          · have := g2 x hx (by omega); omega
        · by_cases c : pos p < pos x
          · have := g1 x hx c; omega
          · have := g2 x hx (by omega); omega
      · have := W.1 z hz
        omega
      · have := W.1 z hz
        omega
  · have hnil := W.2.2.2.2.2.2.2.1 hrt
    subst hnil
    refine ⟨jt_is S, k, Nat.le_refl _, jt_is S, 0, Nat.zero_le _, mp, _, none, rfl, S.1, rfl, fun c => absurd rfl c, fun _ => ⟨⟨key, _, rfl, hkb, rfl⟩, key, key, v, v, rfl, rfl, hkb, hkb, hv, hv, by omega, fun e he => ⟨⟨e, rfl⟩, pJ_node (jj_set_self _ _ _) ?_⟩⟩⟩
    rw [jj_set_set]
    have S1 := jt_new S (key := key) (pvn := pvn) (po := none) he (fun c => by cases c)
    refine jp_srt S1 fun h2 S2 => ⟨mp, _, rfl, S2.1, mp, _, mc, rfl, jj_set_self _ _ _, rfl, mp, _, rfl, jj_set_self _ _ _, ?_⟩
    have z := new (fun x hx => by cases hx) e _ _ _ _ (some e) _ _ _ _ _ _ he (jt_um (jt_um S2 (rt' := some e) (n' := n + 1) (mc' := mc))) (jt_one jt_u_eq jt_u_eq jt_u_eq)
    have e1 : n + 1 = 1 := by rw [hn]; rfl
    rw [e1] at z
    exact z
end TRP
