/-! TREES in the heap -/
def jt_H (h0 h : jj_H) (mp : Nat) (rt : Option Nat) (n mc : Int) (ns : List Nat) (ky pv : Nat → Nat) (lf rg pa : Nat → Option Nat) (co : Nat → Int) : Prop := h mp = some (jt_m rt n mc) ∧ mp ∉ ns ∧ (∀ x ∈ ns, h x = some (jt_n (ky x) (pv x) (lf x) (rg x) (pa x) (co x))) ∧ (∀ x ∈ ns, co x = 0 ∨ co x = 1) ∧ ∀ q, q ≠ mp → q ∉ ns → h q = h0 q
section TRH
variable {h0 h : jj_H} {mp : Nat} {rt : Option Nat} {n mc : Int} {ns : List Nat} {ky pv : Nat → Nat} {lf rg pa : Nat → Option Nat} {co : Nat → Int}
theorem jt_up (S : jt_H h0 h mp rt n mc ns ky pv lf rg pa co) {x : Nat} (hx : x ∈ ns) {pv' : Nat → Nat} {lf' rg' pa' : Nat → Option Nat} {co' : Nat → Int} {v : Nat} {l r p : Option Nat} {c : Int} (e1 : pv' x = v ∧ lf' x = l ∧ rg' x = r ∧ pa' x = p ∧ co' x = c) (e2 : ∀ z, z ≠ x → pv' z = pv z ∧ lf' z = lf z ∧ rg' z = rg z ∧ pa' z = pa z ∧ co' z = co z) (hc : c = 0 ∨ c = 1) : jt_H h0 (jj_set h x (jt_n (ky x) v l r p c)) mp rt n mc ns ky pv' lf' rg' pa' co' := by
  obtain ⟨s1, s2, s3, s4, s5⟩ := S
  have hm : mp ≠ x := fun e => s2 (by rw [e]; exact hx)
  refine ⟨(jj_set_ne _ _ hm).trans s1, s2, fun z hz => ?_, fun z hz => ?_, fun q h1 h2 => (jj_set_ne _ _ (fun e => h2 (by rw [e]; exact hx))).trans (s5 q h1 h2)⟩
  · by_cases hzx : z = x
    · subst hzx
      obtain ⟨f1, f2, f3, f4, f5⟩ := e1
      rw [jj_set_self, f1, f2, f3, f4, f5]
    · obtain ⟨f1, f2, f3, f4, f5⟩ := e2 z hzx
      rw [jj_set_ne _ _ hzx, f1, f2, f3, f4, f5]
      exact s3 z hz
  · by_cases hzx : z = x
    · subst hzx
      rw [e1.2.2.2.2]; exact hc
    · rw [(e2 z hzx).2.2.2.2]; exact s4 z hz
theorem jp_tlf (S : jt_H h0 h mp rt n mc ns ky pv lf rg pa co) {x : Nat} (hx : x ∈ ns) {v : Option Nat} (e : lf x = v) {K : Option Nat → Prop} (k : K v) : jp_gr h (some x) 24 2 K := ⟨x, _, v, rfl, S.2.2.1 x hx, by rw [← e]; rfl, k⟩
theorem jp_trg (S : jt_H h0 h mp rt n mc ns ky pv lf rg pa co) {x : Nat} (hx : x ∈ ns) {v : Option Nat} (e : rg x = v) {K : Option Nat → Prop} (k : K v) : jp_gr h (some x) 24 3 K := ⟨x, _, v, rfl, S.2.2.1 x hx, by rw [← e]; rfl, k⟩
theorem jp_tpa (S : jt_H h0 h mp rt n mc ns ky pv lf rg pa co) {x : Nat} (hx : x ∈ ns) {v : Option Nat} (e : pa x = v) {K : Option Nat → Prop} (k : K v) : jp_gr h (some x) 24 4 K := ⟨x, _, v, rfl, S.2.2.1 x hx, by rw [← e]; rfl, k⟩
theorem jp_tky (S : jt_H h0 h mp rt n mc ns ky pv lf rg pa co) {x : Nat} (hx : x ∈ ns) {K : Option Nat → Prop} (k : K (some (ky x))) : jp_gr h (some x) 24 0 K := ⟨x, _, _, rfl, S.2.2.1 x hx, rfl, k⟩
theorem jp_tpv (S : jt_H h0 h mp rt n mc ns ky pv lf rg pa co) {x : Nat} (hx : x ∈ ns) {K : Option Nat → Prop} (k : K (some (pv x))) : jp_gr h (some x) 24 1 K := ⟨x, _, _, rfl, S.2.2.1 x hx, rfl, k⟩
theorem jp_tco (S : jt_H h0 h mp rt n mc ns ky pv lf rg pa co) {x : Nat} (hx : x ∈ ns) {K : Int → Prop} (k : K (co x)) : jp_gi h (some x) 24 5 K := ⟨x, _, _, rfl, S.2.2.1 x hx, rfl, k⟩
theorem jp_trt (S : jt_H h0 h mp rt n mc ns ky pv lf rg pa co) {K : Option Nat → Prop} (k : K rt) : jp_gr h (some mp) 23 3 K := ⟨mp, _, _, rfl, S.1, rfl, k⟩
theorem jp_slf (S : jt_H h0 h mp rt n mc ns ky pv lf rg pa co) {x : Nat} (hx : x ∈ ns) {v : Option Nat} {K : jj_H → Prop} (k : ∀ h', jt_H h0 h' mp rt n mc ns ky pv (jt_u lf x v) rg pa co → K h') : jp_pr h (some x) 24 2 v K := ⟨x, _, rfl, S.2.2.1 x hx, k _ (jt_up S hx ⟨rfl, jt_u_eq, rfl, rfl, rfl⟩ (fun z hz => ⟨rfl, jt_u_ne hz, rfl, rfl, rfl⟩) (S.2.2.2.1 x hx))⟩
theorem jp_srg (S : jt_H h0 h mp rt n mc ns ky pv lf rg pa co) {x : Nat} (hx : x ∈ ns) {v : Option Nat} {K : jj_H → Prop} (k : ∀ h', jt_H h0 h' mp rt n mc ns ky pv lf (jt_u rg x v) pa co → K h') : jp_pr h (some x) 24 3 v K := ⟨x, _, rfl, S.2.2.1 x hx, k _ (jt_up S hx ⟨rfl, rfl, jt_u_eq, rfl, rfl⟩ (fun z hz => ⟨rfl, rfl, jt_u_ne hz, rfl, rfl⟩) (S.2.2.2.1 x hx))⟩
theorem jp_spa (S : jt_H h0 h mp rt n mc ns ky pv lf rg pa co) {x : Nat} (hx : x ∈ ns) {v : Option Nat} {K : jj_H → Prop} (k : ∀ h', jt_H h0 h' mp rt n mc ns ky pv lf rg (jt_u pa x v) co → K h') : jp_pr h (some x) 24 4 v K := ⟨x, _, rfl, S.2.2.1 x hx, k _ (jt_up S hx ⟨rfl, rfl, rfl, jt_u_eq, rfl⟩ (fun z hz => ⟨rfl, rfl, rfl, jt_u_ne hz, rfl⟩) (S.2.2.2.1 x hx))⟩
theorem jp_spv (S : jt_H h0 h mp rt n mc ns ky pv lf rg pa co) {x v : Nat} (hx : x ∈ ns) {K : jj_H → Prop} (k : ∀ h', jt_H h0 h' mp rt n mc ns ky (jt_u pv x v) lf rg pa co → K h') : jp_pr h (some x) 24 1 (some v) K := ⟨x, _, rfl, S.2.2.1 x hx, k _ (jt_up S hx ⟨jt_u_eq, rfl, rfl, rfl, rfl⟩ (fun z hz => ⟨jt_u_ne hz, rfl, rfl, rfl, rfl⟩) (S.2.2.2.1 x hx))⟩
theorem jp_sco (S : jt_H h0 h mp rt n mc ns ky pv lf rg pa co) {x : Nat} (hx : x ∈ ns) {v : Int} (hv : v = 0 ∨ v = 1) {K : jj_H → Prop} (k : ∀ h', jt_H h0 h' mp rt n mc ns ky pv lf rg pa (jt_u co x v) → K h') : jp_pz h (some x) 24 5 v K := ⟨x, _, rfl, S.2.2.1 x hx, hv, k _ (jt_up S hx ⟨rfl, rfl, rfl, rfl, jt_u_eq⟩ (fun z hz => ⟨rfl, rfl, rfl, rfl, jt_u_ne hz⟩) hv)⟩
theorem jt_um (S : jt_H h0 h mp rt n mc ns ky pv lf rg pa co) {rt' : Option Nat} {n' mc' : Int} : jt_H h0 (jj_set h mp (jt_m rt' n' mc')) mp rt' n' mc' ns ky pv lf rg pa co := by
  obtain ⟨s1, s2, s3, s4, s5⟩ := S
  exact ⟨jj_set_self _ _ _, s2, fun z hz => (jj_set_ne _ _ (fun e => s2 (by rw [← e]; exact hz))).trans (s3 z hz), s4, fun q h1 h2 => (jj_set_ne _ _ h1).trans (s5 q h1 h2)⟩
theorem jp_srt (S : jt_H h0 h mp rt n mc ns ky pv lf rg pa co) {v : Option Nat} {K : jj_H → Prop} (k : ∀ h', jt_H h0 h' mp v n mc ns ky pv lf rg pa co → K h') : jp_pr h (some mp) 23 3 v K := ⟨mp, _, rfl, S.1, k _ (jt_um S)⟩
theorem pJ_rotateLeft_j32 {gk : Nat → Nat} {Q : jj_H → Prop} {E : String → Nat → jj_H → Prop} {k : Nat} (S : jt_H h0 h mp rt n mc ns ky pv lf rg pa co) {p r : Nat} (hp : p ∈ ns) (hr : r ∈ ns) (hne : p ≠ r) (hpa : ∀ q, pa p = some q → q ∈ ns)
    (q : ∀ h' lf' rg' rt', jt_H h0 h' mp rt' n mc ns ky pv lf' rg' (jt_u (jt_u pa r (pa p)) p (some r)) co → ((pa p = none ∧ rt' = some r ∧ lf' = jt_u lf r (some p) ∧ rg' = rg) ∨ (∃ g, pa p = some g ∧ rt' = rt ∧ lf g = some p ∧ lf' = jt_u (jt_u lf g (some r)) r (some p) ∧ rg' = rg) ∨ (∃ g, pa p = some g ∧ rt' = rt ∧ lf g ≠ some p ∧ lf' = jt_u lf r (some p) ∧ rg' = jt_u rg g (some r))) → Q h') : fC_J23_rotateLeft_j32 gk (some mp) (some p) (some r) Q E h k := by
  refine jp_tpa S hp rfl (jp_spa S hr fun h1 S1 => ?_)
  have e1 : jt_u pa r (pa p) p = pa p := jt_u_ne hne
  refine jp_tpa S1 hp e1 ⟨fun c => ?_, fun c => jp_srt S1 fun h2 S2 => ?_⟩
  · cases hg : pa p with
    | none => exact absurd hg c
    | some g =>
      have hgn := hpa g hg
      have e3 := e1.trans hg
      refine jp_tpa S1 hp e3 (jp_tlf S1 hgn rfl ⟨fun c2 => ?_, fun c2 => ?_⟩)
      · refine jp_tpa S1 hp e3 (jp_srg S1 hgn fun h2 S2 => ?_)
        exact jp_slf S2 hr fun h3 S3 => jp_spa S3 hp fun h4 S4 => q h4 _ _ _ S4 (Or.inr (Or.inr ⟨g, hg, rfl, c2, rfl, rfl⟩))
      · refine jp_tpa S1 hp e3 (jp_slf S1 hgn fun h2 S2 => ?_)
        exact jp_slf S2 hr fun h3 S3 => jp_spa S3 hp fun h4 S4 => q h4 _ _ _ S4 (Or.inr (Or.inl ⟨g, hg, rfl, c2, rfl, rfl⟩))
  · exact jp_slf S2 hr fun h3 S3 => jp_spa S3 hp fun h4 S4 => q h4 _ _ _ S4 (Or.inl ⟨c, rfl, rfl, rfl⟩)
theorem pJ_rotateLeft {gk : Nat → Nat} {Q : jj_H → Prop} {E : String → Nat → jj_H → Prop} {k : Nat} {vl : Nat → Int} {pos a b : Nat → Int} {A B : Int} (S : jt_H h0 h mp rt n mc ns ky pv lf rg pa co) (W : jt_W ns vl lf rg pa rt pos a b A B) {p r : Nat} (hp : p ∈ ns) (hr : rg p = some r)
    (q : ∀ h' lf' rg' pa' rt', jt_H h0 h' mp rt' n mc ns ky pv lf' rg' pa' co → (∀ x ∈ ns, rg' x = if x = p then lf r else if rg x = some p then some r else rg x) → (∀ x ∈ ns, lf' x = if x = r then some p else if lf x = some p then some r else lf x) → (∀ x ∈ ns, pa' x = if x = p then some r else if x = r then pa p else if lf r = some x then some p else pa x) → rt' = (if rt = some p then some r else rt) → Q h') : fC_J23_rotateLeft gk (some mp) (some p) Q E h k := by
  have iv := W.1
  have ls := W.2.2.1
  have rs := W.2.2.2.2.1
  have pn := W.2.2.2.2.2.1
  have ps := W.2.2.2.2.2.2.1
  have ts := W.2.2.2.2.2.2.2.2.1
  obtain ⟨hrn, hrp, h1, h2⟩ := rs p hp r hr
  have hne : p ≠ r := fun e => by
    have := iv p hp
    rw [← e] at h1 h2
    omega
  have fin : ∀ {h1 : jj_H} {pa1 : Nat → Option Nat}, (∀ x ∈ ns, pa1 x = if lf r = some x then some p else pa x) → jt_H h0 h1 mp rt n mc ns ky pv lf (jt_u rg p (lf r)) pa1 co → fC_J23_rotateLeft_j32 gk (some mp) (some p) (some r) Q E h1 k := by
    intro h1 pa1 e1 S1
    have e2 : pa1 p = pa p := by
      rw [e1 p hp]
      refine if_neg fun e => ?_
      have := ls r hrn p e
      have := iv p hp
      have := iv r hrn
      omega
    refine pJ_rotateLeft_j32 S1 hp hrn hne (fun g hg => ?_) fun h' lf' rg' rt' S' e => ?_
    · rw [e2] at hg
      exact (ps p hp g hg).1
    · rw [e2] at e S'
      refine q h' lf' rg' _ rt' S' (fun x hx => ?_) (fun x hx => ?_) (fun x hx => ?_) ?_
      · unfold jt_u at e
        grind
      · unfold jt_u at e
        grind
      · have := e1 x hx
        unfold jt_u
        grind
      · grind
  refine ⟨(fun c => by cases c), fun _ => jp_trg S hp hr (jp_tlf S hrn rfl (jp_srg S hp fun h1 S1 => jp_tlf S1 hrn rfl ⟨fun c => fin (fun x hx => ?_) S1, fun c => ?_⟩))⟩
  · rw [c]
    exact (if_neg (fun e => by cases e)).symm
  · cases hc : lf r with
    | none => exact absurd hc c
    | some y =>
      refine jp_tlf S1 hrn hc (jp_spa S1 (ls r hrn y hc).1 fun h2 S2 => fin (fun x hx => ?_) (by rw [hc]; rw [hc] at S2; exact S2))
      unfold jt_u
      grind
theorem pJ_rotateRight_j32 {gk : Nat → Nat} {Q : jj_H → Prop} {E : String → Nat → jj_H → Prop} {k : Nat} (S : jt_H h0 h mp rt n mc ns ky pv lf rg pa co) {p r : Nat} (hp : p ∈ ns) (hr : r ∈ ns) (hne : p ≠ r) (hpa : ∀ q, pa p = some q → q ∈ ns)
    (q : ∀ h' lf' rg' rt', jt_H h0 h' mp rt' n mc ns ky pv lf' rg' (jt_u (jt_u pa r (pa p)) p (some r)) co → ((pa p = none ∧ rt' = some r ∧ rg' = jt_u rg r (some p) ∧ lf' = lf) ∨ (∃ g, pa p = some g ∧ rt' = rt ∧ rg g = some p ∧ rg' = jt_u (jt_u rg g (some r)) r (some p) ∧ lf' = lf) ∨ (∃ g, pa p = some g ∧ rt' = rt ∧ rg g ≠ some p ∧ rg' = jt_u rg r (some p) ∧ lf' = jt_u lf g (some r))) → Q h') : fC_J23_rotateRight_j32 gk (some mp) (some p) (some r) Q E h k := by
  refine jp_tpa S hp rfl (jp_spa S hr fun h1 S1 => ?_)
  have e1 : jt_u pa r (pa p) p = pa p := jt_u_ne hne
  refine jp_tpa S1 hp e1 ⟨fun c => ?_, fun c => jp_srt S1 fun h2 S2 => ?_⟩
  · cases hg : pa p with
    | none => exact absurd hg c
    | some g =>
      have hgn := hpa g hg
      have e3 := e1.trans hg
      refine jp_tpa S1 hp e3 (jp_trg S1 hgn rfl ⟨fun c2 => ?_, fun c2 => ?_⟩)
      · refine jp_tpa S1 hp e3 (jp_slf S1 hgn fun h2 S2 => ?_)
        exact jp_srg S2 hr fun h3 S3 => jp_spa S3 hp fun h4 S4 => q h4 _ _ _ S4 (Or.inr (Or.inr ⟨g, hg, rfl, c2, rfl, rfl⟩))
      · refine jp_tpa S1 hp e3 (jp_srg S1 hgn fun h2 S2 => ?_)
        exact jp_srg S2 hr fun h3 S3 => jp_spa S3 hp fun h4 S4 => q h4 _ _ _ S4 (Or.inr (Or.inl ⟨g, hg, rfl, c2, rfl, rfl⟩))
  · exact jp_srg S2 hr fun h3 S3 => jp_spa S3 hp fun h4 S4 => q h4 _ _ _ S4 (Or.inl ⟨c, rfl, rfl, rfl⟩)
theorem pJ_rotateRight {gk : Nat → Nat} {Q : jj_H → Prop} {E : String → Nat → jj_H → Prop} {k : Nat} {vl : Nat → Int} {pos a b : Nat → Int} {A B : Int} (S : jt_H h0 h mp rt n mc ns ky pv lf rg pa co) (W : jt_W ns vl lf rg pa rt pos a b A B) {p r : Nat} (hp : p ∈ ns) (hr : lf p = some r)
    (q : ∀ h' lf' rg' pa' rt', jt_H h0 h' mp rt' n mc ns ky pv lf' rg' pa' co → (∀ x ∈ ns, lf' x = if x = p then rg r else if lf x = some p then some r else lf x) → (∀ x ∈ ns, rg' x = if x = r then some p else if rg x = some p then some r else rg x) → (∀ x ∈ ns, pa' x = if x = p then some r else if x = r then pa p else if rg r = some x then some p else pa x) → rt' = (if rt = some p then some r else rt) → Q h') : fC_J23_rotateRight gk (some mp) (some p) Q E h k := by
  have iv := W.1
  have rs := W.2.2.1
  have ls := W.2.2.2.2.1
  have pn := W.2.2.2.2.2.1
  have ps := W.2.2.2.2.2.2.1
  have ts := W.2.2.2.2.2.2.2.2.1
  obtain ⟨hrn, hrp, h1, h2⟩ := rs p hp r hr
  have hne : p ≠ r := fun e => by
    have := iv p hp
    rw [← e] at h1 h2
    omega
  have fin : ∀ {h1 : jj_H} {pa1 : Nat → Option Nat}, (∀ x ∈ ns, pa1 x = if rg r = some x then some p else pa x) → jt_H h0 h1 mp rt n mc ns ky pv (jt_u lf p (rg r)) rg pa1 co → fC_J23_rotateRight_j32 gk (some mp) (some p) (some r) Q E h1 k := by
    intro h1 pa1 e1 S1
    have e2 : pa1 p = pa p := by
      rw [e1 p hp]
      refine if_neg fun e => ?_
      have := ls r hrn p e
      have := iv p hp
      have := iv r hrn
      omega
    refine pJ_rotateRight_j32 S1 hp hrn hne (fun g hg => ?_) fun h' lf' rg' rt' S' e => ?_
    · rw [e2] at hg
      exact (ps p hp g hg).1
    · rw [e2] at e S'
      refine q h' lf' rg' _ rt' S' (fun x hx => ?_) (fun x hx => ?_) (fun x hx => ?_) ?_
      · unfold jt_u at e
        grind
      · unfold jt_u at e
        grind
      · have := e1 x hx
        unfold jt_u
        grind
      · grind
  refine ⟨(fun c => by cases c), fun _ => jp_tlf S hp hr (jp_trg S hrn rfl (jp_slf S hp fun h1 S1 => jp_trg S1 hrn rfl ⟨fun c => fin (fun x hx => ?_) S1, fun c => ?_⟩))⟩
  · rw [c]
    exact (if_neg (fun e => by cases e)).symm
  · cases hc : rg r with
    | none => exact absurd hc c
    | some y =>
      refine jp_trg S1 hrn hc (jp_spa S1 (ls r hrn y hc).1 fun h2 S2 => fin (fun x hx => ?_) (by rw [hc]; rw [hc] at S2; exact S2))
      unfold jt_u
      grind
end TRH
