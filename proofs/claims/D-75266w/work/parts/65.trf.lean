/-! fixAfterInsertion -/
section TRF
variable {h0 h : jj_H} {mp : Nat} {rt : Option Nat} {n mc : Int} {ns : List Nat} {ky pv : Nat → Nat} {lf rg pa : Nat → Option Nat} {co : Nat → Int} {gk : Nat → Nat} {E : String → Nat → jj_H → Prop} {k : Nat}
theorem jt_in {x : Nat} (hx : x ∈ ns) : ∀ z, some x = some z → z ∈ ns := fun z e => by cases e; exact hx
theorem pJ_pa (S : jt_H h0 h mp rt n mc ns ky pv lf rg pa co) {o v : Option Nat} {Q : Option Nat → jj_H → Prop} (ho : ∀ x, o = some x → x ∈ ns) (e : o.bind pa = v) (q : Q v h) : fC_J23_parentOf gk o Q E h k := by
  cases o with
  | none => exact ⟨fun c => absurd rfl c, fun _ => by cases e; exact q⟩
  | some x => exact ⟨fun _ => jp_tpa S (ho x rfl) e q, fun c => by cases c⟩
theorem pJ_lf (S : jt_H h0 h mp rt n mc ns ky pv lf rg pa co) {o v : Option Nat} {Q : Option Nat → jj_H → Prop} (ho : ∀ x, o = some x → x ∈ ns) (e : o.bind lf = v) (q : Q v h) : fC_J23_leftOf gk o Q E h k := by
  cases o with
  | none => exact ⟨fun c => absurd rfl c, fun _ => by cases e; exact q⟩
  | some x => exact ⟨fun _ => jp_tlf S (ho x rfl) e q, fun c => by cases c⟩
theorem pJ_rg (S : jt_H h0 h mp rt n mc ns ky pv lf rg pa co) {o v : Option Nat} {Q : Option Nat → jj_H → Prop} (ho : ∀ x, o = some x → x ∈ ns) (e : o.bind rg = v) (q : Q v h) : fC_J23_rightOf gk o Q E h k := by
  cases o with
  | none => exact ⟨fun c => absurd rfl c, fun _ => by cases e; exact q⟩
  | some x => exact ⟨fun _ => jp_trg S (ho x rfl) e q, fun c => by cases c⟩
theorem pJ_co (S : jt_H h0 h mp rt n mc ns ky pv lf rg pa co) {o : Option Nat} {Q : Int → jj_H → Prop} (ho : ∀ x, o = some x → x ∈ ns) (q : ∀ v, (v = 0 ∨ v = 1) → (v = 0 → o ≠ none) → Q v h) : fC_J23_colorOf gk o Q E h k := by
  cases o with
  | none => exact ⟨fun c => absurd rfl c, fun _ => q 1 (Or.inr rfl) (fun c => by cases c)⟩
  | some x => exact ⟨fun _ => jp_tco S (ho x rfl) ⟨S.2.2.2.1 x (ho x rfl), q _ (S.2.2.2.1 x (ho x rfl)) (fun _ c => by cases c)⟩, fun c => by cases c⟩
theorem pJ_sc (S : jt_H h0 h mp rt n mc ns ky pv lf rg pa co) {o : Option Nat} {v : Int} (hv : v = 0 ∨ v = 1) {Q : jj_H → Prop} (ho : ∀ x, o = some x → x ∈ ns) (q : ∀ h' co', jt_H h0 h' mp rt n mc ns ky pv lf rg pa co' → (∀ z, co' z = if o = some z then v else co z) → Q h') : fC_J23_setColor gk o v Q E h k := by
  cases o with
  | none => exact ⟨fun _ => q h co S (fun z => (if_neg (fun c => by cases c)).symm), fun c => absurd rfl c⟩
  | some x =>
    refine ⟨(fun c => by cases c), fun _ => jp_sco S (ho x rfl) hv fun h1 S1 => q h1 _ S1 (fun z => ?_)⟩
    unfold jt_u
    by_cases hz : z = x
    · rw [if_pos hz, if_pos (by rw [hz])]
    · rw [if_neg hz, if_neg (fun c => hz (Option.some.inj c).symm)]
theorem jt_rotL {vl : Nat → Int} {lf' rg' pa' : Nat → Option Nat} {rt' : Option Nat} {pos a b : Nat → Int} {A B : Int} (W : jt_W ns vl lf rg pa rt pos a b A B) {p r : Nat} (hp : p ∈ ns) (hr : rg p = some r)
    (hrg : ∀ x ∈ ns, rg' x = if x = p then lf r else if rg x = some p then some r else rg x)
    (hlf : ∀ x ∈ ns, lf' x = if x = r then some p else if lf x = some p then some r else lf x)
    (hpa : ∀ x ∈ ns, pa' x = if x = p then some r else if x = r then pa p else if lf r = some x then some p else pa x)
    (hrt : rt' = if rt = some p then some r else rt) : ∃ a' b', jt_W ns vl lf' rg' pa' rt' pos a' b' A B := ⟨_, _, jt_rot W hp hr hrg hlf hpa hrt⟩
theorem pJ_end (S : jt_H h0 h mp rt n mc ns ky pv lf rg pa co) {Q : jj_H → Prop} {t : Nat} (ht : rt = some t) (htn : t ∈ ns) (q : ∀ h' co', jt_H h0 h' mp rt n mc ns ky pv lf rg pa co' → Q h') : fC_J23_fixAfterInsertion_j258 gk (some mp) Q E h k := by
  refine jp_trt S ?_
  rw [ht]
  exact jp_sco S htn (Or.inr rfl) fun h' S' => q h' _ S'
theorem jt_is (S : jt_H h0 h mp rt n mc ns ky pv lf rg pa co) : jp_is h (some mp) 23 := ⟨mp, _, rfl, S.1, rfl⟩
theorem jt_root {vl : Nat → Int} {pos a b : Nat → Int} {A B : Int} (W : jt_W ns vl lf rg pa rt pos a b A B) {x : Nat} (hx : x ∈ ns) : ∃ t, rt = some t ∧ t ∈ ns := by
  cases hr : rt with
  | none =>
    rw [W.2.2.2.2.2.2.2.1 hr] at hx
    cases hx
  | some t => exact ⟨t, rfl, (W.2.2.2.2.2.2.2.2.1 t hr).1⟩
theorem pJ_fexit {vl : Nat → Int} {pos a b : Nat → Int} {A B : Int} (S : jt_H h0 h mp rt n mc ns ky pv lf rg pa co) (W : jt_W ns vl lf rg pa rt pos a b A B) {x p N : Nat} (hx : x ∈ ns) (hp : pa x = some p) (hc : co p = 1) {Q : jj_H → Prop} (q : ∀ h' co', jt_H h0 h' mp rt n mc ns ky pv lf rg pa co' → Q h') : fC_J23_fixAfterInsertion_l5 gk (some mp) Q E (N + 1) (some x) h k := by
  obtain ⟨t, ht, htn⟩ := jt_root W hx
  have hpn := (W.2.2.2.2.2.2.1 x hx p hp).1
  refine ⟨(fun c => by cases c), fun _ => jp_trt S ⟨fun _ => pJ_end S ht htn q, fun _ => jp_tpa S hx hp (jp_tco S hpn ?_)⟩⟩
  rw [hc]
  exact ⟨⟨by decide, by decide⟩, fun _ => pJ_end S ht htn q, fun c => absurd c (by decide)⟩
theorem pJ_j225 {K5 : Option Nat → jj_H → Nat → Prop} {Q : jj_H → Prop} {vl : Nat → Int} {pos a b : Nat → Int} {A B : Int} (S : jt_H h0 h mp rt n mc ns ky pv lf rg pa co) (W : jt_W ns vl lf rg pa rt pos a b A B) {x p : Nat} (hp : p ∈ ns) (hx : rg p = some x) (hg : ∀ g, pa p = some g → rg g = some p)
    (q : ∀ h' lf' rg' pa' rt' co' a' b', jt_H h0 h' mp rt' n mc ns ky pv lf' rg' pa' co' → jt_W ns vl lf' rg' pa' rt' pos a' b' A B → pa' x = some p → co' p = 1 → K5 (some x) h' k) : fC_J23_fixAfterInsertion_j225 gk K5 (some mp) (some x) Q E h k := by
  have iv := W.1
  have rs := W.2.2.2.2.1
  have ps := W.2.2.2.2.2.2.1
  obtain ⟨hxn, hpx, h1, h2⟩ := rs p hp x hx
  have hgn : ∀ g, pa p = some g → g ∈ ns := fun g e => (ps p hp g e).1
  refine pJ_pa S (jt_in hxn) hpx (pJ_sc S (Or.inr rfl) (jt_in hp) fun h1 co1 S1 e1 => ?_)
  refine pJ_pa S1 (jt_in hxn) hpx (pJ_pa S1 (jt_in hp) rfl (pJ_sc S1 (Or.inl rfl) hgn fun h2 co2 S2 e2 => ?_))
  refine pJ_pa S2 (jt_in hxn) hpx (pJ_pa S2 (jt_in hp) rfl ⟨jt_is S2, ?_⟩)
  have c2 : pa p ≠ some p → co2 p = 1 := fun c => (e2 p).trans ((if_neg c).trans ((e1 p).trans (if_pos rfl)))
  show fC_J23_rotateLeft gk (some mp) (pa p) _ _ _ _
  cases hpp : pa p with
  | none => exact ⟨fun _ => q h2 _ _ _ _ _ _ _ S2 W hpx (c2 (by rw [hpp]; intro c; cases c)), fun c => absurd rfl c⟩
  | some g =>
    have hr := hg g hpp
    have hgm := hgn g hpp
    have hgp := rs g hgm p hr
    have ivg := iv g hgm
    have ivp := iv p hp
    refine pJ_rotateLeft S2 W hgm hr fun h3 lf' rg' pa' rt' S3 f1 f2 f3 f4 => ?_
    obtain ⟨a', b', W'⟩ := jt_rotL W hgm hr f1 f2 f3 f4
    refine q h3 _ _ _ _ _ _ _ S3 W' ?_ (c2 (by rw [hpp]; intro c; have := Option.some.inj c; subst this; omega))
    have lsp := W.2.2.1 p hp x
    grind
theorem pJ_j118 {K5 : Option Nat → jj_H → Nat → Prop} {Q : jj_H → Prop} {vl : Nat → Int} {pos a b : Nat → Int} {A B : Int} (S : jt_H h0 h mp rt n mc ns ky pv lf rg pa co) (W : jt_W ns vl lf rg pa rt pos a b A B) {x p : Nat} (hp : p ∈ ns) (hx : lf p = some x) (hg : ∀ g, pa p = some g → lf g = some p)
    (q : ∀ h' lf' rg' pa' rt' co' a' b', jt_H h0 h' mp rt' n mc ns ky pv lf' rg' pa' co' → jt_W ns vl lf' rg' pa' rt' pos a' b' A B → pa' x = some p → co' p = 1 → K5 (some x) h' k) : fC_J23_fixAfterInsertion_j118 gk K5 (some mp) (some x) Q E h k := by
  have iv := W.1
  have rs := W.2.2.1
  have ps := W.2.2.2.2.2.2.1
  obtain ⟨hxn, hpx, h1, h2⟩ := rs p hp x hx
  have hgn : ∀ g, pa p = some g → g ∈ ns := fun g e => (ps p hp g e).1
  refine pJ_pa S (jt_in hxn) hpx (pJ_sc S (Or.inr rfl) (jt_in hp) fun h1 co1 S1 e1 => ?_)
  refine pJ_pa S1 (jt_in hxn) hpx (pJ_pa S1 (jt_in hp) rfl (pJ_sc S1 (Or.inl rfl) hgn fun h2 co2 S2 e2 => ?_))
  refine pJ_pa S2 (jt_in hxn) hpx (pJ_pa S2 (jt_in hp) rfl ⟨jt_is S2, ?_⟩)
  have c2 : pa p ≠ some p → co2 p = 1 := fun c => (e2 p).trans ((if_neg c).trans ((e1 p).trans (if_pos rfl)))
  show fC_J23_rotateRight gk (some mp) (pa p) _ _ _ _
  cases hpp : pa p with
  | none => exact ⟨fun _ => q h2 _ _ _ _ _ _ _ S2 W hpx (c2 (by rw [hpp]; intro c; cases c)), fun c => absurd rfl c⟩
  | some g =>
    have hr := hg g hpp
    have hgm := hgn g hpp
    have hgp := rs g hgm p hr
    have ivg := iv g hgm
    have ivp := iv p hp
    refine pJ_rotateRight S2 W hgm hr fun h3 lf' rg' pa' rt' S3 f1 f2 f3 f4 => ?_
    obtain ⟨a', b', W'⟩ := jt_rotR W hgm hr f1 f2 f3 f4
    refine q h3 _ _ _ _ _ _ _ S3 W' ?_ (c2 (by rw [hpp]; intro c; have := Option.some.inj c; subst this; omega))
    have lsp := W.2.2.2.2.1 p hp x
    grind
theorem pJ_fix {Q : jj_H → Prop} {vl : Nat → Int} {pos : Nat → Int} {A B : Int} (q : ∀ h' lf' rg' pa' rt' co' a' b', jt_H h0 h' mp rt' n mc ns ky pv lf' rg' pa' co' → jt_W ns vl lf' rg' pa' rt' pos a' b' A B → Q h') : ∀ (N : Nat) {h : jj_H} {rt : Option Nat} {lf rg pa : Nat → Option Nat} {co : Nat → Int} {a b : Nat → Int} {x : Nat}, jt_H h0 h mp rt n mc ns ky pv lf rg pa co → jt_W ns vl lf rg pa rt pos a b A B → x ∈ ns → (B - A) - (b x - a x) < (N : Int) → fC_J23_fixAfterInsertion_l5 gk (some mp) Q E (N + 1) (some x) h k := by
  intro N
  induction N with
  | zero =>
    intro h rt lf rg pa co a b x S W hx hN
    have := W.1 x hx
    exact absurd hN (by omega)
  | succ N ih =>
    intro h rt lf rg pa co a b x S W hx hN
    obtain ⟨t, ht, htn⟩ := jt_root W hx
    have iv := W.1
    have ls := W.2.2.1
    have rs := W.2.2.2.2.1
    have ps := W.2.2.2.2.2.2.1
    refine ⟨(fun c => by cases c), fun _ => jp_trt S ⟨fun _ => pJ_end S ht htn fun h' co' S' => q h' _ _ _ _ _ _ _ S' W, fun hne => ?_⟩⟩
    cases hpx : pa x with
    | none => exact absurd (W.2.2.2.2.2.1 x hx hpx).symm hne
    | some p =>
      obtain ⟨hp, hch⟩ := ps x hx p hpx
      have hgn : ∀ g, pa p = some g → g ∈ ns := fun g e => (ps p hp g e).1
      refine jp_tpa S hx hpx (jp_tco S hp ⟨?_, fun _ => pJ_end S ht htn fun h' co' S' => q h' _ _ _ _ _ _ _ S' W, fun _ => ?_⟩)
      · rcases S.2.2.2.1 p hp with c | c <;> (rw [c]; exact ⟨by decide, by decide⟩)
      · refine pJ_pa S (jt_in hx) hpx (pJ_pa S (jt_in hx) hpx (pJ_pa S (jt_in hp) rfl (pJ_lf S hgn rfl ⟨fun c => ?_, fun c => ?_⟩)))
        · have c : ¬ some p = (pa p).bind lf := c
          have hbr : ∀ g, pa p = some g → rg g = some p := fun g e => by
            rw [e] at c
            rcases (ps p hp g e).2 with e9 | e9
            · exact absurd e9.symm c
            · exact e9
          have hyn : ∀ z, (pa p).bind lf = some z → z ∈ ns := fun z e => by
            cases hg : pa p with
            | none => rw [hg] at e; cases e
            | some g =>
              rw [hg] at e
              exact (ls g (hgn g hg) z e).1
          refine pJ_pa S (jt_in hx) hpx (pJ_pa S (jt_in hp) rfl (pJ_lf S hgn rfl (pJ_co S hyn fun v hv hv0 => ⟨by rcases hv with c | c <;> (rw [c]; exact ⟨by decide, by decide⟩), fun c2 => ?_, fun c2 => ?_⟩)))
          · refine pJ_pa S (jt_in hx) hpx (pJ_lf S (jt_in hp) rfl ⟨fun c3 => ?_, fun c3 => ?_⟩)
            · have hrx : rg p = some x := by
                rcases hch with e | e
                · first | exact e | exact absurd e.symm c3
                · first | exact e | exact absurd e.symm c3
              exact pJ_j225 S W hp hrx hbr fun h' lf' rg' pa' rt' co' a' b' S' W' e1 e2 => pJ_fexit S' W' hx e1 e2 fun h2 co2 S2 => q h2 _ _ _ _ _ _ _ S2 W'
            · have c3 : lf p = some x := c3.symm
              refine pJ_pa S (jt_in hx) hpx ⟨jt_is S, pJ_rotateRight S W hp c3 fun h1 lf1 rg1 pa1 rt1 S1 f1 f2 f3 f4 => ?_⟩
              obtain ⟨a1, b1, W1⟩ := jt_rotR W hp c3 f1 f2 f3 f4
              have ivp := iv p hp
              have lsx := ls p hp x c3
              have hxp : x ≠ p := fun e => by rw [e] at lsx; omega
              have k1 : rg1 x = some p := by rw [f2 x hx, if_pos rfl]
              have k2 : pa1 x = pa p := by rw [f3 x hx, if_neg hxp, if_pos rfl]
              refine pJ_j225 S1 W1 hx k1 (fun g e => ?_) fun h' lf' rg' pa' rt' co' a' b' S' W' e1 e2 => pJ_fexit S' W' hp e1 e2 fun h2 co2 S2 => q h2 _ _ _ _ _ _ _ S2 W'
              rw [k2] at e
              have hgx := hbr g e
              have ivg := iv g (hgn g e)
              have rsg := rs g (hgn g e) p hgx
              have hgne : g ≠ x := fun e9 => by rw [e9] at rsg ivg; omega
              rw [f2 g (hgn g e), if_neg hgne, if_pos hgx]
          · cases hg : pa p with
            | none => exact absurd (show (pa p).bind lf = none by rw [hg]; rfl) (hv0 c2)
            | some g =>
              refine pJ_pa S (jt_in hx) hpx (pJ_sc S (Or.inr rfl) (jt_in hp) fun h1 co1 S1 _ => pJ_sc S1 (Or.inr rfl) hyn fun h2 co2 S2 _ => ?_)
              refine pJ_pa S2 (jt_in hx) hpx (pJ_pa S2 (jt_in hp) hg (pJ_sc S2 (Or.inl rfl) (jt_in (hgn g hg)) fun h3 co3 S3 _ => ?_))
              refine pJ_pa S3 (jt_in hx) hpx (pJ_pa S3 (jt_in hp) hg (ih S3 W (hgn g hg) ?_))
              have hgx := hbr g hg
              have ivg := iv g (hgn g hg)
              have ivp := iv p hp
              have rsg := rs g (hgn g hg) p hgx
              have hcx : a p ≤ a x ∧ b x ≤ b p := by
                rcases hch with e | e
                · have h1 := ls p hp x e
                  have h2 := iv x hx
                  omega
                · have h1 := rs p hp x e
                  have h2 := iv x hx
                  omega
              omega
        · have c : some p = (pa p).bind lf := c
          have hbr : ∀ g, pa p = some g → lf g = some p := fun g e => by
            rw [e] at c
            exact c.symm
          have hyn : ∀ z, (pa p).bind rg = some z → z ∈ ns := fun z e => by
            cases hg : pa p with
            | none => rw [hg] at e; cases e
            | some g =>
              rw [hg] at e
              exact (rs g (hgn g hg) z e).1
          refine pJ_pa S (jt_in hx) hpx (pJ_pa S (jt_in hp) rfl (pJ_rg S hgn rfl (pJ_co S hyn fun v hv hv0 => ⟨by rcases hv with c | c <;> (rw [c]; exact ⟨by decide, by decide⟩), fun c2 => ?_, fun c2 => ?_⟩)))
          · refine pJ_pa S (jt_in hx) hpx (pJ_rg S (jt_in hp) rfl ⟨fun c3 => ?_, fun c3 => ?_⟩)
            · have hrx : lf p = some x := by
                rcases hch with e | e
                · first | exact e | exact absurd e.symm c3
                · first | exact e | exact absurd e.symm c3
              exact pJ_j118 S W hp hrx hbr fun h' lf' rg' pa' rt' co' a' b' S' W' e1 e2 => pJ_fexit S' W' hx e1 e2 fun h2 co2 S2 => q h2 _ _ _ _ _ _ _ S2 W'
            · have c3 : rg p = some x := c3.symm
              refine pJ_pa S (jt_in hx) hpx ⟨jt_is S, pJ_rotateLeft S W hp c3 fun h1 lf1 rg1 pa1 rt1 S1 f1 f2 f3 f4 => ?_⟩
              obtain ⟨a1, b1, W1⟩ := jt_rotL W hp c3 f1 f2 f3 f4
              have ivp := iv p hp
              have lsx := rs p hp x c3
              have hxp : x ≠ p := fun e => by rw [e] at lsx; omega
              have k1 : lf1 x = some p := by rw [f2 x hx, if_pos rfl]
              have k2 : pa1 x = pa p := by rw [f3 x hx, if_neg hxp, if_pos rfl]
              refine pJ_j118 S1 W1 hx k1 (fun g e => ?_) fun h' lf' rg' pa' rt' co' a' b' S' W' e1 e2 => pJ_fexit S' W' hp e1 e2 fun h2 co2 S2 => q h2 _ _ _ _ _ _ _ S2 W'
              rw [k2] at e
              have hgx := hbr g e
              have ivg := iv g (hgn g e)
              have rsg := ls g (hgn g e) p hgx
              have hgne : g ≠ x := fun e9 => by rw [e9] at rsg ivg; omega
              rw [f2 g (hgn g e), if_neg hgne, if_pos hgx]
          · cases hg : pa p with
            | none => exact absurd (show (pa p).bind rg = none by rw [hg]; rfl) (hv0 c2)
            | some g =>
              refine pJ_pa S (jt_in hx) hpx (pJ_sc S (Or.inr rfl) (jt_in hp) fun h1 co1 S1 _ => pJ_sc S1 (Or.inr rfl) hyn fun h2 co2 S2 _ => ?_)
              refine pJ_pa S2 (jt_in hx) hpx (pJ_pa S2 (jt_in hp) hg (pJ_sc S2 (Or.inl rfl) (jt_in (hgn g hg)) fun h3 co3 S3 _ => ?_))
              refine pJ_pa S3 (jt_in hx) hpx (pJ_pa S3 (jt_in hp) hg (ih S3 W (hgn g hg) ?_))
              have hgx := hbr g hg
              have ivg := iv g (hgn g hg)
              have ivp := iv p hp
              have rsg := ls g (hgn g hg) p hgx
              have hcx : a p ≤ a x ∧ b x ≤ b p := by
                rcases hch with e | e
                · have h1 := ls p hp x e
                  have h2 := iv x hx
                  omega
                · have h1 := rs p hp x e
                  have h2 := iv x hx
                  omega
              omega
end TRF

