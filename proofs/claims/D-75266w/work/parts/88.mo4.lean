/-! OPERATIONS: pages, margins, output -/
section MO4
variable {Y : sp_Y} {ms : jj_MS}
theorem mL_noEd (M : sp_M0 Y ms) {Q1 Q2 : jj_MS → Prop} (q1 : ∀ (t : Nat) d, sp_aim Y.1 = some d → Y.1.2.2.2.1 = t → Y.1.1[t]? = some d → Q1 ms) (q2 : sp_aim Y.1 = none → Q2 ms) : fM_editions (fun r m => jj_r r ∧ (¬ r = 0 → Q1 m) ∧ (r = 0 → Q2 m)) ms := by
  have W := M.2.1
  have h3 := W.1
  refine mL_editions M ⟨jj_rn, fun c => ?_, fun c => q2 ?_⟩
  · cases hd : sp_aim Y.1 with
    | none => rw [sp_aim_none W hd] at c; exact absurd rfl c
    | some d =>
      obtain ⟨t, ht, hdt⟩ := sp_aim_some W hd
      exact q1 t d hd ht hdt
  · cases hd : sp_aim Y.1 with
    | none => rfl
    | some d =>
      obtain ⟨t, ht, hdt⟩ := sp_aim_some W hd
      have := sp_lt hdt
      omega
theorem mO_hottest (h : sp_MR Y ms) : so_hottest Y fun k r Z => fM_hottestPage (sp_mq k r Z) ms := by
  have W := h.1
  unfold so_hottest
  cases hd : sp_aim Y.1 with
  | none =>
    intro m e
    have M := sp_M0.of h e
    exact mL_noEd M (fun t d hd' => by rw [hd] at hd'; cases hd') (fun _ => M.ok)
  | some d =>
    dsimp only
    intro b hb m e
    have M := sp_M0.of h e
    refine mL_noEd M (fun t d' hd' ht hdt => mL_layAnchors W M.2.2.1 fun m2 f2 ha => mL_target (M.fr f2).2.2.1 ?_) (fun hd' => by rw [hd] at hd'; cases hd')
    rw [hd] at hd'
    cases hd'
    rw [ht]
    refine mL_layOut W (M.fr f2).2.2.1 hdt fun m3 f3 L => mL_hottest W ((M.fr f2).fr f3).2.2.1 (sp_aR.fr ha f3) ht hdt L fun b' hb' => ?_
    rw [sp_hot_uniq hb' hb]
    exact ((M.fr f2).fr f3).ok
theorem mL_layMargins (M : sp_M0 Y ms) {t : Nat} {d : sp_E} (ht : Y.1.2.2.2.1 = t) (hdt : Y.1.1[t]? = some d) {Q : jj_MS → Prop} (q : ∀ m, sp_M0 Y m → sp_LG Y.1 m → sp_LO d m → Q m) : fM_layMargins Q ms := by
  have W := M.2.1
  refine mL_layGroups W M.2.2.1 fun m2 f2 L => mL_target (M.fr f2).2.2.1 ?_
  rw [ht]
  refine mL_layOut W (M.fr f2).2.2.1 hdt fun m3 f3 O => q m3 ((M.fr f2).fr f3) (L.fr f3) O
theorem sp_pages_bd {d : sp_E} (hd : sp_okE d) : 0 ≤ sp_pages d ∧ sp_pages d < 1000 := by
  have h1 := sp_lay_bd hd (d.1.length - 1)
  have h2 := hd.2.2.2.2.2.2.2
  have h3 := hd.2.1
  have h4 : 0 ≤ sp_lines d + d.2.2.2 - 1 := by unfold sp_lines; omega
  have h5 := Int.ediv_le_self d.2.2.2 h4
  exact ⟨Int.ediv_nonneg h4 (by omega), by unfold sp_pages; unfold sp_lines at h5 ⊢; omega⟩
theorem mL_isTargetPage (M : sp_M0 Y ms) {t : Nat} {d : sp_E} (ht : Y.1.2.2.2.1 = t) (hdt : Y.1.1[t]? = some d) (O : sp_LO d ms) {x : Int} (hx : jj_r x) {Q : Int → jj_MS → Prop} (q1 : 0 ≤ x → x < sp_pages d → Q 1 ms) (q0 : ¬ (0 ≤ x ∧ x < sp_pages d) → Q 0 ms) : fM_isTargetPage x Q ms := by
  have W := M.2.1
  have hp := sp_pages_bd (W.ed hdt)
  refine mL_target M.2.2.1 ?_
  rw [ht]
  exact mL_pagesOf W M.2.2.1 hdt O (mL_btw hx ⟨by decide, by decide⟩ ⟨by omega, by omega⟩ (fun a b => ⟨Or.inr rfl, q1 a (by omega)⟩) (fun a => ⟨Or.inl rfl, q0 (by omega)⟩))
theorem mO_marginGroups (h : sp_MR Y ms) {x : Int} (hx : jj_r x) : so_marginGroups x Y fun k r Z => fM_marginGroups x (sp_mq k r Z) ms := by
  have W := h.1
  unfold so_marginGroups
  cases hd : sp_aim Y.1 with
  | none =>
    intro m e
    have M := sp_M0.of h e
    exact mL_noEd M (fun t d hd' => by rw [hd] at hd'; cases hd') (fun _ => M.fail (by decide))
  | some d =>
    dsimp only
    have go : ∀ k r : Int, (0 ≤ x ∧ x < sp_pages d → k = 0 ∧ r = (sp_mg Y.1 d x).2.1) → (¬ (0 ≤ x ∧ x < sp_pages d) → k = 1 ∧ r = 0) → fM_marginGroups x (sp_mq k r Y) ms := by
      intro k r g1 g0 m e
      have M := sp_M0.of h e
      refine mL_noEd M (fun t d' hd' ht hdt => ?_) (fun hd' => by rw [hd] at hd'; cases hd')
      rw [hd] at hd'
      cases hd'
      have hp := sp_pages_bd (W.ed hdt)
      refine mL_layMargins M ht hdt fun m2 M2 L O => mL_isTargetPage M2 ht hdt O hx (fun a b => ⟨⟨by decide, by decide⟩, fun _ => mL_layMargin W M2.2.2.1 L ht hdt O (fun g hg => sp_gp_first W ht hdt g hg) ⟨a, by omega⟩ fun m3 f3 r3 => ?_, fun c => absurd c (by decide)⟩) (fun a => ⟨⟨by decide, by decide⟩, fun c => absurd rfl c, fun _ => ?_⟩)
      · obtain ⟨rfl, rfl⟩ := g1 ⟨a, b⟩
        rw [r3.2.1]
        exact (M2.fr f3).ok
      · obtain ⟨rfl, rfl⟩ := g0 a
        exact M2.fail (by decide)
    split
    · rename_i c
      exact go _ _ (fun _ => ⟨rfl, rfl⟩) (fun hh => absurd c hh)
    · rename_i c
      exact go _ _ (fun hh => absurd hh c) (fun _ => ⟨rfl, rfl⟩)
theorem mO_marginRow (h : sp_MR Y ms) {x y : Int} (hx : jj_r x) (hy : jj_r y) : so_marginRow x y Y fun k r Z => fM_marginRow x y (sp_mq k r Z) ms := by
  have W := h.1
  unfold so_marginRow
  cases hd : sp_aim Y.1 with
  | none =>
    intro m e
    have M := sp_M0.of h e
    exact mL_noEd M (fun t d hd' => by rw [hd] at hd'; cases hd') (fun _ => M.fail (by decide))
  | some d =>
    dsimp only
    have go : ∀ k r : Int, (0 ≤ x ∧ x < sp_pages d ∧ 0 ≤ y ∧ y < d.2.2.2 → k = 0 ∧ r = (sp_mg Y.1 d x).1.getD y.toNat (-1)) → (¬ (0 ≤ x ∧ x < sp_pages d ∧ 0 ≤ y ∧ y < d.2.2.2) → k = 1 ∧ r = 0) → fM_marginRow x y (sp_mq k r Y) ms := by
      intro k r g1 g0 m e
      have M := sp_M0.of h e
      refine mL_noEd M (fun t d' hd' ht hdt => ?_) (fun hd' => by rw [hd] at hd'; cases hd')
      rw [hd] at hd'
      cases hd'
      have hp := sp_pages_bd (W.ed hdt)
      have h9 := (W.ed hdt).2.2.2.2.2.2.2
      refine mL_layMargins M ht hdt fun m2 M2 L O => mL_isTargetPage M2 ht hdt O hx (fun a b => ⟨⟨by decide, by decide⟩, fun c => absurd c (by decide), fun _ => mL_target M2.2.2.1 ?_⟩) (fun a => ⟨⟨by decide, by decide⟩, fun _ => ?_, fun c => absurd rfl c⟩)
      · rw [ht]
        refine mL_lines W M2.2.2.1 hdt (mL_btw hy ⟨by decide, by decide⟩ ⟨by omega, by omega⟩ (fun a1 b1 => ⟨⟨by decide, by decide⟩, fun _ => mL_layMargin W M2.2.2.1 L ht hdt O (fun g hg => sp_gp_first W ht hdt g hg) ⟨a, by omega⟩ fun m3 f3 r3 => ⟨by omega, by omega, ?_⟩, fun c => absurd c (by decide)⟩) (fun a1 => ⟨⟨by decide, by decide⟩, fun c => absurd rfl c, fun _ => ?_⟩))
        · obtain ⟨rfl, rfl⟩ := g1 ⟨a, b, a1, by omega⟩
          have hI := sp_mo_I W (d := d) (page := x) (L := d.2.2.2.toNat) d.2.2.2.toNat
          obtain ⟨v, hv, -⟩ := sp_getI hI (i := y.toNat) (by omega)
          have e1 : m3.2 30 ((y.toNat : Nat) : Int) = v := r3.1 y.toNat v hv
          have ey : ((y.toNat : Nat) : Int) = y := by omega
          rw [ey] at e1
          have e2 : (sp_mg Y.1 d x).1[y.toNat]? = some v := hv
          rw [e1, List.getD_eq_getElem?_getD, e2]
          exact (M2.fr f3).ok
        · obtain ⟨rfl, rfl⟩ := g0 (by omega)
          exact M2.fail (by decide)
      · obtain ⟨rfl, rfl⟩ := g0 (by omega)
        exact M2.fail (by decide)
    split
    · rename_i c
      exact go _ _ (fun _ => ⟨rfl, rfl⟩) (fun hh => absurd c hh)
    · rename_i c
      exact go _ _ (fun hh => absurd hh c) (fun _ => ⟨rfl, rfl⟩)
theorem mO_overflows (h : sp_MR Y ms) : so_overflows Y fun k r Z => fM_overflows (sp_mq k r Z) ms := by
  have W := h.1
  unfold so_overflows
  cases hd : sp_aim Y.1 with
  | none =>
    intro m e
    have M := sp_M0.of h e
    exact mL_noEd M (fun t d hd' => by rw [hd] at hd'; cases hd') (fun _ => M.ok)
  | some d =>
    dsimp only
    intro m e
    have M := sp_M0.of h e
    refine mL_noEd M (fun t d' hd' ht hdt => ?_) (fun hd' => by rw [hd] at hd'; cases hd')
    rw [hd] at hd'
    cases hd'
    have hp := sp_pages_bd (W.ed hdt)
    refine mL_layMargins M ht hdt fun m2 M2 L O => ?_
    have loop : ∀ (N p : Nat) (m : jj_MS), sp_M0 Y m → sp_LG Y.1 m → sp_LO d m → p ≤ (sp_pages d).toNat → (sp_pages d).toNat - p < N → fM_overflows_l22 (sp_mq 0 (sp_ovf Y.1 d (sp_pages d).toNat) Y) N (sp_ovf Y.1 d p) p m := by
      intro N
      induction N with
      | zero => intro p m _ _ _ _ h; exact absurd h (Nat.not_lt_zero _)
      | succ N ih =>
        intro p m M L O hpp hN
        refine mL_target M.2.2.1 ?_
        rw [ht]
        refine mL_pagesOf W M.2.2.1 hdt O ⟨⟨by omega, by omega⟩, ⟨by omega, by omega⟩, fun c => ?_, fun c => mL_layMargin W M.2.2.1 L ht hdt O (fun g hg => sp_gp_first W ht hdt g hg) ⟨by omega, by omega⟩ fun m3 f3 r3 v e v' e' => ?_⟩
        · have : p = (sp_pages d).toNat := by omega
          rw [this]
          exact M.ok
        · subst e; subst e'
          have := ih (p + 1) m3 (M.fr f3) (L.fr f3) (O.fr f3) (by omega) (by omega)
          rw [r3.2.2]
          exact this
    exact ⟨_, loop _ 0 m2 M2 L O (Nat.zero_le _) (Nat.lt_succ_self _)⟩
theorem sp_gb_none {σ : sp_S} (W : sp_WF σ) (h : σ.1 = []) : (sp_gb σ).2 = 0 := by
  have hn : σ.2.1 = [] := by
    cases hl : σ.2.1 with
    | nil => rfl
    | cons t r =>
      have h0 : σ.2.1[0]? = some t := by rw [hl]; rfl
      obtain ⟨-, -, -, -, -, ⟨d, hd, -⟩, -⟩ := W.nt h0
      rw [h] at hd
      simp at hd
  have := (sp_gb_le W).1
  rw [hn] at this
  simpa using this
theorem mO_write (h : sp_MR Y ms) {x : Int} (hx : jj_r x) : so_write x Y fun k r Z => fM_write x (sp_mq k r Z) ms := by
  have W := h.1
  have hle := sp_gb_le W
  have go : ∀ (k r : Int) (Z : sp_Y), (∀ d, sp_aim Y.1 = some d → 0 ≤ x → x < (sp_gb Y.1).2 → k = 0 ∧ r = (sp_out Y.1 d x.toNat).length ∧ Z = (Y.1, Y.2.1, Y.2.2.1, sp_out Y.1 d x.toNat, Y.2.2.2.2)) → (¬ (0 ≤ x ∧ x < (sp_gb Y.1).2) → k = 1 ∧ r = 0 ∧ Z = Y) → fM_write x (sp_mq k r Z) ms := by
    intro k r Z g1 g0 m e
    have M := sp_M0.of h e
    refine mL_layGroups W M.2.2.1 fun m2 f2 L => ?_
    have M2 := M.fr f2
    show fM_isBetween x 0 (m2.1 28 - 1) (fun r2 ms1 => (r2 = 0 ∨ r2 = 1) ∧ _) m2
    rw [L.2.1]
    refine mL_btw hx ⟨by decide, by decide⟩ ⟨by omega, by omega⟩ (fun a1 a2 => ⟨Or.inr rfl, ⟨by decide, by decide⟩, fun _ m6 e6 => ?_, fun c => absurd c (by decide)⟩) (fun a => ⟨Or.inl rfl, ⟨by decide, by decide⟩, fun c => absurd rfl c, fun _ => ?_⟩)
    · cases hd : sp_aim Y.1 with
      | none => have := sp_gb_none W (sp_aim_none W hd); omega
      | some d =>
        obtain ⟨t, ht, hdt⟩ := sp_aim_some W hd
        obtain ⟨rfl, rfl, rfl⟩ := g1 d hd a1 (by omega)
        have ex : x = ((x.toNat : Nat) : Int) := by omega
        have f6 : sp_fr 33 35 m2 m6 := sp_fr.rfl.tI e6
        rw [ex]
        refine mL_putGroup W (M2.2.2.1.fr f6) (L.fr f6) ht hdt (by omega) ⟨by rw [e6, jj_mI_eq]; rfl, fun i x h => by simp at h⟩ fun m7 f7 o7 l7 => ?_
        have f27 : sp_fr 33 35 m2 m7 := f6.trans f7
        obtain ⟨b1, b2, b3, b4, b5, b6, b7⟩ := M2.2
        refine ⟨by rw [(f27 7 (by omega)).1]; exact M2.1, fun _ => by rw [o7.1, Int.toNat_natCast], b1, by rw [(f27 0 (by omega)).2, (f27 3 (by omega)).2]; exact b2, b3.fr f27, ⟨by rw [(f27 40 (by omega)).1]; exact b4.1, by rw [(f27 41 (by omega)).1]; exact b4.2⟩, ⟨by rw [Int.toNat_natCast]; exact o7, by rw [Int.toNat_natCast]; exact l7⟩, ?_, ?_⟩
        · unfold sp_vR at b6 ⊢
          rw [(f27 6 (by omega)).2, (f27 2 (by omega)).2, (f27 5 (by omega)).2]
          exact b6
        · unfold sp_vR at b7 ⊢
          rw [(f27 6 (by omega)).2, (f27 2 (by omega)).2, (f27 5 (by omega)).2]
          exact b7
    · obtain ⟨rfl, rfl, rfl⟩ := g0 (by omega)
      exact M2.fail (by decide)
  unfold so_write
  cases hd : sp_aim Y.1 with
  | none =>
    have hz := sp_gb_none W (sp_aim_none W hd)
    exact go 1 0 Y (fun d hd' => by rw [hd] at hd'; cases hd') (fun _ => ⟨rfl, rfl, rfl⟩)
  | some d =>
    dsimp only
    split
    · rename_i c
      exact go _ _ _ (fun d' hd' _ _ => by rw [hd] at hd'; cases hd'; exact ⟨rfl, rfl, rfl⟩) (fun hh => absurd c hh)
    · rename_i c
      exact go _ _ _ (fun d' _ a b => absurd ⟨a, b⟩ c) (fun _ => ⟨rfl, rfl, rfl⟩)
theorem mO_outputByte (h : sp_MR Y ms) {x : Int} (hx : jj_r x) : so_outputByte x Y fun k r Z => fM_outputByte x (sp_mq k r Z) ms := by
  have go : ∀ k r : Int, (0 ≤ x → k = 0 ∧ r = Y.2.2.2.1.getD x.toNat (-1)) → (¬ 0 ≤ x → k = 1 ∧ r = 0) → fM_outputByte x (sp_mq k r Y) ms := by
    intro k r g1 g0 m e
    have M := sp_M0.of h e
    obtain ⟨⟨o1, o2⟩, o3⟩ := M.2.2.2.2.2.1
    rw [o1]
    refine ⟨hx, fun c => ⟨hx, ⟨by omega, by omega⟩, fun c2 => ?_, fun c2 => ⟨by omega, by omega, ?_⟩⟩, fun c => ?_⟩
    · obtain ⟨rfl, rfl⟩ := g1 c
      rw [List.getD_eq_getElem?_getD, List.getElem?_eq_none (by omega)]
      exact M.ok
    · obtain ⟨rfl, rfl⟩ := g1 c
      obtain ⟨v, hv⟩ : ∃ v, Y.2.2.2.1[x.toNat]? = some v := ⟨Y.2.2.2.1[x.toNat]'(by omega), List.getElem?_eq_getElem _⟩
      have e1 := o2 x.toNat v hv
      have ex : ((x.toNat : Nat) : Int) = x := by omega
      rw [ex] at e1
      rw [e1, List.getD_eq_getElem?_getD, hv]
      exact M.ok
    · obtain ⟨rfl, rfl⟩ := g0 c
      exact M.fail (by decide)
  unfold so_outputByte
  split
  · rename_i c
    exact go _ _ (fun _ => ⟨rfl, rfl⟩) (fun hh => absurd c hh)
  · rename_i c
    exact go _ _ (fun hh => absurd hh c) (fun _ => ⟨rfl, rfl⟩)
end MO4
