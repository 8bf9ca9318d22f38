/-! OPERATIONS that only ask, more -/
section MO3
variable {Y : sp_Y} {ms : jj_MS}
theorem mO_note (h : sp_MR Y ms) {x y : Int} (hx : jj_r x) (hy : jj_r y) : so_note x y Y fun k r Z => fM_note x y (sp_mq k r Z) ms := by
  have W := h.1
  unfold so_note
  cases hd : sp_nt Y.1 x with
  | none =>
    intro m e
    have M := sp_M0.of h e
    exact mL_isNote M hx (fun d hd' => by rw [hd] at hd'; cases hd') (fun _ => ⟨⟨by decide, by decide⟩, fun c => absurd rfl c, fun _ => M.fail (by decide)⟩)
  | some t =>
    dsimp only
    obtain ⟨n, rfl, hn⟩ := sp_nt_some hd
    have go : ∀ k r : Int, (∀ v, 0 ≤ y → [t.1.1, t.1.2.1, t.1.2.2, t.2.1.1, t.2.1.2, (t.2.2.length : Int)][y.toNat]? = some v → k = 0 ∧ r = v) → ((y < 0 ∨ 6 ≤ y) → k = 2 ∧ r = 0) → fM_note n y (sp_mq k r Y) ms := by
      intro k r g1 g0 m e
      have M := sp_M0.of h e
      refine mL_isNote M hx (fun _ _ => ⟨⟨by decide, by decide⟩, fun _ => mL_btw hy ⟨by decide, by decide⟩ ⟨by decide, by decide⟩ (fun a1 a2 => ⟨⟨by decide, by decide⟩, fun c => absurd c (by decide), fun _ => ?_⟩) (fun a => ⟨⟨by decide, by decide⟩, fun _ => ?_, fun c => absurd rfl c⟩), fun c => absurd c (by decide)⟩) (fun hd' => by rw [hd] at hd'; cases hd')
      · have hl : y.toNat < [t.1.1, t.1.2.1, t.1.2.2, t.2.1.1, t.2.1.2, (t.2.2.length : Int)].length := by simp only [List.length_cons, List.length_nil]; omega
        obtain ⟨v, hv⟩ : ∃ v, [t.1.1, t.1.2.1, t.1.2.2, t.2.1.1, t.2.1.2, (t.2.2.length : Int)][y.toNat]? = some v := ⟨_, List.getElem?_eq_getElem hl⟩
        obtain ⟨rfl, rfl⟩ := g1 v a1 hv
        have ey : y = ((y.toNat : Nat) : Int) := by omega
        have := mL_note W M.2.2.1 hn (f := y.toNat) (Q := sp_mq 0 r Y) r hv M.ok
        rw [← ey] at this
        exact this
      · obtain ⟨rfl, rfl⟩ := g0 (by omega)
        exact M.fail (by decide)
    split
    · rename_i y0
      split
      · rename_i v hv
        refine go 0 v (fun v' _ hv' => by rw [hv] at hv'; cases hv'; exact ⟨rfl, rfl⟩) (fun hh => ?_)
        have := sp_lt hv
        simp only [List.length_cons, List.length_nil] at this
        omega
      · rename_i hv
        exact go 2 0 (fun v' _ hv' => by rw [hv] at hv'; cases hv') (fun _ => ⟨rfl, rfl⟩)
    · rename_i y0
      exact go 2 0 (fun v' hh => absurd hh y0) (fun _ => ⟨rfl, rfl⟩)
theorem mO_partner (h : sp_MR Y ms) {x y : Int} (hx : jj_r x) (hy : jj_r y) : so_partner x y Y fun k r Z => fM_partner x y (sp_mq k r Z) ms := by
  have W := h.1
  unfold so_partner
  cases hd : sp_ew Y.1 x y with
  | none =>
    intro m e
    have M := sp_M0.of h e
    exact mL_isWordOf M hx hy (fun d hd' => by rw [hd] at hd'; cases hd') (fun _ => ⟨⟨by decide, by decide⟩, fun c => absurd rfl c, fun _ => M.fail (by decide)⟩)
  | some t =>
    obtain ⟨d, w, b⟩ := t
    dsimp only
    obtain ⟨hed, i, rfl, hw, hb⟩ := sp_ew_some hd
    obtain ⟨n, rfl, hn⟩ := sp_ed_some hed
    have hi := sp_lt hw
    have h10 := (W.ed hn).2.1
    intro m e
    have M := sp_M0.of h e
    refine mL_isWordOf M hx hy (fun _ _ => ⟨⟨by decide, by decide⟩, fun _ => mL_align W M.2.2.1 hn fun m2 f2 hp => ⟨by omega, by omega, ?_⟩, fun c => absurd c (by decide)⟩) (fun hd' => by rw [hd] at hd'; cases hd')
    rw [Int.toNat_natCast, List.getD_eq_getElem?_getD, hp i hi]
    exact (M.fr f2).ok
theorem sp_ct_bd : ∀ (l : List Int), 0 ≤ sp_ct l ∧ sp_ct l ≤ l.length
  | [] => by simp [sp_ct]
  | a :: r => by
    have := sp_ct_bd r
    rw [sp_ct, List.length_cons]
    split <;> omega
theorem mO_partners (h : sp_MR Y ms) {x : Int} (hx : jj_r x) : so_partners x Y fun k r Z => fM_partners x (sp_mq k r Z) ms := by
  have W := h.1
  unfold so_partners
  cases hd : sp_ed Y.1 x with
  | none =>
    intro m e
    have M := sp_M0.of h e
    exact mL_isEdition M hx (fun d hd' => by rw [hd] at hd'; cases hd') (fun _ => ⟨⟨by decide, by decide⟩, fun c => absurd rfl c, fun _ => M.fail (by decide)⟩)
  | some d =>
    dsimp only
    obtain ⟨n, rfl, hn⟩ := sp_ed_some hd
    have h10 := (W.ed hn).2.1
    obtain ⟨hpl, hi, hhi, hinc, -⟩ := sp_pt_inc W hn
    intro m e
    have M := sp_M0.of h e
    refine mL_isEdition M hx (fun _ _ => ⟨⟨by decide, by decide⟩, fun _ => mL_align W M.2.2.1 hn fun m2 f2 hp => ?_, fun c => absurd c (by decide)⟩) (fun hd' => by rw [hd] at hd'; cases hd')
    have M2 := M.fr f2
    have loop : ∀ (N k : Nat) (s : Int), k ≤ d.1.length → d.1.length - k < N → s + sp_ct ((sp_pt Y.1 d).drop k) = sp_ct (sp_pt Y.1 d) → fM_partners_l28 n (sp_mq 0 (sp_ct (sp_pt Y.1 d)) Y) N s k m2 := by
      intro N
      induction N with
      | zero => intro k s _ h; exact absurd h (Nat.not_lt_zero _)
      | succ N ih =>
        intro k s hk hN hs
        refine mL_sizeOf W M2.2.2.1 hn ⟨jj_rn, jj_rn, fun c => ?_, fun c => ?_⟩
        · rw [List.drop_eq_nil_of_le (by omega)] at hs
          have : s = sp_ct (sp_pt Y.1 d) := by rw [← hs]; simp [sp_ct]
          subst this
          exact M2.ok
        · have hpk := hp k (by omega)
          rw [sp_drop hpk, sp_ct] at hs
          have hr := sp_inc_lt hinc hpk
          refine ⟨by omega, by omega, by rcases hr with g | g; (rw [g]; exact ⟨by decide, by decide⟩); exact ⟨by omega, by omega⟩, fun c2 v e v' e' => ?_, fun c2 v e v' e' => ?_⟩
          · subst e; subst e'
            rw [if_pos c2] at hs
            exact ih (k + 1) _ (by omega) (by omega) (by omega)
          · subst e; subst e'
            rw [if_neg c2] at hs
            exact ih (k + 1) _ (by omega) (by omega) (by omega)
    exact ⟨_, loop _ 0 0 (Nat.zero_le _) (Nat.lt_succ_self _) (by rw [List.drop_zero, Int.zero_add])⟩
theorem mO_anchor (h : sp_MR Y ms) {x y : Int} (hx : jj_r x) (hy : jj_r y) : so_anchor x y Y fun k r Z => fM_anchor x y (sp_mq k r Z) ms := by
  have W := h.1
  unfold so_anchor
  cases hd : sp_nt Y.1 x with
  | none =>
    intro m e
    have M := sp_M0.of h e
    exact mL_isNote M hx (fun d hd' => by rw [hd] at hd'; cases hd') (fun _ => ⟨⟨by decide, by decide⟩, fun c => absurd rfl c, fun _ => M.fail (by decide)⟩)
  | some t =>
    dsimp only
    obtain ⟨n, rfl, hn⟩ := sp_nt_some hd
    have h40 := W.2.2.1
    have hn40 := sp_lt hn
    have go : ∀ k r : Int, (y = 0 → k = 0 ∧ r = (sp_ac Y.1 t).1) → (y = 1 → k = 0 ∧ r = (sp_ac Y.1 t).2.1) → (y = 2 → k = 0 ∧ r = (sp_ac Y.1 t).2.2.1) → (y = 3 → k = 0 ∧ r = (sp_ac Y.1 t).2.2.2) → (y < 0 ∨ 3 < y → k = 2 ∧ r = 0) → fM_anchor n y (sp_mq k r Y) ms := by
      intro k r h0 h1 h2 h3 h4 m e
      have M := sp_M0.of h e
      refine mL_isNote M hx (fun _ _ => ⟨⟨by decide, by decide⟩, fun _ => mL_layAnchors W M.2.2.1 fun m2 f2 ha => ?_, fun c => absurd c (by decide)⟩) (fun hd' => by rw [hd] at hd'; cases hd')
      have M2 := M.fr f2
      have hat := ha n t hn
      refine ⟨hy, fun c => ⟨by omega, by omega, ?_⟩, fun c => ⟨by omega, by omega, ?_⟩, fun c => ⟨by omega, by omega, ?_⟩, fun c => ⟨by omega, by omega, ?_⟩, fun c => ?_⟩
      · obtain ⟨rfl, rfl⟩ := h0 c; rw [← hat]; exact M2.ok
      · obtain ⟨rfl, rfl⟩ := h1 c; rw [← hat]; exact M2.ok
      · obtain ⟨rfl, rfl⟩ := h2 c; rw [← hat]; exact M2.ok
      · obtain ⟨rfl, rfl⟩ := h3 c; rw [← hat]; exact M2.ok
      · obtain ⟨rfl, rfl⟩ := h4 c; exact M2.fail (by decide)
    repeat' split
    all_goals (refine go _ _ ?_ ?_ ?_ ?_ ?_ <;> intro hh <;> first | exact ⟨rfl, rfl⟩ | omega)
theorem mO_anchors (h : sp_MR Y ms) {x : Int} (hx : jj_r x) : so_anchors x Y fun k r Z => fM_anchors x (sp_mq k r Z) ms := by
  have W := h.1
  have h40 := W.2.2.1
  have go : ∀ k r : Int, (0 ≤ x ∧ x ≤ 3 → k = 0 ∧ r = sp_as Y.1 x Y.1.2.1.length) → (¬ (0 ≤ x ∧ x ≤ 3) → k = 1 ∧ r = 0) → fM_anchors x (sp_mq k r Y) ms := by
    intro k r g1 g0 m e
    have M := sp_M0.of h e
    refine mL_btw hx ⟨by decide, by decide⟩ ⟨by decide, by decide⟩ (fun a1 a2 => ⟨⟨by decide, by decide⟩, fun _ => mL_layAnchors W M.2.2.1 fun m2 f2 ha => ?_, fun c => absurd c (by decide)⟩) (fun a => ⟨⟨by decide, by decide⟩, fun c => absurd rfl c, fun _ => ?_⟩)
    · obtain ⟨rfl, rfl⟩ := g1 ⟨a1, a2⟩
      have M2 := M.fr f2
      have loop : ∀ (N k : Nat), k ≤ Y.1.2.1.length → Y.1.2.1.length - k < N → fM_anchors_l28 x (sp_mq 0 (sp_as Y.1 x Y.1.2.1.length) Y) N (sp_as Y.1 x k) k m2 := by
        intro N
        induction N with
        | zero => intro k _ h; exact absurd h (Nat.not_lt_zero _)
        | succ N ih =>
          intro k hk hN
          show jj_r k ∧ jj_r (m2.2 0 2) ∧ _
          rw [M2.2.2.1.2.2.1]
          refine ⟨jj_rn, jj_rn, fun c => ?_, fun c => ?_⟩
          · have : k = Y.1.2.1.length := by omega
            subst this
            exact M2.ok
          · obtain ⟨t, ht⟩ : ∃ t, Y.1.2.1[k]? = some t := ⟨Y.1.2.1[k]'(by omega), List.getElem?_eq_getElem _⟩
            have hat := ha k t ht
            have hB := sp_ac_B W ht
            unfold sp_acB at hB
            have e17 : m2.2 17 k = (sp_ac Y.1 t).1 := by rw [← hat]
            have es : sp_as Y.1 x (k + 1) = sp_as Y.1 x k + if (sp_ac Y.1 t).1 = x then 1 else 0 := by rw [sp_as, ht]
            have nxt := ih (k + 1) (by omega) (by omega)
            rw [es] at nxt
            rw [e17]
            refine ⟨by omega, by omega, ⟨by omega, by omega⟩, hx, fun c2 v e v' e' => ?_, fun c2 v e v' e' => ?_⟩
            · subst e; subst e'
              rw [if_neg c2] at nxt
              exact nxt
            · subst e; subst e'
              rw [if_pos c2] at nxt
              exact nxt
      exact ⟨_, loop _ 0 (Nat.zero_le _) (Nat.lt_succ_self _)⟩
    · obtain ⟨rfl, rfl⟩ := g0 a
      exact M.fail (by decide)
  unfold so_anchors
  split
  · rename_i c
    exact go _ _ (fun _ => ⟨rfl, rfl⟩) (fun h => absurd c h)
  · rename_i c
    exact go _ _ (fun h => absurd h c) (fun _ => ⟨rfl, rfl⟩)
theorem mO_areAlike (h : sp_MR Y ms) {x y : Int} (hx : jj_r x) (hy : jj_r y) : so_areAlike x y Y fun k r Z => fM_areAlike x y (sp_mq k r Z) ms := by
  have W := h.1
  have M0 : ∀ m, m = jj_mI ms 7 0 → sp_M0 Y m := fun m e => sp_M0.of h e
  have hM : sp_M0 Y (jj_mI ms 7 0) := M0 _ rfl
  -- the guards read what 'thrown' does not touch
  have isN : ∀ {z : Int} (_ : jj_r z) {Q : Int → jj_MS → Prop}, (∀ d, sp_nt Y.1 z = some d → Q 1 ms) → (sp_nt Y.1 z = none → Q 0 ms) → fM_isNote z Q ms := by
    intro z hz Q q1 q0
    have h3 := W.2.2.1
    have hb := sp_nt_bd (σ := Y.1) (x := z)
    show fM_isBetween z 0 (ms.2 0 2 - 1) (fun r4 ms3 => (r4 = 0 ∨ r4 = 1) ∧ Q r4 ms3) ms
    rw [h.2.1.2.2.1]
    refine mL_btw hz ⟨by decide, by decide⟩ ⟨by omega, by omega⟩ (fun h1 h2 => ⟨Or.inr rfl, ?_⟩) (fun h1 => ⟨Or.inl rfl, q0 ?_⟩)
    · cases he : sp_nt Y.1 z with
      | none => rw [he] at hb; exact absurd (hb.mpr ⟨h1, h2⟩) (by decide)
      | some d => exact q1 d he
    · cases he : sp_nt Y.1 z with
      | none => rfl
      | some d => rw [he] at hb; exact absurd (hb.mp rfl) h1
  have bad : (sp_nt Y.1 x = none ∨ sp_nt Y.1 y = none) → fM_areAlike x y (sp_mq 1 0 Y) ms := by
    intro hb
    have f21 : fM_areAlike_j21 x y (sp_mq 1 0 Y) ms := by
      intro m1 e1
      have h7 : m1.1 7 = 1 := by rw [e1, jj_mI_eq]
      rw [h7]
      refine ⟨⟨by decide, by decide⟩, fun c => absurd c (by decide), fun _ => ⟨h7, fun c => absurd c (by decide), h.cg fun f hf => by rw [e1]; exact ⟨jj_mI_ne hf.1, rfl⟩⟩⟩
    refine isN hx (fun d hd => ⟨⟨by decide, by decide⟩, fun c => absurd c (by decide), fun _ => isN hy (fun d' hd' => ?_) (fun _ => ⟨⟨by decide, by decide⟩, fun _ => f21, fun c => absurd rfl c⟩)⟩) (fun _ => ⟨⟨by decide, by decide⟩, fun _ => f21, fun c => absurd rfl c⟩)
    rcases hb with hb | hb
    · rw [hb] at hd; cases hd
    · rw [hb] at hd'; cases hd'
  unfold so_areAlike
  cases hnx : sp_nt Y.1 x with
  | none => exact bad (Or.inl hnx)
  | some s =>
    cases hny : sp_nt Y.1 y with
    | none => exact bad (Or.inr hny)
    | some t =>
      dsimp only
      obtain ⟨n, rfl, hn⟩ := sp_nt_some hnx
      obtain ⟨o, rfl, ho⟩ := sp_nt_some hny
      refine isN hx (fun d hd => ⟨⟨by decide, by decide⟩, fun c => absurd c (by decide), fun _ => isN hy (fun d' hd' => ⟨⟨by decide, by decide⟩, fun c => absurd c (by decide), fun _ m1 e1 => ?_⟩) (fun hh => by rw [hny] at hh; cases hh)⟩) (fun hh => by rw [hnx] at hh; cases hh)
      have M := sp_M0.of h e1
      rw [M.1, Int.toNat_natCast, Int.toNat_natCast]
      refine ⟨⟨by decide, by decide⟩, fun _ => mL_layAnchors W M.2.2.1 fun m2 f2 ha => mL_alike W (M.fr f2).2.2.1 hn ho (ha n s hn) (ha o t ho) (fun e => ⟨Or.inr rfl, ?_⟩) (fun e => ⟨Or.inl rfl, ?_⟩), fun c => absurd rfl c⟩
      · rw [e]; exact (M.fr f2).ok
      · rw [e]; exact (M.fr f2).ok
theorem mO_groupOf (h : sp_MR Y ms) {x : Int} (hx : jj_r x) : so_groupOf x Y fun k r Z => fM_groupOf x (sp_mq k r Z) ms := by
  have W := h.1
  unfold so_groupOf
  cases hd : sp_nt Y.1 x with
  | none =>
    intro m e
    have M := sp_M0.of h e
    exact mL_isNote M hx (fun d hd' => by rw [hd] at hd'; cases hd') (fun _ => ⟨⟨by decide, by decide⟩, fun c => absurd rfl c, fun _ => M.fail (by decide)⟩)
  | some t =>
    dsimp only
    obtain ⟨n, rfl, hn⟩ := sp_nt_some hd
    have h40 := W.2.2.1
    have hn40 := sp_lt hn
    intro m e
    have M := sp_M0.of h e
    refine mL_isNote M hx (fun _ _ => ⟨⟨by decide, by decide⟩, fun _ => mL_layGroups W M.2.2.1 fun m2 f2 L => ⟨by omega, by omega, ?_⟩, fun c => absurd c (by decide)⟩) (fun hd' => by rw [hd] at hd'; cases hd')
    obtain ⟨v, hv, -⟩ := sp_by_done (al := sp_al Y.1) (n := Y.1.2.1.length) Y.1.2.1.length (Nat.le_refl _) n hn40
    have e2 : m2.2 21 n = v := L.2.2.1 n v hv
    rw [e2, Int.toNat_natCast, List.getD_eq_getElem?_getD]
    have : (sp_gb Y.1).1[n]? = some v := hv
    rw [this]
    exact (M.fr f2).ok
theorem mO_group (h : sp_MR Y ms) {x y : Int} (hx : jj_r x) (hy : jj_r y) : so_group x y Y fun k r Z => fM_group x y (sp_mq k r Z) ms := by
  have W := h.1
  have hle := sp_gb_le W
  have go : ∀ k r : Int, (0 ≤ x ∧ x < (sp_gb Y.1).2 → (y = 0 → k = 0 ∧ r = (sp_gp Y.1 x).2.1) ∧ (y = 1 → k = 0 ∧ r = (sp_gp Y.1 x).1) ∧ (y = 2 → k = 0 ∧ r = (sp_gp Y.1 x).2.2.1) ∧ (y = 3 → k = 0 ∧ r = (sp_gp Y.1 x).2.2.2.1) ∧ (y = 4 → k = 0 ∧ r = (sp_gp Y.1 x).2.2.2.2.1) ∧ (y = 5 → k = 0 ∧ r = (sp_gp Y.1 x).2.2.2.2.2) ∧ (y < 0 ∨ 5 < y → k = 2 ∧ r = 0)) → (¬ (0 ≤ x ∧ x < (sp_gb Y.1).2) → k = 1 ∧ r = 0) → fM_group x y (sp_mq k r Y) ms := by
    intro k r g1 g0 m e
    have M := sp_M0.of h e
    refine mL_layGroups W M.2.2.1 fun m2 f2 L => ?_
    have M2 := M.fr f2
    show fM_isBetween x 0 (m2.1 28 - 1) (fun r2 ms1 => (r2 = 0 ∨ r2 = 1) ∧ _) m2
    rw [L.2.1]
    refine mL_btw hx ⟨by decide, by decide⟩ ⟨by omega, by omega⟩ (fun a1 a2 => ⟨Or.inr rfl, ⟨by decide, by decide⟩, fun _ => ?_, fun c => absurd c (by decide)⟩) (fun a => ⟨Or.inl rfl, ⟨by decide, by decide⟩, fun c => absurd rfl c, fun _ => ?_⟩)
    · obtain ⟨h0, h1, h2, h3, h4, h5, h6⟩ := g1 ⟨a1, by omega⟩
      have ex : x = ((x.toNat : Nat) : Int) := by omega
      obtain ⟨b0, b1, b2, b3, b4, b5⟩ := L.2.2.2 x.toNat (by omega)
      rw [← ex] at b0 b1 b2 b3 b4 b5
      obtain ⟨j, j1, j2⟩ := sp_by_ex (al := sp_al Y.1) (n := Y.1.2.1.length) Y.1.2.1.length (Nat.le_refl _) x.toNat (by have : (sp_gb Y.1).2 = (sp_by (sp_al Y.1) Y.1.2.1.length Y.1.2.1.length).2 := rfl; omega)
      rw [← ex] at j2
      have hne := sp_gs_ex W (by' := (sp_gb Y.1).1) j2 _ (Nat.le_refl _) j1
      refine ⟨hy, fun c => ⟨by omega, by omega, ?_⟩, fun c => ⟨by omega, by omega, ?_⟩, fun c => ⟨by omega, by omega, ?_⟩, fun c => ⟨by omega, by omega, ?_⟩, fun c => ⟨by omega, by omega, ?_⟩, fun c => ⟨by omega, by omega, ?_⟩, fun c => ?_⟩
      · obtain ⟨rfl, rfl⟩ := h0 c; rw [b1]; exact M2.ok
      · obtain ⟨rfl, rfl⟩ := h1 c; rw [b0]; exact M2.ok
      · obtain ⟨rfl, rfl⟩ := h2 c; rw [b2]; exact M2.ok
      · obtain ⟨rfl, rfl⟩ := h3 c; rw [b3]; exact M2.ok
      · obtain ⟨rfl, rfl⟩ := h4 c; rw [b4]; exact M2.ok
      · obtain ⟨rfl, rfl⟩ := h5 c; rw [b5 hne]; exact M2.ok
      · obtain ⟨rfl, rfl⟩ := h6 c; exact M2.fail (by decide)
    · obtain ⟨rfl, rfl⟩ := g0 (by omega)
      exact M2.fail (by decide)
  unfold so_group
  split
  · rename_i c
    repeat' split
    all_goals (refine go _ _ (fun _ => ⟨?_, ?_, ?_, ?_, ?_, ?_, ?_⟩) (fun h => absurd c h) <;> intro hh <;> first | exact ⟨rfl, rfl⟩ | omega)
  · rename_i c
    exact go _ _ (fun h => absurd h c) (fun _ => ⟨rfl, rfl⟩)
theorem mO_strongest (h : sp_MR Y ms) : so_strongest Y fun k r Z => fM_strongestGroup (sp_mq k r Z) ms := fun m e => by
  have W := h.1
  have M := sp_M0.of h e
  exact mL_layGroups W M.2.2.1 fun m2 f2 L => mL_strongestGroup W L (M.fr f2).ok
theorem sp_aim_some {σ : sp_S} (W : sp_WF σ) {d : sp_E} (h : sp_aim σ = some d) : ∃ t : Nat, σ.2.2.2.1 = t ∧ σ.1[t]? = some d := ⟨σ.2.2.2.1.toNat, by have := W.2.2.2.2.2.2.2.1; omega, h⟩
theorem sp_aim_none {σ : sp_S} (W : sp_WF σ) (h : sp_aim σ = none) : σ.1 = [] := by
  unfold sp_aim at h
  have h1 := W.2.2.2.2.2.2.2.1
  have h2 := List.getElem?_eq_none_iff.mp h
  rcases W.2.2.2.2.2.2.2.2.1 with g | g
  · omega
  · exact g.1
theorem mL_isTargetWord (M : sp_M0 Y ms) {x : Int} (hx : jj_r x) {Q : Int → jj_MS → Prop} (q1 : ∀ d, sp_aim Y.1 = some d → 0 ≤ x → x < d.1.length → Q 1 ms) (q0 : (∀ d, sp_aim Y.1 = some d → ¬ (0 ≤ x ∧ x < d.1.length)) → Q 0 ms) : fM_isTargetWord x Q ms := by
  have W := M.2.1
  have h3 := W.1
  refine mL_editions M ⟨jj_rn, fun c => q0 (fun d hd => ?_), fun c => mL_target M.2.2.1 ?_⟩
  · obtain ⟨t, -, ht⟩ := sp_aim_some W hd
    have := sp_lt ht
    omega
  · cases hd : sp_aim Y.1 with
    | none => rw [sp_aim_none W hd] at c; exact absurd (by decide) c
    | some d =>
      obtain ⟨t, ht, hdt⟩ := sp_aim_some W hd
      have ht3 := sp_lt hdt
      have hed := W.ed hdt
      have h1 := hed.2.1
      have h2 := hed.2.2.1
      rw [ht]
      have hedd : sp_ed Y.1 (t : Int) = some d := by unfold sp_ed; rw [if_pos (by omega), Int.toNat_natCast]; exact hdt
      refine mL_isWordOf M ⟨by omega, by omega⟩ hx (fun z hz => ⟨⟨by decide, by decide⟩, fun c => absurd c (by decide), fun _ => ?_⟩) (fun hz => ⟨⟨by decide, by decide⟩, fun _ => q0 (fun d' hd' g => ?_), fun c => absurd rfl c⟩)
      · obtain ⟨d', w, b⟩ := z
        obtain ⟨e1, i, rfl, e2, -⟩ := sp_ew_some hz
        rw [hedd] at e1
        cases e1
        have := sp_lt e2
        exact q1 d hd (by omega) (by omega)
      · rw [hd] at hd'
        cases hd'
        unfold sp_ew at hz
        rw [hedd] at hz
        dsimp only at hz
        rw [if_pos g.1, List.getElem?_eq_getElem (by omega), List.getElem?_eq_getElem (by omega)] at hz
        cases hz
theorem mO_heat (h : sp_MR Y ms) {x : Int} (hx : jj_r x) : so_heat x Y fun k r Z => fM_heat x (sp_mq k r Z) ms := by
  have W := h.1
  have go : ∀ k r : Int, (∀ d, sp_aim Y.1 = some d → 0 ≤ x → x < d.1.length → k = 0 ∧ r = sp_heat Y.1 x) → ((∀ d, sp_aim Y.1 = some d → ¬ (0 ≤ x ∧ x < d.1.length)) → k = 1 ∧ r = 0) → fM_heat x (sp_mq k r Y) ms := by
    intro k r g1 g0 m e
    have M := sp_M0.of h e
    refine mL_isTargetWord M hx (fun d hd a1 a2 => ⟨⟨by decide, by decide⟩, fun _ => mL_layAnchors W M.2.2.1 fun m2 f2 ha => mL_heatOf W (M.fr f2).2.2.1 ha hx ?_, fun c => absurd c (by decide)⟩) (fun a => ⟨⟨by decide, by decide⟩, fun c => absurd rfl c, fun _ => ?_⟩)
    · obtain ⟨rfl, rfl⟩ := g1 d hd a1 a2
      exact (M.fr f2).ok
    · obtain ⟨rfl, rfl⟩ := g0 a
      exact M.fail (by decide)
  unfold so_heat
  cases hd : sp_aim Y.1 with
  | none => exact go 1 0 (fun d hd' => by rw [hd] at hd'; cases hd') (fun _ => ⟨rfl, rfl⟩)
  | some d =>
    dsimp only
    split
    · rename_i c
      exact go _ _ (fun _ _ _ _ => ⟨rfl, rfl⟩) (fun hh => absurd c (hh d hd))
    · rename_i c
      exact go _ _ (fun d' hd' a1 a2 => by rw [hd] at hd'; cases hd'; exact absurd ⟨a1, a2⟩ c) (fun _ => ⟨rfl, rfl⟩)
end MO3
