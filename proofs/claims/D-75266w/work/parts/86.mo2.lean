/-! OPERATIONS that only ask -/
def sp_ct : List Int → Int
  | [] => 0
  | a :: r => (if a = -1 then 0 else 1) + sp_ct r
def so_partner (x y : Int) (Y : sp_Y) (K : Int → Int → sp_Y → Prop) : Prop := match sp_ew Y.1 x y with
  | none => K 1 0 Y
  | some z => K 0 ((sp_pt Y.1 z.1).getD y.toNat (-1)) Y
def so_partners (x : Int) (Y : sp_Y) (K : Int → Int → sp_Y → Prop) : Prop := match sp_ed Y.1 x with
  | none => K 1 0 Y
  | some d => K 0 (sp_ct (sp_pt Y.1 d)) Y
def so_anchor (x y : Int) (Y : sp_Y) (K : Int → Int → sp_Y → Prop) : Prop := match sp_nt Y.1 x with
  | none => K 1 0 Y
  | some t => if y = 0 then K 0 (sp_ac Y.1 t).1 Y else if y = 1 then K 0 (sp_ac Y.1 t).2.1 Y else if y = 2 then K 0 (sp_ac Y.1 t).2.2.1 Y else if y = 3 then K 0 (sp_ac Y.1 t).2.2.2 Y else K 2 0 Y
def sp_as (σ : sp_S) (x : Int) : Nat → Int
  | 0 => 0
  | k + 1 => sp_as σ x k + match σ.2.1[k]? with | some t => if (sp_ac σ t).1 = x then 1 else 0 | none => 0
def so_anchors (x : Int) (Y : sp_Y) (K : Int → Int → sp_Y → Prop) : Prop := if 0 ≤ x ∧ x ≤ 3 then K 0 (sp_as Y.1 x Y.1.2.1.length) Y else K 1 0 Y
def so_areAlike (x y : Int) (Y : sp_Y) (K : Int → Int → sp_Y → Prop) : Prop := match sp_nt Y.1 x, sp_nt Y.1 y with
  | some _, some _ => K 0 (if sp_al Y.1 x.toNat y.toNat = true then 1 else 0) Y
  | _, _ => K 1 0 Y
def so_groupOf (x : Int) (Y : sp_Y) (K : Int → Int → sp_Y → Prop) : Prop := match sp_nt Y.1 x with
  | none => K 1 0 Y
  | some _ => K 0 ((sp_gb Y.1).1.getD x.toNat (-1)) Y
def so_group (x y : Int) (Y : sp_Y) (K : Int → Int → sp_Y → Prop) : Prop := if 0 ≤ x ∧ x < (sp_gb Y.1).2 then (if y = 0 then K 0 (sp_gp Y.1 x).2.1 Y else if y = 1 then K 0 (sp_gp Y.1 x).1 Y else if y = 2 then K 0 (sp_gp Y.1 x).2.2.1 Y else if y = 3 then K 0 (sp_gp Y.1 x).2.2.2.1 Y else if y = 4 then K 0 (sp_gp Y.1 x).2.2.2.2.1 Y else if y = 5 then K 0 (sp_gp Y.1 x).2.2.2.2.2 Y else K 2 0 Y) else K 1 0 Y
def so_strongest (Y : sp_Y) (K : Int → Int → sp_Y → Prop) : Prop := K 0 (sp_st Y.1 (sp_gb Y.1).2) Y
def sp_aim (σ : sp_S) : Option sp_E := σ.1[σ.2.2.2.1.toNat]?
def so_heat (x : Int) (Y : sp_Y) (K : Int → Int → sp_Y → Prop) : Prop := match sp_aim Y.1 with
  | none => K 1 0 Y
  | some d => if 0 ≤ x ∧ x < d.1.length then K 0 (sp_heat Y.1 x) Y else K 1 0 Y
def so_hottest (Y : sp_Y) (K : Int → Int → sp_Y → Prop) : Prop := match sp_aim Y.1 with
  | none => K 0 (-1) Y
  | some d => ∀ b, sp_hot Y.1 d b → K 0 b Y
def so_marginGroups (x : Int) (Y : sp_Y) (K : Int → Int → sp_Y → Prop) : Prop := match sp_aim Y.1 with
  | none => K 1 0 Y
  | some d => if 0 ≤ x ∧ x < sp_pages d then K 0 (sp_mg Y.1 d x).2.1 Y else K 1 0 Y
def so_marginRow (x y : Int) (Y : sp_Y) (K : Int → Int → sp_Y → Prop) : Prop := match sp_aim Y.1 with
  | none => K 1 0 Y
  | some d => if 0 ≤ x ∧ x < sp_pages d ∧ 0 ≤ y ∧ y < d.2.2.2 then K 0 ((sp_mg Y.1 d x).1.getD y.toNat (-1)) Y else K 1 0 Y
def sp_ovf (σ : sp_S) (d : sp_E) : Nat → Int
  | 0 => 0
  | p + 1 => sp_ovf σ d p + (sp_mg σ d p).2.2
def so_overflows (Y : sp_Y) (K : Int → Int → sp_Y → Prop) : Prop := match sp_aim Y.1 with
  | none => K 0 0 Y
  | some d => K 0 (sp_ovf Y.1 d (sp_pages d).toNat) Y
def so_write (x : Int) (Y : sp_Y) (K : Int → Int → sp_Y → Prop) : Prop := match sp_aim Y.1 with
  | none => K 1 0 Y
  | some d => if 0 ≤ x ∧ x < (sp_gb Y.1).2 then K 0 (sp_out Y.1 d x.toNat).length (Y.1, Y.2.1, Y.2.2.1, sp_out Y.1 d x.toNat, Y.2.2.2.2) else K 1 0 Y
def so_outputByte (x : Int) (Y : sp_Y) (K : Int → Int → sp_Y → Prop) : Prop := if 0 ≤ x then K 0 (Y.2.2.2.1.getD x.toNat (-1)) Y else K 1 0 Y
section MO2
variable {Y : sp_Y} {ms : jj_MS}
theorem mO_errc (h : sp_MR Y ms) : so_errc Y fun k r Z => fM_errorCode (sp_mq k r Z) ms := fun m e => by
  have M := sp_M0.of h e
  rw [M.2.2.2.2.1.1]
  exact M.ok
theorem mO_errp (h : sp_MR Y ms) : so_errp Y fun k r Z => fM_errorPosition (sp_mq k r Z) ms := fun m e => by
  have M := sp_M0.of h e
  rw [M.2.2.2.2.1.2]
  exact M.ok
theorem mO_count (h : sp_MR Y ms) {x : Int} (hx : jj_r x) : so_count x Y fun k r Z => fM_count x (sp_mq k r Z) ms := by
  have W := h.1
  have go : ∀ k r : Int, (x = 0 → k = 0 ∧ r = Y.1.1.length) → (x = 1 → k = 0 ∧ r = Y.1.2.2.1.length) → (x = 2 → k = 0 ∧ r = Y.1.2.1.length) → (x = 3 → k = 0 ∧ r = (sp_gb Y.1).2) → (x = 4 → k = 0 ∧ r = Y.1.2.2.2.2) → (x = 5 → k = 0 ∧ r = if Y.1.1 = [] then -1 else Y.1.2.2.2.1) → (x < 0 ∨ 5 < x → k = 1) → (k ≠ 0 → r = 0) → fM_count x (sp_mq k r Y) ms := by
    intro k r h0 h1 h2 h3 h4 h5 h6 h7 m e
    have M := sp_M0.of h e
    obtain ⟨r0, r1, r2, r3, r4, -⟩ := M.2.2.1
    refine ⟨hx, fun c => ⟨by omega, by omega, ?_⟩, fun c => ⟨by omega, by omega, ?_⟩, fun c => ⟨by omega, by omega, ?_⟩, fun c => mL_layGroups W M.2.2.1 fun m2 f2 L => ?_, fun c => ?_, fun c => mL_editions M ⟨by have := W.1; exact ⟨by omega, by omega⟩, fun c2 => mL_target M.2.2.1 ?_, fun c2 => ?_⟩, fun c => ?_⟩
    · obtain ⟨rfl, rfl⟩ := h0 c
      subst c
      show sp_mq 0 _ Y (m.2 0 0) m
      rw [r0]; exact M.ok
    · obtain ⟨rfl, rfl⟩ := h1 c
      subst c
      show sp_mq 0 _ Y (m.2 0 1) m
      rw [r1]; exact M.ok
    · obtain ⟨rfl, rfl⟩ := h2 c
      subst c
      show sp_mq 0 _ Y (m.2 0 2) m
      rw [r2]; exact M.ok
    · obtain ⟨rfl, rfl⟩ := h3 c
      rw [L.2.1]; exact (M.fr f2).ok
    · obtain ⟨rfl, rfl⟩ := h4 c
      rw [r3]; exact M.ok
    · obtain ⟨rfl, rfl⟩ := h5 c
      rw [if_neg (fun h => by rw [h] at c2; exact c2 rfl)]
      exact M.ok
    · obtain ⟨rfl, rfl⟩ := h5 c
      have : Y.1.1 = [] := List.length_eq_zero_iff.mp (by omega)
      rw [if_pos this]
      exact M.ok
    · have hk := h6 c
      subst hk
      rw [h7 (by decide)]
      exact M.fail (by decide)
  unfold so_count
  split
  · rename_i c; subst c; exact go 0 _ (fun _ => ⟨rfl, rfl⟩) (by omega) (by omega) (by omega) (by omega) (by omega) (by omega) (fun h => absurd rfl h)
  split
  · rename_i c; subst c; exact go 0 _ (by omega) (fun _ => ⟨rfl, rfl⟩) (by omega) (by omega) (by omega) (by omega) (by omega) (fun h => absurd rfl h)
  split
  · rename_i c; subst c; exact go 0 _ (by omega) (by omega) (fun _ => ⟨rfl, rfl⟩) (by omega) (by omega) (by omega) (by omega) (fun h => absurd rfl h)
  split
  · rename_i c; subst c; exact go 0 _ (by omega) (by omega) (by omega) (fun _ => ⟨rfl, rfl⟩) (by omega) (by omega) (by omega) (fun h => absurd rfl h)
  split
  · rename_i c; subst c; exact go 0 _ (by omega) (by omega) (by omega) (by omega) (fun _ => ⟨rfl, rfl⟩) (by omega) (by omega) (fun h => absurd rfl h)
  split
  · rename_i c; subst c
    split
    · rename_i c2; exact go 0 _ (by omega) (by omega) (by omega) (by omega) (by omega) (fun _ => ⟨rfl, (if_pos c2).symm⟩) (by omega) (fun h => absurd rfl h)
    · rename_i c2; exact go 0 _ (by omega) (by omega) (by omega) (by omega) (by omega) (fun _ => ⟨rfl, (if_neg c2).symm⟩) (by omega) (fun h => absurd rfl h)
  · exact go 1 0 (by omega) (by omega) (by omega) (by omega) (by omega) (by omega) (fun _ => rfl) (fun _ => rfl)
theorem mO_edition (h : sp_MR Y ms) {x y : Int} (hx : jj_r x) (hy : jj_r y) : so_edition x y Y fun k r Z => fM_edition x y (sp_mq k r Z) ms := by
  have W := h.1
  unfold so_edition
  have bad : sp_ed Y.1 x = none → fM_edition x y (sp_mq 1 0 Y) ms := fun hd m e => by
    have M := sp_M0.of h e
    exact mL_isEdition M hx (fun d hd' => by rw [hd] at hd'; cases hd') (fun _ => ⟨⟨by decide, by decide⟩, fun c => absurd rfl c, fun _ => M.fail (by decide)⟩)
  have good : ∀ d, sp_ed Y.1 x = some d → ∀ k r : Int, (y = 0 → k = 0 ∧ r = d.1.length) → (y = 1 → k = 0 ∧ r = sp_lines d) → (y = 2 → k = 0 ∧ r = sp_pages d) → (y = 3 → k = 0 ∧ r = d.2.2.1) → (y = 4 → k = 0 ∧ r = d.2.2.2) → (y < 0 ∨ 4 < y → k = 2 ∧ r = 0) → fM_edition x y (sp_mq k r Y) ms := by
    intro d hd k r h0 h1 h2 h3 h4 h5 m e
    have M := sp_M0.of h e
    obtain ⟨n, rfl, hn⟩ := sp_ed_some hd
    refine mL_isEdition M hx (fun d' hd' => ⟨⟨by decide, by decide⟩, fun _ => mL_layOut W M.2.2.1 hn fun m2 f2 L => ?_, fun c => absurd c (by decide)⟩) (fun hd' => by rw [hd] at hd'; cases hd')
    have M2 := M.fr f2
    have L : sp_LO d m2 := L
    refine ⟨hy, fun c => mL_sizeOf W M2.2.2.1 hn ?_, fun c => mL_linesOf W M2.2.2.1 hn L ?_, fun c => mL_pagesOf W M2.2.2.1 hn L ?_, fun c => mL_width W M2.2.2.1 hn ?_, fun c => mL_lines W M2.2.2.1 hn ?_, fun c => ?_⟩
    · obtain ⟨rfl, rfl⟩ := h0 c; exact M2.ok
    · obtain ⟨rfl, rfl⟩ := h1 c; exact M2.ok
    · obtain ⟨rfl, rfl⟩ := h2 c; exact M2.ok
    · obtain ⟨rfl, rfl⟩ := h3 c; exact M2.ok
    · obtain ⟨rfl, rfl⟩ := h4 c; exact M2.ok
    · obtain ⟨rfl, rfl⟩ := h5 c; exact M2.fail (by decide)
  cases hd : sp_ed Y.1 x with
  | none => exact bad hd
  | some d =>
    dsimp only
    repeat' split
    all_goals (refine good d hd _ _ ?_ ?_ ?_ ?_ ?_ ?_ <;> intro hh <;> first | exact ⟨rfl, rfl⟩ | omega)
theorem mO_word (h : sp_MR Y ms) {x y z : Int} (hx : jj_r x) (hy : jj_r y) (hz : jj_r z) : so_word x y z Y fun k r Z => fM_word x y z (sp_mq k r Z) ms := by
  have W := h.1
  unfold so_word
  have good : ∀ d w b, sp_ew Y.1 x y = some (d, w, b) → ∀ k r : Int, (z = 0 → k = 0 ∧ r = sp_pg d y.toNat) → (z = 1 → k = 0 ∧ r = (sp_lay d y.toNat).1 % d.2.2.2) → (z = 2 → k = 0 ∧ r = (sp_lay d y.toNat).2.1) → (z = 3 → k = 0 ∧ r = (sp_lay d y.toNat).2.2) → (z = 4 → k = 0 ∧ r = w.length) → (z = 5 → k = 0 ∧ r = if b = true then 1 else 0) → (z < 0 ∨ 5 < z → k = 2 ∧ r = 0) → fM_word x y z (sp_mq k r Y) ms := by
    intro d w b hd k r h0 h1 h2 h3 h4 h5 h6 m e
    have M := sp_M0.of h e
    obtain ⟨hed, i, rfl, hw, hb⟩ := sp_ew_some hd
    obtain ⟨n, rfl, hn⟩ := sp_ed_some hed
    have ho := W.ed hn
    have h9 := ho.2.2.2.2.2.2.2
    have h10 := ho.2.1
    have hi := sp_lt hw
    have hlb := sp_lay_bd ho i
    refine mL_isWordOf M hx hy (fun _ _ => ⟨⟨by decide, by decide⟩, fun _ => mL_layOut W M.2.2.1 hn fun m2 f2 L => ?_, fun c => absurd c (by decide)⟩) (fun hd' => by rw [hd] at hd'; cases hd')
    have M2 := M.fr f2
    obtain ⟨l1, l2, l3⟩ := L i hi
    rw [Int.toNat_natCast] at h0 h1 h2 h3
    refine ⟨hz, fun c => ⟨by omega, by omega, mL_lines W M2.2.2.1 hn ⟨⟨⟨by omega, by omega⟩, by omega⟩, ?_⟩⟩, fun c => ⟨by omega, by omega, mL_lines W M2.2.2.1 hn ⟨⟨⟨by omega, by omega⟩, by omega⟩, ?_⟩⟩, fun c => ⟨by omega, by omega, ?_⟩, fun c => ⟨by omega, by omega, ?_⟩, fun c => mL_wordOf W M2.2.2.1 hn hw (mL_lettersOf (W.wd hn hw) ?_), fun c => mL_begins W M2.2.2.1 hn hb ⟨?_, fun c2 => ?_, fun c2 => ?_⟩, fun c => ?_⟩
    · obtain ⟨rfl, rfl⟩ := h0 c
      rw [l1, jj_divn (by omega) (by omega) (by omega) (by omega)]
      exact M2.ok
    · obtain ⟨rfl, rfl⟩ := h1 c
      rw [l1, jj_remn (by omega) (by omega) (by omega) (by omega)]
      exact M2.ok
    · obtain ⟨rfl, rfl⟩ := h2 c; rw [l2]; exact M2.ok
    · obtain ⟨rfl, rfl⟩ := h3 c; rw [l3]; exact M2.ok
    · obtain ⟨rfl, rfl⟩ := h4 c; exact M2.ok
    · split <;> exact ⟨by decide, by decide⟩
    · obtain ⟨rfl, rfl⟩ := h5 c; rw [c2]; exact M2.ok
    · obtain ⟨rfl, rfl⟩ := h5 c
      have : (if b = true then (1 : Int) else 0) = 1 := by
        cases b
        · exact absurd rfl c2
        · rfl
      rw [this]
      exact M2.ok
    · obtain ⟨rfl, rfl⟩ := h6 c; exact M2.fail (by decide)
  cases hd : sp_ew Y.1 x y with
  | none =>
    intro m e
    have M := sp_M0.of h e
    exact mL_isWordOf M hx hy (fun d hd' => by rw [hd] at hd'; cases hd') (fun _ => ⟨⟨by decide, by decide⟩, fun c => absurd rfl c, fun _ => M.fail (by decide)⟩)
  | some t =>
    obtain ⟨d, w, b⟩ := t
    dsimp only
    repeat' split
    all_goals (refine good d w b hd _ _ ?_ ?_ ?_ ?_ ?_ ?_ ?_ <;> intro hh <;> first | exact ⟨rfl, rfl⟩ | omega | (simp_all))
theorem mO_letter (h : sp_MR Y ms) {x y z : Int} (hx : jj_r x) (hy : jj_r y) (hz : jj_r z) : so_letter x y z Y fun k r Z => fM_letter x y z (sp_mq k r Z) ms := by
  have W := h.1
  unfold so_letter
  cases hd : sp_ew Y.1 x y with
  | none =>
    intro m e
    have M := sp_M0.of h e
    exact mL_isWordOf M hx hy (fun d hd' => by rw [hd] at hd'; cases hd') (fun _ => ⟨⟨by decide, by decide⟩, fun _ => M.fail (by decide), fun c => absurd rfl c⟩)
  | some t =>
    obtain ⟨d, w, b⟩ := t
    dsimp only
    obtain ⟨hed, i, rfl, hw, hb⟩ := sp_ew_some hd
    obtain ⟨n, rfl, hn⟩ := sp_ed_some hed
    have okw := W.wd hn hw
    have h8 := okw.2.1
    have go : ∀ k r : Int, (∀ c, 0 ≤ z → w[z.toNat]? = some c → k = 0 ∧ r = c) → ((z < 0 ∨ (w.length : Int) ≤ z) → k = 1 ∧ r = 0) → fM_letter n i z (sp_mq k r Y) ms := by
      intro k r g1 g0 m e
      have M := sp_M0.of h e
      refine mL_isWordOf M hx hy (fun _ _ => ⟨⟨by decide, by decide⟩, fun c => absurd c (by decide), fun _ => mL_wordOf W M.2.2.1 hn hw (mL_lettersOf okw (mL_btw hz ⟨by decide, by decide⟩ ⟨by omega, by omega⟩ (fun a1 a2 => ⟨⟨by decide, by decide⟩, fun _ => mL_wordOf W M.2.2.1 hn hw ?_, fun c => absurd c (by decide)⟩) (fun a => ⟨⟨by decide, by decide⟩, fun c => absurd rfl c, fun _ => ?_⟩)))⟩) (fun hd' => by rw [hd] at hd'; cases hd')
      · obtain ⟨c, hc⟩ : ∃ c, w[z.toNat]? = some c := ⟨w[z.toNat]'(by omega), List.getElem?_eq_getElem _⟩
        obtain ⟨rfl, rfl⟩ := g1 c a1 hc
        have ez : z = ((z.toNat : Nat) : Int) := by omega
        rw [ez]
        exact mL_letterOf okw hc M.ok
      · obtain ⟨rfl, rfl⟩ := g0 (by omega)
        exact M.fail (by decide)
    split
    · rename_i z0
      split
      · rename_i c hc
        exact go 0 c (fun c' _ hc' => by rw [hc] at hc'; cases hc'; exact ⟨rfl, rfl⟩) (fun hh => by have := sp_lt hc; omega)
      · rename_i hc
        exact go 1 0 (fun c' _ hc' => by rw [hc] at hc'; cases hc') (fun _ => ⟨rfl, rfl⟩)
    · rename_i z0
      exact go 1 0 (fun c' hh => absurd hh z0) (fun _ => ⟨rfl, rfl⟩)
end MO2
