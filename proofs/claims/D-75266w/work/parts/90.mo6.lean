/-! OPERATIONS: paragraphs, text, saved states -/
section MO6
variable {Y : sp_Y} {ms : jj_MS}
theorem mL_editionsR (h : sp_MR Y ms) {Q : Int → jj_MS → Prop} (q : Q Y.1.1.length ms) : fM_editions Q ms := by
  show Q (ms.2 0 0) ms
  rw [h.2.1.1]
  exact q
theorem mL_isEditionR (h : sp_MR Y ms) {x : Int} (hx : jj_r x) {Q : Int → jj_MS → Prop} (q1 : ∀ d, sp_ed Y.1 x = some d → Q 1 ms) (q0 : sp_ed Y.1 x = none → Q 0 ms) : fM_isEdition x Q ms := by
  have h3 := h.1.1
  have hb := sp_ed_bd (σ := Y.1) (x := x)
  refine mL_editionsR h (mL_btw hx ⟨by decide, by decide⟩ ⟨by omega, by omega⟩ (fun h1 h2 => ⟨Or.inr rfl, ?_⟩) (fun h1 => ⟨Or.inl rfl, q0 ?_⟩))
  · cases he : sp_ed Y.1 x with
    | none => rw [he] at hb; exact absurd (hb.mpr ⟨h1, h2⟩) (by decide)
    | some d => exact q1 d he
  · cases he : sp_ed Y.1 x with
    | none => rfl
    | some d => rw [he] at hb; exact absurd (hb.mp rfl) h1
theorem mL_isWordOfR (h : sp_MR Y ms) {x y : Int} (hx : jj_r x) (hy : jj_r y) {Q : Int → jj_MS → Prop} (q1 : ∀ z, sp_ew Y.1 x y = some z → Q 1 ms) (q0 : sp_ew Y.1 x y = none → Q 0 ms) : fM_isWordOf x y Q ms := by
  have W := h.1
  refine mL_isEditionR h hx (fun d hd => ⟨⟨by decide, by decide⟩, fun c => absurd c (by decide), fun _ => ?_⟩) (fun hd => ⟨⟨by decide, by decide⟩, fun _ => q0 ?_, fun c => absurd rfl c⟩)
  · obtain ⟨e, rfl, he⟩ := sp_ed_some hd
    have hed := W.ed he
    have h1 := hed.2.1
    have h2 := hed.2.2.1
    refine mL_sizeOf W h.2.1 he (mL_btw hy ⟨by decide, by decide⟩ ⟨by omega, by omega⟩ (fun g1 g2 => ⟨⟨by decide, by decide⟩, fun c => absurd c (by decide), fun _ => ?_⟩) (fun g => ⟨⟨by decide, by decide⟩, fun _ => q0 ?_, fun c => absurd rfl c⟩))
    · refine q1 (d, d.1[y.toNat]'(by omega), d.2.1[y.toNat]'(by omega)) ?_
      unfold sp_ew
      rw [hd]
      dsimp only
      rw [if_pos g1, List.getElem?_eq_getElem (by omega), List.getElem?_eq_getElem (by omega)]
    · unfold sp_ew
      rw [hd]
      dsimp only
      by_cases g1 : 0 ≤ y
      · rw [if_pos g1, List.getElem?_eq_none (by omega)]
      · rw [if_neg g1]
  · unfold sp_ew
    rw [hd]
theorem mO_setParagraph (h : sp_MR Y ms) {x y : Int} {b : Bool} (hx : jj_r x) (hy : jj_r y) : so_setParagraph x y b Y fun k r Z => fM_setParagraph x y (if b = true then 1 else 0) (sp_mq k r Z) ms := by
  have W := h.1
  have bad : fM_setParagraph_j18 x y (if b = true then 1 else 0) (sp_mq 1 0 Y) ms := by
    intro m1 e1
    have h7 : m1.1 7 = 1 := by rw [e1, jj_mI_eq]
    rw [h7]
    exact ⟨⟨by decide, by decide⟩, fun c => absurd c (by decide), fun _ => ⟨h7, fun c => absurd c (by decide), h.cg fun f hf => by rw [e1]; exact ⟨jj_mI_ne hf.1, rfl⟩⟩⟩
  unfold so_setParagraph
  cases hd : sp_ew Y.1 x y with
  | none => exact mL_isWordOfR h hx hy (fun z hz => by rw [hd] at hz; cases hz) (fun _ => ⟨⟨by decide, by decide⟩, fun _ => bad, fun c => absurd rfl c⟩)
  | some z =>
    obtain ⟨d, w, was⟩ := z
    dsimp only
    split
    · rename_i c
      refine mL_isWordOfR h hx hy (fun _ _ => ⟨⟨by decide, by decide⟩, fun c => absurd c (by decide), fun _ => ⟨hy, fun c2 => absurd c2 (by omega), fun _ m1 e1 => ?_⟩⟩) (fun hh => by rw [hd] at hh; cases hh)
      have M := sp_M0.of h e1
      rw [M.1]
      obtain ⟨hed, i, rfl, hw, hb⟩ := sp_ew_some hd
      obtain ⟨n, rfl, hn⟩ := sp_ed_some hed
      have hn3 := sp_lt hn
      have h3 := W.1
      have hi := sp_lt hw
      have okd := W.ed hn
      have h9 := okd.2.1
      have h10 := okd.2.2.1
      rw [Int.toNat_natCast, Int.toNat_natCast]
      have okd' : sp_okE (d.1, d.2.1.set i b, d.2.2) := ⟨okd.1, okd.2.1, by dsimp only; rw [List.length_set]; exact h10, by dsimp only; rw [List.getElem?_set_ne (by omega)]; exact okd.2.2.2.1, okd.2.2.2.2.1, okd.2.2.2.2.2⟩
      have W2 := W.set hn okd' rfl
      obtain ⟨a1, a2, a3, a4, a5⟩ := M.2.2.1.2.2.2.2.2.1 n d hn
      have fin : ∀ (m6 : jj_MS) (v : Int), v = (if b = true then 1 else 0) → m6 = jj_mA m1 0 (14 + (120 * n + i)) v → sp_M0 ((Y.1.1.set n (d.1, d.2.1.set i b, d.2.2), Y.1.2), Y.2) m6 := by
        intro m6 v hv e6
        have e0 : ∀ j : Int, m6.2 0 j = if j = 14 + (120 * n + i) then v else m1.2 0 j := fun j => by rw [e6, jj_mA_eq]
        refine M.new W2 (M.2.2.1.set W hn ⟨?_, ?_, ?_, fun j w' hj => ?_, fun j b' hj => ?_⟩ (fun j g1 g2 => ?_) (fun j g => ?_)) (by rw [e6, jj_mA_1]) (fun f f1 f2 => by rw [e6, jj_mA_ne f1])
        · rw [e0, if_neg (by omega)]; exact a1
        · rw [e0, if_neg (by omega)]; exact a2
        · rw [e0, if_neg (by omega)]; exact a3
        · rw [e6, jj_mA_ne (by decide)]; exact a4 j w' hj
        · rw [e0]
          by_cases c : i = j
          · subst c
            rw [if_pos rfl, hv]
            rw [List.getElem?_set_self (by omega)] at hj
            cases hj
            rfl
          · rw [if_neg (by omega)]
            rw [List.getElem?_set_ne c] at hj
            exact a5 j b' hj
        · rw [e0, if_neg (by omega)]
        · rw [e6, jj_mA_ne (by decide)]
      have h01 : (if was = true then (1 : Int) else 0) = 0 ∨ (if was = true then (1 : Int) else 0) = 1 := by cases was <;> simp
      refine ⟨⟨by decide, by decide⟩, fun _ => mL_begins W M.2.2.1 hn hb ⟨by cases b <;> exact ⟨by decide, by decide⟩, fun c2 => ⟨by omega, by omega, fun m6 e6 => ⟨h01, (fin m6 0 c2.symm e6).ok⟩⟩, fun c2 => ⟨by omega, by omega, fun m6 e6 => ⟨h01, (fin m6 1 ?_ e6).ok⟩⟩⟩, fun c2 => absurd rfl c2⟩
      cases b
      · exact absurd rfl c2
      · rfl
    · rename_i c
      exact mL_isWordOfR h hx hy (fun _ _ => ⟨⟨by decide, by decide⟩, fun c => absurd c (by decide), fun _ => ⟨hy, fun _ => bad, fun c2 => absurd (by omega) c⟩⟩) (fun hh => by rw [hd] at hh; cases hh)
theorem mO_append (h : sp_MR Y ms) {x : Int} : so_append x Y fun k r Z => fM_appendText x (sp_mq k r Z) ms := by
  unfold so_append
  split
  · rename_i c
    intro m e
    have M := sp_M0.of h e
    obtain ⟨t1, t2, t3, t4⟩ := M.2.2.2.1
    rw [t1]
    refine ⟨⟨by omega, by omega⟩, fun _ => ⟨5, ?_⟩, fun c2 => absurd (by omega) c2⟩
    refine ⟨⟨by decide, by decide⟩, fun c => absurd c (by decide), fun _ => ⟨by omega, by omega, fun m1 e1 m2 e2 v3 e3 => ?_⟩⟩
    subst e3
    have l2 : m2.1 9 = (Y.2.1.length : Int) + 1 := by rw [e2, jj_mI_eq, e1, jj_mA_1, t1]
    refine ⟨⟨by decide, by decide⟩, fun c => absurd c (by decide), fun _ => ⟨by omega, by omega, fun m3 e3 m4 e4 v3 e5 => ?_⟩⟩
    subst e5
    have l4 : m4.1 9 = (Y.2.1.length : Int) + 2 := by rw [e4, jj_mI_eq, e3, jj_mA_1, l2]; omega
    refine ⟨⟨by decide, by decide⟩, fun c => absurd c (by decide), fun _ => ⟨by omega, by omega, fun m5 e5 m6 e6 v3 e7 => ?_⟩⟩
    subst e7
    have l6 : m6.1 9 = (Y.2.1.length : Int) + 3 := by rw [e6, jj_mI_eq, e5, jj_mA_1, l4]; omega
    refine ⟨⟨by decide, by decide⟩, fun c => absurd c (by decide), fun _ => ⟨by omega, by omega, fun m7 e7 m8 e8 v3 e9 => ?_⟩⟩
    subst e9
    have l8 : m8.1 9 = (Y.2.1.length : Int) + 4 := by rw [e8, jj_mI_eq, e7, jj_mA_1, l6]; omega
    refine ⟨⟨by decide, by decide⟩, fun _ => ?_, fun c => absurd (by decide) c⟩
    have ne : ∀ f, f ≠ 9 → m8.1 f = m.1 f := fun f hf => by rw [e8, jj_mI_ne hf, e7, jj_mA_1, e6, jj_mI_ne hf, e5, jj_mA_1, e4, jj_mI_ne hf, e3, jj_mA_1, e2, jj_mI_ne hf, e1, jj_mA_1]
    have ne2 : ∀ f, f ≠ 8 → m8.2 f = m.2 f := fun f hf => by rw [e8, jj_mI_2, e7, jj_mA_ne hf, e6, jj_mI_2, e5, jj_mA_ne hf, e4, jj_mI_2, e3, jj_mA_ne hf, e2, jj_mI_2, e1, jj_mA_ne hf]
    have e88 : ∀ i : Int, m8.2 8 i = if i = Y.2.1.length + 3 then jj_and (jj_shr x 0) 255 else if i = Y.2.1.length + 2 then jj_and (jj_shr x 8) 255 else if i = Y.2.1.length + 1 then jj_and (jj_shr x 16) 255 else if i = Y.2.1.length then jj_and (jj_shr x 24) 255 else m.2 8 i := fun i => by
      rw [e8, jj_mI_2, e7, jj_mA_eq, l6, e6, jj_mI_2, e5, jj_mA_eq, l4, e4, jj_mI_2, e3, jj_mA_eq, l2, e2, jj_mI_2, e1, jj_mA_eq, t1]
      rfl
    obtain ⟨b0, b1, b2, -, b4, b5, b6, b7⟩ := M
    refine ⟨by rw [ne 7 (by decide)]; exact b0, fun _ => by rw [l8]; omega, b1, by rw [ne2 0 (by decide), ne2 3 (by decide)]; exact b2, ⟨?_, ?_, fun i c' hc => ?_, fun c' hc => ?_⟩, ⟨by rw [ne 40 (by decide)]; exact b4.1, by rw [ne 41 (by decide)]; exact b4.2⟩, ⟨⟨by rw [ne 34 (by decide)]; exact b5.1.1, by rw [ne2 33 (by decide)]; exact b5.1.2⟩, b5.2⟩, ?_, ?_⟩
    · rw [l8]
      show _ = (((Y.2.1 ++ sp_4b x).length : Nat) : Int)
      rw [List.length_append]
      show _ = ((Y.2.1.length + 4 : Nat) : Int)
      omega
    · show (Y.2.1 ++ sp_4b x).length ≤ 900
      rw [List.length_append]
      exact c
    · have hc : (Y.2.1 ++ sp_4b x)[i]? = some c' := hc
      rw [e88]
      rw [List.getElem?_append] at hc
      split at hc
      · rw [if_neg (by omega), if_neg (by omega), if_neg (by omega), if_neg (by omega)]
        exact t3 i c' hc
      · rename_i hge
        have hl := sp_lt hc
        have hl : i - Y.2.1.length < 4 := hl
        generalize hj : i - Y.2.1.length = j at hc hl
        match j, hl with
        | 0, _ => cases hc; rw [if_neg (by omega), if_neg (by omega), if_neg (by omega), if_pos (by omega)]
        | 1, _ => cases hc; rw [if_neg (by omega), if_neg (by omega), if_pos (by omega)]
        | 2, _ => cases hc; rw [if_neg (by omega), if_pos (by omega)]
        | 3, _ => cases hc; rw [if_pos (by omega)]
    · have hc : c' ∈ Y.2.1 ++ sp_4b x := hc
      rcases List.mem_append.mp hc with hc | hc
      · exact t4 c' hc
      · unfold sp_4b at hc
        simp only [List.mem_cons, List.not_mem_nil, or_false] at hc
        rcases hc with rfl | rfl | rfl | rfl <;> exact jj_and255
    · unfold sp_vR at b6 ⊢
      rw [ne2 6 (by decide), ne2 2 (by decide), ne2 5 (by decide)]
      exact b6
    · unfold sp_vR at b7 ⊢
      rw [ne2 6 (by decide), ne2 2 (by decide), ne2 5 (by decide)]
      exact b7
  · rename_i c
    intro m e
    have M := sp_M0.of h e
    obtain ⟨t1, t2, t3, t4⟩ := M.2.2.2.1
    rw [t1]
    exact ⟨⟨by omega, by omega⟩, fun c2 => absurd (by omega) c, fun _ => M.fail (by decide)⟩
end MO6
