/-! OPERATIONS: saved states -/
theorem sp_RM.cg {σ : sp_S} {st wd st' wd' : Int → Int} (R : sp_RM σ st wd) (W : sp_WF σ) (h1 : ∀ i : Int, 0 ≤ i → i < 614 → st' i = st i) (h2 : ∀ i : Int, 0 ≤ i → i < 606 → wd' i = wd i) : sp_RM σ st' wd' := by
  obtain ⟨r0, r1, r2, r3, r4, r5, r6, r7⟩ := R
  have w1 := W.1
  have w40 := W.2.2.1
  have w6 := W.2.2.2.2.1
  refine ⟨by rw [h1 _ (by decide) (by decide)]; exact r0, by rw [h1 _ (by decide) (by decide)]; exact r1, by rw [h1 _ (by decide) (by decide)]; exact r2, by rw [h1 _ (by decide) (by decide)]; exact r3, by rw [h1 _ (by decide) (by decide)]; exact r4, fun e d hd => ?_, fun n t ht => ?_, fun r w hr => ?_⟩
  · obtain ⟨a1, a2, a3, a4, a5⟩ := r5 e d hd
    have he := sp_lt hd
    have hed := W.ed hd
    have hl1 := hed.2.1
    have hl2 := hed.2.2.1
    exact ⟨by rw [h1 _ (by omega) (by omega)]; exact a1, by rw [h1 _ (by omega) (by omega)]; exact a2, by rw [h1 _ (by omega) (by omega)]; exact a3, fun i w hi => by have := sp_lt hi; rw [h2 _ (by omega) (by omega)]; exact a4 i w hi, fun i b hi => by have := sp_lt hi; rw [h1 _ (by omega) (by omega)]; exact a5 i b hi⟩
  · obtain ⟨a1, a2, a3, a4, a5, a6, a7⟩ := r6 n t ht
    have hn := sp_lt ht
    have h6 := (W.nt ht).2.2.2.2.2.2.1
    exact ⟨by rw [h1 _ (by omega) (by omega)]; exact a1, by rw [h1 _ (by omega) (by omega)]; exact a2, by rw [h1 _ (by omega) (by omega)]; exact a3, by rw [h1 _ (by omega) (by omega)]; exact a4, by rw [h1 _ (by omega) (by omega)]; exact a5, by rw [h1 _ (by omega) (by omega)]; exact a6, fun i w hi => by have := sp_lt hi; rw [h2 _ (by omega) (by omega)]; exact a7 i w hi⟩
  · have := sp_lt hr
    rw [h2 _ (by omega) (by omega)]; exact r7 r w hr
section MO7
variable {Y : sp_Y} {ms : jj_MS}
theorem mL_copy {f0 f2 : Nat} {x1 x3 : Int} (hne : f0 ≠ f2) (a0 : 0 ≤ x1) (a1 : x1 + 614 ≤ jj_mn f0) (b0 : 0 ≤ x3) (b1 : x3 + 614 ≤ jj_mn f2) {Q : jj_MS → Prop} (q : ∀ ms', ms'.1 = ms.1 → (∀ f, f ≠ f2 → ms'.2 f = ms.2 f) → (∀ j : Int, ms'.2 f2 j = if x3 ≤ j ∧ j < x3 + 614 then ms.2 f0 (x1 + (j - x3)) else ms.2 f2 j) → Q ms') : fM_copy f0 x1 f2 x3 Q ms := by
  have loop : ∀ (N k : Nat) (m : jj_MS), m.1 = ms.1 → (∀ f, f ≠ f2 → m.2 f = ms.2 f) → (∀ j : Int, m.2 f2 j = if x3 ≤ j ∧ j < x3 + k then ms.2 f0 (x1 + (j - x3)) else ms.2 f2 j) → k ≤ 614 → 614 - k < N → fM_copy_l3 f0 x1 f2 x3 Q N k m := by
    intro N
    induction N with
    | zero => intro k m _ _ _ _ h; exact absurd h (Nat.not_lt_zero _)
    | succ N ih =>
      intro k m h1 h2 h3 hk hN
      refine ⟨⟨by omega, by omega⟩, fun c => q m h1 h2 fun j => ?_, fun c => ⟨by omega, by omega, by omega, by omega, fun m1 e1 v e => ?_⟩⟩
      · have : k = 614 := by omega
        subst this
        exact h3 j
      · subst e
        refine ih (k + 1) m1 (by rw [e1, jj_mA_1]; exact h1) (fun f hf => by rw [e1, jj_mA_ne hf]; exact h2 f hf) (fun j => ?_) (by omega) (by omega)
        rw [e1, jj_mA_eq, h2 f0 hne, h3 j]
        by_cases c1 : j = x3 + k
        · rw [if_pos c1, if_pos (by omega)]
          exact congrArg (ms.2 f0) (by omega)
        · rw [if_neg c1]
          by_cases c2 : x3 ≤ j ∧ j < x3 + k
          · rw [if_pos c2, if_pos (by omega)]
          · rw [if_neg c2, if_neg (by omega)]
  exact ⟨615, loop 615 0 ms rfl (fun _ _ => rfl) (fun j => by rw [if_neg (by omega)]) (by omega) (by omega)⟩
theorem mL_copyWords {f0 f2 : Nat} {x1 x3 : Int} (hne : f0 ≠ f2) (a0 : 0 ≤ x1) (a1 : x1 + 606 ≤ jj_mn f0) (b0 : 0 ≤ x3) (b1 : x3 + 606 ≤ jj_mn f2) {Q : jj_MS → Prop} (q : ∀ ms', ms'.1 = ms.1 → (∀ f, f ≠ f2 → ms'.2 f = ms.2 f) → (∀ j : Int, ms'.2 f2 j = if x3 ≤ j ∧ j < x3 + 606 then ms.2 f0 (x1 + (j - x3)) else ms.2 f2 j) → Q ms') : fM_copyWords f0 x1 f2 x3 Q ms := by
  have loop : ∀ (N k : Nat) (m : jj_MS), m.1 = ms.1 → (∀ f, f ≠ f2 → m.2 f = ms.2 f) → (∀ j : Int, m.2 f2 j = if x3 ≤ j ∧ j < x3 + k then ms.2 f0 (x1 + (j - x3)) else ms.2 f2 j) → k ≤ 606 → 606 - k < N → fM_copyWords_l3 f0 x1 f2 x3 Q N k m := by
    intro N
    induction N with
    | zero => intro k m _ _ _ _ h; exact absurd h (Nat.not_lt_zero _)
    | succ N ih =>
      intro k m h1 h2 h3 hk hN
      refine ⟨⟨by omega, by omega⟩, fun c => q m h1 h2 fun j => ?_, fun c => ⟨by omega, by omega, by omega, by omega, fun m1 e1 v e => ?_⟩⟩
      · have : k = 606 := by omega
        subst this
        exact h3 j
      · subst e
        refine ih (k + 1) m1 (by rw [e1, jj_mA_1]; exact h1) (fun f hf => by rw [e1, jj_mA_ne hf]; exact h2 f hf) (fun j => ?_) (by omega) (by omega)
        rw [e1, jj_mA_eq, h2 f0 hne, h3 j]
        by_cases c1 : j = x3 + k
        · rw [if_pos c1, if_pos (by omega)]
          exact congrArg (ms.2 f0) (by omega)
        · rw [if_neg c1]
          by_cases c2 : x3 ≤ j ∧ j < x3 + k
          · rw [if_pos c2, if_pos (by omega)]
          · rw [if_neg c2, if_neg (by omega)]
  exact ⟨607, loop 607 0 ms rfl (fun _ _ => rfl) (fun j => by rw [if_neg (by omega)]) (by omega) (by omega)⟩
/-- save and restore answer nothing -/
def sp_mv (k : Int) (Z : sp_Y) (ms : jj_MS) : Prop := ms.1 7 = k ∧ sp_MR Z ms
theorem mO_save (h : sp_MR Y ms) {x : Int} (hx : jj_r x) : so_save x Y fun k _ Z => fM_save x (sp_mv k Z) ms := by
  have W := h.1
  have good : ∀ (s : Nat) (Z : sp_Y), s < 2 → (∀ m, sp_M0 Y m → m.2 6 s = 1 → sp_vR (some Y.1) s m → (∀ s', s' < 2 → s' ≠ s → True) → True) → x = s → (∀ (m : jj_MS), m.1 7 = 0 → (∀ f, f ≠ 7 → m.1 f = ms.1 f) → (∀ f, f ≠ 2 → f ≠ 5 → f ≠ 6 → m.2 f = ms.2 f) → (∀ j : Int, m.2 2 j = if 614 * s ≤ j ∧ j < 614 * s + 614 then ms.2 0 (j - 614 * s) else ms.2 2 j) → (∀ j : Int, m.2 5 j = if 606 * s ≤ j ∧ j < 606 * s + 606 then ms.2 3 (j - 606 * s) else ms.2 5 j) → (∀ j : Int, m.2 6 j = if j = s then 1 else ms.2 6 j) → sp_mv 0 Z m) → fM_save x (sp_mv 0 Z) ms := by
    intro s Z hs _ hxs q
    subst hxs
    have n0 : jj_mn 0 = 614 := rfl
    have n2 : jj_mn 2 = 1228 := rfl
    have n3 : jj_mn 3 = 606 := rfl
    have n5 : jj_mn 5 = 1212 := rfl
    refine mL_btw hx ⟨by decide, by decide⟩ ⟨by decide, by decide⟩ (fun _ _ => ⟨⟨by decide, by decide⟩, fun c => absurd c (by decide), fun _ m1 e1 => ?_⟩) (fun hh => absurd ⟨by omega, by omega⟩ hh)
    have h7 : m1.1 7 = 0 := by rw [e1, jj_mI_eq]
    rw [h7]
    refine ⟨⟨by decide, by decide⟩, fun c => absurd rfl c, fun _ => mL_copy (by decide) (by omega) (by rw [n0]; omega) (by omega) (by rw [n2]; omega) fun m2 a1 a2 a3 => mL_copyWords (by decide) (by omega) (by rw [n3]; omega) (by omega) (by rw [n5]; omega) fun m4 b1 b2 b3 => ⟨by omega, by omega, fun m6 e6 => q m6 ?_ ?_ ?_ ?_ ?_ ?_⟩⟩
    · rw [e6, jj_mA_1, b1, a1]; exact h7
    · intro f hf
      rw [e6, jj_mA_1, b1, a1, e1, jj_mI_ne hf]
    · intro f f2 f5 f6
      rw [e6, jj_mA_ne f6, b2 f f5, a2 f f2, e1, jj_mI_2]
    · intro j
      rw [e6, jj_mA_ne (by decide), b2 2 (by decide), a3, e1, jj_mI_2]
      by_cases c : 614 * (s : Int) ≤ j ∧ j < 614 * s + 614
      · rw [if_pos c, if_pos c, Int.zero_add]
      · rw [if_neg c, if_neg c]
    · intro j
      rw [e6, jj_mA_ne (by decide), b3, a2 3 (by decide), a2 5 (by decide), e1, jj_mI_2]
      by_cases c : 606 * (s : Int) ≤ j ∧ j < 606 * s + 606
      · rw [if_pos c, if_pos c, Int.zero_add]
      · rw [if_neg c, if_neg c]
    · intro j
      rw [e6, jj_mA_eq, b2 6 (by decide), a2 6 (by decide), e1, jj_mI_2]
  -- what one slot's save leaves
  have parts : ∀ (s s' : Nat) (v : Option sp_S) (m : jj_MS), s < 2 → s' < 2 → s' ≠ s → (∀ j : Int, m.2 2 j = if 614 * s ≤ j ∧ j < 614 * s + 614 then ms.2 0 (j - 614 * s) else ms.2 2 j) → (∀ j : Int, m.2 5 j = if 606 * s ≤ j ∧ j < 606 * s + 606 then ms.2 3 (j - 606 * s) else ms.2 5 j) → (∀ j : Int, m.2 6 j = if j = s then 1 else ms.2 6 j) → sp_vR (some Y.1) s m ∧ (sp_vR v s' ms → sp_vR v s' m) := by
    intro s s' v m hs hs' hne g2 g5 g6
    refine ⟨⟨by rw [g6, if_pos rfl], W, h.2.1.cg W (fun i i0 i1 => ?_) (fun i i0 i1 => ?_)⟩, fun hv => ?_⟩
    · show m.2 2 (614 * s + i) = _
      rw [g2, if_pos (by omega)]
      exact congrArg (ms.2 0) (by omega)
    · show m.2 5 (606 * s + i) = _
      rw [g5, if_pos (by omega)]
      exact congrArg (ms.2 3) (by omega)
    · unfold sp_vR at hv ⊢
      split
      · dsimp only at hv
        rw [g6, if_neg (by omega)]
        exact hv
      · rename_i σ'
        dsimp only at hv
        refine ⟨by rw [g6, if_neg (by omega)]; exact hv.1, hv.2.1, hv.2.2.cg hv.2.1 (fun i i0 i1 => ?_) (fun i i0 i1 => ?_)⟩
        · show m.2 2 (614 * s' + i) = ms.2 2 (614 * s' + i)
          rw [g2, if_neg (by omega)]
        · show m.2 5 (606 * s' + i) = ms.2 5 (606 * s' + i)
          rw [g5, if_neg (by omega)]
  obtain ⟨-, b2, ⟨t1, t2, t3, t4⟩, b4, b5, b6, b7⟩ := h
  unfold so_save
  split
  · rename_i c
    refine good 0 _ (by decide) (fun _ _ _ _ _ => trivial) c fun m g7 g1 ge g2 g5 g6 => ?_
    obtain ⟨p1, p2⟩ := parts 0 1 Y.2.2.2.2.2 m (by decide) (by decide) (by decide) g2 g5 g6
    exact ⟨g7, W, by rw [ge 0 (by decide) (by decide) (by decide), ge 3 (by decide) (by decide) (by decide)]; exact b2, ⟨by rw [g1 9 (by decide)]; exact t1, t2, by rw [ge 8 (by decide) (by decide) (by decide)]; exact t3, t4⟩, ⟨by rw [g1 40 (by decide)]; exact b4.1, by rw [g1 41 (by decide)]; exact b4.2⟩, ⟨⟨by rw [g1 34 (by decide)]; exact b5.1.1, by rw [ge 33 (by decide) (by decide) (by decide)]; exact b5.1.2⟩, b5.2⟩, p1, p2 b7⟩
  split
  · rename_i c
    refine good 1 _ (by decide) (fun _ _ _ _ _ => trivial) c fun m g7 g1 ge g2 g5 g6 => ?_
    obtain ⟨p1, p2⟩ := parts 1 0 Y.2.2.2.2.1 m (by decide) (by decide) (by decide) g2 g5 g6
    exact ⟨g7, W, by rw [ge 0 (by decide) (by decide) (by decide), ge 3 (by decide) (by decide) (by decide)]; exact b2, ⟨by rw [g1 9 (by decide)]; exact t1, t2, by rw [ge 8 (by decide) (by decide) (by decide)]; exact t3, t4⟩, ⟨by rw [g1 40 (by decide)]; exact b4.1, by rw [g1 41 (by decide)]; exact b4.2⟩, ⟨⟨by rw [g1 34 (by decide)]; exact b5.1.1, by rw [ge 33 (by decide) (by decide) (by decide)]; exact b5.1.2⟩, b5.2⟩, p2 b6, p1⟩
  · refine mL_btw hx ⟨by decide, by decide⟩ ⟨by decide, by decide⟩ (fun _ _ => by omega) (fun _ => ⟨⟨by decide, by decide⟩, fun _ m1 e1 => ?_, fun c => absurd rfl c⟩)
    have h7 : m1.1 7 = 1 := by rw [e1, jj_mI_eq]
    rw [h7]
    refine ⟨⟨by decide, by decide⟩, fun _ => ⟨h7, (show sp_MR Y ms from ⟨W, b2, ⟨t1, t2, t3, t4⟩, b4, b5, b6, b7⟩).cg fun f hf => by rw [e1]; exact ⟨jj_mI_ne hf.1, rfl⟩⟩, fun c => absurd c (by decide)⟩
theorem mO_restore (h : sp_MR Y ms) {x : Int} (hx : jj_r x) : so_restore x Y fun k _ Z => fM_restore x (sp_mv k Z) ms := by
  have W := h.1
  have n0 : jj_mn 0 = 614 := rfl
  have n2 : jj_mn 2 = 1228 := rfl
  have n3 : jj_mn 3 = 606 := rfl
  have n5 : jj_mn 5 = 1212 := rfl
  have fail : ∀ k : Int, jj_r k → k ≠ 0 → fM_restore_j28 x k (sp_mv k Y) ms := by
    intro k hk hk0 m1 e1
    have h7 : m1.1 7 = k := by rw [e1, jj_mI_eq]
    rw [h7]
    exact ⟨hk, fun _ => ⟨h7, h.cg fun f hf => by rw [e1]; exact ⟨jj_mI_ne hf.1, rfl⟩⟩, fun c => absurd c hk0⟩
  have slot : ∀ (s : Nat) (v : Option sp_S), s < 2 → x = s → sp_vR v s ms → (v = none → fM_restore x (sp_mv 2 Y) ms) ∧ (∀ σ, v = some σ → fM_restore x (sp_mv 0 (σ, Y.2)) ms) := by
    intro s v hs hxs hv
    subst hxs
    refine ⟨fun e => ?_, fun σ e => ?_⟩
    · subst e
      have h6 : ms.2 6 s = 0 := hv
      refine mL_btw hx ⟨by decide, by decide⟩ ⟨by decide, by decide⟩ (fun _ _ => ⟨⟨by decide, by decide⟩, fun _ => ⟨by omega, by omega, by rw [h6]; exact ⟨by decide, by decide⟩, fun c => absurd h6 c, fun _ => fail 2 ⟨by decide, by decide⟩ (by decide)⟩, fun c => absurd c (by decide)⟩) (fun hh => absurd ⟨by omega, by omega⟩ hh)
    · subst e
      obtain ⟨h6, Wσ, Rσ⟩ := hv
      refine mL_btw hx ⟨by decide, by decide⟩ ⟨by decide, by decide⟩ (fun _ _ => ⟨⟨by decide, by decide⟩, fun _ => ⟨by omega, by omega, by rw [h6]; exact ⟨by decide, by decide⟩, fun _ m1 e1 => ?_, fun c => by rw [h6] at c; cases c⟩, fun c => absurd c (by decide)⟩) (fun hh => absurd ⟨by omega, by omega⟩ hh)
      have M := sp_M0.of h e1
      rw [M.1]
      refine ⟨⟨by decide, by decide⟩, fun c => absurd rfl c, fun _ => mL_copy (by decide) (by omega) (by rw [n2]; omega) (by omega) (by rw [n0]; omega) fun m2 a1 a2 a3 => mL_copyWords (by decide) (by omega) (by rw [n5]; omega) (by omega) (by rw [n3]; omega) fun m4 b1 b2 b3 => ?_⟩
      have M4 := M.new (m := m4) (σ := σ) Wσ (Rσ.cg Wσ (fun i i0 i1 => ?_) (fun i i0 i1 => ?_)) (by rw [b1, a1]) (fun f f0 f3 => by rw [b2 f f3, a2 f f0])
      · exact ⟨M4.1, M4.2⟩
      · rw [b2 0 (by decide), a3, if_pos (by omega), e1, jj_mI_2]
        show _ = ms.2 2 (614 * s + i)
        exact congrArg (ms.2 2) (by omega)
      · rw [b3, if_pos (by omega), a2 5 (by decide), e1, jj_mI_2]
        show _ = ms.2 5 (606 * s + i)
        exact congrArg (ms.2 5) (by omega)
  unfold so_restore
  split
  · rename_i c
    obtain ⟨s1, s2⟩ := slot 0 Y.2.2.2.2.1 (by decide) c h.2.2.2.2.2.1
    cases hv : Y.2.2.2.2.1 with
    | none => exact s1 hv
    | some σ => exact s2 σ hv
  split
  · rename_i c
    obtain ⟨s1, s2⟩ := slot 1 Y.2.2.2.2.2 (by decide) c h.2.2.2.2.2.2
    cases hv : Y.2.2.2.2.2 with
    | none => exact s1 hv
    | some σ => exact s2 σ hv
  · exact mL_btw hx ⟨by decide, by decide⟩ ⟨by decide, by decide⟩ (fun _ _ => by omega) (fun _ => ⟨⟨by decide, by decide⟩, fun c => absurd rfl c, fun _ => fail 1 ⟨by decide, by decide⟩ (by decide)⟩)
end MO7
