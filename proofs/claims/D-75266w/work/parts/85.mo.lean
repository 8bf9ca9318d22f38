/-! OPERATIONS: what each does, and that the model's do it -/
def sp_vR (v : Option sp_S) (s : Nat) (ms : jj_MS) : Prop := match v with
  | none => ms.2 6 s = 0
  | some σ => ms.2 6 s = 1 ∧ sp_WF σ ∧ sp_RM σ (fun i => ms.2 2 (614 * s + i)) (fun i => ms.2 5 (606 * s + i))
def sp_MR (Y : sp_Y) (ms : jj_MS) : Prop := sp_WF Y.1 ∧ sp_RM Y.1 (ms.2 0) (ms.2 3) ∧ sp_tR Y.2.1 ms ∧ (ms.1 40 = Y.2.2.1.1 ∧ ms.1 41 = Y.2.2.1.2) ∧ (sp_oR Y.2.2.2.1 ms ∧ Y.2.2.2.1.length ≤ 1600) ∧ sp_vR Y.2.2.2.2.1 0 ms ∧ sp_vR Y.2.2.2.2.2 1 ms
/-- what the law asks of the model's answer -/
def sp_mq (k r : Int) (Y : sp_Y) (b : Int) (ms : jj_MS) : Prop := ms.1 7 = k ∧ (k = 0 → b = r) ∧ sp_MR Y ms
def sp_ed (σ : sp_S) (x : Int) : Option sp_E := if 0 ≤ x then σ.1[x.toNat]? else none
def sp_nt (σ : sp_S) (x : Int) : Option sp_N := if 0 ≤ x then σ.2.1[x.toNat]? else none
/-- a word of an edition -/
def sp_ew (σ : sp_S) (x y : Int) : Option (sp_E × sp_W × Bool) := match sp_ed σ x with
  | none => none
  | some d => if 0 ≤ y then match d.1[y.toNat]?, d.2.1[y.toNat]? with
    | some w, some b => some (d, w, b)
    | _, _ => none
    else none
theorem sp_ed_some {σ : sp_S} {x : Int} {d : sp_E} (h : sp_ed σ x = some d) : ∃ e : Nat, x = e ∧ σ.1[e]? = some d := by
  unfold sp_ed at h
  split at h
  · exact ⟨x.toNat, by omega, h⟩
  · cases h
theorem sp_nt_some {σ : sp_S} {x : Int} {d : sp_N} (h : sp_nt σ x = some d) : ∃ e : Nat, x = e ∧ σ.2.1[e]? = some d := by
  unfold sp_nt at h
  split at h
  · exact ⟨x.toNat, by omega, h⟩
  · cases h
theorem sp_ed_bd {σ : sp_S} {x : Int} : (sp_ed σ x).isSome = true ↔ (0 ≤ x ∧ x ≤ (σ.1.length : Int) - 1) := by
  unfold sp_ed
  split
  · by_cases c : x.toNat < σ.1.length
    · rw [List.getElem?_eq_getElem c]
      simp
      omega
    · rw [List.getElem?_eq_none (by omega)]
      simp
      omega
  · simp
    omega
theorem sp_nt_bd {σ : sp_S} {x : Int} : (sp_nt σ x).isSome = true ↔ (0 ≤ x ∧ x ≤ (σ.2.1.length : Int) - 1) := by
  unfold sp_nt
  split
  · by_cases c : x.toNat < σ.2.1.length
    · rw [List.getElem?_eq_getElem c]
      simp
      omega
    · rw [List.getElem?_eq_none (by omega)]
      simp
      omega
  · simp
    omega
section MO
variable {Y : sp_Y} {ms : jj_MS}
theorem sp_MR.cg {ms' : jj_MS} (h : sp_MR Y ms) (g : ∀ f, (f ≠ 7 ∧ (f < 10 ∨ 33 ≤ f) ∧ f ≠ 1 ∧ f ≠ 4) → ms'.1 f = ms.1 f ∧ ms'.2 f = ms.2 f) : sp_MR Y ms' := by
  obtain ⟨h1, h2, ⟨t1, t2, t3, t4⟩, ⟨h4, h4'⟩, ⟨⟨o1, o2⟩, h5⟩, h6, h7⟩ := h
  have e := fun f hf => (g f hf).1
  have e' := fun f hf => (g f hf).2
  refine ⟨h1, by rw [e' 0 (by decide), e' 3 (by decide)]; exact h2, ⟨by rw [e 9 (by decide)]; exact t1, t2, by rw [e' 8 (by decide)]; exact t3, t4⟩, ⟨by rw [e 40 (by decide)]; exact h4, by rw [e 41 (by decide)]; exact h4'⟩, ⟨⟨by rw [e 34 (by decide)]; exact o1, by rw [e' 33 (by decide)]; exact o2⟩, h5⟩, ?_, ?_⟩
  · unfold sp_vR at h6 ⊢
    split
    · rename_i e9; rw [e9] at h6; rw [e' 6 (by decide)]; exact h6
    · rename_i σ e9; rw [e9] at h6; rw [e' 6 (by decide), e' 2 (by decide), e' 5 (by decide)]; exact h6
  · unfold sp_vR at h7 ⊢
    split
    · rename_i e9; rw [e9] at h7; rw [e' 6 (by decide)]; exact h7
    · rename_i σ e9; rw [e9] at h7; rw [e' 6 (by decide), e' 2 (by decide), e' 5 (by decide)]; exact h7
/-- at the start of an operation -/
def sp_M0 (Y : sp_Y) (ms : jj_MS) : Prop := ms.1 7 = 0 ∧ sp_MR Y ms
theorem sp_M0.of (h : sp_MR Y ms) {m : jj_MS} (e : m = jj_mI ms 7 0) : sp_M0 Y m := by
  subst e
  exact ⟨jj_mI_eq, h.cg fun f hf => ⟨jj_mI_ne hf.1, rfl⟩⟩
theorem sp_M0.fr (h : sp_M0 Y ms) {m : jj_MS} {a b : Nat} (f : sp_fr a b ms m) (h1 : 10 ≤ a := by omega) (h2 : b ≤ 33 := by omega) : sp_M0 Y m := ⟨(f 7 (by omega)).1.trans h.1, h.2.cg fun g hg => f g (by omega)⟩
theorem sp_M0.ok (h : sp_M0 Y ms) {r : Int} : sp_mq 0 r Y r ms := ⟨h.1, fun _ => rfl, h.2⟩
theorem sp_M0.fail (h : sp_M0 Y ms) {k : Int} (hk : k ≠ 0) : fM_fail k (fun b m => sp_mq k 0 Y b m) ms := by
  intro m e
  subst e
  exact ⟨jj_mI_eq, fun c => absurd c hk, h.2.cg fun f hf => ⟨jj_mI_ne hf.1, rfl⟩⟩
theorem mL_editions (h : sp_M0 Y ms) {Q : Int → jj_MS → Prop} (q : Q Y.1.1.length ms) : fM_editions Q ms := by
  show Q (ms.2 0 0) ms
  rw [h.2.2.1.1]
  exact q
theorem mL_isEdition (h : sp_M0 Y ms) {x : Int} (hx : jj_r x) {Q : Int → jj_MS → Prop} (q1 : ∀ d, sp_ed Y.1 x = some d → Q 1 ms) (q0 : sp_ed Y.1 x = none → Q 0 ms) : fM_isEdition x Q ms := by
  have h3 := h.2.1.1
  have hb := sp_ed_bd (σ := Y.1) (x := x)
  refine mL_editions h (mL_btw hx ⟨by decide, by decide⟩ ⟨by omega, by omega⟩ (fun h1 h2 => ⟨Or.inr rfl, ?_⟩) (fun h1 => ⟨Or.inl rfl, q0 ?_⟩))
  · cases he : sp_ed Y.1 x with
    | none => rw [he] at hb; exact absurd (hb.mpr ⟨h1, h2⟩) (by decide)
    | some d => exact q1 d he
  · cases he : sp_ed Y.1 x with
    | none => rfl
    | some d => rw [he] at hb; exact absurd (hb.mp rfl) h1
theorem mL_isNote (h : sp_M0 Y ms) {x : Int} (hx : jj_r x) {Q : Int → jj_MS → Prop} (q1 : ∀ d, sp_nt Y.1 x = some d → Q 1 ms) (q0 : sp_nt Y.1 x = none → Q 0 ms) : fM_isNote x Q ms := by
  have h3 := h.2.1.2.2.1
  have hb := sp_nt_bd (σ := Y.1) (x := x)
  show fM_isBetween x 0 (ms.2 0 2 - 1) (fun r4 ms3 => (r4 = 0 ∨ r4 = 1) ∧ Q r4 ms3) ms
  rw [h.2.2.1.2.2.1]
  refine mL_btw hx ⟨by decide, by decide⟩ ⟨by omega, by omega⟩ (fun h1 h2 => ⟨Or.inr rfl, ?_⟩) (fun h1 => ⟨Or.inl rfl, q0 ?_⟩)
  · cases he : sp_nt Y.1 x with
    | none => rw [he] at hb; exact absurd (hb.mpr ⟨h1, h2⟩) (by decide)
    | some d => exact q1 d he
  · cases he : sp_nt Y.1 x with
    | none => rfl
    | some d => rw [he] at hb; exact absurd (hb.mp rfl) h1
theorem sp_ew_some {σ : sp_S} {x y : Int} {d : sp_E} {w : sp_W} {b : Bool} (h : sp_ew σ x y = some (d, w, b)) : sp_ed σ x = some d ∧ ∃ i : Nat, y = i ∧ d.1[i]? = some w ∧ d.2.1[i]? = some b := by
  unfold sp_ew at h
  split at h
  · cases h
  · rename_i d' hd
    split at h
    · split at h
      · rename_i w' b' h1 h2
        cases h
        exact ⟨hd, y.toNat, by omega, h1, h2⟩
      · cases h
    · cases h
theorem mL_isWordOf (h : sp_M0 Y ms) {x y : Int} (hx : jj_r x) (hy : jj_r y) {Q : Int → jj_MS → Prop} (q1 : ∀ z, sp_ew Y.1 x y = some z → Q 1 ms) (q0 : sp_ew Y.1 x y = none → Q 0 ms) : fM_isWordOf x y Q ms := by
  have W := h.2.1
  refine mL_isEdition h hx (fun d hd => ⟨⟨by decide, by decide⟩, fun c => absurd c (by decide), fun _ => ?_⟩) (fun hd => ⟨⟨by decide, by decide⟩, fun _ => q0 ?_, fun c => absurd rfl c⟩)
  · obtain ⟨e, rfl, he⟩ := sp_ed_some hd
    have hed := W.ed he
    have h1 := hed.2.1
    have h2 := hed.2.2.1
    refine mL_sizeOf W h.2.2.1 he (mL_btw hy ⟨by decide, by decide⟩ ⟨by omega, by omega⟩ (fun g1 g2 => ⟨⟨by decide, by decide⟩, fun c => absurd c (by decide), fun _ => ?_⟩) (fun g => ⟨⟨by decide, by decide⟩, fun _ => q0 ?_, fun c => absurd rfl c⟩))
    · refine q1 (d, d.1[y.toNat]'(by omega), d.2.1[y.toNat]'(by omega)) ?_
      unfold sp_ew
      rw [hd]
      dsimp only
      rw [if_pos g1, List.getElem?_eq_getElem (by omega), List.getElem?_eq_getElem (by omega)]
    · unfold sp_ew
      rw [hd]
      dsimp only
      by_cases g1 : 0 ≤ y
      · rw [if_pos g1, List.getElem?_eq_none (by omega)]
      · rw [if_neg g1]
  · unfold sp_ew
    rw [hd]
/-! the operations -/
def so_truncate (x : Int) (Y : sp_Y) (K : Int → Int → sp_Y → Prop) : Prop := if 0 ≤ x ∧ x ≤ Y.2.1.length then K 0 x (Y.1, Y.2.1.take x.toNat, Y.2.2) else K 1 0 Y
def so_errc (Y : sp_Y) (K : Int → Int → sp_Y → Prop) : Prop := K 0 Y.2.2.1.1 Y
def so_errp (Y : sp_Y) (K : Int → Int → sp_Y → Prop) : Prop := K 0 Y.2.2.1.2 Y
def so_count (x : Int) (Y : sp_Y) (K : Int → Int → sp_Y → Prop) : Prop := if x = 0 then K 0 Y.1.1.length Y else if x = 1 then K 0 Y.1.2.2.1.length Y else if x = 2 then K 0 Y.1.2.1.length Y else if x = 3 then K 0 (sp_gb Y.1).2 Y else if x = 4 then K 0 Y.1.2.2.2.2 Y else if x = 5 then (if Y.1.1 = [] then K 0 (-1) Y else K 0 Y.1.2.2.2.1 Y) else K 1 0 Y
def sp_lyt (w l : Int) : Bool := decide (8 ≤ w) && decide (w ≤ 60) && decide (1 ≤ l) && decide (l ≤ 40)
def so_setLayout (x w l : Int) (Y : sp_Y) (K : Int → Int → sp_Y → Prop) : Prop := match sp_ed Y.1 x with
  | none => K 1 0 Y
  | some d => if sp_lyt w l = true then K 0 (sp_pages (d.1, d.2.1, w, l)) ((Y.1.1.set x.toNat (d.1, d.2.1, w, l), Y.1.2), Y.2) else K 2 0 Y
def so_edition (x y : Int) (Y : sp_Y) (K : Int → Int → sp_Y → Prop) : Prop := match sp_ed Y.1 x with
  | none => K 1 0 Y
  | some d => if y = 0 then K 0 d.1.length Y else if y = 1 then K 0 (sp_lines d) Y else if y = 2 then K 0 (sp_pages d) Y else if y = 3 then K 0 d.2.2.1 Y else if y = 4 then K 0 d.2.2.2 Y else K 2 0 Y
def so_word (x y z : Int) (Y : sp_Y) (K : Int → Int → sp_Y → Prop) : Prop := match sp_ew Y.1 x y with
  | none => K 1 0 Y
  | some (d, w, b) => if z = 0 then K 0 (sp_pg d y.toNat) Y else if z = 1 then K 0 ((sp_lay d y.toNat).1 % d.2.2.2) Y else if z = 2 then K 0 (sp_lay d y.toNat).2.1 Y else if z = 3 then K 0 (sp_lay d y.toNat).2.2 Y else if z = 4 then K 0 w.length Y else if z = 5 then K 0 (if b = true then 1 else 0) Y else K 2 0 Y
def so_letter (x y z : Int) (Y : sp_Y) (K : Int → Int → sp_Y → Prop) : Prop := match sp_ew Y.1 x y with
  | none => K 1 0 Y
  | some (_, w, _) => if 0 ≤ z then match w[z.toNat]? with | some c => K 0 c Y | none => K 1 0 Y else K 1 0 Y
def so_setTarget (x : Int) (Y : sp_Y) (K : Int → Int → sp_Y → Prop) : Prop := match sp_ed Y.1 x with
  | none => K 1 0 Y
  | some _ => K 0 Y.1.2.2.2.1 ((Y.1.1, Y.1.2.1, Y.1.2.2.1, x, Y.1.2.2.2.2), Y.2)
def so_note (x y : Int) (Y : sp_Y) (K : Int → Int → sp_Y → Prop) : Prop := match sp_nt Y.1 x with
  | none => K 1 0 Y
  | some t => if 0 ≤ y then match [t.1.1, t.1.2.1, t.1.2.2, t.2.1.1, t.2.1.2, (t.2.2.length : Int)][y.toNat]? with | some v => K 0 v Y | none => K 2 0 Y else K 2 0 Y
def so_setThreshold (x : Int) (Y : sp_Y) (K : Int → Int → sp_Y → Prop) : Prop := if 0 ≤ x ∧ x ≤ 100 then K 0 Y.1.2.2.2.2 ((Y.1.1, Y.1.2.1, Y.1.2.2.1, Y.1.2.2.2.1, x), Y.2) else K 1 0 Y
theorem mO_truncate (h : sp_MR Y ms) {x : Int} (hx : jj_r x) : so_truncate x Y fun k r Z => fM_truncateText x (sp_mq k r Z) ms := by
  have key : ∀ (k r : Int) (Z : sp_Y), (0 ≤ x ∧ x ≤ Y.2.1.length → k = 0 ∧ r = x ∧ Z = (Y.1, Y.2.1.take x.toNat, Y.2.2)) → (¬ (0 ≤ x ∧ x ≤ Y.2.1.length) → k = 1 ∧ r = 0 ∧ Z = Y) → fM_truncateText x (sp_mq k r Z) ms := by
    intro k r Z h1 h2 m e
    have M := sp_M0.of h e
    obtain ⟨t1, t2, t3, t4⟩ := M.2.2.2.1
    rw [t1]
    refine mL_btw hx ⟨by decide, by decide⟩ ⟨by omega, by omega⟩ (fun g1 g2 => ⟨⟨by decide, by decide⟩, fun _ m4 e4 => ?_, fun c => absurd c (by decide)⟩) (fun g => ⟨⟨by decide, by decide⟩, fun c => absurd rfl c, fun _ => ?_⟩)
    · obtain ⟨rfl, rfl, rfl⟩ := h1 ⟨g1, g2⟩
      refine ⟨by rw [e4, jj_mI_ne (by decide)]; exact M.1, fun _ => by rw [e4, jj_mI_eq], ?_⟩
      obtain ⟨a1, a2, a3, a4, a5, a6, a7⟩ := M.2
      have ne : ∀ f, f ≠ 9 → m4.1 f = m.1 f := fun f hf => by rw [e4, jj_mI_ne hf]
      have e2 : m4.2 = m.2 := by rw [e4, jj_mI_2]
      refine ⟨a1, by rw [e2]; exact a2, ⟨by rw [e4, jj_mI_eq, List.length_take]; omega, by rw [List.length_take]; omega, fun i c hc => ?_, fun c hc => t4 c (List.mem_of_mem_take hc)⟩, ⟨by rw [ne 40 (by decide)]; exact a4.1, by rw [ne 41 (by decide)]; exact a4.2⟩, ⟨⟨by rw [ne 34 (by decide)]; exact a5.1.1, by rw [e2]; exact a5.1.2⟩, a5.2⟩, ?_, ?_⟩
      · rw [e2]
        refine t3 i c ?_
        rw [List.getElem?_take] at hc
        split at hc
        · exact hc
        · cases hc
      · unfold sp_vR at a6 ⊢
        rw [e2]
        exact a6
      · unfold sp_vR at a7 ⊢
        rw [e2]
        exact a7
    · obtain ⟨rfl, rfl, rfl⟩ := h2 g
      exact M.fail (by decide)
  unfold so_truncate
  split
  · rename_i c
    exact key 0 x _ (fun _ => ⟨rfl, rfl, rfl⟩) (fun h => absurd c h)
  · rename_i c
    exact key 1 0 _ (fun h => absurd h c) (fun _ => ⟨rfl, rfl, rfl⟩)
end MO
