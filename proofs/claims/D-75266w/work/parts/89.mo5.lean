/-! OPERATIONS that change the library, small -/
def so_setParagraph (x y : Int) (b : Bool) (Y : sp_Y) (K : Int → Int → sp_Y → Prop) : Prop := match sp_ew Y.1 x y with
  | none => K 1 0 Y
  | some z => if 0 < y then K 0 (if z.2.2 = true then 1 else 0) ((Y.1.1.set x.toNat (z.1.1, z.1.2.1.set y.toNat b, z.1.2.2), Y.1.2), Y.2) else K 1 0 Y
def so_removeNote (Y : sp_Y) (K : Int → Int → sp_Y → Prop) : Prop := if Y.1.2.1 = [] then K 1 0 Y else K 0 (Y.1.2.1.length - 1 : Nat) ((Y.1.1, Y.1.2.1.dropLast, Y.1.2.2), Y.2)
def sp_4b (x : Int) : List Int := [jj_and (jj_shr x 24) 255, jj_and (jj_shr x 16) 255, jj_and (jj_shr x 8) 255, jj_and (jj_shr x 0) 255]
def so_append (x : Int) (Y : sp_Y) (K : Int → Int → sp_Y → Prop) : Prop := if Y.2.1.length + 4 ≤ 900 then K 0 (Y.2.1.length + 4 : Nat) (Y.1, Y.2.1 ++ sp_4b x, Y.2.2) else K 1 0 Y
def so_save (x : Int) (Y : sp_Y) (K : Int → Int → sp_Y → Prop) : Prop := if x = 0 then K 0 0 (Y.1, Y.2.1, Y.2.2.1, Y.2.2.2.1, some Y.1, Y.2.2.2.2.2) else if x = 1 then K 0 0 (Y.1, Y.2.1, Y.2.2.1, Y.2.2.2.1, Y.2.2.2.2.1, some Y.1) else K 1 0 Y
def so_restore (x : Int) (Y : sp_Y) (K : Int → Int → sp_Y → Prop) : Prop := if x = 0 then (match Y.2.2.2.2.1 with | none => K 2 0 Y | some σ => K 0 0 (σ, Y.2)) else if x = 1 then (match Y.2.2.2.2.2 with | none => K 2 0 Y | some σ => K 0 0 (σ, Y.2)) else K 1 0 Y
theorem jj_and255 {x : Int} : 0 ≤ jj_and x 255 ∧ jj_and x 255 ≤ 255 := by
  unfold jj_and
  have e : (Int32.ofInt 255) = (255 : Int32) := by decide
  rw [e]
  have h2 : (Int32.ofInt x &&& 255).toBitVec = (Int32.ofInt x).toBitVec &&& 255#32 := rfl
  have h3 : ((Int32.ofInt x).toBitVec &&& 255#32).toNat ≤ 255 := by
    rw [BitVec.toNat_and]
    exact Nat.and_le_right
  have h4 : (Int32.ofInt x &&& 255).toInt = ((Int32.ofInt x).toBitVec &&& 255#32).toInt := rfl
  rw [h4, BitVec.toInt_eq_toNat_of_lt (by omega)]
  omega
theorem sp_okN_congr {σ σ' : sp_S} {t : sp_N} (h : sp_okN σ t) (h1 : σ'.2.2.1 = σ.2.2.1) (h2 : ∀ (e : Nat) d, σ.1[e]? = some d → ∃ d', σ'.1[e]? = some d' ∧ d'.1.length = d.1.length) : sp_okN σ' t := by
  obtain ⟨a1, a2, a3, a4, a5, ⟨d, a6, a7, a8, a9⟩, a10, a11⟩ := h
  obtain ⟨d', b1, b2⟩ := h2 _ d a6
  exact ⟨a1, by rw [h1]; exact a2, a3, a4, a5, ⟨d', b1, a7, a8, by rw [b2]; exact a9⟩, a10, a11⟩
theorem sp_WF.set {σ : sp_S} (W : sp_WF σ) {e : Nat} {d d' : sp_E} (he : σ.1[e]? = some d) (hd : sp_okE d') (hl : d'.1.length = d.1.length) : sp_WF (σ.1.set e d', σ.2) := by
  obtain ⟨w1, w2, w3, w4, w5, w6, w7, w8, w9, w10⟩ := W
  refine ⟨by rw [List.length_set]; exact w1, fun x hx => ?_, w3, fun t ht => sp_okN_congr (w4 t ht) rfl (fun e' x hx => ?_), w5, w6, w7, w8, ?_, w10⟩
  · rcases List.mem_or_eq_of_mem_set hx with h | h
    · exact w2 x h
    · rw [h]; exact hd
  · by_cases c : e = e'
    · subst c
      rw [he] at hx
      cases hx
      exact ⟨d', List.getElem?_set_self (sp_lt he), hl⟩
    · exact ⟨x, by dsimp only; rw [List.getElem?_set_ne c]; exact hx, rfl⟩
  · rcases w9 with h | ⟨h1, h2⟩
    · left
      dsimp only
      rw [List.length_set]
      exact h
    · right
      rw [h1] at he
      simp at he
theorem sp_RM.set {σ : sp_S} {st wd st' wd' : Int → Int} (R : sp_RM σ st wd) (W : sp_WF σ) {e : Nat} {d d' : sp_E} (he : σ.1[e]? = some d) (h1 : sp_RE st' wd' e d') (h2 : ∀ i : Int, ¬ (5 + 3 * (e : Int) ≤ i ∧ i < 8 + 3 * e) → ¬ (14 + 120 * (e : Int) ≤ i ∧ i < 134 + 120 * e) → st' i = st i) (h3 : ∀ i : Int, ¬ (120 * (e : Int) ≤ i ∧ i < 120 + 120 * e) → wd' i = wd i) : sp_RM (σ.1.set e d', σ.2) st' wd' := by
  obtain ⟨r0, r1, r2, r3, r4, r5, r6, r7⟩ := R
  have hw := W.1
  have he3 := sp_lt he
  refine ⟨by rw [h2 0 (by omega) (by omega), r0, List.length_set], by rw [h2 1 (by omega) (by omega)]; exact r1, by rw [h2 2 (by omega) (by omega)]; exact r2, by rw [h2 3 (by omega) (by omega)]; exact r3, by rw [h2 4 (by omega) (by omega)]; exact r4, fun e' x hx => ?_, fun n t ht => ?_, fun r w hr => ?_⟩
  · by_cases c : e = e'
    · subst c
      rw [List.getElem?_set_self he3] at hx
      cases hx
      exact h1
    · rw [List.getElem?_set_ne c] at hx
      have hx3 := sp_lt hx
      have hx2 := W.ed hx
      have hl1 := hx2.2.1
      have hl2 := hx2.2.2.1
      obtain ⟨a1, a2, a3, a4, a5⟩ := r5 e' x hx
      refine ⟨by rw [h2 _ (by omega) (by omega)]; exact a1, by rw [h2 _ (by omega) (by omega)]; exact a2, by rw [h2 _ (by omega) (by omega)]; exact a3, fun i w hi => ?_, fun i b hi => ?_⟩
      · have := sp_lt hi
        rw [h3 _ (by omega)]; exact a4 i w hi
      · have := sp_lt hi
        rw [h2 _ (by omega) (by omega)]; exact a5 i b hi
  · obtain ⟨a1, a2, a3, a4, a5, a6, a7⟩ := r6 n t ht
    refine ⟨by rw [h2 _ (by omega) (by omega)]; exact a1, by rw [h2 _ (by omega) (by omega)]; exact a2, by rw [h2 _ (by omega) (by omega)]; exact a3, by rw [h2 _ (by omega) (by omega)]; exact a4, by rw [h2 _ (by omega) (by omega)]; exact a5, by rw [h2 _ (by omega) (by omega)]; exact a6, fun i w hi => ?_⟩
    rw [h3 _ (by omega)]; exact a7 i w hi
  · rw [h3 _ (by omega)]; exact r7 r w hr
section MO5
variable {Y : sp_Y} {ms : jj_MS}
/-- a new library in the same system -/
theorem sp_M0.new (h : sp_M0 Y ms) {m : jj_MS} {σ : sp_S} (W : sp_WF σ) (R : sp_RM σ (m.2 0) (m.2 3)) (g1 : m.1 = ms.1) (g2 : ∀ f, f ≠ 0 → f ≠ 3 → m.2 f = ms.2 f) : sp_M0 (σ, Y.2) m := by
  obtain ⟨b0, b1, b2, ⟨t1, t2, t3, t4⟩, b4, b5, b6, b7⟩ := h
  refine ⟨by rw [g1]; exact b0, W, R, ⟨by rw [g1]; exact t1, t2, by rw [g2 8 (by decide) (by decide)]; exact t3, t4⟩, by rw [g1]; exact b4, ⟨⟨by rw [g1]; exact b5.1.1, by rw [g2 33 (by decide) (by decide)]; exact b5.1.2⟩, b5.2⟩, ?_, ?_⟩
  · unfold sp_vR at b6 ⊢
    rw [g2 6 (by decide) (by decide), g2 2 (by decide) (by decide), g2 5 (by decide) (by decide)]
    exact b6
  · unfold sp_vR at b7 ⊢
    rw [g2 6 (by decide) (by decide), g2 2 (by decide) (by decide), g2 5 (by decide) (by decide)]
    exact b7
/-- the text is taken -/
theorem sp_M0.txt (h : sp_M0 Y ms) {m : jj_MS} (e : m = jj_mI ms 9 0) : sp_M0 (Y.1, [], Y.2.2) m := by
  subst e
  obtain ⟨b0, b1, b2, ⟨t1, t2, t3, t4⟩, b4, b5, b6, b7⟩ := h
  refine ⟨by rw [jj_mI_ne (by decide)]; exact b0, b1, b2, ⟨by rw [jj_mI_eq]; rfl, Nat.zero_le _, fun i c hc => by simp at hc, fun c hc => by cases hc⟩, ⟨by rw [jj_mI_ne (by decide)]; exact b4.1, by rw [jj_mI_ne (by decide)]; exact b4.2⟩, ⟨⟨by rw [jj_mI_ne (by decide)]; exact b5.1.1, b5.1.2⟩, b5.2⟩, b6, b7⟩
theorem mL_isLayout {w l : Int} (hw : jj_r w) (hl : jj_r l) {Q : Int → jj_MS → Prop} (q1 : sp_lyt w l = true → Q 1 ms) (q0 : sp_lyt w l = false → Q 0 ms) : fM_isLayout w l Q ms := by
  refine mL_btw hw ⟨by decide, by decide⟩ ⟨by decide, by decide⟩ (fun a b => ⟨⟨by decide, by decide⟩, fun c => absurd c (by decide), fun _ => mL_btw hl ⟨by decide, by decide⟩ ⟨by decide, by decide⟩ (fun a2 b2 => ⟨⟨by decide, by decide⟩, fun c => absurd c (by decide), fun _ => q1 ?_⟩) (fun a2 => ⟨⟨by decide, by decide⟩, fun _ => q0 ?_, fun c => absurd rfl c⟩)⟩) (fun a => ⟨⟨by decide, by decide⟩, fun _ => q0 ?_, fun c => absurd rfl c⟩)
  · unfold sp_lyt; simp [a, b, a2, b2]
  · unfold sp_lyt
    by_cases g : 1 ≤ l
    · have : ¬ l ≤ 40 := fun h => a2 ⟨g, h⟩
      simp [this]
    · simp [g]
  · unfold sp_lyt
    by_cases g : 8 ≤ w
    · have : ¬ w ≤ 60 := fun h => a ⟨g, h⟩
      simp [this]
    · simp [g]
theorem sp_lyt_iff {w l : Int} : sp_lyt w l = true ↔ (8 ≤ w ∧ w ≤ 60 ∧ 1 ≤ l ∧ l ≤ 40) := by
  unfold sp_lyt
  simp [and_assoc]
theorem mO_setLayout (h : sp_MR Y ms) {x w l : Int} (hx : jj_r x) (hw : jj_r w) (hl : jj_r l) : so_setLayout x w l Y fun k r Z => fM_setLayout x w l (sp_mq k r Z) ms := by
  have W := h.1
  unfold so_setLayout
  cases hd : sp_ed Y.1 x with
  | none =>
    intro m e
    have M := sp_M0.of h e
    exact mL_isEdition M hx (fun d hd' => by rw [hd] at hd'; cases hd') (fun _ => ⟨⟨by decide, by decide⟩, fun c => absurd rfl c, fun _ => M.fail (by decide)⟩)
  | some d =>
    dsimp only
    obtain ⟨n, rfl, hn⟩ := sp_ed_some hd
    have hn3 := sp_lt hn
    have h3 := W.1
    have hed := W.ed hn
    rw [Int.toNat_natCast]
    split
    · rename_i c
      obtain ⟨c1, c2, c3, c4⟩ := sp_lyt_iff.mp c
      intro m e
      have M := sp_M0.of h e
      refine mL_isEdition M hx (fun _ _ => ⟨⟨by decide, by decide⟩, fun _ => mL_isLayout hw hl (fun _ => ⟨⟨by decide, by decide⟩, fun _ => ⟨by omega, by omega, fun m6 e6 => ⟨by omega, by omega, fun m7 e7 => ?_⟩⟩, fun c => absurd c (by decide)⟩) (fun hh => by rw [c] at hh; cases hh), fun c => absurd c (by decide)⟩) (fun hd' => by rw [hd] at hd'; cases hd')
      have okd : sp_okE (d.1, d.2.1, w, l) := ⟨hed.1, hed.2.1, hed.2.2.1, hed.2.2.2.1, hed.2.2.2.2.1, c1, c2, c3, c4⟩
      have W2 := W.set hn okd rfl
      obtain ⟨a1, a2, a3, a4, a5⟩ := M.2.2.1.2.2.2.2.2.1 n d hn
      have e0 : ∀ i : Int, m7.2 0 i = if i = 5 + 3 * n + 2 then l else if i = 5 + 3 * n + 1 then w else m.2 0 i := fun i => by
        rw [e7, jj_mA_eq, e6, jj_mA_eq]
      have R2 : sp_RM (Y.1.1.set n (d.1, d.2.1, w, l), Y.1.2) (m7.2 0) (m7.2 3) := by
        refine M.2.2.1.set W hn ⟨?_, ?_, ?_, fun i w' hi => ?_, fun i b hi => ?_⟩ (fun i g1 g2 => ?_) (fun i g => ?_)
        · rw [e0, if_neg (by omega), if_neg (by omega)]; exact a1
        · rw [e0, if_neg (by omega), if_pos rfl]
        · rw [e0, if_pos rfl]
        · rw [e7, jj_mA_ne (by decide), e6, jj_mA_ne (by decide)]
          exact a4 i w' hi
        · rw [e0, if_neg (by omega), if_neg (by omega)]
          exact a5 i b hi
        · rw [e0, if_neg (by omega), if_neg (by omega)]
        · rw [e7, jj_mA_ne (by decide), e6, jj_mA_ne (by decide)]
      have M7 : sp_M0 ((Y.1.1.set n (d.1, d.2.1, w, l), Y.1.2), Y.2) m7 := M.new W2 R2 (by rw [e7, jj_mA_1, e6, jj_mA_1]) (fun f f1 f2 => by rw [e7, jj_mA_ne f1, e6, jj_mA_ne f1])
      have hn7 : (Y.1.1.set n (d.1, d.2.1, w, l))[n]? = some (d.1, d.2.1, w, l) := List.getElem?_set_self hn3
      exact mL_layOut (σ := (Y.1.1.set n (d.1, d.2.1, w, l), Y.1.2)) W2 R2 hn7 fun m8 f8 O => mL_pagesOf W2 (M7.fr f8).2.2.1 hn7 O (M7.fr f8).ok
    · rename_i c
      intro m e
      have M := sp_M0.of h e
      exact mL_isEdition M hx (fun _ _ => ⟨⟨by decide, by decide⟩, fun _ => mL_isLayout hw hl (fun hh => absurd hh c) (fun hh => ⟨⟨by decide, by decide⟩, fun c => absurd rfl c, fun _ => M.fail (by decide)⟩), fun c => absurd c (by decide)⟩) (fun hd' => by rw [hd] at hd'; cases hd')
theorem mO_setTarget (h : sp_MR Y ms) {x : Int} (hx : jj_r x) : so_setTarget x Y fun k r Z => fM_setTarget x (sp_mq k r Z) ms := by
  have W := h.1
  unfold so_setTarget
  cases hd : sp_ed Y.1 x with
  | none =>
    intro m e
    have M := sp_M0.of h e
    exact mL_isEdition M hx (fun d hd' => by rw [hd] at hd'; cases hd') (fun _ => ⟨⟨by decide, by decide⟩, fun c => absurd rfl c, fun _ => M.fail (by decide)⟩)
  | some d =>
    dsimp only
    obtain ⟨n, rfl, hn⟩ := sp_ed_some hd
    have hn3 := sp_lt hn
    intro m e
    have M := sp_M0.of h e
    refine mL_isEdition M hx (fun _ _ => ⟨⟨by decide, by decide⟩, fun _ => mL_target M.2.2.1 fun m6 e6 => ?_, fun c => absurd c (by decide)⟩) (fun hd' => by rw [hd] at hd'; cases hd')
    obtain ⟨w1, w2, w3, w4, w5, w6, w7, w8, w9, w10⟩ := W
    obtain ⟨r0, r1, r2, r3, r4, r5, r6, r7⟩ := M.2.2.1
    have e0 : ∀ i : Int, m6.2 0 i = if i = 4 then (n : Int) else m.2 0 i := fun i => by rw [e6, jj_mA_eq]
    have e3 : m6.2 3 = m.2 3 := by rw [e6, jj_mA_ne (by decide)]
    refine (M.new (σ := (Y.1.1, Y.1.2.1, Y.1.2.2.1, (n : Int), Y.1.2.2.2.2)) ⟨w1, w2, w3, fun t ht => sp_okN_congr (w4 t ht) rfl (fun e x hx => ⟨x, hx, rfl⟩), w5, w6, w7, by dsimp only; omega, Or.inl (by dsimp only; omega), w10⟩ ⟨by rw [e0, if_neg (by decide)]; exact r0, by rw [e0, if_neg (by decide)]; exact r1, by rw [e0, if_neg (by decide)]; exact r2, by rw [e0, if_neg (by decide)]; exact r3, by rw [e0, if_pos rfl], fun e x hx => ?_, fun k t ht => ?_, fun r w hr => ?_⟩ (by rw [e6, jj_mA_1]) (fun f f1 f2 => by rw [e6, jj_mA_ne f1])).ok
    · obtain ⟨a1, a2, a3, a4, a5⟩ := r5 e x hx
      exact ⟨by rw [e0, if_neg (by omega)]; exact a1, by rw [e0, if_neg (by omega)]; exact a2, by rw [e0, if_neg (by omega)]; exact a3, by rw [e3]; exact a4, fun i b hi => by rw [e0, if_neg (by omega)]; exact a5 i b hi⟩
    · obtain ⟨a1, a2, a3, a4, a5, a6, a7⟩ := r6 k t ht
      exact ⟨by rw [e0, if_neg (by omega)]; exact a1, by rw [e0, if_neg (by omega)]; exact a2, by rw [e0, if_neg (by omega)]; exact a3, by rw [e0, if_neg (by omega)]; exact a4, by rw [e0, if_neg (by omega)]; exact a5, by rw [e0, if_neg (by omega)]; exact a6, by rw [e3]; exact a7⟩
    · rw [e3]; exact r7 r w hr
theorem mO_setThreshold (h : sp_MR Y ms) {x : Int} (hx : jj_r x) : so_setThreshold x Y fun k r Z => fM_setThreshold x (sp_mq k r Z) ms := by
  have W := h.1
  unfold so_setThreshold
  split
  · rename_i c
    intro m e
    have M := sp_M0.of h e
    refine mL_btw hx ⟨by decide, by decide⟩ ⟨by decide, by decide⟩ (fun _ _ => ⟨⟨by decide, by decide⟩, fun _ v4 e4 m6 e6 => ?_, fun c => absurd c (by decide)⟩) (fun hh => absurd c hh)
    obtain ⟨w1, w2, w3, w4, w5, w6, w7, w8, w9, w10⟩ := W
    obtain ⟨r0, r1, r2, r3, r4, r5, r6, r7⟩ := M.2.2.1
    have e0 : ∀ i : Int, m6.2 0 i = if i = 3 then x else m.2 0 i := fun i => by rw [e6, jj_mA_eq]
    have e3 : m6.2 3 = m.2 3 := by rw [e6, jj_mA_ne (by decide)]
    rw [e4, r3]
    refine (M.new (σ := (Y.1.1, Y.1.2.1, Y.1.2.2.1, Y.1.2.2.2.1, x)) ⟨w1, w2, w3, fun t ht => sp_okN_congr (w4 t ht) rfl (fun e x hx => ⟨x, hx, rfl⟩), w5, w6, w7, w8, w9, c⟩ ⟨by rw [e0, if_neg (by decide)]; exact r0, by rw [e0, if_neg (by decide)]; exact r1, by rw [e0, if_neg (by decide)]; exact r2, by rw [e0, if_pos rfl], by rw [e0, if_neg (by decide)]; exact r4, fun e x hx => ?_, fun k t ht => ?_, fun r w hr => ?_⟩ (by rw [e6, jj_mA_1]) (fun f f1 f2 => by rw [e6, jj_mA_ne f1])).ok
    · obtain ⟨a1, a2, a3, a4, a5⟩ := r5 e x hx
      exact ⟨by rw [e0, if_neg (by omega)]; exact a1, by rw [e0, if_neg (by omega)]; exact a2, by rw [e0, if_neg (by omega)]; exact a3, by rw [e3]; exact a4, fun i b hi => by rw [e0, if_neg (by omega)]; exact a5 i b hi⟩
    · obtain ⟨a1, a2, a3, a4, a5, a6, a7⟩ := r6 k t ht
      exact ⟨by rw [e0, if_neg (by omega)]; exact a1, by rw [e0, if_neg (by omega)]; exact a2, by rw [e0, if_neg (by omega)]; exact a3, by rw [e0, if_neg (by omega)]; exact a4, by rw [e0, if_neg (by omega)]; exact a5, by rw [e0, if_neg (by omega)]; exact a6, by rw [e3]; exact a7⟩
    · rw [e3]; exact r7 r w hr
  · rename_i c
    intro m e
    have M := sp_M0.of h e
    exact mL_btw hx ⟨by decide, by decide⟩ ⟨by decide, by decide⟩ (fun a b => absurd ⟨a, b⟩ c) (fun _ => ⟨⟨by decide, by decide⟩, fun c => absurd rfl c, fun _ => M.fail (by decide)⟩)
theorem mO_removeNote (h : sp_MR Y ms) : so_removeNote Y fun k r Z => fM_removeNote (sp_mq k r Z) ms := by
  have W := h.1
  unfold so_removeNote
  have h40 := W.2.2.1
  split
  · rename_i c
    intro m e
    have M := sp_M0.of h e
    show jj_r (m.2 0 2) ∧ _
    rw [M.2.2.1.2.2.1, c]
    exact ⟨⟨by decide, by decide⟩, fun c => absurd rfl c, fun _ => M.fail (by decide)⟩
  · rename_i c
    intro m e
    have M := sp_M0.of h e
    have hl : 0 < Y.1.2.1.length := List.length_pos_iff.mpr c
    obtain ⟨w1, w2, w3, w4, w5, w6, w7, w8, w9, w10⟩ := W
    obtain ⟨r0, r1, r2, r3, r4, r5, r6, r7⟩ := M.2.2.1
    show jj_r (m.2 0 2) ∧ _
    rw [r2]
    refine ⟨jj_rn, fun _ m6 e6 => ?_, fun c2 => absurd c2 (by omega)⟩
    have e0 : ∀ i : Int, m6.2 0 i = if i = 2 then (Y.1.2.1.length : Int) - 1 else m.2 0 i := fun i => by rw [e6, jj_mA_eq]
    have e3 : m6.2 3 = m.2 3 := by rw [e6, jj_mA_ne (by decide)]
    have hpre : ∀ (k : Nat) t, Y.1.2.1.dropLast[k]? = some t → Y.1.2.1[k]? = some t := fun k t ht => by
      rw [List.getElem?_dropLast] at ht
      split at ht
      · exact ht
      · cases ht
    have M6 := M.new (m := m6) (σ := (Y.1.1, Y.1.2.1.dropLast, Y.1.2.2)) ⟨w1, w2, by dsimp only; rw [List.length_dropLast]; omega, fun t ht => sp_okN_congr (w4 t ((List.dropLast_sublist _).subset ht)) rfl (fun e x hx => ⟨x, hx, rfl⟩), w5, w6, w7, w8, w9, w10⟩ ⟨by rw [e0, if_neg (by decide)]; exact r0, by rw [e0, if_neg (by decide)]; exact r1, by rw [e0, if_pos rfl]; dsimp only; rw [List.length_dropLast]; omega, by rw [e0, if_neg (by decide)]; exact r3, by rw [e0, if_neg (by decide)]; exact r4, fun e x hx => by
        obtain ⟨a1, a2, a3, a4, a5⟩ := r5 e x hx
        exact ⟨by rw [e0, if_neg (by omega)]; exact a1, by rw [e0, if_neg (by omega)]; exact a2, by rw [e0, if_neg (by omega)]; exact a3, by rw [e3]; exact a4, fun i b hi => by rw [e0, if_neg (by omega)]; exact a5 i b hi⟩, fun k t ht => by
        obtain ⟨a1, a2, a3, a4, a5, a6, a7⟩ := r6 k t (hpre k t ht)
        exact ⟨by rw [e0, if_neg (by omega)]; exact a1, by rw [e0, if_neg (by omega)]; exact a2, by rw [e0, if_neg (by omega)]; exact a3, by rw [e0, if_neg (by omega)]; exact a4, by rw [e0, if_neg (by omega)]; exact a5, by rw [e0, if_neg (by omega)]; exact a6, by rw [e3]; exact a7⟩, fun r w hr => by rw [e3]; exact r7 r w hr⟩ (by rw [e6, jj_mA_1]) (fun f f1 f2 => by rw [e6, jj_mA_ne f1])
    show sp_mq 0 _ _ (m6.2 0 2) m6
    have e2 : m6.2 0 2 = ((Y.1.2.1.length - 1 : Nat) : Int) := by rw [e0, if_pos rfl]; omega
    rw [e2]
    exact M6.ok
end MO5
