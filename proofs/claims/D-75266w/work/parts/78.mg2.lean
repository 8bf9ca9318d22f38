/-! GROUPS: what each holds -/
theorem sp_in_keep {al : Nat → Nat → Bool} {g : Int} {q : Nat} {j : Nat} {x : Int} (hx : x ≠ -1) : ∀ {k : Nat} {s : List Int × List Nat}, s.1[j]? = some x → (sp_in al g q k s).1[j]? = some x
  | 0, s, h => h
  | k + 1, s, h => by
    have ih := sp_in_keep (al := al) (g := g) (q := q) hx (k := k) h
    rw [sp_in]
    split
    · rename_i hc
      have hne : k ≠ j := fun e => by
        subst e
        rw [ih] at hc
        exact hx (Option.some.inj hc.1)
      dsimp only
      rw [List.getElem?_set_ne hne]
      exact ih
    · exact ih
theorem sp_ou_keep {al : Nat → Nat → Bool} {g : Int} {n j : Nat} {x : Int} (hx : x ≠ -1) : ∀ {N i : Nat} {s : List Int × List Nat}, s.1[j]? = some x → (sp_ou al g n N i s).1[j]? = some x
  | 0, i, s, h => h
  | N + 1, i, s, h => by
    rw [sp_ou]
    split
    · exact sp_ou_keep hx (sp_in_keep hx h)
    · exact h
theorem sp_sp_keep {al : Nat → Nat → Bool} {n k g : Nat} {by' : List Int} (hk : by'[k]? = some (-1)) {j : Nat} {x : Int} (hx : x ≠ -1) (h : by'[j]? = some x) : (sp_sp al g n k by')[j]? = some x := by
  have hne : k ≠ j := fun e => by
    subst e
    rw [hk] at h
    exact hx (Option.some.inj h).symm
  refine sp_ou_keep hx ?_
  dsimp only
  rw [List.getElem?_set_ne hne]
  exact h
theorem sp_sp_self {al : Nat → Nat → Bool} {n k g : Nat} {by' : List Int} (hk : by'[k]? = some (-1)) : (sp_sp al g n k by')[k]? = some (g : Int) := by
  refine sp_ou_keep (by omega) ?_
  exact List.getElem?_set_self (sp_lt hk)
theorem sp_by_done {al : Nat → Nat → Bool} {n : Nat} : ∀ (k : Nat), k ≤ n → ∀ j, j < k → ∃ x, (sp_by al n k).1[j]? = some x ∧ x ≠ -1
  | 0, _, j, h => absurd h (Nat.not_lt_zero _)
  | k + 1, hk, j, hj => by
    have I := sp_by_I (al := al) (n := n) k (by omega)
    rw [sp_by]
    by_cases hjk : j = k
    · subst hjk
      split
      · rename_i hc
        exact ⟨_, sp_sp_self hc, by omega⟩
      · rename_i hc
        have hlt : j < (sp_by al n j).1.length := by omega
        refine ⟨(sp_by al n j).1[j], List.getElem?_eq_getElem hlt, fun e => hc ?_⟩
        rw [List.getElem?_eq_getElem hlt, e]
    · obtain ⟨x, h1, h2⟩ := sp_by_done (al := al) (n := n) k (by omega) j (by omega)
      split
      · rename_i hc
        exact ⟨x, sp_sp_keep hc h2 h1, h2⟩
      · exact ⟨x, h1, h2⟩
def sp_sdl (σ : sp_S) (i : Int) : Int := match σ.2.1[i.toNat]? with
  | some t => (t.2.2.length : Nat)
  | none => 0
/-- a group: lowest, count, readers, first, last, text -/
def sp_gs (σ : sp_S) (by' : List Int) (g : Int) : Nat → Int × Int × Int × Int × Int × Int
  | 0 => (-1, 0, 0, -1, -1, 0)
  | k + 1 => match σ.2.1[k]? with
    | some t => if by'[k]? = some g then
        (if (sp_gs σ by' g k).1 = -1 then (k : Int) else (sp_gs σ by' g k).1, (sp_gs σ by' g k).2.1 + 1, jj_or (sp_gs σ by' g k).2.2.1 (jj_shl 1 t.1.1),
          if (sp_gs σ by' g k).1 = -1 then (sp_ac σ t).2.1 else min (sp_gs σ by' g k).2.2.2.1 (sp_ac σ t).2.1, max (sp_gs σ by' g k).2.2.2.2.1 (sp_ac σ t).2.2.1,
          if (sp_gs σ by' g k).1 = -1 ∨ sp_sdl σ (sp_gs σ by' g k).2.2.2.2.2 < t.2.2.length then (k : Int) else (sp_gs σ by' g k).2.2.2.2.2)
      else sp_gs σ by' g k
    | none => sp_gs σ by' g k
theorem sp_gs_bd {σ : sp_S} (W : sp_WF σ) {by' : List Int} {g : Int} : ∀ (k : Nat), k ≤ σ.2.1.length → (-1 ≤ (sp_gs σ by' g k).1 ∧ (sp_gs σ by' g k).1 < k) ∧ (0 ≤ (sp_gs σ by' g k).2.1 ∧ (sp_gs σ by' g k).2.1 ≤ k) ∧ (-1 ≤ (sp_gs σ by' g k).2.2.2.1 ∧ (sp_gs σ by' g k).2.2.2.1 < 1000) ∧ (-1 ≤ (sp_gs σ by' g k).2.2.2.2.1 ∧ (sp_gs σ by' g k).2.2.2.2.1 < 1000) ∧ (0 ≤ (sp_gs σ by' g k).2.2.2.2.2 ∧ ((sp_gs σ by' g k).1 ≠ -1 → (sp_gs σ by' g k).2.2.2.2.2 < k)) ∧ ((sp_gs σ by' g k).1 = -1 ↔ (sp_gs σ by' g k).2.1 = 0) ∧ ((sp_gs σ by' g k).1 = -1 → (sp_gs σ by' g k).2.2.2.1 = -1 ∧ (sp_gs σ by' g k).2.2.2.2.1 = -1)
  | 0, _ => by simp [sp_gs]
  | k + 1, hk => by
    have ih := sp_gs_bd W (by' := by') (g := g) k (by omega)
    obtain ⟨t, ht⟩ : ∃ t, σ.2.1[k]? = some t := ⟨σ.2.1[k]'(by omega), List.getElem?_eq_getElem _⟩
    have hb := sp_ac_B W ht
    unfold sp_acB at hb
    rw [sp_gs, ht]
    dsimp only
    split
    · refine ⟨?_, ?_, ?_, ?_, ?_, ?_, ?_⟩ <;> dsimp only <;> (repeat' split) <;> omega
    · omega
/-- the model's arrays stand for the groups, k notes joined -/
def sp_gR (σ : sp_S) (by' : List Int) (k : Nat) (ms : jj_MS) : Prop := ∀ g : Nat, g < 40 → ms.2 25 g = (sp_gs σ by' g k).1 ∧ ms.2 26 g = (sp_gs σ by' g k).2.1 ∧ ms.2 27 g = (sp_gs σ by' g k).2.2.1 ∧ ms.2 22 g = (sp_gs σ by' g k).2.2.2.1 ∧ ms.2 23 g = (sp_gs σ by' g k).2.2.2.2.1 ∧ ((sp_gs σ by' g k).1 ≠ -1 → ms.2 24 g = (sp_gs σ by' g k).2.2.2.2.2)
section MG2
variable {σ : sp_S} {ms : jj_MS}
theorem mL_join (W : sp_WF σ) (R : sp_RM σ (ms.2 0) (ms.2 3)) (Ra : sp_aR σ ms) {k g : Nat} {t : sp_N} {by' : List Int} (ht : σ.2.1[k]? = some t) (hbk : by'[k]? = some (g : Int)) (hg : g < 40) (hb : ∀ (i : Nat) x, by'[i]? = some x → ms.2 21 i = x) (hgR : sp_gR σ by' k ms) {Q : jj_MS → Prop} (q : ∀ ms', sp_fr 22 28 ms ms' → sp_gR σ by' (k + 1) ms' → Q ms') : fM_join k Q ms := by
  have h40 := W.2.2.1
  have hk40 := sp_lt ht
  have hB := sp_ac_B W ht
  unfold sp_acB at hB
  have hRa := Ra k t ht
  have a1 : ms.2 18 k = (sp_ac σ t).2.1 := by rw [← hRa]
  have a2 : ms.2 19 k = (sp_ac σ t).2.2.1 := by rw [← hRa]
  have gb := sp_gs_bd W (by' := by') (g := (g : Int)) k (by omega)
  obtain ⟨r0, r1, r2, r3, r4, r5⟩ := hgR g hg
  have esucc : ∀ g' : Int, sp_gs σ by' g' (k + 1) = if (g : Int) = g' then
        (if (sp_gs σ by' g' k).1 = -1 then (k : Int) else (sp_gs σ by' g' k).1, (sp_gs σ by' g' k).2.1 + 1, jj_or (sp_gs σ by' g' k).2.2.1 (jj_shl 1 t.1.1),
          if (sp_gs σ by' g' k).1 = -1 then (sp_ac σ t).2.1 else min (sp_gs σ by' g' k).2.2.2.1 (sp_ac σ t).2.1, max (sp_gs σ by' g' k).2.2.2.2.1 (sp_ac σ t).2.2.1,
          if (sp_gs σ by' g' k).1 = -1 ∨ sp_sdl σ (sp_gs σ by' g' k).2.2.2.2.2 < t.2.2.length then (k : Int) else (sp_gs σ by' g' k).2.2.2.2.2) else sp_gs σ by' g' k := by
    intro g'
    rw [sp_gs, ht]
    dsimp only
    rw [hbk]
    by_cases e : (g : Int) = g'
    · rw [if_pos e, if_pos (by rw [e])]
    · rw [if_neg e, if_neg (fun h => e (Option.some.inj h))]
  have hv := hb k _ hbk
  generalize hs : sp_gs σ by' g k = s at *
  obtain ⟨s0, s1, s2, s3, s4, s5⟩ := s
  dsimp only at r0 r1 r2 r3 r4 r5 gb
  -- the whole, with the answer to 'is it the first'
  have main : ∀ x3 : Int, (x3 = 0 ∨ x3 = 1) → (x3 = 1 ↔ s0 = -1) → fM_join_j42 k g x3 g (if s0 = -1 then (k : Int) else s0) Q ms := by
    intro x3 hx hx3
    have hxr : jj_r x3 := by rcases hx with h | h <;> (rw [h]; exact ⟨by decide, by decide⟩)
    refine ⟨by omega, by omega, fun m9 e9 => ⟨by omega, by omega, by omega, by omega, fun m10 e10 => ⟨by omega, by omega, ?_⟩⟩⟩
    have R10 : sp_RM σ (m10.2 0) (m10.2 3) := R.fr ((sp_fr.rfl (a := 22) (b := 28)).tA e9 |>.tA e10)
    refine mL_note W R10 ht (f := 0) t.1.1 rfl ⟨by omega, by omega, fun m13 e13 => ?_⟩
    have f13 : sp_fr 22 28 ms m13 := (((sp_fr.rfl (a := 22) (b := 28)).tA e9).tA e10).tA e13
    have R13 := R.fr f13
    have b22 : m13.2 22 g = s3 := by rw [e13, jj_mA_ne (by decide), e10, jj_mA_ne (by decide), e9, jj_mA_ne (by decide)]; exact r3
    have b18 : m13.2 18 k = (sp_ac σ t).2.1 := by rw [(f13 18 (by omega)).2]; exact a1
    have b27 : m10.2 27 g = s2 := by rw [e10, jj_mA_ne (by decide), e9, jj_mA_ne (by decide)]; exact r2
    have b26 : m9.2 26 g = s1 := by rw [e9, jj_mA_ne (by decide)]; exact r1
    -- from the first on
    have last : ∀ y2 : Int, y2 = (if s0 = -1 then (sp_ac σ t).2.1 else min s3 (sp_ac σ t).2.1) → fM_join_j103 k g x3 g y2 Q m13 := by
      intro y2 hy
      refine ⟨by omega, by omega, fun m1 e1 => ?_⟩
      have b23 : m1.2 23 g = s4 := by rw [e1, jj_mA_ne (by decide), e13, jj_mA_ne (by decide), e10, jj_mA_ne (by decide), e9, jj_mA_ne (by decide)]; exact r4
      have b19 : m1.2 19 k = (sp_ac σ t).2.2.1 := by rw [e1, jj_mA_ne (by decide), (f13 19 (by omega)).2]; exact a2
      rw [b23, b19]
      refine ⟨by omega, by omega, by omega, by omega, ⟨by omega, by omega⟩, ⟨by omega, by omega⟩, by omega, by omega, fun m2 e2 => ?_⟩
      have f2 : sp_fr 22 28 ms m2 := (f13.tA e1).tA e2
      have b24 : s0 ≠ -1 → m2.2 24 g = s5 := fun h => by rw [e2, jj_mA_ne (by decide), e1, jj_mA_ne (by decide), e13, jj_mA_ne (by decide), e10, jj_mA_ne (by decide), e9, jj_mA_ne (by decide)]; exact r5 h
      have done : ∀ m3 : jj_MS, sp_fr 22 28 ms m3 → (∀ f, f ≠ 24 → m3.2 f = m2.2 f) → (∀ i : Nat, i ≠ g → m3.2 24 i = m2.2 24 i) → m3.2 24 g = (if s0 = -1 ∨ sp_sdl σ s5 < t.2.2.length then (k : Int) else s5) → Q m3 := by
        intro m3 f3 g1 g2 g3
        refine q m3 f3 fun g' hg' => ?_
        rw [esucc g']
        by_cases e : g' = g
        · subst e
          rw [if_pos rfl, hs]
          dsimp only
          rw [g1 25 (by decide), g1 26 (by decide), g1 27 (by decide), g1 22 (by decide), g1 23 (by decide), g3, e2, e1, e13, e10, e9]
          refine ⟨?_, ?_, ?_, ?_, ?_, fun _ => rfl⟩
          · simp [jj_mA]
          · rw [e9] at b26
            simp [jj_mA]
            simp [jj_mA] at b26
            omega
          · rw [e10, e9] at b27
            simp [jj_mA]
            simp [jj_mA] at b27
            rw [b27]
          · simp [jj_mA]
            exact hy
          · simp [jj_mA]
        · have e' : ¬ ((g : Int) = (g' : Nat)) := by omega
          have e'' : ((g' : Nat) : Int) ≠ (g : Nat) := by omega
          rw [if_neg e', g1 25 (by decide), g1 26 (by decide), g1 27 (by decide), g1 22 (by decide), g1 23 (by decide), g2 g' e]
          rw [e2, e1, e13, e10, e9]
          rw [jj_mA_ni e'', jj_mA_ni e'', jj_mA_ni e'', jj_mA_ni e'', jj_mA_ni e'', jj_mA_ni e'', jj_mA_ni e'', jj_mA_ni e'', jj_mA_ni e'', jj_mA_ni e'', jj_mA_ni e'', jj_mA_ni e'', jj_mA_ni e'', jj_mA_ni e'', jj_mA_ni e'', jj_mA_ni e'', jj_mA_ni e'', jj_mA_ni e'', jj_mA_ni e'', jj_mA_ni e'', jj_mA_ni e'', jj_mA_ni e'', jj_mA_ni e'', jj_mA_ni e'', jj_mA_ni e'', jj_mA_ni e'', jj_mA_ni e'', jj_mA_ni e'', jj_mA_ni e'', jj_mA_ni e'']
          exact hgR g' hg'
      have put : ∀ m3, m3 = jj_mA m2 24 g k → (s0 = -1 ∨ sp_sdl σ s5 < t.2.2.length) → Q m3 := fun m3 e3 h => done m3 (f2.tA e3) (fun f hf => by rw [e3, jj_mA_ne hf]) (fun i hi => by rw [e3, jj_mA_ni (by omega)]) (by rw [e3, jj_mA_eq, if_pos rfl, if_pos h])
      refine ⟨hxr, fun c => ⟨by omega, by omega, fun m3 e3 => put m3 e3 (Or.inl (hx3.mp (by omega)))⟩, fun c => ?_⟩
      have hs0 : s0 ≠ -1 := fun h => by have := hx3.mpr h; omega
      have R2 := R.fr f2
      refine mL_note W R2 ht (f := 5) t.2.2.length rfl ⟨by omega, by omega, ?_⟩
      rw [b24 hs0]
      obtain ⟨tt, htt⟩ : ∃ tt, σ.2.1[s5.toNat]? = some tt := ⟨σ.2.1[s5.toNat]'(by have := gb.2.2.2.2.1.2 hs0; omega), List.getElem?_eq_getElem _⟩
      have e55 : ((s5.toNat : Nat) : Int) = s5 := by omega
      have esd : sp_sdl σ s5 = tt.2.2.length := by
        unfold sp_sdl
        rw [htt]
      have hs6 := (W.nt ht).2.2.2.2.2.2.1
      have hs7 := (W.nt htt).2.2.2.2.2.2.1
      have hnt := mL_note W R2 htt (f := 5) (Q := fun r7 ms6 => jj_r (t.2.2.length : Int) ∧ jj_r r7 ∧ ((t.2.2.length : Int) ≤ r7 → Q ms6) ∧ (¬ (t.2.2.length : Int) ≤ r7 → 0 ≤ (g : Int) ∧ (g : Int) < 40 ∧ ∀ ms8, ms8 = jj_mA ms6 24 g k → Q ms8)) tt.2.2.length rfl ⟨jj_rn, jj_rn, fun c2 => done m2 f2 (fun _ _ => rfl) (fun _ _ => rfl) ?_, fun c2 => ⟨by omega, by omega, fun m3 e3 => put m3 e3 (Or.inr ?_)⟩⟩
      · rw [e55] at hnt
        exact hnt
      · rw [b24 hs0, if_neg]
        intro h
        rcases h with h | h
        · exact hs0 h
        · rw [esd] at h; omega
      · rw [esd]; omega
    rw [b27] at e13
    refine ⟨hxr, fun c => ⟨by omega, by omega, by omega, by omega, by rw [b22]; exact ⟨by omega, by omega⟩, by rw [b18]; exact ⟨by omega, by omega⟩, last _ ?_⟩, fun c => ⟨by omega, by omega, last _ ?_⟩⟩
    · rw [b22, b18, if_neg (fun h => by have := hx3.mpr h; omega)]
    · rw [b18, if_pos (hx3.mp (by omega))]
  refine ⟨by omega, by omega, fun v14 e14 => ?_⟩
  rw [hv] at e14
  subst e14
  rw [r0]
  refine ⟨by omega, by omega, ⟨by omega, by omega⟩, fun c => ⟨⟨by decide, by decide⟩, fun _ => ⟨by omega, by omega, ?_⟩, fun c2 => absurd rfl c2⟩, fun c => ⟨⟨by decide, by decide⟩, fun c2 => absurd c2 (by decide), fun _ => ?_⟩⟩
  · have := main 0 (Or.inl rfl) ⟨fun h => absurd h (by decide), fun h => absurd h c⟩
    rw [if_neg c] at this
    rw [r0]
    exact this
  · have := main 1 (Or.inr rfl) ⟨fun _ => c, fun _ => rfl⟩
    rw [if_pos c] at this
    exact this
/-- the groups of a library -/
def sp_gb (σ : sp_S) : List Int × Nat := sp_by (sp_al σ) σ.2.1.length σ.2.1.length
def sp_gp (σ : sp_S) (g : Int) : Int × Int × Int × Int × Int × Int := sp_gs σ (sp_gb σ).1 g σ.2.1.length
/-- what layGroups leaves -/
def sp_LG (σ : sp_S) (ms : jj_MS) : Prop := sp_aR σ ms ∧ ms.1 28 = (sp_gb σ).2 ∧ (∀ (i : Nat) x, (sp_gb σ).1[i]? = some x → ms.2 21 i = x) ∧ sp_gR σ (sp_gb σ).1 σ.2.1.length ms
theorem sp_gb_le (W : sp_WF σ) : (sp_gb σ).2 ≤ σ.2.1.length ∧ (sp_gb σ).2 ≤ 40 := by
  have h := (sp_by_I (al := sp_al σ) (n := σ.2.1.length) σ.2.1.length (Nat.le_refl _)).2.1
  have := W.2.2.1
  exact ⟨h, Nat.le_trans h this⟩
theorem mL_layGroups (W : sp_WF σ) (R : sp_RM σ (ms.2 0) (ms.2 3)) {Q : jj_MS → Prop} (q : ∀ ms', sp_fr 15 30 ms ms' → sp_LG σ ms' → Q ms') : fM_layGroups Q ms := by
  have h40 := W.2.2.1
  have hnn : (sp_gb σ).1.length = σ.2.1.length := (sp_by_I (al := sp_al σ) (n := σ.2.1.length) σ.2.1.length (Nat.le_refl _)).1
  have hgb := sp_by_I (al := sp_al σ) (n := σ.2.1.length) σ.2.1.length (Nat.le_refl _)
  -- the notes join
  have third : ∀ (N k : Nat) (m : jj_MS), sp_fr 15 30 ms m → sp_aR σ m → m.1 28 = (sp_gb σ).2 → (∀ (i : Nat) x, (sp_gb σ).1[i]? = some x → m.2 21 i = x) → sp_gR σ (sp_gb σ).1 k m → k ≤ σ.2.1.length → σ.2.1.length - k < N → fM_layGroups_l108 Q N k m := by
    intro N
    induction N with
    | zero => intro k m _ _ _ _ _ _ h; exact absurd h (Nat.not_lt_zero _)
    | succ N ih =>
      intro k m hf ha h28 h21 hg hk hN
      have R1 := R.fr hf
      show jj_r k ∧ jj_r (m.2 0 2) ∧ _
      rw [R1.2.2.1]
      refine ⟨jj_rn, jj_rn, fun c => ?_, fun c => ?_⟩
      · have hkn : k = σ.2.1.length := by omega
        subst hkn
        exact q m hf ⟨ha, h28, h21, hg⟩
      · obtain ⟨t, ht⟩ : ∃ t, σ.2.1[k]? = some t := ⟨σ.2.1[k]'(by omega), List.getElem?_eq_getElem _⟩
        obtain ⟨x, hx1, hx2⟩ := sp_by_done (al := sp_al σ) (n := σ.2.1.length) σ.2.1.length (Nat.le_refl _) k (by omega)
        have hxb := hgb.2.2 k x hx1
        have hle := hgb.2.1
        have ex : ((x.toNat : Nat) : Int) = x := by omega
        rw [← ex] at hx1
        refine mL_join W R1 ha ht hx1 (by omega) h21 hg fun m3 f3 g3 v e => ?_
        subst e
        refine ih (k + 1) m3 (hf.trans f3) (ha.fr f3) (by rw [(f3 28 (by omega)).1]; exact h28) (fun i y hy => by rw [(f3 21 (by omega)).2]; exact h21 i y hy) g3 (by omega) (by omega)
  -- the groups are made
  have second : ∀ (N k : Nat) (m : jj_MS), sp_fr 15 30 ms m → sp_aR σ m → m.1 28 = (sp_by (sp_al σ) σ.2.1.length k).2 → (∀ (i : Nat) x, (sp_by (sp_al σ) σ.2.1.length k).1[i]? = some x → m.2 21 i = x) → sp_gR σ (sp_gb σ).1 0 m → k ≤ σ.2.1.length → σ.2.1.length - k < N → fM_layGroups_l67 Q N k m := by
    intro N
    induction N with
    | zero => intro k m _ _ _ _ _ _ h; exact absurd h (Nat.not_lt_zero _)
    | succ N ih =>
      intro k m hf ha h28 h21 hg hk hN
      have R1 := R.fr hf
      have I := sp_by_I (al := sp_al σ) (n := σ.2.1.length) k hk
      show jj_r k ∧ jj_r (m.2 0 2) ∧ _
      rw [R1.2.2.1]
      refine ⟨jj_rn, jj_rn, fun c => ?_, fun c => ?_⟩
      · have hkn : k = σ.2.1.length := by omega
        subst hkn
        exact ⟨_, third _ 0 m hf ha h28 h21 hg (Nat.zero_le _) (Nat.lt_succ_self _)⟩
      · obtain ⟨x, hx⟩ : ∃ x, (sp_by (sp_al σ) σ.2.1.length k).1[k]? = some x := ⟨(sp_by (sp_al σ) σ.2.1.length k).1[k]'(by omega), List.getElem?_eq_getElem _⟩
        have hxb := I.2.2 k x hx
        have hxv := h21 k x hx
        rw [hxv]
        refine ⟨by omega, by omega, ⟨by omega, by omega⟩, fun c2 v e => ?_, fun c2 => ?_⟩
        · subst e
          have es : sp_by (sp_al σ) σ.2.1.length (k + 1) = sp_by (sp_al σ) σ.2.1.length k := by
            rw [sp_by, if_neg]
            rw [hx]
            exact fun h => c2 (Option.some.inj h)
          exact ih (k + 1) m hf ha (by rw [es]; exact h28) (by rw [es]; exact h21) hg (by omega) (by omega)
        · subst c2
          have es : sp_by (sp_al σ) σ.2.1.length (k + 1) = (sp_sp (sp_al σ) (sp_by (sp_al σ) σ.2.1.length k).2 σ.2.1.length k (sp_by (sp_al σ) σ.2.1.length k).1, (sp_by (sp_al σ) σ.2.1.length k).2 + 1) := by
            rw [sp_by, if_pos hx]
          refine mL_spread W R1 ha I.1 h21 (fun i y hy => by have := I.2.2 i y hy; omega) hx h28 (by omega) fun m3 f3 g1 g2 g3 m11 e11 v12 e12 => ?_
          subst e12
          have f4 : sp_fr 21 30 m m11 := f3.tI e11
          refine ih (k + 1) m11 (hf.trans f4) (ha.fr f4) ?_ ?_ ?_ (by omega) (by omega)
          · rw [es, e11, jj_mI_eq, g1]
            dsimp only
            omega
          · rw [es, e11]
            exact g3
          · intro g hg'
            have := hg g hg'
            rw [e11, jj_mI_2, g2 25 (by decide) (by decide), g2 26 (by decide) (by decide), g2 27 (by decide) (by decide), g2 22 (by decide) (by decide), g2 23 (by decide) (by decide), g2 24 (by decide) (by decide)]
            exact this
  -- all is cleared
  have first : ∀ (N k : Nat) (m : jj_MS), sp_fr 15 30 ms m → sp_aR σ m → m.1 28 = 0 → (∀ i : Nat, i < k → m.2 21 i = -1 ∧ m.2 25 i = -1 ∧ m.2 26 i = 0 ∧ m.2 27 i = 0 ∧ m.2 22 i = -1 ∧ m.2 23 i = -1) → k ≤ 40 → 40 - k < N → fM_layGroups_l11 Q N k m := by
    intro N
    induction N with
    | zero => intro k m _ _ _ _ _ h; exact absurd h (Nat.not_lt_zero _)
    | succ N ih =>
      intro k m hf ha h28 hi hk hN
      refine ⟨jj_rn, fun c => ⟨σ.2.1.length + 1, ?_⟩, fun c => ⟨by omega, by omega, fun m13 e13 => ⟨by omega, by omega, fun m14 e14 => ⟨by omega, by omega, fun m15 e15 => ⟨by omega, by omega, fun m16 e16 => ⟨by omega, by omega, fun m17 e17 => ⟨by omega, by omega, fun m18 e18 v e => ?_⟩⟩⟩⟩⟩⟩⟩
      · refine second _ 0 m hf ha h28 (fun i x hx => ?_) (fun g hg => ?_) (Nat.zero_le _) (by omega)
        · have hl := sp_lt hx
          rw [sp_by] at hx hl
          dsimp only at hx hl
          rw [List.length_replicate] at hl
          rw [List.getElem?_replicate, if_pos hl] at hx
          rw [(hi i (by omega)).1]
          exact Option.some.inj hx
        · have := hi g (by omega)
          refine ⟨this.2.1, this.2.2.1, this.2.2.2.1, this.2.2.2.2.1, this.2.2.2.2.2, fun h => absurd rfl h⟩
      · subst e
        have f8 : sp_fr 21 28 m m18 := (((((sp_fr.rfl.tA e13).tA e14).tA e15).tA e16).tA e17).tA e18
        refine ih (k + 1) m18 (hf.trans f8) (ha.fr f8) (by rw [e18, jj_mA_1, e17, jj_mA_1, e16, jj_mA_1, e15, jj_mA_1, e14, jj_mA_1, e13, jj_mA_1]; exact h28) (fun i hik => ?_) (by omega) (by omega)
        by_cases e : i = k
        · subst e
          rw [e18, e17, e16, e15, e14, e13]
          simp [jj_mA]
        · have hne : ((i : Nat) : Int) ≠ (k : Nat) := by omega
          have := hi i (by omega)
          rw [e18, e17, e16, e15, e14, e13]
          refine ⟨?_, ?_, ?_, ?_, ?_, ?_⟩ <;> rw [jj_mA_ni hne, jj_mA_ni hne, jj_mA_ni hne, jj_mA_ni hne, jj_mA_ni hne, jj_mA_ni hne]
          · exact this.1
          · exact this.2.1
          · exact this.2.2.1
          · exact this.2.2.2.1
          · exact this.2.2.2.2.1
          · exact this.2.2.2.2.2
  refine mL_layAnchors W R fun m f1 ha m22 e22 => ⟨41, ?_⟩
  have f2 : sp_fr 15 30 ms m22 := (f1.trans (sp_fr.rfl (a := 28) (b := 29)) (p := 15) (q := 30)).tI e22
  refine first 41 0 m22 f2 (fun n t hn => ?_) (by rw [e22, jj_mI_eq]) (fun i h => absurd h (Nat.not_lt_zero _)) (by omega) (by omega)
  rw [e22]
  exact ha n t hn
end MG2
