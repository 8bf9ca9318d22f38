/-! OUTPUT -/
theorem sp_by_ex {al : Nat → Nat → Bool} {n : Nat} : ∀ (k : Nat), k ≤ n → ∀ g, g < (sp_by al n k).2 → ∃ j : Nat, j < k ∧ (sp_by al n k).1[j]? = some (g : Int)
  | 0, _, g, h => absurd h (Nat.not_lt_zero _)
  | k + 1, hk, g, hg => by
    have ih := sp_by_ex (al := al) (n := n) k (by omega)
    rw [sp_by] at hg ⊢
    split at hg
    · rename_i hc
      rw [if_pos hc]
      dsimp only at hg ⊢
      by_cases e : g = (sp_by al n k).2
      · subst e
        exact ⟨k, by omega, sp_sp_self hc⟩
      · obtain ⟨j, h1, h2⟩ := ih g (by omega)
        exact ⟨j, by omega, sp_sp_keep hc (by omega) h2⟩
    · rename_i hc
      rw [if_neg hc]
      obtain ⟨j, h1, h2⟩ := ih g hg
      exact ⟨j, by omega, h2⟩
theorem sp_gs_ex {σ : sp_S} (W : sp_WF σ) {by' : List Int} {g : Int} {j : Nat} (hj : by'[j]? = some g) : ∀ k : Nat, k ≤ σ.2.1.length → j < k → (sp_gs σ by' g k).1 ≠ -1
  | 0, _, h => absurd h (Nat.not_lt_zero _)
  | k + 1, hk, h => by
    obtain ⟨t, ht⟩ : ∃ t, σ.2.1[k]? = some t := ⟨σ.2.1[k]'(by omega), List.getElem?_eq_getElem _⟩
    rw [sp_gs, ht]
    dsimp only
    by_cases e : by'[k]? = some g
    · rw [if_pos e]
      dsimp only
      split
      · omega
      · rename_i h2; exact h2
    · rw [if_neg e]
      refine sp_gs_ex W hj k (by omega) ?_
      by_cases e2 : j = k
      · subst e2; exact absurd hj e
      · omega
theorem sp_gs_sp {σ : sp_S} (W : sp_WF σ) {t : Nat} {d : sp_E} (ht : σ.2.2.2.1 = t) (hd : σ.1[t]? = some d) {by' : List Int} {g : Int} : ∀ k : Nat, ((sp_gs σ by' g k).2.2.2.1 = -1 ∨ (0 ≤ (sp_gs σ by' g k).2.2.2.1 ∧ (sp_gs σ by' g k).2.2.2.1 < d.1.length)) ∧ (sp_gs σ by' g k).2.2.2.2.1 < d.1.length
  | 0 => by
    have := (W.ed hd).1
    exact ⟨Or.inl rfl, by show (-1 : Int) < _; omega⟩
  | k + 1 => by
    have ih := sp_gs_sp W ht hd (by' := by') (g := g) k
    rw [sp_gs]
    split
    · rename_i n hn
      obtain ⟨t', d', h1, h2, h3, h4⟩ := sp_ac_bd W hn
      have : t' = t := by omega
      subst this
      rw [hd] at h2
      have := Option.some.inj h2
      subst this
      have := (W.ed hd).1
      split
      · refine ⟨?_, ?_⟩
        · dsimp only
          split
          · omega
          · omega
        · dsimp only
          omega
      · exact ih
    · exact ih
theorem sp_gp_first {σ : sp_S} (W : sp_WF σ) {t : Nat} {d : sp_E} (ht : σ.2.2.2.1 = t) (hd : σ.1[t]? = some d) (g : Nat) (hg : g < (sp_gb σ).2) : (sp_gp σ g).1 ≠ -1 ∧ ((sp_gp σ g).2.2.2.1 = -1 ∨ (0 ≤ (sp_gp σ g).2.2.2.1 ∧ (sp_gp σ g).2.2.2.1 < d.1.length)) := by
  obtain ⟨j, h1, h2⟩ := sp_by_ex (al := sp_al σ) (n := σ.2.1.length) σ.2.1.length (Nat.le_refl _) g hg
  exact ⟨sp_gs_ex W h2 _ (Nat.le_refl _) h1, (sp_gs_sp W ht hd _).1⟩
def sp_o1 (σ : sp_S) (m : Int) : Nat → List Int
  | 0 => []
  | r + 1 => sp_o1 σ m r ++ (if jj_and (jj_shr m r) 1 = 1 then (σ.2.2.1[r]?).getD [] ++ [32] else [])
def sp_o2 (ws : List sp_W) (f : Nat) : Nat → List Int
  | 0 => []
  | k + 1 => sp_o2 ws f k ++ (32 :: (ws[f + k]?).getD [])
def sp_out (σ : sp_S) (d : sp_E) (g : Nat) : List Int :=
  sp_o1 σ (sp_gp σ g).2.2.1 σ.2.2.1.length ++ jj_sx (match σ.2.1[(sp_gp σ g).1.toNat]? with | some t => t.1.2.1.toNat | none => 0) ++
  (if (sp_gp σ g).2.2.2.1 = -1 then [] else sp_o2 d.1 (sp_gp σ g).2.2.2.1.toNat ((sp_gp σ g).2.2.2.2.1 - (sp_gp σ g).2.2.2.1 + 1).toNat) ++
  (match σ.2.1[(sp_gp σ g).2.2.2.2.2.toNat]? with | some t => (if t.2.2 = [] then [] else [58]) ++ sp_o2 t.2.2 0 t.2.2.length | none => [])
theorem sp_o1_len {σ : sp_S} (W : sp_WF σ) {m : Int} : ∀ r : Nat, (sp_o1 σ m r).length ≤ 9 * r
  | 0 => Nat.le_refl _
  | r + 1 => by
    have ih := sp_o1_len W (m := m) r
    rw [sp_o1, List.length_append]
    split
    · rw [List.length_append, List.length_singleton]
      cases h : σ.2.2.1[r]? with
      | none => simp; omega
      | some w =>
        have := (W.2.2.2.2.2.1 w (List.mem_of_getElem? h)).2.1
        simp only [Option.getD_some]
        omega
    · simp; omega
theorem sp_o2_len {ws : List sp_W} (h : ∀ w ∈ ws, sp_ok w) {f : Nat} : ∀ k : Nat, (sp_o2 ws f k).length ≤ 9 * k
  | 0 => Nat.le_refl _
  | k + 1 => by
    have ih := sp_o2_len h (f := f) k
    rw [sp_o2, List.length_append, List.length_cons]
    cases e : ws[f + k]? with
    | none => simp; omega
    | some w =>
      have := (h w (List.mem_of_getElem? e)).2.1
      simp only [Option.getD_some]
      omega
/-- the model's output holds these letters -/
def sp_oR (cs : List Int) (ms : jj_MS) : Prop := ms.1 34 = cs.length ∧ ∀ (i : Nat) x, cs[i]? = some x → ms.2 33 i = x
theorem jj_l2i27 {x : Int} (h0 : 0 ≤ x) (h1 : x < 27) : jj_l2i x = x := by
  have h : ∀ r : Fin 27, jj_l2i ((r.val : Nat) : Int) = ((r.val : Nat) : Int) := by decide +kernel
  have := h ⟨x.toNat, by omega⟩
  have e : ((x.toNat : Nat) : Int) = x := by omega
  rw [e] at this
  exact this
section MW
variable {σ : sp_S} {ms : jj_MS}
theorem mL_letterOf {w : sp_W} (hw : sp_ok w) {i : Nat} {c : Int} (hi : w[i]? = some c) {Q : Int → jj_MS → Prop} (q : Q c ms) : fM_letterOf (sp_pk w) i Q ms := by
  have hil := sp_lt hi
  have h8 := hw.2.1
  have hrl : w.reverse.length = w.length := List.length_reverse
  refine mL_lettersOf hw fun v5 e5 => ⟨w.length + 1, ?_⟩
  have loop : ∀ (N b : Nat), b < w.length → i ≤ b → b - i < N → fM_letterOf_l10 i Q N (sp_pr (w.reverse.drop (w.length - 1 - b))) b ms := by
    intro N
    induction N with
    | zero => intro b _ _ h; exact absurd h (Nat.not_lt_zero _)
    | succ N ih =>
      intro b hb hib hN
      obtain ⟨x, hx⟩ : ∃ x, w.reverse[w.length - 1 - b]? = some x := ⟨w.reverse[w.length - 1 - b]'(by omega), List.getElem?_eq_getElem _⟩
      have hxa : sp_az x := hw.2.2 x (List.mem_reverse.mp (List.mem_of_getElem? hx))
      have hall : ∀ c ∈ w.reverse.drop (w.length - 1 - b), sp_az c := fun c hc => hw.2.2 c (List.mem_reverse.mp (List.mem_of_mem_drop hc))
      have hbd := sp_pr_bd hall
      have hl2 : (w.reverse.drop (w.length - 1 - b)).length ≤ 8 := by rw [List.length_drop]; omega
      have h2 : (27 ^ (w.reverse.drop (w.length - 1 - b)).length : Nat) ≤ 27 ^ 8 := Nat.pow_le_pow_right (by decide) hl2
      have h3 : (27 ^ 8 : Nat) = 282429536481 := by decide
      have hdr := sp_drop hx
      refine ⟨jj_rn, jj_rn, fun c2 => ?_, fun c2 v1 e1 v2 e2 => ?_⟩
      · have hbi : b = i := by omega
        subst hbi
        rw [jj_lrem27 (by omega) (by omega), hdr, (sp_pr_div hxa).2]
        unfold sp_az at hxa
        rw [jj_l2i27 (by omega) (by omega)]
        have e : x = c := by
          rw [List.getElem?_reverse (by omega)] at hx
          have e9 : w.length - 1 - (w.length - 1 - b) = b := by omega
          rw [e9, hi] at hx
          exact (Option.some.inj hx).symm
        have e10 : x - 96 + 96 = c := by omega
        rw [e10]
        exact q
      · rw [jj_ldiv27 (by omega) (by omega), hdr, (sp_pr_div hxa).1] at e1
        have := ih (b - 1) (by omega) (by omega) (by omega)
        have e9 : w.length - 1 - (b - 1) = w.length - 1 - b + 1 := by omega
        rw [e9, ← e1] at this
        have e10 : v2 = ((b - 1 : Nat) : Int) := by omega
        rw [e10]
        exact this
  have := loop (w.length + 1) (w.length - 1) (by omega) (by omega) (by omega)
  have e0 : w.length - 1 - (w.length - 1) = 0 := by omega
  rw [e0] at this
  have e6 : v5 = ((w.length - 1 : Nat) : Int) := by omega
  rw [e6]
  exact this
theorem mL_put {cs : List Int} {c : Int} (hR : sp_oR cs ms) (hl : cs.length < 1600) {Q : jj_MS → Prop} (q : ∀ ms', sp_fr 33 35 ms ms' → sp_oR (cs ++ [c]) ms' → Q ms') : fM_put c Q ms := by
  have h1 := hR.1
  refine ⟨by omega, by omega, fun m1 e1 m2 e2 => q m2 ((sp_fr.rfl.tA e1).tI e2) ⟨?_, fun i x hx => ?_⟩⟩
  · rw [e2, jj_mI_eq, e1, jj_mA_1, h1, List.length_append]
    rfl
  · rw [e2, jj_mI_2, e1, jj_mA_eq, h1]
    rw [List.getElem?_append] at hx
    split at hx
    · rw [if_neg (by omega)]
      exact hR.2 i x hx
    · have hlt := sp_lt hx
      have : i = cs.length := by simp at hlt; omega
      subst this
      rw [if_pos rfl]
      simpa using hx
theorem mL_putWord {cs : List Int} {w : sp_W} (hw : sp_ok w) (hR : sp_oR cs ms) (hl : cs.length + w.length ≤ 1600) {Q : jj_MS → Prop} (q : ∀ ms', sp_fr 33 35 ms ms' → sp_oR (cs ++ w) ms' → Q ms') : fM_putWord (sp_pk w) Q ms := by
  have h8 := hw.2.1
  have loop : ∀ (N i : Nat) (m : jj_MS), sp_fr 33 35 ms m → sp_oR (cs ++ w.take i) m → i ≤ w.length → w.length - i < N → fM_putWord_l2 (sp_pk w) Q N i m := by
    intro N
    induction N with
    | zero => intro i m _ _ _ h; exact absurd h (Nat.not_lt_zero _)
    | succ N ih =>
      intro i m hf ho hi hN
      refine mL_lettersOf hw ⟨jj_rn, jj_rn, fun c => ?_, fun c => ?_⟩
      · rw [List.take_of_length_le (by omega)] at ho
        exact q m hf ho
      · obtain ⟨x, hx⟩ : ∃ x, w[i]? = some x := ⟨w[i]'(by omega), List.getElem?_eq_getElem _⟩
        refine mL_letterOf hw hx (mL_put ho (by rw [List.length_append, List.length_take]; omega) fun m2 f2 o2 v e => ?_)
        subst e
        refine ih (i + 1) m2 (hf.trans f2) ?_ (by omega) (by omega)
        rw [List.take_succ, hx, ← List.append_assoc]
        exact o2
  refine ⟨_, loop _ 0 ms sp_fr.rfl ?_ (Nat.zero_le _) (Nat.lt_succ_self _)⟩
  rw [List.take_zero, List.append_nil]
  exact hR
theorem mL_putKind {cs : List Int} {x : Int} (hx : 0 ≤ x ∧ x < 4) (hR : sp_oR cs ms) (hl : cs.length ≤ 1500) {Q : jj_MS → Prop} (q : ∀ ms', sp_fr 33 35 ms ms' → sp_oR (cs ++ jj_sx x.toNat) ms' → Q ms') : fM_putKind x Q ms := by
  have loop : ∀ (s : List Int), s.length ≤ 20 → (∀ ms', sp_fr 33 35 ms ms' → sp_oR (cs ++ s) ms' → Q ms') → ∃ n9, fM_putKind_l38 s Q n9 0 ms := by
    intro s hs q
    have loop : ∀ (N i : Nat) (m : jj_MS), sp_fr 33 35 ms m → sp_oR (cs ++ s.take i) m → i ≤ s.length → s.length - i < N → fM_putKind_l38 s Q N i m := by
      intro N
      induction N with
      | zero => intro i m _ _ _ h; exact absurd h (Nat.not_lt_zero _)
      | succ N ih =>
        intro i m hf ho hi hN
        refine ⟨jj_rn, jj_rn, fun c => ?_, fun c => ⟨by omega, by omega, ?_⟩⟩
        · rw [List.take_of_length_le (by omega)] at ho
          exact q m hf ho
        · obtain ⟨y, hy⟩ : ∃ y, s[i]? = some y := ⟨s[i]'(by omega), List.getElem?_eq_getElem _⟩
          rw [Int.toNat_natCast, List.getD_eq_getElem?_getD, hy]
          refine mL_put ho (by rw [List.length_append, List.length_take]; omega) fun m2 f2 o2 v e => ?_
          subst e
          refine ih (i + 1) m2 (hf.trans f2) ?_ (by omega) (by omega)
          rw [List.take_succ, hy, ← List.append_assoc]
          exact o2
    refine ⟨_, loop _ 0 ms sp_fr.rfl ?_ (Nat.zero_le _) (Nat.lt_succ_self _)⟩
    rw [List.take_zero, List.append_nil]
    exact hR
  have jr : jj_r x := ⟨by omega, by omega⟩
  refine ⟨jr, fun c => ⟨jr, fun c2 => ⟨jr, fun c3 => loop _ (by decide) fun m f o => q m f ?_, fun c3 => loop _ (by decide) fun m f o => q m f ?_⟩, fun c2 => loop _ (by decide) fun m f o => q m f ?_⟩, fun c => loop _ (by decide) fun m f o => q m f ?_⟩
  · have : x.toNat = 3 := by omega
    rw [this]
    exact o
  · have : x.toNat = 2 := by omega
    rw [this]
    exact o
  · have : x.toNat = 1 := by omega
    rw [this]
    exact o
  · have : x.toNat = 0 := by omega
    rw [this]
    exact o
end MW
