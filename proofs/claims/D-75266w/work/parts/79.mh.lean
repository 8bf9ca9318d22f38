/-! HEAT, THE STRONGEST GROUP, THE HOTTEST PAGE -/
def sp_bits (m : Int) : Int := jj_and (jj_shr m 0) 1 + jj_and (jj_shr m 1) 1 + jj_and (jj_shr m 2) 1 + jj_and (jj_shr m 3) 1 + jj_and (jj_shr m 4) 1 + jj_and (jj_shr m 5) 1
def sp_pop : Nat → Int → Int
  | 0, _ => 0
  | f + 1, m => if m = 0 then 0 else 1 + sp_pop f (jj_and m (m - 1))
theorem sp_pop_bits0 : ∀ m : Fin 64, sp_pop 7 ((m.val : Nat) : Int) = sp_bits ((m.val : Nat) : Int) ∧ 0 ≤ sp_bits ((m.val : Nat) : Int) ∧ sp_bits ((m.val : Nat) : Int) ≤ 6 := by decide +kernel
theorem sp_or0 : ∀ m n : Fin 64, 0 ≤ jj_or ((m.val : Nat) : Int) ((n.val : Nat) : Int) ∧ jj_or ((m.val : Nat) : Int) ((n.val : Nat) : Int) < 64 := by decide +kernel
theorem sp_shl0 : ∀ r : Fin 6, 0 ≤ jj_shl 1 ((r.val : Nat) : Int) ∧ jj_shl 1 ((r.val : Nat) : Int) < 64 := by decide +kernel
theorem sp_bits_bd {m : Int} (h0 : 0 ≤ m) (h1 : m < 64) : sp_pop 7 m = sp_bits m ∧ 0 ≤ sp_bits m ∧ sp_bits m ≤ 6 := by
  have := sp_pop_bits0 ⟨m.toNat, by omega⟩
  have e : ((m.toNat : Nat) : Int) = m := by omega
  rw [e] at this
  exact this
theorem sp_or_bd {m n : Int} (h0 : 0 ≤ m) (h1 : m < 64) (g0 : 0 ≤ n) (g1 : n < 64) : 0 ≤ jj_or m n ∧ jj_or m n < 64 := by
  have := sp_or0 ⟨m.toNat, by omega⟩ ⟨n.toNat, by omega⟩
  have e : ((m.toNat : Nat) : Int) = m := by omega
  have e' : ((n.toNat : Nat) : Int) = n := by omega
  rw [e, e'] at this
  exact this
theorem sp_shl_bd {r : Int} (h0 : 0 ≤ r) (h1 : r < 6) : 0 ≤ jj_shl 1 r ∧ jj_shl 1 r < 64 := by
  have := sp_shl0 ⟨r.toNat, by omega⟩
  have e : ((r.toNat : Nat) : Int) = r := by omega
  rw [e] at this
  exact this
def sp_has (p : Int × Int × Int × Int) (w : Int) : Bool := decide (p.1 ≠ 3) && decide (p.2.1 ≤ w) && decide (w ≤ p.2.2.1)
/-- the readers whose notes lie at a word -/
def sp_hm (σ : sp_S) (w : Int) : Nat → Int
  | 0 => 0
  | k + 1 => match σ.2.1[k]? with
    | some t => jj_or (sp_hm σ w k) (if sp_has (sp_ac σ t) w = true then jj_shl 1 t.1.1 else 0)
    | none => sp_hm σ w k
def sp_heat (σ : sp_S) (w : Int) : Int := sp_bits (sp_hm σ w σ.2.1.length)
theorem sp_WF.rd {σ : sp_S} (W : sp_WF σ) {n : Nat} {t : sp_N} (hn : σ.2.1[n]? = some t) : 0 ≤ t.1.1 ∧ t.1.1 < 6 := by
  have h := W.nt hn
  have h6 := W.2.2.2.2.1
  exact ⟨h.1, by have := h.2.1; omega⟩
theorem sp_hm_bd {σ : sp_S} (W : sp_WF σ) {w : Int} : ∀ k : Nat, 0 ≤ sp_hm σ w k ∧ sp_hm σ w k < 64
  | 0 => (by decide : (0 : Int) ≤ 0 ∧ (0 : Int) < 64)
  | k + 1 => by
    have ih := sp_hm_bd W (w := w) k
    rw [sp_hm]
    split
    · rename_i t ht
      have hr := W.rd ht
      split
      · exact sp_or_bd ih.1 ih.2 (sp_shl_bd hr.1 hr.2).1 (sp_shl_bd hr.1 hr.2).2
      · exact sp_or_bd ih.1 ih.2 (by decide) (by decide)
    · exact ih
theorem sp_gs_rd {σ : sp_S} (W : sp_WF σ) {by' : List Int} {g : Int} : ∀ k : Nat, 0 ≤ (sp_gs σ by' g k).2.2.1 ∧ (sp_gs σ by' g k).2.2.1 < 64
  | 0 => (by decide : (0 : Int) ≤ 0 ∧ (0 : Int) < 64)
  | k + 1 => by
    have ih := sp_gs_rd W (by' := by') (g := g) k
    rw [sp_gs]
    split
    · rename_i t ht
      have hr := W.rd ht
      split
      · exact sp_or_bd ih.1 ih.2 (sp_shl_bd hr.1 hr.2).1 (sp_shl_bd hr.1 hr.2).2
      · exact ih
    · exact ih
/-- the strongest of the first k groups -/
def sp_st (σ : sp_S) : Nat → Int
  | 0 => -1
  | k + 1 => if sp_st σ k = -1 ∨ (0 < sp_bits (sp_gp σ k).2.2.1 - sp_bits (sp_gp σ (sp_st σ k)).2.2.1 ∨ (sp_bits (sp_gp σ k).2.2.1 - sp_bits (sp_gp σ (sp_st σ k)).2.2.1 = 0 ∧ (sp_gp σ (sp_st σ k)).2.1 < (sp_gp σ k).2.1)) then (k : Int) else sp_st σ k
theorem sp_st_bd {σ : sp_S} : ∀ k : Nat, -1 ≤ sp_st σ k ∧ sp_st σ k < k
  | 0 => (by decide : (-1 : Int) ≤ -1 ∧ (-1 : Int) < ((0 : Nat) : Int))
  | k + 1 => by
    have := sp_st_bd (σ := σ) k
    rw [sp_st]
    split <;> omega
section MH
variable {σ : sp_S} {ms : jj_MS}
theorem mL_bitsOf {m : Int} {Q : Int → jj_MS → Prop} (q : Q (sp_bits m) ms) : fM_bitsOf m Q ms := by
  refine ⟨7, ⟨by decide, by decide⟩, fun c => absurd c (by decide), fun _ v1 e1 v2 e2 => ?_⟩
  subst e2; subst e1
  refine ⟨⟨by decide, by decide⟩, fun c => absurd c (by decide), fun _ v1 e1 v2 e2 => ?_⟩
  subst e2; subst e1
  refine ⟨⟨by decide, by decide⟩, fun c => absurd c (by decide), fun _ v1 e1 v2 e2 => ?_⟩
  subst e2; subst e1
  refine ⟨⟨by decide, by decide⟩, fun c => absurd c (by decide), fun _ v1 e1 v2 e2 => ?_⟩
  subst e2; subst e1
  refine ⟨⟨by decide, by decide⟩, fun c => absurd c (by decide), fun _ v1 e1 v2 e2 => ?_⟩
  subst e2; subst e1
  refine ⟨⟨by decide, by decide⟩, fun c => absurd c (by decide), fun _ v1 e1 v2 e2 => ?_⟩
  subst e2; subst e1
  refine ⟨⟨by decide, by decide⟩, fun _ => ?_, fun c => absurd (by decide) c⟩
  have e : sp_bits m = 0 + jj_and (jj_shr m 0) 1 + jj_and (jj_shr m (0 + 1)) 1 + jj_and (jj_shr m (0 + 1 + 1)) 1 + jj_and (jj_shr m (0 + 1 + 1 + 1)) 1 + jj_and (jj_shr m (0 + 1 + 1 + 1 + 1)) 1 + jj_and (jj_shr m (0 + 1 + 1 + 1 + 1 + 1)) 1 := by
    unfold sp_bits
    rw [Int.zero_add]
    rfl
  rw [← e]
  exact q
theorem mL_heatOf (W : sp_WF σ) (R : sp_RM σ (ms.2 0) (ms.2 3)) (Ra : sp_aR σ ms) {w : Int} (hw : jj_r w) {Q : Int → jj_MS → Prop} (q : Q (sp_heat σ w) ms) : fM_heatOf w Q ms := by
  have h40 := W.2.2.1
  have loop : ∀ (N k : Nat), k ≤ σ.2.1.length → σ.2.1.length - k < N → fM_heatOf_l4 w Q N (sp_hm σ w k) k ms := by
    intro N
    induction N with
    | zero => intro k _ h; exact absurd h (Nat.not_lt_zero _)
    | succ N ih =>
      intro k hk hN
      show jj_r k ∧ jj_r (ms.2 0 2) ∧ _
      rw [R.2.2.1]
      refine ⟨jj_rn, jj_rn, fun c => mL_bitsOf ?_, fun c => ?_⟩
      · have : k = σ.2.1.length := by omega
        rw [this]
        exact q
      · obtain ⟨t, ht⟩ : ∃ t, σ.2.1[k]? = some t := ⟨σ.2.1[k]'(by omega), List.getElem?_eq_getElem _⟩
        have hRa := Ra k t ht
        have hB := sp_ac_B W ht
        unfold sp_acB at hB
        have a0 : ms.2 17 k = (sp_ac σ t).1 := by rw [← hRa]
        have a1 : ms.2 18 k = (sp_ac σ t).2.1 := by rw [← hRa]
        have a2 : ms.2 19 k = (sp_ac σ t).2.2.1 := by rw [← hRa]
        have es : sp_hm σ w (k + 1) = jj_or (sp_hm σ w k) (if sp_has (sp_ac σ t) w = true then jj_shl 1 t.1.1 else 0) := by
          rw [sp_hm, ht]
        have no : sp_has (sp_ac σ t) w = false → fM_heatOf_j45 (fM_heatOf_l4 w Q N) w (sp_hm σ w k) k Q ms := fun h => by
          rw [h] at es
          refine ⟨⟨by decide, by decide⟩, fun _ v1 e1 v2 e2 => ?_, fun c => absurd rfl c⟩
          have := ih (k + 1) (by omega) (by omega)
          rw [es] at this
          rw [e1, e2]
          exact this
        have yes : sp_has (sp_ac σ t) w = true → fM_heatOf_j46 (fM_heatOf_l4 w Q N) w (sp_hm σ w k) k 1 Q ms := fun h => by
          rw [h] at es
          refine ⟨⟨by decide, by decide⟩, fun c => absurd c (by decide), fun _ => mL_note W R ht (f := 0) t.1.1 rfl fun v5 e5 v6 e6 => ?_⟩
          have := ih (k + 1) (by omega) (by omega)
          rw [es] at this
          rw [e5, e6]
          exact this
        rw [a0, a1, a2]
        refine ⟨by omega, by omega, ⟨by omega, by omega⟩, fun c2 => no (by unfold sp_has; simp [c2]), fun c2 => ⟨by omega, by omega, by omega, by omega, mL_btw hw ⟨by omega, by omega⟩ ⟨by omega, by omega⟩ (fun g1 g2 => ⟨⟨by decide, by decide⟩, fun c => absurd c (by decide), fun _ => yes (by unfold sp_has; simp [c2, g1, g2])⟩) (fun g => ⟨⟨by decide, by decide⟩, fun _ => no ?_, fun c => absurd rfl c⟩)⟩⟩
        unfold sp_has
        by_cases g1 : (sp_ac σ t).2.1 ≤ w
        · have g2 : ¬ w ≤ (sp_ac σ t).2.2.1 := fun h => g ⟨g1, h⟩
          simp [g2]
        · simp [g1]
  exact ⟨σ.2.1.length + 1, loop _ 0 (Nat.zero_le _) (by omega)⟩
theorem mL_strongestGroup (W : sp_WF σ) (hL : sp_LG σ ms) {Q : Int → jj_MS → Prop} (q : Q (sp_st σ (sp_gb σ).2) ms) : ∃ n9, fM_strongestGroup_l13 Q n9 (-1) 0 ms := by
  obtain ⟨-, h28, -, hg⟩ := hL
  have hle := sp_gb_le W
  have h40 := W.2.2.1
  have loop : ∀ (N k : Nat), k ≤ (sp_gb σ).2 → (sp_gb σ).2 - k < N → fM_strongestGroup_l13 Q N (sp_st σ k) k ms := by
    intro N
    induction N with
    | zero => intro k _ h; exact absurd h (Nat.not_lt_zero _)
    | succ N ih =>
      intro k hk hN
      have hb := sp_st_bd (σ := σ) k
      show jj_r k ∧ jj_r (ms.1 28) ∧ _
      rw [h28]
      refine ⟨jj_rn, jj_rn, fun c => ?_, fun c => ?_⟩
      · have : k = (sp_gb σ).2 := by omega
        rw [this]
        exact q
      · have nxt := ih (k + 1) (by omega) (by omega)
        obtain ⟨-, k1, k2, -⟩ := hg k (by omega)
        have bk := sp_gs_bd W (by' := (sp_gb σ).1) (g := (k : Int)) σ.2.1.length (Nat.le_refl _)
        refine ⟨⟨by omega, by omega⟩, fun c2 => ?_, fun c2 => ?_⟩
        · generalize hs : sp_st σ k = s at *
          have es : ((s.toNat : Nat) : Int) = s := by omega
          obtain ⟨-, b1, b2, -⟩ := hg s.toNat (by omega)
          rw [es] at b1 b2
          have bs := sp_gs_bd W (by' := (sp_gb σ).1) (g := s) σ.2.1.length (Nat.le_refl _)
          have mk := sp_gs_rd W (by' := (sp_gb σ).1) (g := (k : Int)) σ.2.1.length
          have mS := sp_gs_rd W (by' := (sp_gb σ).1) (g := s) σ.2.1.length
          have rk := sp_bits_bd mk.1 mk.2
          have rs := sp_bits_bd mS.1 mS.2
          refine ⟨by omega, by omega, mL_bitsOf ⟨by omega, by omega, mL_bitsOf ?_⟩⟩
          rw [k2, b2]
          have est : sp_st σ (k + 1) = if 0 < sp_bits (sp_gp σ k).2.2.1 - sp_bits (sp_gp σ s).2.2.1 ∨ (sp_bits (sp_gp σ k).2.2.1 - sp_bits (sp_gp σ s).2.2.1 = 0 ∧ (sp_gp σ s).2.1 < (sp_gp σ k).2.1) then (k : Int) else s := by
            rw [sp_st, hs]
            by_cases h : 0 < sp_bits (sp_gp σ k).2.2.1 - sp_bits (sp_gp σ s).2.2.1 ∨ (sp_bits (sp_gp σ k).2.2.1 - sp_bits (sp_gp σ s).2.2.1 = 0 ∧ (sp_gp σ s).2.1 < (sp_gp σ k).2.1)
            · rw [if_pos h, if_pos (Or.inr h)]
            · rw [if_neg h, if_neg (fun h2 => h2.elim c2 h)]
          unfold sp_gp at est
          rw [est] at nxt
          refine ⟨⟨by omega, by omega⟩, fun c3 v e => ?_, fun c3 => ⟨⟨by omega, by omega⟩, fun c4 v e => ?_, fun c4 => ⟨by omega, by omega, by omega, by omega, by rw [k1]; exact ⟨by omega, by omega⟩, by rw [b1]; exact ⟨by omega, by omega⟩, fun c5 v e => ?_, fun c5 v e => ?_⟩⟩⟩
          · subst e
            rw [if_pos (Or.inl c3)] at nxt
            exact nxt
          · subst e
            rw [if_neg (fun h => h.elim c3 (fun h => c4 h.1))] at nxt
            exact nxt
          · subst e
            rw [k1, b1] at c5
            rw [if_neg (fun h => h.elim c3 (fun h => by omega))] at nxt
            exact nxt
          · subst e
            rw [k1, b1] at c5
            rw [if_pos (Or.inr ⟨c4, by omega⟩)] at nxt
            exact nxt
        · rw [sp_st, if_pos (Or.inl c2)] at nxt
          refine ⟨⟨by decide, by decide⟩, fun _ v e => ?_, fun c => absurd (by decide) c⟩
          subst e
          exact nxt
  exact ⟨(sp_gb σ).2 + 1, loop _ 0 (Nat.zero_le _) (by omega)⟩
end MH
