/-! LAYOUT -/
def sp_ln (d : sp_E) (k : Nat) : Int := (((d.1[k]?).getD []).length : Nat)
def sp_lay (d : sp_E) : Nat → Int × Int × Int
  | 0 => (0, 0, 0)
  | k + 1 => if d.2.1[k + 1]? = some true ∨ d.2.2.1 < (sp_lay d k).2.1 + sp_ln d k + 1 + sp_ln d (k + 1) then ((sp_lay d k).1 + 1, 0, 0) else ((sp_lay d k).1, (sp_lay d k).2.1 + sp_ln d k + 1, (sp_lay d k).2.2 + 1)
def sp_pre (d : sp_E) : Nat → Int × Int × Int
  | 0 => (-1, 0, 0)
  | k + 1 => ((sp_lay d k).1, (sp_lay d k).2.1 + sp_ln d k, (sp_lay d k).2.2)
theorem sp_lay_bd {d : sp_E} (hd : sp_okE d) : ∀ k, 0 ≤ (sp_lay d k).1 ∧ (sp_lay d k).1 ≤ k ∧ 0 ≤ (sp_lay d k).2.1 ∧ (sp_lay d k).2.1 ≤ 60 ∧ 0 ≤ (sp_lay d k).2.2 ∧ (sp_lay d k).2.2 ≤ k
  | 0 => by simp [sp_lay]
  | k + 1 => by
    have ih := sp_lay_bd hd k
    have h1 : 0 ≤ sp_ln d k := by unfold sp_ln; omega
    have h2 : 0 ≤ sp_ln d (k + 1) := by unfold sp_ln; omega
    have h3 := hd.2.2.2.2.2.2.1
    unfold sp_lay
    split
    · refine ⟨?_, ?_, ?_, ?_, ?_, ?_⟩ <;> dsimp only <;> omega
    · refine ⟨?_, ?_, ?_, ?_, ?_, ?_⟩ <;> dsimp only <;> omega
/-- the step, as both programs make it -/
theorem sp_lay_pre {d : sp_E} (hd : sp_okE d) (k : Nat) : sp_lay d k = if d.2.1[k]? = some true ∨ d.2.2.1 < (sp_pre d k).2.1 + 1 + sp_ln d k then ((sp_pre d k).1 + 1, 0, 0) else ((sp_pre d k).1, (sp_pre d k).2.1 + 1, (sp_pre d k).2.2 + 1) := by
  cases k with
  | zero =>
    rw [if_pos (Or.inl hd.2.2.2.1)]
    rfl
  | succ k =>
    show (if _ then _ else _) = _
    rfl
section ML
variable {σ : sp_S} {ms : jj_MS}
theorem sp_ln_eq {d : sp_E} {k : Nat} {w : sp_W} (h : d.1[k]? = some w) : sp_ln d k = w.length := by
  unfold sp_ln
  rw [h]
  rfl
theorem mL_layOut (W : sp_WF σ) (R : sp_RM σ (ms.2 0) (ms.2 3)) {e : Nat} {d : sp_E} (he : σ.1[e]? = some d) {Q : jj_MS → Prop} (q : ∀ ms', sp_fr 12 15 ms ms' → (∀ i : Nat, i < d.1.length → ms'.2 12 i = (sp_lay d i).1 ∧ ms'.2 13 i = (sp_lay d i).2.1 ∧ ms'.2 14 i = (sp_lay d i).2.2) → Q ms') : fM_layOut e Q ms := by
  have hd := W.ed he
  have hlen := hd.2.1
  have loop : ∀ (N k : Nat) (ms1 : jj_MS), sp_fr 12 15 ms ms1 → (∀ i : Nat, i < k → ms1.2 12 i = (sp_lay d i).1 ∧ ms1.2 13 i = (sp_lay d i).2.1 ∧ ms1.2 14 i = (sp_lay d i).2.2) → k ≤ d.1.length → d.1.length - k < N → fM_layOut_l10 e Q N (sp_pre d k).1 (sp_pre d k).2.1 (sp_pre d k).2.2 k ms1 := by
    intro N
    induction N with
    | zero => intro k ms1 _ _ _ h; exact absurd h (Nat.not_lt_zero _)
    | succ N ih =>
      intro k ms1 hf hi hk hN
      have R1 := R.fr hf
      refine mL_sizeOf W R1 he ⟨jj_rn, jj_rn, fun c => ?_, fun c => ?_⟩
      · exact q ms1 hf (fun i h => hi i (by omega))
      · have hk' : k < d.1.length := by omega
        obtain ⟨w, hw⟩ : ∃ w, d.1[k]? = some w := ⟨d.1[k], List.getElem?_eq_getElem hk'⟩
        obtain ⟨b, hb⟩ : ∃ b, d.2.1[k]? = some b := ⟨d.2.1[k]'(by rw [hd.2.2.1]; exact hk'), List.getElem?_eq_getElem _⟩
        have hok := W.wd he hw
        have step : ∀ x2 x3 x4 : Int, (x2, x3, x4) = sp_lay d k → fM_layOut_j74 (fM_layOut_l10 e Q N) e x2 x3 x4 k w.length Q ms1 := by
          intro x2 x3 x4 hx
          refine ⟨by omega, by omega, fun m1 e1 => ⟨by omega, by omega, fun m2 e2 => ⟨by omega, by omega, fun m3 e3 v4 e4 v5 e5 => ?_⟩⟩⟩
          have f3 : sp_fr 12 15 ms m3 := ((hf.tA e1).tA e2).tA e3
          have e6 : sp_pre d (k + 1) = (x2, v4, x4) := by
            show ((sp_lay d k).1, (sp_lay d k).2.1 + sp_ln d k, (sp_lay d k).2.2) = _
            rw [← hx, sp_ln_eq hw, e4]
          have e7 := ih (k + 1) m3 f3 (fun i h => ?_) hk' (by omega)
          · rw [e6] at e7
            rw [e5]
            exact e7
          · subst e1; subst e2; subst e3
            have h9 : sp_lay d k = (x2, x3, x4) := hx.symm
            by_cases hik : i = k
            · subst hik
              rw [h9]
              simp [jj_mA]
            · have := hi i (by omega)
              have hne : ¬ ((i : Int) = (k : Int)) := by omega
              simp [jj_mA, hne]
              exact this
        refine mL_wordOf W R1 he hw (mL_lettersOf hok (mL_begins W R1 he hb ⟨?_, fun c => ?_, fun c => ?_⟩))
        · cases b <;> exact ⟨by decide, by decide⟩
        · intro v6 e6
          subst e6
          refine step _ _ _ ?_
          have hbt : b = true := by
            cases b with
            | true => rfl
            | false => exact absurd rfl c
          rw [sp_lay_pre hd k, if_pos (Or.inl (by rw [hb, hbt]))]
        · have hbf : d.2.1[k]? ≠ some true := by
            intro h
            rw [hb] at h
            have := Option.some.inj h
            subst this
            exact absurd c (by decide)
          have hbd : 0 ≤ (sp_pre d k).2.1 ∧ (sp_pre d k).2.1 ≤ 200 := by
            cases k with
            | zero => exact (by decide : (0 : Int) ≤ 0 ∧ (0 : Int) ≤ 200)
            | succ j =>
              have h1 := sp_lay_bd hd j
              have h2 : 0 ≤ sp_ln d j ∧ sp_ln d j ≤ 8 := by
                obtain ⟨w', hw'⟩ : ∃ w', d.1[j]? = some w' := ⟨d.1[j], List.getElem?_eq_getElem (by omega)⟩
                rw [sp_ln_eq hw']
                have := (W.wd he hw').2.1
                omega
              show 0 ≤ (sp_lay d j).2.1 + sp_ln d j ∧ (sp_lay d j).2.1 + sp_ln d j ≤ 200
              omega
          have hw8 := hok.2.1
          have hwd := hd.2.2.2.2.2
          refine mL_width W R1 he ⟨⟨by omega, by omega⟩, ⟨by omega, by omega⟩, fun c2 v17 e17 v18 e18 => ?_, fun c2 v6 e6 => ?_⟩
          · subst e17; subst e18
            refine step _ _ _ ?_
            rw [sp_lay_pre hd k, if_neg (fun h => ?_)]
            rcases h with h | h
            · exact hbf h
            · rw [sp_ln_eq hw] at h
              omega
          · subst e6
            refine step _ _ _ ?_
            rw [sp_lay_pre hd k, if_pos (Or.inr ?_)]
            rw [sp_ln_eq hw]
            omega
  exact ⟨d.1.length + 1, loop _ 0 ms sp_fr.rfl (fun i h => absurd h (Nat.not_lt_zero _)) (Nat.zero_le _) (by omega)⟩
end ML
