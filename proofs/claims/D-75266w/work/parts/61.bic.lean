/-! Integer.compareTo: its contract -/
def ja_cm2 (u v : Int) : Int := if u < v then -1 else if u = v then 0 else 1
def jq_J17_compareTo (x y : Option Nat) (Q : Int → jj_H → Nat → Prop) (h : jj_H) (k : Nat) : Prop := ∃ a b u v, x = some a ∧ y = some b ∧ h a = some (jj_bx u) ∧ h b = some (jj_bx v) ∧ jj_r u ∧ jj_r v ∧ Q (ja_cm2 u v) h k
section BIC
variable {G : jj_G} {l : Launch}
theorem cb_J17_compareTo (J : jx_G G l) {fr lo : Nat} (hf9 : 2 ≤ fr) (hl9 : 42 ≤ lo) : ∀ (x y : Option Nat) (Q : Int → jj_H → Nat → Prop) (h : jj_H) (k : Nat), jq_J17_compareTo x y Q h k → jj_jcR G l fr lo yJ17_compareTo cJ17_compareTo 2 (some (.int)) 27 x [.inr (.inr (.inl y))] h k (jn_i Q) := by
  intro x y Q h k w
  obtain ⟨a, b, u, v, rfl, rfl, ha, hb, hu, hv, w⟩ := w
  refine ⟨a, _, 0, rfl, ha, rfl, Nat.zero_le _, ((cC_J17_compareTo J (Q := fun r h' => r = ja_cm2 u v ∧ h' = h) (E := jj_F0) ⟨⟨b, _, rfl, hb, rfl⟩, ⟨a, _, rfl, ha, rfl⟩, a, u, rfl, ha, b, v, rfl, hb, hu, hv, ?_, ?_⟩).room hf9 hl9).to ?_ (fun _ _ _ q => q)⟩
  · refine fun c => ⟨hu, hv, fun d => ⟨?_, rfl⟩, fun d => ⟨?_, rfl⟩⟩
    · unfold ja_cm2
      rw [if_neg (by omega), if_neg d]
    · unfold ja_cm2
      rw [if_neg (by omega), if_pos d]
  · refine fun c => ⟨?_, rfl⟩
    unfold ja_cm2
    rw [if_pos (by omega)]
  · rintro v h' ⟨r, rfl, rfl, rfl⟩
    exact ⟨_, rfl, w⟩
end BIC
