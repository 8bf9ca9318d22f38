/-! ALIGNMENT -/
def sp_cm : List sp_W → List sp_W → Int
  | [], _ => 0
  | _ :: _, [] => 0
  | a :: u, b :: v => if a = b then sp_cm u v + 1 else max (sp_cm u (b :: v)) (sp_cm (a :: u) v)
termination_by u v => u.length + v.length
def sp_wk : List sp_W → List sp_W → Int → List Int
  | [], _, _ => []
  | _ :: u, [], j => -1 :: sp_wk u [] j
  | a :: u, b :: v, j => if a = b then j :: sp_wk u v (j + 1) else if sp_cm u (b :: v) < sp_cm (a :: u) v then sp_wk (a :: u) v (j + 1) else -1 :: sp_wk u (b :: v) j
termination_by u v _ => u.length + v.length
theorem sp_cm_nil {v : List sp_W} : sp_cm [] v = 0 := by rw [sp_cm]
theorem sp_cm_nil2 {u : List sp_W} : sp_cm u [] = 0 := by cases u <;> rw [sp_cm]
theorem sp_cm_cons {a b : sp_W} {u v : List sp_W} : sp_cm (a :: u) (b :: v) = if a = b then sp_cm u v + 1 else max (sp_cm u (b :: v)) (sp_cm (a :: u) v) := by rw [sp_cm]
theorem sp_cm_bd : ∀ (N : Nat) (u v : List sp_W), u.length + v.length ≤ N → 0 ≤ sp_cm u v ∧ sp_cm u v ≤ u.length
  | 0, [], v, _ => by rw [sp_cm_nil]; simp
  | 0, _ :: _, _, h => by simp at h
  | N + 1, [], v, _ => by rw [sp_cm_nil]; simp
  | N + 1, a :: u, [], _ => by rw [sp_cm_nil2]; exact ⟨by omega, by omega⟩
  | N + 1, a :: u, b :: v, h => by
    simp only [List.length_cons] at h
    have h1 := sp_cm_bd N u v (by omega)
    have h2 := sp_cm_bd N u (b :: v) (by simp only [List.length_cons]; omega)
    have h3 := sp_cm_bd N (a :: u) v (by simp only [List.length_cons]; omega)
    simp only [List.length_cons] at h3
    rw [sp_cm_cons, List.length_cons]
    split <;> omega
theorem sp_wk_nil {v : List sp_W} {j : Int} : sp_wk [] v j = [] := by rw [sp_wk]
theorem sp_wk_len : ∀ (N : Nat) (u v : List sp_W) (j : Int), u.length + v.length ≤ N → (sp_wk u v j).length = u.length
  | 0, [], v, _, _ => by rw [sp_wk_nil]; rfl
  | 0, _ :: _, _, _, h => by simp at h
  | N + 1, [], v, _, _ => by rw [sp_wk_nil]; rfl
  | N + 1, a :: u, [], j, h => by
    simp only [List.length_cons] at h
    rw [sp_wk, List.length_cons, sp_wk_len N u [] j (by simp at h ⊢; omega), List.length_cons]
  | N + 1, a :: u, b :: v, j, h => by
    simp only [List.length_cons] at h
    rw [sp_wk]
    split
    · rw [List.length_cons, sp_wk_len N u v (j + 1) (by omega), List.length_cons]
    · split
      · exact sp_wk_len N (a :: u) v (j + 1) (by simp only [List.length_cons]; omega)
      · rw [List.length_cons, sp_wk_len N u (b :: v) j (by simp only [List.length_cons]; omega), List.length_cons]
theorem sp_wk_nil2 : ∀ (u : List sp_W) (j : Int), sp_wk u [] j = List.replicate u.length (-1)
  | [], j => by rw [sp_wk_nil]; rfl
  | a :: u, j => by rw [sp_wk, sp_wk_nil2 u j]; rfl
/-- partners grow -/
def sp_inc (lo hi : Int) : List Int → Prop
  | [] => True
  | p :: ps => (p = -1 ∧ sp_inc lo hi ps) ∨ (lo ≤ p ∧ p < hi ∧ sp_inc (p + 1) hi ps)
theorem sp_inc_mono {lo lo' hi : Int} (h : lo ≤ lo') : ∀ {ps : List Int}, sp_inc lo' hi ps → sp_inc lo hi ps
  | [], _ => trivial
  | p :: ps, Or.inl ⟨h1, h2⟩ => Or.inl ⟨h1, sp_inc_mono h h2⟩
  | p :: ps, Or.inr ⟨h1, h2, h3⟩ => Or.inr ⟨by omega, h2, h3⟩
theorem sp_inc_rep {lo hi : Int} : ∀ {n : Nat}, sp_inc lo hi (List.replicate n (-1))
  | 0 => trivial
  | n + 1 => Or.inl ⟨rfl, sp_inc_rep⟩
theorem sp_wk_inc : ∀ (N : Nat) (u v : List sp_W) (j : Int), u.length + v.length ≤ N → sp_inc j (j + v.length) (sp_wk u v j)
  | 0, [], v, _, _ => by rw [sp_wk_nil]; trivial
  | 0, _ :: _, _, _, h => by simp at h
  | N + 1, [], v, _, _ => by rw [sp_wk_nil]; trivial
  | N + 1, a :: u, [], j, h => by rw [sp_wk_nil2]; exact sp_inc_rep
  | N + 1, a :: u, b :: v, j, h => by
    simp only [List.length_cons] at h
    rw [sp_wk]
    have e : j + 1 + (v.length : Int) = j + ((b :: v).length : Nat) := by rw [List.length_cons]; omega
    split
    · refine Or.inr ⟨by omega, by rw [List.length_cons]; omega, ?_⟩
      rw [← e]
      exact sp_wk_inc N u v (j + 1) (by omega)
    · split
      · rw [← e]
        exact sp_inc_mono (by omega) (sp_wk_inc N (a :: u) v (j + 1) (by simp only [List.length_cons]; omega))
      · exact Or.inl ⟨rfl, sp_wk_inc N u (b :: v) j (by simp only [List.length_cons]; omega)⟩
/-- a list of words against itself -/
theorem sp_wk_self : ∀ (u : List sp_W) (j : Int) (i : Nat), i < u.length → (sp_wk u u j)[i]? = some (j + i)
  | [], _, _, h => absurd h (Nat.not_lt_zero _)
  | a :: u, j, 0, _ => by rw [sp_wk, if_pos rfl]; simp
  | a :: u, j, i + 1, h => by
    rw [sp_wk, if_pos rfl, List.getElem?_cons_succ, sp_wk_self u (j + 1) i (by simpa using h)]
    congr 1
    omega
/-- partners of the words of an edition among those of the target -/
def sp_pt (σ : sp_S) (d : sp_E) : List Int := match σ.1[σ.2.2.2.1.toNat]? with
  | some t => sp_wk d.1 t.1 0
  | none => []
theorem sp_drop {α : Type} {l : List α} {i : Nat} {a : α} (h : l[i]? = some a) : l.drop i = a :: l.drop (i + 1) := by
  obtain ⟨h1, h2⟩ := List.getElem?_eq_some_iff.mp h
  rw [← h2]
  exact List.drop_eq_getElem_cons h1
section MA
variable {σ : sp_S} {ms : jj_MS}
theorem sp_tg (W : sp_WF σ) {e : Nat} {d : sp_E} (he : σ.1[e]? = some d) : ∃ (t : Nat) (dt : sp_E), σ.2.2.2.1 = t ∧ σ.1[t]? = some dt := by
  have h1 := sp_lt he
  obtain ⟨h2, h3⟩ : 0 ≤ σ.2.2.2.1 ∧ σ.2.2.2.1 < σ.1.length := by
    refine ⟨W.2.2.2.2.2.2.2.1, ?_⟩
    rcases W.2.2.2.2.2.2.2.2.1 with h | h
    · exact h
    · rw [h.1] at h1
      exact absurd h1 (Nat.not_lt_zero _)
  exact ⟨σ.2.2.2.1.toNat, σ.1[σ.2.2.2.1.toNat]'(by omega), by omega, List.getElem?_eq_getElem _⟩
theorem mL_target (R : sp_RM σ (ms.2 0) (ms.2 3)) {Q : Int → jj_MS → Prop} (q : Q σ.2.2.2.1 ms) : fM_target Q ms := by
  show Q (ms.2 0 4) ms
  rw [R.2.2.2.2.1]
  exact q
theorem mL_layCommon (W : sp_WF σ) (R : sp_RM σ (ms.2 0) (ms.2 3)) {e t : Nat} {d dt : sp_E} (he : σ.1[e]? = some d) (ht : σ.2.2.2.1 = t) (hdt : σ.1[t]? = some dt) {Q : jj_MS → Prop} (q : ∀ ms', sp_fr 15 16 ms ms' → (∀ i j : Nat, i ≤ d.1.length → j ≤ dt.1.length → ms'.2 15 (121 * i + j) = sp_cm (d.1.drop i) (dt.1.drop j)) → Q ms') : fM_layCommon e Q ms := by
  have hm := (W.ed he).2.1
  have hn := (W.ed hdt).2.1
  have cb : ∀ i j : Nat, 0 ≤ sp_cm (d.1.drop i) (dt.1.drop j) ∧ sp_cm (d.1.drop i) (dt.1.drop j) ≤ 120 := fun i j => by
    have := sp_cm_bd _ (d.1.drop i) (dt.1.drop j) (Nat.le_refl _)
    rw [List.length_drop] at this
    omega
  -- one row
  have inner : ∀ (i : Nat), i ≤ d.1.length → ∀ (K : Int → jj_MS → Prop), (∀ ms2, sp_fr 15 16 ms ms2 → (∀ i' j' : Nat, i ≤ i' → i' ≤ d.1.length → j' ≤ dt.1.length → ms2.2 15 (121 * i' + j') = sp_cm (d.1.drop i') (dt.1.drop j')) → K ((i : Int) - 1) ms2) →
      ∀ (N jn : Nat) (ms1 : jj_MS), sp_fr 15 16 ms ms1 → jn < N → jn ≤ dt.1.length + 1 → (∀ i' j' : Nat, (i < i' ∨ (i' = i ∧ jn ≤ j')) → i' ≤ d.1.length → j' ≤ dt.1.length → ms1.2 15 (121 * i' + j') = sp_cm (d.1.drop i') (dt.1.drop j')) → fM_layCommon_l26 e d.1.length dt.1.length i K Q N ((jn : Int) - 1) ms1 := by
    intro i hi K hK N
    induction N with
    | zero => intro jn ms1 _ h; exact absurd h (Nat.not_lt_zero _)
    | succ N ih =>
      intro jn ms1 hf hjN hjn inv
      have R1 := R.fr hf
      refine ⟨⟨by omega, by omega⟩, fun c v12 e12 => ?_, fun c => ?_⟩
      · have : jn = 0 := by omega
        subst this
        subst e12
        exact hK ms1 hf (fun i' j' h1 h2 h3 => inv i' j' (by omega) h2 h3)
      · obtain ⟨j, rfl⟩ : ∃ j, jn = j + 1 := ⟨jn - 1, by omega⟩
        have ej : ((j + 1 : Nat) : Int) - 1 = j := by omega
        rw [ej]
        have wr : ∀ x : Int, x = sp_cm (d.1.drop i) (dt.1.drop j) → fM_layCommon_j137 (fM_layCommon_l26 e d.1.length dt.1.length i K Q N) e d.1.length dt.1.length i j x Q ms1 := by
          intro x hx
          refine ⟨by omega, by omega, fun m3 e3 v4 e4 => ?_⟩
          have := ih j m3 (hf.tA e3) (by omega) (by omega) (fun i' j' h1 h2 h3 => ?_)
          · rw [e4]
            exact this
          · rw [e3, jj_mA_eq]
            by_cases hij : i' = i ∧ j' = j
            · obtain ⟨rfl, rfl⟩ := hij
              rw [if_pos rfl, hx]
            · rw [if_neg (by omega)]
              exact inv i' j' (by omega) h2 h3
        refine ⟨jj_rn, jj_rn, fun c2 => wr 0 ?_, fun c2 => ⟨jj_rn, jj_rn, fun c3 => wr 0 ?_, fun c3 => ?_⟩⟩
        · rw [List.drop_eq_nil_of_le (by omega), sp_cm_nil]
        · rw [List.drop_eq_nil_of_le (as := dt.1) (by omega), sp_cm_nil2]
        · obtain ⟨a, ha⟩ : ∃ a, d.1[i]? = some a := ⟨d.1[i]'(by omega), List.getElem?_eq_getElem _⟩
          obtain ⟨b, hb⟩ : ∃ b, dt.1[j]? = some b := ⟨dt.1[j]'(by omega), List.getElem?_eq_getElem _⟩
          have oka := W.wd he ha
          have okb := W.wd hdt hb
          have eij : sp_cm (d.1.drop i) (dt.1.drop j) = if a = b then sp_cm (d.1.drop (i + 1)) (dt.1.drop (j + 1)) + 1 else max (sp_cm (d.1.drop (i + 1)) (dt.1.drop j)) (sp_cm (d.1.drop i) (dt.1.drop (j + 1))) := by
            rw [sp_drop ha, sp_drop hb, sp_cm_cons]
          have g1 : ms1.2 15 (121 * ((i : Int) + 1) + j) = sp_cm (d.1.drop (i + 1)) (dt.1.drop j) := inv (i + 1) j (Or.inl (Nat.lt_succ_self _)) (by omega) (by omega)
          have g2 : ms1.2 15 (121 * (i : Int) + (j + 1)) = sp_cm (d.1.drop i) (dt.1.drop (j + 1)) := inv i (j + 1) (Or.inr ⟨rfl, Nat.le_refl _⟩) (by omega) (by omega)
          have g3 : ms1.2 15 (121 * ((i : Int) + 1) + (j + 1)) = sp_cm (d.1.drop (i + 1)) (dt.1.drop (j + 1)) := inv (i + 1) (j + 1) (Or.inl (Nat.lt_succ_self _)) (by omega) (by omega)
          have b1 := cb (i + 1) j
          have b2 := cb i (j + 1)
          have b3 := cb (i + 1) (j + 1)
          refine mL_wordOf W R1 he ha (mL_target R1 ?_)
          rw [ht]
          refine mL_wordOf W R1 hdt hb ⟨sp_pk_rl oka, sp_pk_rl okb, fun c4 => ?_, fun c4 => ?_⟩
          · have hne : a ≠ b := fun h => c4 (by rw [h])
            refine ⟨by omega, by omega, by omega, by omega, ?_, ?_, fun v9 e9 => ⟨⟨by decide, by decide⟩, fun _ => wr v9 ?_, fun c5 => absurd rfl c5⟩⟩
            · rw [g1]; exact ⟨by omega, by omega⟩
            · rw [g2]; exact ⟨by omega, by omega⟩
            · rw [e9, g1, g2, eij, if_neg hne]
          · have heq : a = b := (sp_ok_inj oka okb).mp c4
            refine ⟨by omega, by omega, by omega, by omega, ?_, ?_, fun v9 e9 => ⟨⟨by decide, by decide⟩, fun c5 => absurd c5 (by decide), fun _ => ⟨by omega, by omega, wr _ ?_⟩⟩⟩
            · rw [g1]; exact ⟨by omega, by omega⟩
            · rw [g2]; exact ⟨by omega, by omega⟩
            · rw [g3, eij, if_pos heq]
  have outer : ∀ (N iN : Nat) (ms1 : jj_MS), sp_fr 15 16 ms ms1 → iN < N → iN ≤ d.1.length + 1 → (∀ i' j' : Nat, iN ≤ i' → i' ≤ d.1.length → j' ≤ dt.1.length → ms1.2 15 (121 * i' + j') = sp_cm (d.1.drop i') (dt.1.drop j')) → fM_layCommon_l18 e d.1.length dt.1.length Q N ((iN : Int) - 1) ms1 := by
    intro N
    induction N with
    | zero => intro iN ms1 _ h; exact absurd h (Nat.not_lt_zero _)
    | succ N ih =>
      intro iN ms1 hf hiN hi inv
      refine ⟨⟨by omega, by omega⟩, fun c => q ms1 hf fun i j h1 h2 => inv i j (by omega) h1 h2, fun c => ?_⟩
      obtain ⟨i, rfl⟩ : ∃ i, iN = i + 1 := ⟨iN - 1, by omega⟩
      have ei : ((i + 1 : Nat) : Int) - 1 = i := by omega
      rw [ei]
      refine ⟨dt.1.length + 2, ?_⟩
      have := inner i (by omega) (fM_layCommon_l18 e d.1.length dt.1.length Q N) (fun ms2 f2 inv2 => ih i ms2 f2 (by omega) (by omega) (fun i' j' h1 h2 h3 => inv2 i' j' h1 h2 h3)) (dt.1.length + 2) (dt.1.length + 1) ms1 hf (by omega) (Nat.le_refl _) (fun i' j' h1 h2 h3 => inv i' j' (by omega) h2 h3)
      have e9 : ((dt.1.length + 1 : Nat) : Int) - 1 = dt.1.length := by omega
      rw [e9] at this
      exact this
  refine mL_sizeOf W R he (mL_target R ?_)
  rw [ht]
  refine mL_sizeOf W R hdt ⟨d.1.length + 2, ?_⟩
  have := outer (d.1.length + 2) (d.1.length + 1) ms sp_fr.rfl (by omega) (Nat.le_refl _) (fun i' j' h1 h2 h3 => by omega)
  have e9 : ((d.1.length + 1 : Nat) : Int) - 1 = d.1.length := by omega
  rw [e9] at this
  exact this
theorem mL_align (W : sp_WF σ) (R : sp_RM σ (ms.2 0) (ms.2 3)) {e : Nat} {d : sp_E} (he : σ.1[e]? = some d) {Q : jj_MS → Prop} (q : ∀ ms', sp_fr 15 17 ms ms' → (∀ i : Nat, i < d.1.length → (sp_pt σ d)[i]? = some (ms'.2 16 i)) → Q ms') : fM_align e Q ms := by
  obtain ⟨t, dt, ht, hdt⟩ := sp_tg W he
  have hm := (W.ed he).2.1
  have hn := (W.ed hdt).2.1
  have he3 := sp_lt he
  have ht3 := sp_lt hdt
  have hW := W.1
  have hpt : sp_pt σ d = sp_wk d.1 dt.1 0 := by
    unfold sp_pt
    rw [ht, Int.toNat_natCast, hdt]
  have walk : ∀ (N i j : Nat) (ms1 : jj_MS), sp_fr 15 17 ms ms1 → (∀ i j : Nat, i ≤ d.1.length → j ≤ dt.1.length → ms1.2 15 (121 * i + j) = sp_cm (d.1.drop i) (dt.1.drop j)) → i ≤ d.1.length → j ≤ dt.1.length → (d.1.length - i) + (dt.1.length - j) < N → (∀ k : Nat, k < i → (sp_pt σ d)[k]? = some (ms1.2 16 k)) → (∀ k : Nat, i ≤ k → k < d.1.length → ms1.2 16 k = -1) → (sp_pt σ d).drop i = sp_wk (d.1.drop i) (dt.1.drop j) j → fM_align_l54 e Q N i j ms1 := by
    intro N
    induction N with
    | zero => intro i j ms1 _ _ _ _ h; exact absurd h (Nat.not_lt_zero _)
    | succ N ih =>
      intro i j ms1 hf hc hi hj hN h1 h2 h3
      have R1 := R.fr hf
      have done : (d.1.length ≤ i ∨ dt.1.length ≤ j) → Q ms1 := by
        intro hd
        refine q ms1 hf fun k hk => ?_
        by_cases hki : k < i
        · exact h1 k hki
        · have hj2 : dt.1.length ≤ j := by omega
          have e1 : (sp_pt σ d)[k]? = ((sp_pt σ d).drop i)[k - i]? := by
            rw [List.getElem?_drop]
            congr 1
            omega
          rw [e1, h3, List.drop_eq_nil_of_le hj2, sp_wk_nil2, h2 k (by omega) hk, List.getElem?_replicate, if_pos (by rw [List.length_drop]; omega)]
      refine mL_sizeOf W R1 he ⟨jj_rn, jj_rn, fun c => done (by omega), fun c => ?_⟩
      refine mL_target R1 ?_
      rw [ht]
      refine mL_sizeOf W R1 hdt ⟨jj_rn, jj_rn, fun c2 => done (by omega), fun c2 => ?_⟩
      obtain ⟨a, ha⟩ : ∃ a, d.1[i]? = some a := ⟨d.1[i]'(by omega), List.getElem?_eq_getElem _⟩
      obtain ⟨b, hb⟩ : ∃ b, dt.1[j]? = some b := ⟨dt.1[j]'(by omega), List.getElem?_eq_getElem _⟩
      have oka := W.wd he ha
      have okb := W.wd hdt hb
      rw [sp_drop ha, sp_drop hb, sp_wk, ← sp_drop ha, ← sp_drop hb] at h3
      refine mL_wordOf W R1 he ha (mL_target R1 ?_)
      rw [ht]
      refine mL_wordOf W R1 hdt hb ⟨sp_pk_rl oka, sp_pk_rl okb, fun c4 => ?_, fun c4 => ?_⟩
      · have hne : a ≠ b := fun h => c4 (by rw [h])
        rw [if_neg hne] at h3
        have g1 : ms1.2 15 (121 * ((i : Int) + 1) + j) = sp_cm (d.1.drop (i + 1)) (dt.1.drop j) := hc (i + 1) j (by omega) (by omega)
        have g2 : ms1.2 15 (121 * (i : Int) + (j + 1)) = sp_cm (d.1.drop i) (dt.1.drop (j + 1)) := hc i (j + 1) (by omega) (by omega)
        have b1 := sp_cm_bd _ (d.1.drop (i + 1)) (dt.1.drop j) (Nat.le_refl _)
        have b2 := sp_cm_bd _ (d.1.drop i) (dt.1.drop (j + 1)) (Nat.le_refl _)
        rw [List.length_drop] at b1 b2
        refine ⟨by omega, by omega, by omega, by omega, ?_, ?_, fun c5 v17 e17 => ?_, fun c5 v18 e18 => ?_⟩
        · rw [g1]; exact ⟨by omega, by omega⟩
        · rw [g2]; exact ⟨by omega, by omega⟩
        · rw [g1, g2] at c5
          rw [if_pos c5] at h3
          subst e17
          exact ih i (j + 1) ms1 hf hc hi (by omega) (by omega) h1 h2 h3
        · rw [g1, g2] at c5
          rw [if_neg c5] at h3
          subst e18
          have e9 : (sp_pt σ d)[i]? = some (-1) := by
            have : ((sp_pt σ d).drop i)[0]? = some (-1) := by rw [h3]; rfl
            rw [List.getElem?_drop] at this
            exact this
          refine ih (i + 1) j ms1 hf hc (by omega) hj (by omega) (fun k hk => ?_) (fun k hk1 hk2 => h2 k (by omega) hk2) ?_
          · by_cases hki : k < i
            · exact h1 k hki
            · have : k = i := by omega
              subst this
              rw [e9, h2 k (Nat.le_refl _) (by omega)]
          · have := congrArg (List.drop 1) h3
            rw [List.drop_drop] at this
            exact this
      · have heq : a = b := (sp_ok_inj oka okb).mp c4
        rw [if_pos heq] at h3
        have e9 : (sp_pt σ d)[i]? = some (j : Int) := by
          have : ((sp_pt σ d).drop i)[0]? = some (j : Int) := by rw [h3]; rfl
          rw [List.getElem?_drop] at this
          exact this
        refine ⟨by omega, by omega, fun m19 e19 v20 e20 v21 e21 => ?_⟩
        subst e20; subst e21
        refine ih (i + 1) (j + 1) m19 (hf.tA e19) (fun i' j' g1 g2 => ?_) (by omega) (by omega) (by omega) (fun k hk => ?_) (fun k hk1 hk2 => ?_) ?_
        · rw [e19, jj_mA_ne (by decide)]
          exact hc i' j' g1 g2
        · rw [e19, jj_mA_eq]
          by_cases hki : k < i
          · rw [if_neg (by omega)]
            exact h1 k hki
          · have : k = i := by omega
            subst this
            rw [if_pos rfl, e9]
        · rw [e19, jj_mA_eq, if_neg (by omega)]
          exact h2 k (by omega) hk2
        · have := congrArg (List.drop 1) h3
          rw [List.drop_drop] at this
          exact this
  have first : ∀ (N k : Nat) (ms1 : jj_MS), sp_fr 15 17 ms ms1 → k ≤ d.1.length → d.1.length - k < N → (∀ i : Nat, i < k → ms1.2 16 i = if e = t then (i : Int) else -1) → fM_align_l2 e Q N k ms1 := by
    intro N
    induction N with
    | zero => intro k ms1 _ _ h; exact absurd h (Nat.not_lt_zero _)
    | succ N ih =>
      intro k ms1 hf hk hN h1
      have R1 := R.fr hf
      refine mL_sizeOf W R1 he ⟨jj_rn, jj_rn, fun c => mL_target R1 ?_, fun c => mL_target R1 ?_⟩
      · rw [ht]
        have hkd : k = d.1.length := by omega
        refine ⟨jj_rn, jj_rn, fun c2 => ?_, fun c2 => ?_⟩
        · have het : e ≠ t := fun h => c2 (by rw [h])
          refine mL_layCommon W R1 he ht hdt fun m2 f2 hc => ⟨_, walk _ 0 0 m2 (hf.trans f2) hc (Nat.zero_le _) (Nat.zero_le _) (Nat.lt_succ_self _) (fun k hk => absurd hk (Nat.not_lt_zero _)) (fun i _ hi => ?_) ?_⟩
          · rw [(f2 16 (by omega)).2]
            have := h1 i (by omega)
            rw [if_neg het] at this
            exact this
          · rw [hpt]
            rfl
        · have het : e = t := by omega
          have hdd : d = dt := by
            subst het
            rw [he] at hdt
            exact Option.some.inj hdt
          refine q ms1 hf fun i hi => ?_
          rw [h1 i (by omega), if_pos het, hpt, hdd, sp_wk_self _ _ _ (by rw [← hdd]; exact hi), Int.zero_add]
      · rw [ht]
        refine ⟨jj_rn, jj_rn, fun c2 => ⟨by omega, by omega, fun m3 e3 v e4 => ?_⟩, fun c2 => ⟨by omega, by omega, fun m3 e3 v e4 => ?_⟩⟩
        · subst e4
          refine ih (k + 1) m3 (hf.tA e3) (by omega) (by omega) (fun i hi => ?_)
          rw [e3, jj_mA_eq]
          by_cases hik : i = k
          · rw [if_pos (by omega), if_neg (by omega)]
          · rw [if_neg (by omega)]
            exact h1 i (by omega)
        · subst e4
          refine ih (k + 1) m3 (hf.tA e3) (by omega) (by omega) (fun i hi => ?_)
          rw [e3, jj_mA_eq]
          by_cases hik : i = k
          · rw [if_pos (by omega), if_pos (by omega), hik]
          · rw [if_neg (by omega)]
            exact h1 i (by omega)
  exact ⟨d.1.length + 1, first _ 0 ms sp_fr.rfl (Nat.zero_le _) (by omega) (fun i h => absurd h (Nat.not_lt_zero _))⟩
end MA
