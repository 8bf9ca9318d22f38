/-! GROUPS: who is in which -/
def sp_in (al : Nat → Nat → Bool) (g : Int) (q : Nat) : Nat → List Int × List Nat → List Int × List Nat
  | 0, s => s
  | k + 1, s => if (sp_in al g q k s).1[k]? = some (-1) ∧ al q k = true then ((sp_in al g q k s).1.set k g, (sp_in al g q k s).2 ++ [k]) else sp_in al g q k s
def sp_ou (al : Nat → Nat → Bool) (g : Int) (n : Nat) : Nat → Nat → List Int × List Nat → List Int × List Nat
  | 0, _, s => s
  | f + 1, i, s => match s.2[i]? with
    | some q => sp_ou al g n f (i + 1) (sp_in al g q n s)
    | none => s
def sp_sp (al : Nat → Nat → Bool) (g : Int) (n k : Nat) (by' : List Int) : List Int := (sp_ou al g n (n + 1) 0 (by'.set k g, [k])).1
def sp_by (al : Nat → Nat → Bool) (n : Nat) : Nat → List Int × Nat
  | 0 => (List.replicate n (-1), 0)
  | k + 1 => if (sp_by al n k).1[k]? = some (-1) then (sp_sp al (sp_by al n k).2 n k (sp_by al n k).1, (sp_by al n k).2 + 1) else sp_by al n k
/-- notes without a group -/
def sp_c0 : List Int → Nat
  | [] => 0
  | a :: r => (if a = -1 then 1 else 0) + sp_c0 r
theorem sp_c0_le : ∀ (l : List Int), sp_c0 l ≤ l.length
  | [] => Nat.le_refl _
  | a :: r => by
    have := sp_c0_le r
    rw [sp_c0, List.length_cons]
    split <;> omega
theorem sp_c0_set {g : Int} (hg : g ≠ -1) : ∀ {l : List Int} {k : Nat}, l[k]? = some (-1) → sp_c0 (l.set k g) + 1 = sp_c0 l
  | [], k, h => by simp at h
  | a :: r, 0, h => by
    have : a = -1 := by simpa using h
    subst this
    rw [List.set_cons_zero, sp_c0, sp_c0, if_neg hg, if_pos rfl]
    omega
  | a :: r, k + 1, h => by
    rw [List.getElem?_cons_succ] at h
    have := sp_c0_set hg h
    rw [List.set_cons_succ, sp_c0, sp_c0]
    omega
/-- what a spread keeps -/
def sp_sI (g : Int) (n c : Nat) (s : List Int × List Nat) : Prop := s.1.length = n ∧ s.2.length + sp_c0 s.1 = c ∧ (∀ q ∈ s.2, q < n) ∧ ∀ (k : Nat) x, s.1[k]? = some x → x = -1 ∨ (0 ≤ x ∧ x ≤ g)
theorem sp_in_I {al : Nat → Nat → Bool} {g : Int} {n c q : Nat} (hg : 0 ≤ g) : ∀ {k : Nat} {s : List Int × List Nat}, k ≤ n → sp_sI g n c s → sp_sI g n c (sp_in al g q k s)
  | 0, s, _, h => h
  | k + 1, s, hk, h => by
    have ih := sp_in_I (al := al) (q := q) hg (k := k) (by omega) h
    obtain ⟨i1, i2, i3, i4⟩ := ih
    rw [sp_in]
    split
    · rename_i hc
      refine ⟨by rw [List.length_set]; exact i1, ?_, ?_, ?_⟩
      · have := sp_c0_set (g := g) (by omega) hc.1
        dsimp only
        rw [List.length_append, List.length_singleton]
        omega
      · intro x hx
        rcases List.mem_append.mp hx with hx | hx
        · exact i3 x hx
        · have : x = k := by simpa using hx
          omega
      · intro j x hj
        rw [List.getElem?_set] at hj
        split at hj
        · split at hj
          · have := Option.some.inj hj; omega
          · cases hj
        · exact i4 j x hj
    · exact ⟨i1, i2, i3, i4⟩
theorem sp_in_pre {al : Nat → Nat → Bool} {g : Int} {q : Nat} : ∀ {k : Nat} {s : List Int × List Nat} {i : Nat} {x : Nat}, s.2[i]? = some x → (sp_in al g q k s).2[i]? = some x
  | 0, s, i, x, h => h
  | k + 1, s, i, x, h => by
    have ih := sp_in_pre (al := al) (g := g) (q := q) (k := k) h
    rw [sp_in]
    split
    · rw [List.getElem?_append_left (sp_lt ih)]
      exact ih
    · exact ih
section MG
variable {σ : sp_S} {ms : jj_MS}
/-- the model's arrays of a spread stand for its state -/
def sp_sR (ms : jj_MS) (s : List Int × List Nat) : Prop := (∀ (i : Nat) x, s.1[i]? = some x → ms.2 21 i = x) ∧ ∀ (i : Nat) x, s.2[i]? = some x → ms.2 29 i = (x : Nat)
def sp_aR (σ : sp_S) (ms : jj_MS) : Prop := ∀ (n : Nat) t, σ.2.1[n]? = some t → (ms.2 17 n, ms.2 18 n, ms.2 19 n, ms.2 20 n) = sp_ac σ t
theorem sp_aR.fr {a b : Nat} {ms' : jj_MS} (h : sp_aR σ ms) (f : sp_fr a b ms ms') (h1 : b ≤ 17 ∨ 21 ≤ a := by omega) : sp_aR σ ms' := fun n t hn => by
  rw [(f 17 (by omega)).2, (f 18 (by omega)).2, (f 19 (by omega)).2, (f 20 (by omega)).2]
  exact h n t hn
theorem mL_spread (W : sp_WF σ) (R : sp_RM σ (ms.2 0) (ms.2 3)) (Ra : sp_aR σ ms) {k : Nat} {by' : List Int} {g : Nat} (hlen : by'.length = σ.2.1.length) (hb : ∀ (i : Nat) x, by'[i]? = some x → ms.2 21 i = x) (hbv : ∀ (k : Nat) x, by'[k]? = some x → x = -1 ∨ (0 ≤ x ∧ x ≤ (g : Int))) (hk : by'[k]? = some (-1)) (hg : ms.1 28 = (g : Int)) (hg40 : g < 1000) {Q : jj_MS → Prop} (q : ∀ ms', sp_fr 21 30 ms ms' → ms'.1 28 = (g : Int) → (∀ f, f ≠ 21 → f ≠ 29 → ms'.2 f = ms.2 f) → (∀ (i : Nat) x, (sp_sp (sp_al σ) g σ.2.1.length k by')[i]? = some x → ms'.2 21 i = x) → Q ms') : fM_spread k Q ms := by
  have h40 := W.2.2.1
  have hkl := sp_lt hk
  generalize hn : σ.2.1.length = n at *
  have fr2 : ∀ {m m' : jj_MS}, sp_fr 21 30 m m' → sp_RM σ (m.2 0) (m.2 3) → sp_RM σ (m'.2 0) (m'.2 3) := fun h r => r.fr h
  let P : jj_MS → Prop := fun m => sp_fr 21 30 ms m ∧ m.1 28 = (g : Int) ∧ ∀ f, f ≠ 21 → f ≠ 29 → m.2 f = ms.2 f
  have outer : ∀ (N i : Nat) (s : List Int × List Nat) (m : jj_MS) (c : Nat), P m → sp_sR m s → sp_sI g n c s → c ≤ n → i ≤ s.2.length → c < N + i → (sp_ou (sp_al σ) g n N i s).1 = sp_sp (sp_al σ) g n k by' → fM_spread_l21 Q N s.2.length i m := by
    intro N
    induction N with
    | zero =>
      intro i s m c _ _ hI _ hi hN _
      have := hI.2.1
      exact absurd hN (by omega)
    | succ N ih =>
      intro i s m c hP hR hI hc hi hN hs
      have hI' := hI
      obtain ⟨i1, i2, i3, i4⟩ := hI'
      refine ⟨jj_rn, jj_rn, fun c1 => ?_, fun c1 => ?_⟩
      · refine q m hP.1 hP.2.1 hP.2.2 fun j x hj => hR.1 j x ?_
        have e0 : s.2[i]? = none := List.getElem?_eq_none (by omega)
        rw [← hs, sp_ou, e0] at hj
        exact hj
      · obtain ⟨z, hz⟩ : ∃ z, s.2[i]? = some z := ⟨s.2[i]'(by omega), List.getElem?_eq_getElem _⟩
        have hzn := i3 z (List.mem_of_getElem? hz)
        rw [sp_ou, hz] at hs
        have inner : ∀ (M j : Nat) (s1 : List Int × List Nat) (m1 : jj_MS), P m1 → sp_sR m1 s1 → s1 = sp_in (sp_al σ) g z j s → j ≤ n → n - j < M → fM_spread_l29 i (fM_spread_l21 Q N) Q M s1.2.length j m1 := by
          intro M
          induction M with
          | zero => intro j s1 m1 _ _ _ _ h; exact absurd h (Nat.not_lt_zero _)
          | succ M ihM =>
            intro j s1 m1 hP1 hR1 hs1 hj hM
            have R1 := fr2 hP1.1 R
            have I1 := sp_in_I (al := sp_al σ) (q := z) (by omega) hj hI
            rw [← hs1] at I1
            obtain ⟨j1, j2, j3, j4⟩ := I1
            have hpre := sp_in_pre (al := sp_al σ) (g := g) (q := z) (k := j) hz
            rw [← hs1] at hpre
            show jj_r j ∧ jj_r (m1.2 0 2) ∧ _
            rw [R1.2.2.1, hn]
            refine ⟨jj_rn, jj_rn, fun c2 v3 e3 => ?_, fun c2 => ?_⟩
            · have hjn : j = n := by omega
              subst e3
              rw [hjn] at hs1
              refine ih (i + 1) s1 m1 c hP1 hR1 ⟨j1, j2, j3, j4⟩ hc (sp_lt hpre) (by omega) ?_
              rw [hs1]
              exact hs
            · obtain ⟨x, hx⟩ : ∃ x, s1.1[j]? = some x := ⟨s1.1[j]'(by omega), List.getElem?_eq_getElem _⟩
              have hxv := hR1.1 j x hx
              have hxb := j4 j x hx
              have skip : ¬ (x = -1 ∧ sp_al σ z j = true) → fM_spread_l29 i (fM_spread_l21 Q N) Q M s1.2.length (j + 1) m1 := fun h => by
                refine ihM (j + 1) s1 m1 hP1 hR1 ?_ (by omega) (by omega)
                rw [sp_in, ← hs1, if_neg]
                exact fun h2 => h ⟨by rw [hx] at h2; exact Option.some.inj h2.1, h2.2⟩
              rw [hxv]
              refine ⟨by omega, by omega, ⟨by omega, by omega⟩, fun c3 v4 e4 => ?_, fun c3 => ⟨by omega, by omega, ?_⟩⟩
              · subst e4
                exact skip (fun h => c3 h.1)
              · rw [hR1.2 i z hpre]
                obtain ⟨tz, htz⟩ : ∃ t, σ.2.1[z]? = some t := ⟨σ.2.1[z]'(by omega), List.getElem?_eq_getElem _⟩
                obtain ⟨tj, htj⟩ : ∃ t, σ.2.1[j]? = some t := ⟨σ.2.1[j]'(by omega), List.getElem?_eq_getElem _⟩
                have Ra1 : sp_aR σ m1 := fun n' t' hn' => by
                  rw [hP1.2.2 17 (by decide) (by decide), hP1.2.2 18 (by decide) (by decide), hP1.2.2 19 (by decide) (by decide), hP1.2.2 20 (by decide) (by decide)]
                  exact Ra n' t' hn'
                have hc1 := sp_c0_set (g := (g : Int)) (by omega) (show s1.1[j]? = some (-1) by rw [hx, c3])
                refine mL_alike W R1 htz htj (Ra1 z tz htz) (Ra1 j tj htj) (fun hal => ⟨⟨by decide, by decide⟩, fun c => absurd c (by decide), fun _ => ⟨by omega, by omega, fun m8 e8 => ⟨by omega, by omega, fun m9 e9 v10 e10 v11 e11 => ?_⟩⟩⟩) (fun hal => ⟨⟨by decide, by decide⟩, fun _ v7 e7 => ?_, fun c => absurd rfl c⟩)
                · have hlen9 : (s1.2 ++ [j]).length = s1.2.length + 1 := by rw [List.length_append]; rfl
                  have := ihM (j + 1) (s1.1.set j g, s1.2 ++ [j]) m9 ⟨(hP1.1.tA e8).tA e9, ?_, fun f f1 f2 => ?_⟩ ⟨fun i' x' h' => ?_, fun i' x' h' => ?_⟩ ?_ (by omega) (by omega)
                  · rw [hlen9] at this
                    rw [e10, e11]
                    exact this
                  · rw [e9, jj_mA_1, e8, jj_mA_1]
                    exact hP1.2.1
                  · rw [e9, jj_mA_ne f2, e8, jj_mA_ne f1]
                    exact hP1.2.2 f f1 f2
                  · rw [List.getElem?_set] at h'
                    rw [e9, jj_mA_ne (by decide), e8, jj_mA_eq, hP1.2.1]
                    split at h'
                    · rename_i e
                      rw [if_pos (by omega)]
                      split at h'
                      · exact Option.some.inj h'
                      · cases h'
                    · rw [if_neg (by omega)]
                      exact hR1.1 i' x' h'
                  · rw [e9, jj_mA_eq]
                    rw [List.getElem?_append] at h'
                    split at h'
                    · rw [if_neg (by omega), e8, jj_mA_ne (by decide)]
                      exact hR1.2 i' x' h'
                    · have hl := sp_lt h'
                      have : i' = s1.2.length := by simp at hl; omega
                      subst this
                      rw [if_pos rfl]
                      simp at h'
                      rw [h']
                  · rw [sp_in, ← hs1, if_pos ⟨by rw [hx, c3], hal⟩]
                · subst e7
                  exact skip (fun h => by rw [hal] at h; exact absurd h.2 (by decide))
        refine ⟨n + 1, inner _ 0 s m hP hR rfl (Nat.zero_le _) (by omega)⟩
  refine fun m12 e12 => ⟨by omega, by omega, fun m13 e13 => ⟨n + 1, ?_⟩⟩
  have e28 : m12.1 28 = (g : Int) := by rw [e12, jj_mA_1]; exact hg
  rw [e28] at e13
  have hIs : sp_sI g n (sp_c0 by') (by'.set k g, [k]) := by
    refine ⟨by rw [List.length_set]; exact hlen, ?_, ?_, fun j x hj => ?_⟩
    · have := sp_c0_set (g := (g : Int)) (by omega) hk
      dsimp only
      rw [List.length_singleton]
      omega
    · intro x hx
      have : x = k := by simpa using hx
      omega
    · by_cases e : k = j
      · subst e
        rw [List.getElem?_set_self hkl] at hj
        have := Option.some.inj hj
        omega
      · rw [List.getElem?_set_ne e] at hj
        exact hbv j x hj
  have hcl := sp_c0_le by'
  exact outer (n + 1) 0 (by'.set k g, [k]) m13 (sp_c0 by') ⟨(sp_fr.rfl.tA e12).tA e13, by rw [e13, jj_mA_1]; exact e28, fun f f1 f2 => by rw [e13, jj_mA_ne f1, e12, jj_mA_ne f2]⟩ ⟨fun i x hx => by
      rw [e13, jj_mA_eq, e12, jj_mA_ne (by decide)]
      by_cases e : k = i
      · subst e
        rw [List.getElem?_set_self hkl] at hx
        rw [if_pos rfl]
        exact Option.some.inj hx
      · rw [List.getElem?_set_ne e] at hx
        rw [if_neg (by omega)]
        exact hb i x hx, fun i x hx => by
      have hl := sp_lt hx
      have : i = 0 := by simp at hl; exact hl
      subst this
      rw [e13, jj_mA_ne (by decide), e12, jj_mA_eq, if_pos (show ((0 : Nat) : Int) = 0 from rfl)]
      simp at hx
      rw [hx]⟩ hIs (by omega) (Nat.zero_le _) (by omega) rfl
end MG
theorem sp_ou_I {al : Nat → Nat → Bool} {g : Int} {n c : Nat} (hg : 0 ≤ g) : ∀ {N i : Nat} {s : List Int × List Nat}, sp_sI g n c s → sp_sI g n c (sp_ou al g n N i s)
  | 0, i, s, h => h
  | N + 1, i, s, h => by
    rw [sp_ou]
    split
    · exact sp_ou_I hg (sp_in_I hg (Nat.le_refl _) h)
    · exact h
theorem sp_sp_I {al : Nat → Nat → Bool} {n k g : Nat} {by' : List Int} (hlen : by'.length = n) (hbv : ∀ (k : Nat) x, by'[k]? = some x → x = -1 ∨ (0 ≤ x ∧ x ≤ (g : Int))) (hk : by'[k]? = some (-1)) : (sp_sp al g n k by').length = n ∧ ∀ (j : Nat) x, (sp_sp al g n k by')[j]? = some x → x = -1 ∨ (0 ≤ x ∧ x ≤ (g : Int)) := by
  have hkl := sp_lt hk
  have h := sp_ou_I (al := al) (g := (g : Int)) (n := n) (c := sp_c0 by') (N := n + 1) (i := 0) (s := (by'.set k g, [k])) (by omega) ⟨by rw [List.length_set]; exact hlen, by
    have := sp_c0_set (g := (g : Int)) (by omega) hk
    dsimp only
    rw [List.length_singleton]
    omega, fun x hx => by
    have : x = k := by simpa using hx
    omega, fun j x hj => by
    by_cases e : k = j
    · subst e
      rw [List.getElem?_set_self hkl] at hj
      have := Option.some.inj hj
      omega
    · rw [List.getElem?_set_ne e] at hj
      exact hbv j x hj⟩
  exact ⟨h.1, h.2.2.2⟩
theorem sp_by_I {al : Nat → Nat → Bool} {n : Nat} : ∀ (k : Nat), k ≤ n → (sp_by al n k).1.length = n ∧ (sp_by al n k).2 ≤ k ∧ ∀ (j : Nat) x, (sp_by al n k).1[j]? = some x → x = -1 ∨ (0 ≤ x ∧ x < ((sp_by al n k).2 : Int))
  | 0, _ => by
    refine ⟨List.length_replicate, Nat.le_refl _, fun j x h => ?_⟩
    rw [sp_by, List.getElem?_replicate] at h
    split at h
    · exact Or.inl (Option.some.inj h).symm
    · cases h
  | k + 1, hk => by
    obtain ⟨i1, i2, i3⟩ := sp_by_I (al := al) (n := n) k (by omega)
    rw [sp_by]
    split
    · rename_i hc
      obtain ⟨j1, j2⟩ := sp_sp_I (al := al) (g := (sp_by al n k).2) i1 (fun k x h => by have := i3 k x h; omega) hc
      refine ⟨j1, Nat.succ_le_succ i2, fun j x h => ?_⟩
      have := j2 j x h
      dsimp only
      omega
    · exact ⟨i1, by omega, i3⟩
