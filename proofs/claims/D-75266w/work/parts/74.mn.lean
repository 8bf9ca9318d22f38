/-! ANCHORS -/
/-- count, lowest, highest of partners -/
def sp_an : List Int → Int × Int × Int → Int × Int × Int
  | [], s => s
  | a :: r, s => sp_an r (if a = -1 then s else (s.1 + 1, if s.2.1 = -1 then a else s.2.1, a))
def sp_far (f l k : Int) : Int := if k < f then f - k else if l < k then k - l else 0
def sp_nr (f l : Int) : List Int → Int → Int × Int → Int × Int
  | [], _, s => s
  | a :: r, k, s => sp_nr f l r (k + 1) (if a ≠ -1 ∧ (s.1 = -1 ∨ sp_far f l k < s.2) then (k, sp_far f l k) else s)
def sp_sg (p : List Int) (f l : Int) : List Int := (p.drop f.toNat).take (l - f + 1).toNat
/-- state, first, last, matched -/
def sp_anc (p : List Int) (f l : Int) : Int × Int × Int × Int :=
  let s := sp_an (sp_sg p f l) (0, -1, -1)
  let b := (sp_nr f l p 0 (-1, 0)).1
  if l - f + 1 ≤ 2 * s.1 then (if s.1 = l - f + 1 ∧ s.2.2 - s.2.1 + 1 = l - f + 1 then 0 else 1, s.2.1, s.2.2, s.1) else if b = -1 then (3, -1, -1, s.1) else (2, p.getD b.toNat (-1), p.getD b.toNat (-1), s.1)
def sp_ac (σ : sp_S) (t : sp_N) : Int × Int × Int × Int := match σ.1[t.1.2.2.toNat]? with
  | some d => sp_anc (sp_pt σ d) t.2.1.1 t.2.1.2
  | none => (3, -1, -1, 0)
/-- what the fold keeps: nothing yet, or it spans -/
def sp_anI (s : Int × Int × Int) (n : Int) : Prop := 0 ≤ s.1 ∧ s.1 ≤ n ∧ ((s.1 = 0 ∧ s.2.1 = -1 ∧ s.2.2 = -1) ∨ (0 < s.1 ∧ 0 ≤ s.2.1 ∧ s.2.1 + s.1 ≤ s.2.2 + 1))
theorem sp_inc_lt {hi : Int} : ∀ {ps : List Int} {lo : Int} {i : Nat} {x : Int}, sp_inc lo hi ps → ps[i]? = some x → x = -1 ∨ (lo ≤ x ∧ x < hi)
  | [], _, _, _, _, h => by simp at h
  | p :: ps, lo, 0, x, h, e => by
    have : p = x := by simpa using e
    subst this
    rcases h with ⟨h1, h2⟩ | ⟨h1, h2, h3⟩
    · exact Or.inl h1
    · exact Or.inr ⟨h1, h2⟩
  | p :: ps, lo, i + 1, x, h, e => by
    rw [List.getElem?_cons_succ] at e
    rcases h with ⟨h1, h2⟩ | ⟨h1, h2, h3⟩
    · exact sp_inc_lt h2 e
    · rcases sp_inc_lt h3 e with g | g
      · exact Or.inl g
      · exact Or.inr ⟨by omega, g.2⟩
theorem sp_inc_drop {hi : Int} : ∀ {ps : List Int} {lo : Int} (i : Nat), sp_inc lo hi ps → sp_inc lo hi (ps.drop i)
  | [], _, i, _ => by rw [List.drop_nil]; trivial
  | p :: ps, lo, 0, h => h
  | p :: ps, lo, i + 1, h => by
    rw [List.drop_succ_cons]
    rcases h with ⟨h1, h2⟩ | ⟨h1, h2, h3⟩
    · exact sp_inc_drop i h2
    · exact sp_inc_mono (by omega) (sp_inc_drop i h3)
theorem sp_inc_take {hi : Int} : ∀ {ps : List Int} {lo : Int} (i : Nat), sp_inc lo hi ps → sp_inc lo hi (ps.take i)
  | [], _, i, _ => by rw [List.take_nil]; trivial
  | p :: ps, lo, 0, h => trivial
  | p :: ps, lo, i + 1, h => by
    rw [List.take_succ_cons]
    rcases h with ⟨h1, h2⟩ | ⟨h1, h2, h3⟩
    · exact Or.inl ⟨h1, sp_inc_take i h2⟩
    · exact Or.inr ⟨h1, h2, sp_inc_take i h3⟩
theorem sp_sg_len {p : List Int} {f l : Int} (h0 : 0 ≤ f) (h1 : f ≤ l) (h2 : l < p.length) : (sp_sg p f l).length = (l - f + 1).toNat := by
  unfold sp_sg
  rw [List.length_take, List.length_drop]
  omega
theorem sp_sg_get {p : List Int} {f l : Int} (h0 : 0 ≤ f) {j : Nat} (hj : (j : Int) ≤ l - f) : (sp_sg p f l)[j]? = p[f.toNat + j]? := by
  unfold sp_sg
  rw [List.getElem?_take, if_pos (by omega), List.getElem?_drop]
section MN
variable {σ : sp_S} {ms : jj_MS}
theorem mL_note (W : sp_WF σ) (R : sp_RM σ (ms.2 0) (ms.2 3)) {n : Nat} {t : sp_N} (hn : σ.2.1[n]? = some t) {Q : Int → jj_MS → Prop} {f : Nat} (v : Int) (hv : [t.1.1, t.1.2.1, t.1.2.2, t.2.1.1, t.2.1.2, (t.2.2.length : Int)][f]? = some v) (q : Q v ms) : fM_ofNote n f Q ms := by
  have h1 := sp_lt hn
  have h2 := W.2.2.1
  have h3 := sp_lt hv
  simp only [List.length_cons, List.length_nil] at h3
  obtain ⟨r0, r1, r2, r3, r4, r5, -⟩ := R.2.2.2.2.2.2.1 n t hn
  refine ⟨by omega, by omega, ?_⟩
  match f, h3 with
  | 0, _ => cases hv; show Q (ms.2 0 (374 + 6 * n + 0)) ms; rw [r0]; exact q
  | 1, _ => cases hv; show Q (ms.2 0 (374 + 6 * n + 1)) ms; rw [r1]; exact q
  | 2, _ => cases hv; show Q (ms.2 0 (374 + 6 * n + 2)) ms; rw [r2]; exact q
  | 3, _ => cases hv; show Q (ms.2 0 (374 + 6 * n + 3)) ms; rw [r3]; exact q
  | 4, _ => cases hv; show Q (ms.2 0 (374 + 6 * n + 4)) ms; rw [r4]; exact q
  | 5, _ => cases hv; show Q (ms.2 0 (374 + 6 * n + 5)) ms; rw [r5]; exact q
theorem mL_nearestWith (W : sp_WF σ) (R : sp_RM σ (ms.2 0) (ms.2 3)) {e : Nat} {d : sp_E} (he : σ.1[e]? = some d) {p : List Int} (hp : ∀ i : Nat, i < d.1.length → p[i]? = some (ms.2 16 i)) (hpl : p.length = d.1.length) (hpr : ∀ i : Nat, i < d.1.length → jj_r (ms.2 16 i)) {f l : Int} (h0 : 0 ≤ f) (h1 : f ≤ l) (h2 : l < d.1.length) {Q : Int → jj_MS → Prop} (q : Q (sp_nr f l p 0 (-1, 0)).1 ms) : fM_nearestWith e f l Q ms := by
  have hm := (W.ed he).2.1
  have loop : ∀ (N k : Nat) (s : Int × Int), k ≤ d.1.length → d.1.length - k < N → jj_r s.1 → jj_r s.2 → sp_nr f l (p.drop k) k s = sp_nr f l p 0 (-1, 0) → fM_nearestWith_l9 e f l Q N s.1 s.2 k ms := by
    intro N
    induction N with
    | zero => intro k s _ h; exact absurd h (Nat.not_lt_zero _)
    | succ N ih =>
      intro k s hk hN hs1 hs2 hs
      refine mL_sizeOf W R he ⟨jj_rn, jj_rn, fun c => ?_, fun c => ?_⟩
      · rw [List.drop_eq_nil_of_le (by omega)] at hs
        rw [← hs] at q
        exact q
      · have hpk := hp k (by omega)
        have hr := hpr k (by omega)
        rw [sp_drop hpk, sp_nr] at hs
        have step : ∀ y0 : Int, y0 = sp_far f l k → fM_nearestWith_j46 (fM_nearestWith_l9 e f l Q N) e f l s.1 s.2 k y0 Q ms := by
          intro y0 hy
          subst hy
          have hfr : 0 ≤ sp_far f l k ∧ sp_far f l k ≤ 120 := by
            unfold sp_far
            split
            · omega
            · split <;> omega
          have hfr2 : jj_r (sp_far f l k) := ⟨by omega, by omega⟩
          have go1 : (ms.2 16 k ≠ -1 ∧ (s.1 = -1 ∨ sp_far f l k < s.2)) → fM_nearestWith_l9 e f l Q N k (sp_far f l k) (k + 1) ms := fun h => by
            rw [if_pos h] at hs
            exact ih (k + 1) (k, sp_far f l k) (by omega) (by omega) jj_rn hfr2 hs
          have go0 : ¬ (ms.2 16 k ≠ -1 ∧ (s.1 = -1 ∨ sp_far f l k < s.2)) → fM_nearestWith_l9 e f l Q N s.1 s.2 (k + 1) ms := fun h => by
            rw [if_neg h] at hs
            exact ih (k + 1) s (by omega) (by omega) hs1 hs2 hs
          refine ⟨by omega, by omega, hr, fun c1 v e1 => ?_, fun c1 => ⟨hs1, fun c2 v e1 => ?_, fun c2 => ⟨hfr2, hs2, fun c3 v e1 => ?_, fun c3 v e1 => ?_⟩⟩⟩
          · subst e1
            exact go0 (fun h => h.1 c1)
          · subst e1
            exact go1 ⟨c1, Or.inl c2⟩
          · subst e1
            refine go0 (fun h => ?_)
            rcases h.2 with g | g
            · exact c2 g
            · omega
          · subst e1
            exact go1 ⟨c1, Or.inr (by omega)⟩
        refine ⟨jj_rn, ⟨by omega, by omega⟩, fun c1 => ⟨jj_rn, ⟨by omega, by omega⟩, fun c2 => step _ ?_, fun c2 => step _ ?_⟩, fun c1 => step _ ?_⟩
        · unfold sp_far
          rw [if_neg (by omega), if_neg (by omega)]
        · unfold sp_far
          rw [if_neg (by omega), if_pos (by omega)]
        · unfold sp_far
          rw [if_pos (by omega)]
  exact ⟨d.1.length + 1, loop _ 0 (-1, 0) (Nat.zero_le _) (by omega) ⟨by decide, by decide⟩ ⟨by decide, by decide⟩ rfl⟩
end MN
