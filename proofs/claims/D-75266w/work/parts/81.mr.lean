/-! MARGINS -/
def sp_nd (σ : sp_S) (g : Nat) : Nat := if sp_sdl σ (sp_gp σ g).2.2.2.2.2 ≤ 3 then 1 else 2
def sp_fre (rows : List Int) (r nd : Nat) : Bool := decide (rows[r]? = some (-1)) && (decide (nd = 1) || decide (rows[r + 1]? = some (-1)))
def sp_fnd (rows : List Int) (nd : Nat) : Nat → Nat → Option Nat
  | 0, _ => none
  | f + 1, r => if sp_fre rows r nd = true then some r else sp_fnd rows nd f (r + 1)
def sp_put (rows : List Int) (r nd : Nat) (g : Int) : List Int := if nd = 1 then rows.set r g else (rows.set r g).set (r + 1) g
/-- rows, groups set, groups left out -/
def sp_mst (σ : sp_S) (L : Nat) (s : List Int × Nat × Nat) (g line : Nat) : List Int × Nat × Nat := match sp_fnd s.1 (sp_nd σ g) (L - line) line with
  | some r => (sp_put s.1 r (sp_nd σ g) g, s.2.1 + 1, s.2.2)
  | none => (s.1, s.2.1, s.2.2 + 1)
/-- does a group stand on a line of a page -/
def sp_onl (σ : sp_S) (d : sp_E) (page : Int) (line g : Nat) : Bool := decide ((sp_gp σ g).2.2.2.1 ≠ -1) && decide ((sp_lay d (sp_gp σ g).2.2.2.1.toNat).1 = d.2.2.2 * page + line)
def sp_mi (σ : sp_S) (d : sp_E) (page : Int) (L line : Nat) : Nat → List Int × Nat × Nat → List Int × Nat × Nat
  | 0, s => s
  | g + 1, s => if sp_onl σ d page line g = true then sp_mst σ L (sp_mi σ d page L line g s) g line else sp_mi σ d page L line g s
def sp_mo (σ : sp_S) (d : sp_E) (page : Int) (L : Nat) : Nat → List Int × Nat × Nat
  | 0 => (List.replicate L (-1), 0, 0)
  | line + 1 => sp_mi σ d page L line (sp_gb σ).2 (sp_mo σ d page L line)
def sp_mg (σ : sp_S) (d : sp_E) (page : Int) : List Int × Nat × Nat := sp_mo σ d page d.2.2.2.toNat d.2.2.2.toNat
def sp_rI (L : Nat) (rows : List Int) : Prop := rows.length = L ∧ ∀ x ∈ rows, -1 ≤ x ∧ x < 40
theorem sp_fnd_lt {rows : List Int} {nd : Nat} : ∀ {f r k : Nat}, sp_fnd rows nd f r = some k → r ≤ k ∧ k < r + f ∧ sp_fre rows k nd = true
  | 0, r, k, h => by cases h
  | f + 1, r, k, h => by
    rw [sp_fnd] at h
    split at h
    · rename_i c
      have := Option.some.inj h
      subst this
      exact ⟨Nat.le_refl _, by omega, c⟩
    · have := sp_fnd_lt h
      exact ⟨by omega, by omega, this.2.2⟩
theorem sp_put_I {L : Nat} {rows : List Int} {r nd : Nat} {g : Int} (h : sp_rI L rows) (hg : -1 ≤ g ∧ g < 40) : sp_rI L (sp_put rows r nd g) := by
  unfold sp_put
  have one : ∀ (l : List Int) (i : Nat), sp_rI L l → sp_rI L (l.set i g) := fun l i hl => ⟨by rw [List.length_set]; exact hl.1, fun x hx => by
    rcases List.mem_or_eq_of_mem_set hx with h | h
    · exact hl.2 x h
    · rw [h]; exact hg⟩
  split
  · exact one _ _ h
  · exact one _ _ (one _ _ h)
theorem sp_mst_I {σ : sp_S} {L : Nat} {s : List Int × Nat × Nat} {g line : Nat} (h : sp_rI L s.1) (hg : g < 40) : sp_rI L (sp_mst σ L s g line).1 := by
  unfold sp_mst
  split
  · exact sp_put_I h ⟨by omega, by omega⟩
  · exact h
theorem sp_mi_I {σ : sp_S} {d : sp_E} {page : Int} {L line : Nat} : ∀ {g : Nat} {s : List Int × Nat × Nat}, g ≤ 40 → sp_rI L s.1 → sp_rI L (sp_mi σ d page L line g s).1
  | 0, s, _, h => h
  | g + 1, s, hg, h => by
    rw [sp_mi]
    have ih := sp_mi_I (σ := σ) (d := d) (page := page) (line := line) (g := g) (by omega) h
    split
    · exact sp_mst_I ih (by omega)
    · exact ih
theorem sp_mo_I {σ : sp_S} (W : sp_WF σ) {d : sp_E} {page : Int} {L : Nat} : ∀ (line : Nat), sp_rI L (sp_mo σ d page L line).1
  | 0 => ⟨List.length_replicate, fun x hx => by
    have := List.eq_of_mem_replicate hx
    omega⟩
  | line + 1 => sp_mi_I (sp_gb_le W).2 (sp_mo_I W line)
section MR
variable {σ : sp_S} {ms : jj_MS}
def sp_rR (s : List Int × Nat × Nat) (ms : jj_MS) : Prop := (∀ (i : Nat) x, s.1[i]? = some x → ms.2 30 i = x) ∧ ms.1 31 = s.2.1 ∧ ms.1 32 = s.2.2
theorem sp_getI {L : Nat} {rows : List Int} (h : sp_rI L rows) {i : Nat} (hi : i < L) : ∃ x, rows[i]? = some x ∧ -1 ≤ x ∧ x < 40 := by
  have hl : i < rows.length := by rw [h.1]; exact hi
  exact ⟨rows[i], List.getElem?_eq_getElem hl, h.2 _ (List.getElem_mem hl)⟩
theorem mL_isFree (W : sp_WF σ) (R : sp_RM σ (ms.2 0) (ms.2 3)) {t : Nat} {d : sp_E} (ht : σ.2.2.2.1 = t) (hd : σ.1[t]? = some d) {s : List Int × Nat × Nat} (hI : sp_rI d.2.2.2.toNat s.1) (hR : sp_rR s ms) {r nd : Nat} (hr : r < d.2.2.2.toNat) (hnd : nd = 1 ∨ nd = 2) {Q : Int → jj_MS → Prop} (q1 : sp_fre s.1 r nd = true → Q 1 ms) (q0 : sp_fre s.1 r nd = false → Q 0 ms) : fM_isFree r nd Q ms := by
  have ho := (W.ed hd).2.2.2.2.2.2.2
  obtain ⟨x, hx, x0, x1⟩ := sp_getI hI hr
  have rx := hR.1 r x hx
  refine mL_target R ?_
  rw [ht]
  have r1 : jj_r 1 := ⟨by decide, by decide⟩
  have r0 : jj_r 0 := ⟨by decide, by decide⟩
  have jr : ∀ i : Nat, i < 100 → jj_r (i : Int) := fun i h => ⟨by omega, by omega⟩
  refine mL_lines W R hd ⟨⟨by omega, by omega⟩, ⟨by omega, by omega⟩, fun c => ⟨1, jr r (by omega), ⟨by omega, by omega⟩, fun c2 => absurd c2 (by omega), fun _ => ⟨r0, fun _ => ⟨Or.inl rfl, q0 ?_⟩, fun c2 => absurd rfl c2⟩⟩, fun c => ⟨3, ?_⟩⟩
  · unfold sp_fre
    have h2 : s.1[r + 1]? = none := List.getElem?_eq_none (by have := hI.1; omega)
    have h3 : nd = 2 := by omega
    simp [h2, h3]
  · refine ⟨jr r (by omega), ⟨by omega, by omega⟩, fun c2 => absurd c2 (by omega), fun _ => ⟨r1, fun c2 => absurd c2 (by decide), fun _ => ⟨by omega, by omega, by rw [rx]; exact ⟨by omega, by omega⟩, fun c2 v e => ?_, fun c2 v e => ?_⟩⟩⟩
    · subst e
      have hf : sp_fre s.1 r nd = false := by
        unfold sp_fre
        rw [rx] at c2
        simp [hx, c2]
      refine ⟨⟨by omega, by omega⟩, ⟨by omega, by omega⟩, fun _ => ⟨Or.inl rfl, q0 hf⟩, fun _ => ⟨r0, fun _ => ⟨Or.inl rfl, q0 hf⟩, fun c3 => absurd rfl c3⟩⟩
    · subst e
      rw [rx] at c2
      refine ⟨⟨by omega, by omega⟩, ⟨by omega, by omega⟩, fun c3 => ⟨Or.inr rfl, q1 ?_⟩, fun c3 => ⟨r1, fun c4 => absurd c4 (by decide), fun _ => ?_⟩⟩
      · unfold sp_fre
        have h3 : nd = 1 := by omega
        simp [hx, c2, h3]
      · have h3 : nd = 2 := by omega
        obtain ⟨y, hy, y0, y1⟩ := sp_getI hI (i := r + 1) (by omega)
        have ry : ms.2 30 ((r : Int) + 1) = y := hR.1 (r + 1) y hy
        refine ⟨by omega, by omega, by rw [ry]; exact ⟨by omega, by omega⟩, fun c4 v e => ?_, fun c4 v e => ?_⟩
        · subst e
          rw [ry] at c4
          refine ⟨⟨by omega, by omega⟩, ⟨by omega, by omega⟩, fun _ => ⟨Or.inl rfl, q0 ?_⟩, fun c5 => absurd c5 (by omega)⟩
          unfold sp_fre
          simp [h3, hy, c4]
        · subst e
          rw [ry] at c4
          refine ⟨⟨by omega, by omega⟩, ⟨by omega, by omega⟩, fun _ => ⟨Or.inr rfl, q1 ?_⟩, fun c5 => absurd c5 (by omega)⟩
          unfold sp_fre
          simp [hx, c2, hy, c4]
theorem mL_setGroup (W : sp_WF σ) (R : sp_RM σ (ms.2 0) (ms.2 3)) (hL : sp_LG σ ms) {t : Nat} {d : sp_E} (ht : σ.2.2.2.1 = t) (hd : σ.1[t]? = some d) {s : List Int × Nat × Nat} (hI : sp_rI d.2.2.2.toNat s.1) (hR : sp_rR s ms) {g line : Nat} (hg : g < (sp_gb σ).2) (hgf : (sp_gp σ g).1 ≠ -1) (hl : line < d.2.2.2.toNat) {Q : jj_MS → Prop} (q : ∀ ms', sp_fr 30 33 ms ms' → sp_rR (sp_mst σ d.2.2.2.toNat s g line) ms' → Q ms') : fM_setGroup g line Q ms := by
  have ho := (W.ed hd).2.2.2.2.2.2.2
  have hle := sp_gb_le W
  have h40 := W.2.2.1
  obtain ⟨-, -, -, hgR⟩ := hL
  obtain ⟨-, -, -, -, -, g5⟩ := hgR g (by omega)
  have gb := sp_gs_bd W (by' := (sp_gb σ).1) (g := (g : Int)) σ.2.1.length (Nat.le_refl _)
  have g5 := g5 hgf
  have gt := gb.2.2.2.2.1.2 hgf
  have gt0 := gb.2.2.2.2.1.1
  have jr : ∀ i : Nat, i < 100 → jj_r (i : Int) := fun i h => ⟨by omega, by omega⟩
  obtain ⟨tt, htt⟩ : ∃ tt, σ.2.1[(sp_gp σ g).2.2.2.2.2.toNat]? = some tt := ⟨σ.2.1[(sp_gp σ g).2.2.2.2.2.toNat]'(by unfold sp_gp; omega), List.getElem?_eq_getElem _⟩
  have e55 : (((sp_gp σ g).2.2.2.2.2.toNat : Nat) : Int) = ms.2 24 g := by rw [g5]; unfold sp_gp; omega
  have esd : sp_sdl σ (sp_gp σ g).2.2.2.2.2 = tt.2.2.length := by
    unfold sp_sdl
    rw [htt]
  have hs7 := (W.nt htt).2.2.2.2.2.2.1
  have end' : ∀ (nd r : Nat), nd = sp_nd σ g → (nd = 1 ∨ nd = 2) → r ≤ d.2.2.2.toNat → (sp_fnd s.1 nd (d.2.2.2.toNat - line) line = if r = d.2.2.2.toNat then none else some r) → fM_setGroup_j54 g nd r Q ms := by
    intro nd r hnd hnd2 hr hf
    refine mL_target R ?_
    rw [ht]
    refine mL_lines W R hd ⟨jr r (by omega), ⟨by omega, by omega⟩, fun c m7 e7 => ?_, fun c m8 e8 => ?_⟩
    · have hrl : r < d.2.2.2.toNat := by omega
      rw [if_neg (by omega)] at hf
      have hfr := (sp_fnd_lt hf).2.2
      have em : sp_mst σ d.2.2.2.toNat s g line = (sp_put s.1 r nd g, s.2.1 + 1, s.2.2) := by
        unfold sp_mst
        rw [← hnd, hf]
      rw [em] at q
      have f7 : sp_fr 30 33 ms m7 := sp_fr.rfl.tI e7
      refine ⟨3, jr r (by omega), ⟨by omega, by omega⟩, fun c2 => absurd c2 (by omega), fun _ => ⟨by omega, by omega, fun m1 e1 v2 e2 => ?_⟩⟩
      subst e2
      have base : m1.1 31 = ((s.2.1 + 1 : Nat) : Int) ∧ m1.1 32 = (s.2.2 : Nat) := by
        rw [e1, jj_mA_1, e7, jj_mI_eq, jj_mI_ne (by decide), hR.2.1, hR.2.2]
        exact ⟨by omega, rfl⟩
      have r1 : ∀ (i : Nat) x, (s.1.set r (g : Int))[i]? = some x → m1.2 30 i = x := by
        intro i x hx
        rw [e1, jj_mA_eq, e7, jj_mI_2]
        by_cases e : r = i
        · subst e
          rw [List.getElem?_set_self (by rw [hI.1]; exact hrl)] at hx
          rw [if_pos rfl]
          exact Option.some.inj hx
        · rw [List.getElem?_set_ne e] at hx
          rw [if_neg (by omega)]
          exact hR.1 i x hx
      by_cases h1 : nd = 1
      · refine ⟨⟨by omega, by omega⟩, ⟨by omega, by omega⟩, fun _ => q m1 (f7.tA e1) ⟨?_, base.1, base.2⟩, fun c2 => absurd c2 (by omega)⟩
        unfold sp_put
        rw [if_pos h1]
        exact r1
      · have hr1 : r + 1 < d.2.2.2.toNat := by
          unfold sp_fre at hfr
          simp [h1] at hfr
          have := sp_lt hfr.2
          rw [hI.1] at this
          exact this
        refine ⟨⟨by omega, by omega⟩, ⟨by omega, by omega⟩, fun c2 => absurd c2 (by omega), fun _ => ⟨by omega, by omega, fun m2 e2 v2 e3 => ?_⟩⟩
        subst e3
        refine ⟨⟨by omega, by omega⟩, ⟨by omega, by omega⟩, fun _ => q m2 ((f7.tA e1).tA e2) ⟨?_, by rw [e2, jj_mA_1]; exact base.1, by rw [e2, jj_mA_1]; exact base.2⟩, fun c2 => absurd c2 (by omega)⟩
        unfold sp_put
        rw [if_neg h1]
        intro i x hx
        rw [e2, jj_mA_eq]
        by_cases e : r + 1 = i
        · subst e
          rw [List.getElem?_set_self (by rw [List.length_set, hI.1]; exact hr1)] at hx
          rw [if_pos (by omega)]
          exact Option.some.inj hx
        · rw [List.getElem?_set_ne e] at hx
          rw [if_neg (by omega)]
          exact r1 i x hx
    · have hrl : r = d.2.2.2.toNat := by omega
      rw [if_pos hrl] at hf
      have em : sp_mst σ d.2.2.2.toNat s g line = (s.1, s.2.1, s.2.2 + 1) := by
        unfold sp_mst
        rw [← hnd, hf]
      rw [em] at q
      refine q m8 (sp_fr.rfl.tI e8) ⟨fun i x hx => by rw [e8, jj_mI_2]; exact hR.1 i x hx, by rw [e8, jj_mI_ne (by decide)]; exact hR.2.1, ?_⟩
      rw [e8, jj_mI_eq, hR.2.2]
      show (s.2.2 : Int) + 1 = ((s.2.2 + 1 : Nat) : Int)
      omega
  have search : ∀ (nd : Nat), nd = sp_nd σ g → (nd = 1 ∨ nd = 2) → ∀ (N r : Nat), r ≤ d.2.2.2.toNat → d.2.2.2.toNat - r < N → sp_fnd s.1 nd (d.2.2.2.toNat - r) r = sp_fnd s.1 nd (d.2.2.2.toNat - line) line → fM_setGroup_l24 g nd Q N r ms := by
    intro nd hnd hnd2 N
    induction N with
    | zero => intro r _ h; exact absurd h (Nat.not_lt_zero _)
    | succ N ih =>
      intro r hr hN hf
      refine mL_target R ?_
      rw [ht]
      refine mL_lines W R hd ⟨jr r (by omega), ⟨by omega, by omega⟩, fun c => ?_, fun c => ?_⟩
      · have hrl : r = d.2.2.2.toNat := by omega
        refine end' nd r hnd hnd2 hr ?_
        rw [← hf, if_pos hrl, hrl, Nat.sub_self]
        rfl
      · have es : d.2.2.2.toNat - r = (d.2.2.2.toNat - (r + 1)) + 1 := by omega
        rw [es, sp_fnd] at hf
        refine mL_isFree W R ht hd hI hR (by omega) hnd2 (fun h => ⟨⟨by decide, by decide⟩, fun _ => end' nd r hnd hnd2 hr ?_, fun c2 => absurd c2 (by decide)⟩) (fun h => ⟨⟨by decide, by decide⟩, fun c2 => absurd rfl c2, fun _ v e => ?_⟩)
        · rw [← hf, if_pos h, if_neg (by omega)]
        · subst e
          rw [h] at hf
          exact ih (r + 1) (by omega) (by omega) hf
  refine ⟨by omega, by omega, ?_⟩
  rw [← e55]
  refine mL_note W R htt (f := 5) tt.2.2.length rfl ⟨jj_rn, fun c => ⟨_, search 1 ?_ (Or.inl rfl) _ line (by omega) (Nat.lt_succ_self _) rfl⟩, fun c => ⟨_, search 2 ?_ (Or.inr rfl) _ line (by omega) (Nat.lt_succ_self _) rfl⟩⟩
  · unfold sp_nd
    rw [esd, if_pos c]
  · unfold sp_nd
    rw [esd, if_neg c]
theorem mL_layMargin (W : sp_WF σ) (R : sp_RM σ (ms.2 0) (ms.2 3)) (hL : sp_LG σ ms) {t : Nat} {d : sp_E} (ht : σ.2.2.2.1 = t) (hd : σ.1[t]? = some d) (hO : sp_LO d ms) (hfirst : ∀ g : Nat, g < (sp_gb σ).2 → (sp_gp σ g).1 ≠ -1 ∧ ((sp_gp σ g).2.2.2.1 = -1 ∨ (0 ≤ (sp_gp σ g).2.2.2.1 ∧ (sp_gp σ g).2.2.2.1 < d.1.length))) {page : Int} (hp : 0 ≤ page ∧ page < 1000) {Q : jj_MS → Prop} (q : ∀ ms', sp_fr 30 33 ms ms' → sp_rR (sp_mg σ d page) ms' → Q ms') : fM_layMargin page Q ms := by
  have hed := W.ed hd
  have ho := hed.2.2.2.2.2.2.2
  have hsz := hed.2.1
  have hle := sp_gb_le W
  have jr : ∀ i : Nat, i < 100 → jj_r (i : Int) := fun i h => ⟨by omega, by omega⟩
  have hLf : ∀ m, sp_fr 30 33 ms m → sp_LG σ m := by
    intro m f
    obtain ⟨a1, a2, a3, a4⟩ := hL
    refine ⟨a1.fr f, by rw [(f 28 (by omega)).1]; exact a2, fun i x h => by rw [(f 21 (by omega)).2]; exact a3 i x h, fun g hg => ?_⟩
    rw [(f 25 (by omega)).2, (f 26 (by omega)).2, (f 27 (by omega)).2, (f 22 (by omega)).2, (f 23 (by omega)).2, (f 24 (by omega)).2]
    exact a4 g hg
  generalize hLn : d.2.2.2.toNat = L at *
  have eL : d.2.2.2 = (L : Int) := by omega
  have lines : ∀ (N line : Nat) (m : jj_MS), sp_fr 30 33 ms m → sp_rR (sp_mo σ d page L line) m → line ≤ L → L - line < N → fM_layMargin_l33 page Q N line m := by
    intro N
    induction N with
    | zero => intro line m _ _ _ h; exact absurd h (Nat.not_lt_zero _)
    | succ N ih =>
      intro line m hf hR hl hN
      have R1 := R.fr hf
      refine mL_target R1 ?_
      rw [ht]
      refine mL_lines W R1 hd ⟨jr line (by omega), ⟨by omega, by omega⟩, fun c => ?_, fun c => ?_⟩
      · have : line = L := by omega
        subst this
        refine q m hf ?_
        unfold sp_mg
        rw [hLn]
        exact hR
      · have hIo := sp_mo_I W (d := d) (page := page) (L := L) line
        have groups : ∀ (M g : Nat) (m1 : jj_MS), sp_fr 30 33 ms m1 → sp_rR (sp_mi σ d page L line g (sp_mo σ d page L line)) m1 → g ≤ (sp_gb σ).2 → (sp_gb σ).2 - g < M → fM_layMargin_l48 page line (fM_layMargin_l33 page Q N) Q M g m1 := by
          intro M
          induction M with
          | zero => intro g m1 _ _ _ h; exact absurd h (Nat.not_lt_zero _)
          | succ M ihM =>
            intro g m1 hf1 hR1 hg hM
            have R2 := R.fr hf1
            have hL1 := hLf m1 hf1
            have hL1' := hL1
            obtain ⟨-, b28, -, bg⟩ := hL1'
            show jj_r g ∧ jj_r (m1.1 28) ∧ _
            rw [b28]
            refine ⟨jr g (by omega), jr _ (by omega), fun c2 v1 e1 => ?_, fun c2 => ?_⟩
            · have : g = (sp_gb σ).2 := by omega
              subst this
              subst e1
              exact ih (line + 1) m1 hf1 hR1 (by omega) (by omega)
            · obtain ⟨-, -, -, k3, -, -⟩ := bg g (by omega)
              obtain ⟨k1, k2⟩ := hfirst g (by omega)
              have k3 : m1.2 22 g = (sp_gp σ g).2.2.2.1 := k3
              have skip : sp_onl σ d page line g = false → fM_layMargin_l48 page line (fM_layMargin_l33 page Q N) Q M (g + 1) m1 := fun h => by
                refine ihM (g + 1) m1 hf1 ?_ (by omega) (by omega)
                rw [sp_mi, if_neg (by rw [h]; decide)]
                exact hR1
              refine ⟨by omega, by omega, fun v2 e2 => ?_⟩
              rw [k3] at e2
              subst e2
              refine ⟨⟨by omega, by omega⟩, fun c3 v3 e3 => ?_, fun c3 => ⟨by omega, by omega, mL_target R2 ?_⟩⟩
              · subst e3
                refine skip ?_
                unfold sp_onl
                simp [c3]
              · rw [ht]
                have hO1 := hO.fr hf1
                have hfn : (((sp_gp σ g).2.2.2.1.toNat : Nat) : Int) = (sp_gp σ g).2.2.2.1 := by omega
                have hlay := (hO1 (sp_gp σ g).2.2.2.1.toNat (by omega)).1
                rw [hfn] at hlay
                have hlb := sp_lay_bd hed (sp_gp σ g).2.2.2.1.toNat
                have hmul : 0 ≤ (L : Int) * page ∧ (L : Int) * page ≤ 40 * 1000 := ⟨Int.mul_nonneg (by omega) hp.1, Int.mul_le_mul (by omega) (by omega) hp.1 (by decide)⟩
                refine mL_lines W R2 hd ?_
                rw [hlay, eL]
                refine ⟨⟨by omega, by omega⟩, ⟨by omega, by omega⟩, fun c4 v e => ?_, fun c4 => ?_⟩
                · subst e
                  refine skip ?_
                  unfold sp_onl
                  rw [eL]
                  simp [c4]
                · have hon : sp_onl σ d page line g = true := by
                    unfold sp_onl
                    rw [eL]
                    simp [c3, c4]
                  have hIi := sp_mi_I (σ := σ) (d := d) (page := page) (line := line) (g := g) (s := sp_mo σ d page L line) (by omega) hIo
                  refine mL_setGroup W R2 hL1 ht hd (by rw [hLn]; exact hIi) hR1 (by omega) k1 (by omega) fun m9 f9 r9 v e => ?_
                  subst e
                  rw [hLn] at r9
                  refine ihM (g + 1) m9 (hf1.trans f9) ?_ (by omega) (by omega)
                  rw [sp_mi, if_pos hon]
                  exact r9
        exact ⟨_, groups _ 0 m hf hR (Nat.zero_le _) (Nat.lt_succ_self _)⟩
  have clear : ∀ (N k : Nat) (m : jj_MS), sp_fr 30 33 ms m → (∀ i : Nat, i < k → m.2 30 i = -1) → k ≤ 40 → 40 - k < N → fM_layMargin_l2 page Q N k m := by
    intro N
    induction N with
    | zero => intro k m _ _ _ h; exact absurd h (Nat.not_lt_zero _)
    | succ N ih =>
      intro k m hf hi hk hN
      refine ⟨jr k (by omega), fun c m16 e16 m17 e17 => ⟨L + 1, lines _ 0 m17 ((hf.tI e16).tI e17) ⟨fun i x hx => ?_, ?_, ?_⟩ (Nat.zero_le _) (by omega)⟩, fun c => ⟨by omega, by omega, fun m18 e18 v e => ?_⟩⟩
      · rw [e17, jj_mI_2, e16, jj_mI_2]
        have hl := sp_lt hx
        rw [sp_mo] at hx hl
        dsimp only at hx hl
        rw [List.length_replicate] at hl
        rw [List.getElem?_replicate, if_pos hl] at hx
        rw [hi i (by omega)]
        exact Option.some.inj hx
      · rw [e17, jj_mI_ne (by decide), e16, jj_mI_eq]
        rfl
      · rw [e17, jj_mI_eq]
        rfl
      · subst e
        refine ih (k + 1) m18 (hf.tA e18) (fun i hik => ?_) (by omega) (by omega)
        rw [e18, jj_mA_eq]
        by_cases e : i = k
        · rw [if_pos (by omega)]
        · rw [if_neg (by omega)]
          exact hi i (by omega)
  exact ⟨41, clear 41 0 ms sp_fr.rfl (fun i h => absurd h (Nat.not_lt_zero _)) (by omega) (by omega)⟩
end MR
