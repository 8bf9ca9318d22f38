/-! PAGES; THE HOTTEST -/
theorem jj_divn {x y : Int} (h0 : 0 ≤ x) (h1 : x < 2147483648) (g0 : 0 < y) (g1 : y < 2147483648) : jj_div x y = x / y := by
  unfold jj_div
  have e1 : (Int32.ofInt x).toInt = x := Int32.toInt_ofInt_of_le (by omega) (by omega)
  have e2 : (Int32.ofInt y).toInt = y := Int32.toInt_ofInt_of_le (by omega) (by omega)
  have hq : 0 ≤ x / y ∧ x / y ≤ x := ⟨Int.ediv_nonneg h0 (by omega), Int.ediv_le_self y h0⟩
  rw [Int32.toInt_div, e1, e2, Int.tdiv_eq_ediv_of_nonneg h0]
  exact Int.bmod_eq_of_le (by omega) (by omega)
theorem jj_remn {x y : Int} (h0 : 0 ≤ x) (h1 : x < 2147483648) (g0 : 0 < y) (g1 : y < 2147483648) : jj_rem x y = x % y := by
  have hd := jj_divn h0 h1 g0 g1
  unfold jj_div at hd
  unfold jj_rem
  have e1 : (Int32.ofInt x).toInt = x := Int32.toInt_ofInt_of_le (by omega) (by omega)
  have e2 : (Int32.ofInt y).toInt = y := Int32.toInt_ofInt_of_le (by omega) (by omega)
  have hm := Int.mul_ediv_add_emod x y
  have h2 := Int.emod_nonneg x (show y ≠ 0 by omega)
  have h3 := Int.emod_lt_of_pos x g0
  have hc : x / y * y = y * (x / y) := Int.mul_comm _ _
  rw [Int32.toInt_sub, Int32.toInt_mul, hd, e1, e2, hc]
  have hp : 0 ≤ y * (x / y) := Int.mul_nonneg (by omega) (Int.ediv_nonneg h0 (by omega))
  have e4 : (y * (x / y)).bmod (2 ^ 32) = y * (x / y) := Int.bmod_eq_of_le (by omega) (by omega)
  rw [e4, Int.bmod_eq_of_le (by omega) (by omega)]
  omega
def sp_LO (d : sp_E) (ms : jj_MS) : Prop := ∀ i : Nat, i < d.1.length → ms.2 12 i = (sp_lay d i).1 ∧ ms.2 13 i = (sp_lay d i).2.1 ∧ ms.2 14 i = (sp_lay d i).2.2
theorem sp_LO.fr {d : sp_E} {ms ms' : jj_MS} {a b : Nat} (h : sp_LO d ms) (f : sp_fr a b ms ms') (h1 : b ≤ 12 ∨ 15 ≤ a := by omega) : sp_LO d ms' := fun i hi => by
  rw [(f 12 (by omega)).2, (f 13 (by omega)).2, (f 14 (by omega)).2]
  exact h i hi
def sp_lines (d : sp_E) : Int := (sp_lay d (d.1.length - 1)).1 + 1
def sp_pages (d : sp_E) : Int := (sp_lines d + d.2.2.2 - 1) / d.2.2.2
def sp_pg (d : sp_E) (k : Nat) : Int := (sp_lay d k).1 / d.2.2.2
theorem sp_lay_mono {d : sp_E} (k : Nat) : (sp_lay d k).1 ≤ (sp_lay d (k + 1)).1 ∧ (sp_lay d (k + 1)).1 ≤ (sp_lay d k).1 + 1 := by
  rw [sp_lay]
  split <;> dsimp only <;> omega
theorem sp_lay_le {d : sp_E} : ∀ (i k : Nat), i ≤ k → (sp_lay d i).1 ≤ (sp_lay d k).1
  | i, 0, h => by
    have : i = 0 := by omega
    rw [this]
    exact Int.le_refl _
  | i, k + 1, h => by
    by_cases e : i = k + 1
    · rw [e]
      exact Int.le_refl _
    · have := sp_lay_le (d := d) i k (by omega)
      have := (sp_lay_mono (d := d) k).1
      omega
theorem sp_pg_le {d : sp_E} (hd : sp_okE d) {i k : Nat} (h : i ≤ k) : sp_pg d i ≤ sp_pg d k := Int.ediv_le_ediv (by have := hd.2.2.2.2.2.2.2.1; omega) (sp_lay_le i k h)
theorem sp_pg_bd {d : sp_E} (hd : sp_okE d) {k : Nat} (hk : k < 200) : 0 ≤ sp_pg d k ∧ sp_pg d k < 200 := by
  have h1 := sp_lay_bd hd k
  have h2 := hd.2.2.2.2.2.2.2.1
  have h3 := Int.ediv_le_self d.2.2.2 h1.1
  exact ⟨Int.ediv_nonneg h1.1 (by omega), by unfold sp_pg; omega⟩
/-- heat on a page, of the first words -/
def sp_T (σ : sp_S) (d : sp_E) : Nat → Int → Int
  | 0, _ => 0
  | k + 1, p => sp_T σ d k p + if sp_pg d k = p then sp_heat σ k else 0
def sp_hot (σ : sp_S) (d : sp_E) (b : Int) : Prop := 0 ≤ b ∧ (∀ p, sp_T σ d d.1.length p ≤ sp_T σ d d.1.length b) ∧ ∀ p, 0 ≤ p → p < b → sp_T σ d d.1.length p < sp_T σ d d.1.length b
theorem sp_hot_uniq {σ : sp_S} {d : sp_E} {a b : Int} (ha : sp_hot σ d a) (hb : sp_hot σ d b) : a = b := by
  obtain ⟨a0, a1, a2⟩ := ha
  obtain ⟨b0, b1, b2⟩ := hb
  have h1 := a1 b
  have h2 := b1 a
  rcases Int.lt_trichotomy a b with h | h | h
  · have := b2 a a0 h; omega
  · exact h
  · have := a2 b b0 h; omega
theorem sp_heat_bd {σ : sp_S} (W : sp_WF σ) {w : Int} : 0 ≤ sp_heat σ w ∧ sp_heat σ w ≤ 6 := by
  have h := sp_hm_bd W (w := w) σ.2.1.length
  exact (sp_bits_bd h.1 h.2).2
theorem sp_T_bd {σ : sp_S} (W : sp_WF σ) {d : sp_E} : ∀ (k : Nat) (p : Int), 0 ≤ sp_T σ d k p ∧ sp_T σ d k p ≤ 6 * k
  | 0, p => by simp [sp_T]
  | k + 1, p => by
    have ih := sp_T_bd W (d := d) k p
    have h := sp_heat_bd W (w := (k : Int))
    rw [sp_T]
    split <;> omega
theorem sp_T_zero {σ : sp_S} {d : sp_E} (hd : sp_okE d) : ∀ (k : Nat) (p : Int), sp_pg d k < p → sp_T σ d (k + 1) p = 0
  | 0, p, h => by
    rw [sp_T, sp_T, if_neg (by omega)]
    rfl
  | k + 1, p, h => by
    have := sp_pg_le hd (Nat.le_add_right k 1)
    rw [sp_T, sp_T_zero hd k p (by omega), if_neg (by omega)]
    rfl
section MP
variable {σ : sp_S} {ms : jj_MS}
theorem mL_linesOf (W : sp_WF σ) (R : sp_RM σ (ms.2 0) (ms.2 3)) {e : Nat} {d : sp_E} (he : σ.1[e]? = some d) (hL : sp_LO d ms) {Q : Int → jj_MS → Prop} (q : Q (sp_lines d) ms) : fM_linesOf e Q ms := by
  have hd := W.ed he
  have h1 := hd.1
  have h2 := hd.2.1
  refine mL_sizeOf W R he ⟨by omega, by omega, ?_⟩
  have e1 : (d.1.length : Int) - 1 = ((d.1.length - 1 : Nat) : Int) := by omega
  rw [e1, (hL (d.1.length - 1) (by omega)).1]
  exact q
theorem mL_pagesOf (W : sp_WF σ) (R : sp_RM σ (ms.2 0) (ms.2 3)) {e : Nat} {d : sp_E} (he : σ.1[e]? = some d) (hL : sp_LO d ms) {Q : Int → jj_MS → Prop} (q : Q (sp_pages d) ms) : fM_pagesOf e Q ms := by
  have hd := W.ed he
  have h3 := hd.2.2.2.2.2.2.2
  have h4 := sp_lay_bd hd (d.1.length - 1)
  have h5 := hd.2.1
  refine mL_linesOf W R he hL (mL_lines W R he (mL_lines W R he ⟨⟨⟨by omega, by omega⟩, by omega⟩, ?_⟩))
  rw [jj_divn (by unfold sp_lines; omega) (by unfold sp_lines; omega) (by omega) (by omega)]
  exact q
theorem mL_targetPageOf (W : sp_WF σ) (R : sp_RM σ (ms.2 0) (ms.2 3)) {g : Nat} {d : sp_E} (hg : σ.2.2.2.1 = g) (hd : σ.1[g]? = some d) (hL : sp_LO d ms) {k : Nat} (hk : k < d.1.length) {Q : Int → jj_MS → Prop} (q : Q (sp_pg d k) ms) : fM_targetPageOf k Q ms := by
  have ho := W.ed hd
  have h3 := ho.2.2.2.2.2.2.2
  have h4 := sp_lay_bd ho k
  have h5 := ho.2.1
  refine ⟨by omega, by omega, mL_target R ?_⟩
  rw [hg]
  refine mL_lines W R hd ⟨⟨⟨by omega, by omega⟩, by omega⟩, ?_⟩
  rw [(hL k hk).1, jj_divn (by omega) (by omega) (by omega) (by omega)]
  exact q
theorem mL_hottest (W : sp_WF σ) (R : sp_RM σ (ms.2 0) (ms.2 3)) (Ra : sp_aR σ ms) {g : Nat} {d : sp_E} (hg : σ.2.2.2.1 = g) (hd : σ.1[g]? = some d) (hL : sp_LO d ms) {Q : Int → jj_MS → Prop} (q : ∀ b, sp_hot σ d b → Q b ms) : ∃ n9, fM_hottestPage_l35 Q n9 0 0 0 0 ms := by
  have ho := W.ed hd
  have h5 := ho.2.1
  have loop : ∀ (N k : Nat) (b m s : Int), k ≤ d.1.length → d.1.length - k < N → 0 ≤ b → m = sp_T σ d k b → (∀ p, sp_T σ d k p ≤ m) → (∀ p, 0 ≤ p → p < b → sp_T σ d k p < m) → (s = match k with | 0 => 0 | j + 1 => sp_T σ d k (sp_pg d j)) → fM_hottestPage_l35 Q N b m s k ms := by
    intro N
    induction N with
    | zero => intro k b m s _ h; exact absurd h (Nat.not_lt_zero _)
    | succ N ih =>
      intro k b m s hk hN hb hm h1 h2 hs
      refine mL_target R ?_
      rw [hg]
      refine mL_sizeOf W R hd ⟨jj_rn, jj_rn, fun c => ?_, fun c => ?_⟩
      · have hkn : k = d.1.length := by omega
        subst hkn
        subst hm
        exact q b ⟨hb, h1, h2⟩
      · have hkd : k < d.1.length := by omega
        have hh := sp_heat_bd W (w := (k : Int))
        have hpg := sp_pg_bd ho (k := k) (by omega)
        have hTb := sp_T_bd W (d := d) k b
        have go : ∀ y0, y0 = sp_T σ d k (sp_pg d k) → fM_hottestPage_j75 (fM_hottestPage_l35 Q N) b m k y0 Q ms := by
          intro y0 hy
          have hTp := sp_T_bd W (d := d) k (sp_pg d k)
          have eT : ∀ p, sp_T σ d (k + 1) p = sp_T σ d k p + if sp_pg d k = p then sp_heat σ k else 0 := fun p => rfl
          have eTp : sp_T σ d (k + 1) (sp_pg d k) = y0 + sp_heat σ k := by rw [eT, if_pos rfl, hy]
          have hle : ∀ p, sp_pg d k < p → sp_T σ d k p = 0 := fun p hp => by
            cases k with
            | zero => rfl
            | succ j => exact sp_T_zero ho j p (by have := sp_pg_le ho (Nat.le_add_right j 1); omega)
          refine mL_heatOf W R Ra jj_rn fun v3 e3 => ?_
          subst e3
          refine ⟨⟨by omega, by omega⟩, ⟨by omega, by omega⟩, fun c2 v4 e4 => ?_, fun c2 => mL_targetPageOf W R hg hd hL hkd fun v7 e7 => ?_⟩
          · subst e4
            refine ih (k + 1) b m _ (by omega) (by omega) hb ?_ (fun p => ?_) (fun p p0 p1 => ?_) eTp.symm
            · rw [eT]
              by_cases e : sp_pg d k = b
              · rw [if_pos e]
                rw [e] at hy
                omega
              · rw [if_neg e]
                omega
            · rw [eT]
              have := h1 p
              split
              · rename_i e
                rw [e] at hy
                omega
              · omega
            · rw [eT]
              have := h2 p p0 p1
              split
              · rename_i e
                subst e
                by_cases hz : sp_heat σ k = 0
                · omega
                · -- the page before b cannot grow: words go on
                  exfalso
                  have hb0 : sp_T σ d k b = 0 := hle b p1
                  have := sp_T_bd W (d := d) k (sp_pg d k)
                  omega
              · omega
          · subst e7
            refine ih (k + 1) (sp_pg d k) _ _ (by omega) (by omega) hpg.1 eTp.symm (fun p => ?_) (fun p p0 p1 => ?_) eTp.symm
            · rw [eT]
              have := h1 p
              split
              · rename_i e
                subst e
                omega
              · omega
            · rw [eT, if_neg (by omega)]
              have := h1 p
              omega
        refine ⟨jj_rn, fun c2 => go _ ?_, fun c2 => ?_⟩
        · have : k = 0 := by omega
          subst this
          rw [hs]
          rfl
        · obtain ⟨j, rfl⟩ : ∃ j, k = j + 1 := ⟨k - 1, by omega⟩
          have ej : ((j + 1 : Nat) : Int) - 1 = j := by omega
          refine mL_targetPageOf W R hg hd hL hkd ?_
          rw [ej]
          have hpj := sp_pg_bd ho (k := j) (by omega)
          refine mL_targetPageOf W R hg hd hL (k := j) (by omega) ⟨⟨by omega, by omega⟩, ⟨by omega, by omega⟩, fun c3 => go _ ?_, fun c3 => go _ ?_⟩
          · rw [hs]
            dsimp only
            rw [c3]
          · refine (sp_T_zero ho j _ ?_).symm
            have := sp_pg_le ho (Nat.le_add_right j 1)
            omega
  exact ⟨_, loop _ 0 0 0 0 (Nat.zero_le _) (Nat.lt_succ_self _) (Int.le_refl _) rfl (fun p => Int.le_refl _) (fun p h1 h2 => by omega) rfl⟩
end MP
