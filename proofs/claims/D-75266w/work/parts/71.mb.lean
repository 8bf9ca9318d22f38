/-! THE MODEL's small programs on the abstract state -/
section MB
variable {σ : sp_S} {ms : jj_MS}
theorem sp_RM.fr {a b : Nat} {ms' : jj_MS} (R : sp_RM σ (ms.2 0) (ms.2 3)) (h : sp_fr a b ms ms') (ha : 4 ≤ a := by omega) : sp_RM σ (ms'.2 0) (ms'.2 3) := by
  rw [(h 0 (Or.inl (by omega))).2, (h 3 (Or.inl (by omega))).2]
  exact R
theorem sp_lt {α : Type} {l : List α} {i : Nat} {a : α} (h : l[i]? = some a) : i < l.length := (List.getElem?_eq_some_iff.mp h).1
theorem mL_btw {x a b : Int} {Q : Int → jj_MS → Prop} (hx : jj_r x) (ha : jj_r a) (hb : jj_r b) (q1 : a ≤ x → x ≤ b → Q 1 ms) (q0 : ¬ (a ≤ x ∧ x ≤ b) → Q 0 ms) : fM_isBetween x a b Q ms :=
  ⟨hx, ha, fun c => q0 (by omega), fun c => ⟨hx, hb, fun c2 => q0 (by omega), fun c2 => q1 (by omega) (by omega)⟩⟩
theorem jj_rn {n : Nat} (h : n < 2147483648 := by omega) : jj_r (n : Int) := ⟨by omega, by omega⟩
theorem mL_sizeOf (W : sp_WF σ) (R : sp_RM σ (ms.2 0) (ms.2 3)) {e : Nat} {d : sp_E} (he : σ.1[e]? = some d) {Q : Int → jj_MS → Prop} (q : Q d.1.length ms) : fM_sizeOf e Q ms := by
  have h1 := sp_lt he
  have h2 := W.1
  refine ⟨by omega, by omega, ?_⟩
  show Q (ms.2 0 (5 + 3 * e + 0)) ms
  rw [(R.2.2.2.2.2.1 e d he).1]
  exact q
theorem mL_width (W : sp_WF σ) (R : sp_RM σ (ms.2 0) (ms.2 3)) {e : Nat} {d : sp_E} (he : σ.1[e]? = some d) {Q : Int → jj_MS → Prop} (q : Q d.2.2.1 ms) : fM_ofEdition e 1 Q ms := by
  have h1 := sp_lt he
  have h2 := W.1
  refine ⟨by omega, by omega, ?_⟩
  show Q (ms.2 0 (5 + 3 * e + 1)) ms
  rw [(R.2.2.2.2.2.1 e d he).2.1]
  exact q
theorem mL_lines (W : sp_WF σ) (R : sp_RM σ (ms.2 0) (ms.2 3)) {e : Nat} {d : sp_E} (he : σ.1[e]? = some d) {Q : Int → jj_MS → Prop} (q : Q d.2.2.2 ms) : fM_ofEdition e 2 Q ms := by
  have h1 := sp_lt he
  have h2 := W.1
  refine ⟨by omega, by omega, ?_⟩
  show Q (ms.2 0 (5 + 3 * e + 2)) ms
  rw [(R.2.2.2.2.2.1 e d he).2.2.1]
  exact q
theorem sp_WF.ed (W : sp_WF σ) {e : Nat} {d : sp_E} (he : σ.1[e]? = some d) : sp_okE d := W.2.1 d (List.mem_of_getElem? he)
theorem sp_WF.wd (W : sp_WF σ) {e i : Nat} {d : sp_E} {w : sp_W} (he : σ.1[e]? = some d) (hi : d.1[i]? = some w) : sp_ok w := (W.ed he).2.2.2.2.1 w (List.mem_of_getElem? hi)
theorem sp_WF.nt (W : sp_WF σ) {n : Nat} {t : sp_N} (hn : σ.2.1[n]? = some t) : sp_okN σ t := W.2.2.2.1 t (List.mem_of_getElem? hn)
theorem mL_wordOf (W : sp_WF σ) (R : sp_RM σ (ms.2 0) (ms.2 3)) {e i : Nat} {d : sp_E} {w : sp_W} (he : σ.1[e]? = some d) (hi : d.1[i]? = some w) {Q : Int → jj_MS → Prop} (q : Q (sp_pk w) ms) : fM_wordOf e i Q ms := by
  have h1 := sp_lt he
  have h2 := W.1
  have h3 := sp_lt hi
  have h4 := (W.ed he).2.1
  refine ⟨by omega, by omega, ?_⟩
  rw [(R.2.2.2.2.2.1 e d he).2.2.2.1 i w hi]
  exact q
theorem mL_begins (W : sp_WF σ) (R : sp_RM σ (ms.2 0) (ms.2 3)) {e i : Nat} {d : sp_E} {b : Bool} (he : σ.1[e]? = some d) (hi : d.2.1[i]? = some b) {Q : Int → jj_MS → Prop} (q : Q (if b = true then 1 else 0) ms) : fM_beginsParagraph e i Q ms := by
  have h1 := sp_lt he
  have h2 := W.1
  have h3 := sp_lt hi
  have h4 := W.ed he
  have h5 : d.2.1.length = d.1.length := h4.2.2.1
  have h6 := h4.2.1
  have h7 : ms.2 0 (14 + (120 * e + i)) = if b = true then 1 else 0 := (R.2.2.2.2.2.1 e d he).2.2.2.2 i b hi
  refine ⟨by omega, by omega, ?_⟩
  rw [h7]
  cases b with
  | true => exact ⟨⟨by decide, by decide⟩, fun c => absurd rfl c, fun _ => q⟩
  | false => exact ⟨⟨by decide, by decide⟩, fun _ => q, fun c => absurd c (by decide)⟩
theorem mL_lettersOf_l4 {Q : Int → jj_MS → Prop} : ∀ (r : List Int) (n : Nat) (x : Int), (∀ c ∈ r, sp_az c) → r.length ≤ 12 → r.length < n → Q (x + r.length) ms → fM_lettersOf_l4 Q n x (sp_pr r) ms
  | [], 0, _, _, _, h, _ => absurd h (by decide)
  | [], n + 1, x, _, _, _, q => by
    refine ⟨⟨by decide, by decide⟩, fun _ => ?_, fun c => absurd (by decide) c⟩
    have : x + ((([] : List Int).length : Nat) : Int) = x := by simp
    rw [this] at q
    exact q
  | c :: r, 0, _, _, _, h, _ => absurd h (by simp)
  | c :: r, n + 1, x, hz, hl, hn, q => by
    have hp := sp_pr_pos hz
    have hb := sp_pr_bd hz
    have h2 : (27 ^ (c :: r).length : Nat) ≤ 27 ^ 12 := Nat.pow_le_pow_right (by decide) hl
    have h3 : (27 ^ 12 : Nat) = 150094635296999121 := by decide
    rw [List.length_cons] at hl hn
    refine ⟨⟨by omega, by omega⟩, fun c => absurd c (by omega), fun _ v1 e1 v2 e2 => ?_⟩
    rw [jj_ldiv27 (by omega) (by omega), (sp_pr_div (hz c List.mem_cons_self)).1] at e1
    subst e1; subst e2
    refine mL_lettersOf_l4 r n (x + 1) (fun y hy => hz y (List.mem_cons_of_mem _ hy)) (by omega) (by omega) ?_
    have : x + 1 + (r.length : Int) = x + ((c :: r).length : Nat) := by rw [List.length_cons]; omega
    rw [this]
    exact q
theorem mL_lettersOf {w : sp_W} (hw : sp_ok w) {Q : Int → jj_MS → Prop} (q : Q w.length ms) : fM_lettersOf (sp_pk w) Q ms := by
  have hl : w.reverse.length = w.length := List.length_reverse
  refine ⟨w.length + 1, mL_lettersOf_l4 w.reverse _ 0 (fun c hc => hw.2.2 c (List.mem_reverse.mp hc)) (by have := hw.2.1; omega) (by omega) ?_⟩
  rw [hl, Int.zero_add]
  exact q
end MB
