/-! THE ABSTRACT STATE: what a library holds, purely -/
abbrev sp_W : Type := List Int
/-- words, beginnings, width, lines -/
abbrev sp_E : Type := List sp_W × List Bool × Int × Int
/-- reader, kind, edition; first, last; said -/
abbrev sp_N : Type := (Int × Int × Int) × (Int × Int) × List sp_W
/-- editions, notes, readers, target, threshold -/
abbrev sp_S : Type := List sp_E × List sp_N × List sp_W × Int × Int
def sp_pr : List Int → Int
  | [] => 0
  | c :: r => 27 * sp_pr r + (c - 96)
def sp_pk (w : sp_W) : Int := sp_pr w.reverse
def sp_az (c : Int) : Prop := 97 ≤ c ∧ c ≤ 122
def sp_ok (w : sp_W) : Prop := 1 ≤ w.length ∧ w.length ≤ 8 ∧ ∀ c ∈ w, sp_az c
def sp_okE (d : sp_E) : Prop := 1 ≤ d.1.length ∧ d.1.length ≤ 120 ∧ d.2.1.length = d.1.length ∧ d.2.1[0]? = some true ∧ (∀ w ∈ d.1, sp_ok w) ∧ 8 ≤ d.2.2.1 ∧ d.2.2.1 ≤ 60 ∧ 1 ≤ d.2.2.2 ∧ d.2.2.2 ≤ 40
def sp_okN (σ : sp_S) (t : sp_N) : Prop := 0 ≤ t.1.1 ∧ t.1.1 < σ.2.2.1.length ∧ 0 ≤ t.1.2.1 ∧ t.1.2.1 < 4 ∧ 0 ≤ t.1.2.2 ∧ (∃ d, σ.1[t.1.2.2.toNat]? = some d ∧ 0 ≤ t.2.1.1 ∧ t.2.1.1 ≤ t.2.1.2 ∧ t.2.1.2 < d.1.length) ∧ t.2.2.length ≤ 6 ∧ ∀ w ∈ t.2.2, sp_ok w
def sp_WF (σ : sp_S) : Prop := σ.1.length ≤ 3 ∧ (∀ d ∈ σ.1, sp_okE d) ∧ σ.2.1.length ≤ 40 ∧ (∀ t ∈ σ.2.1, sp_okN σ t) ∧ σ.2.2.1.length ≤ 6 ∧ (∀ w ∈ σ.2.2.1, sp_ok w) ∧ σ.2.2.1.Nodup ∧ 0 ≤ σ.2.2.2.1 ∧ (σ.2.2.2.1 < σ.1.length ∨ (σ.1 = [] ∧ σ.2.2.2.1 = 0)) ∧ 0 ≤ σ.2.2.2.2 ∧ σ.2.2.2.2 ≤ 100
/-- the model's arrays stand for it -/
def sp_RE (st wd : Int → Int) (e : Nat) (d : sp_E) : Prop := st (5 + 3 * e + 0) = d.1.length ∧ st (5 + 3 * e + 1) = d.2.2.1 ∧ st (5 + 3 * e + 2) = d.2.2.2 ∧ (∀ (i : Nat) w, d.1[i]? = some w → wd (120 * e + i) = sp_pk w) ∧ ∀ (i : Nat) b, d.2.1[i]? = some b → st (14 + (120 * e + i)) = if b = true then 1 else 0
def sp_RN (st wd : Int → Int) (n : Nat) (t : sp_N) : Prop := st (374 + 6 * n + 0) = t.1.1 ∧ st (374 + 6 * n + 1) = t.1.2.1 ∧ st (374 + 6 * n + 2) = t.1.2.2 ∧ st (374 + 6 * n + 3) = t.2.1.1 ∧ st (374 + 6 * n + 4) = t.2.1.2 ∧ st (374 + 6 * n + 5) = t.2.2.length ∧ ∀ (i : Nat) w, t.2.2[i]? = some w → wd (366 + 6 * n + i) = sp_pk w
def sp_RM (σ : sp_S) (st wd : Int → Int) : Prop := st 0 = σ.1.length ∧ st 1 = σ.2.2.1.length ∧ st 2 = σ.2.1.length ∧ st 3 = σ.2.2.2.2 ∧ st 4 = σ.2.2.2.1 ∧ (∀ (e : Nat) d, σ.1[e]? = some d → sp_RE st wd e d) ∧ (∀ (n : Nat) t, σ.2.1[n]? = some t → sp_RN st wd n t) ∧ ∀ (r : Nat) w, σ.2.2.1[r]? = some w → wd (360 + r) = sp_pk w
/-- what a computation leaves: all fields but a .. b - 1 -/
def sp_fr (a b : Nat) (ms ms' : jj_MS) : Prop := ∀ f, (f < a ∨ b ≤ f) → ms'.1 f = ms.1 f ∧ ms'.2 f = ms.2 f
theorem sp_fr.rfl {a b : Nat} {ms : jj_MS} : sp_fr a b ms ms := fun _ _ => ⟨Eq.refl _, Eq.refl _⟩
theorem sp_fr.trans {a b c d p q : Nat} {ms ms1 ms2 : jj_MS} (h : sp_fr a b ms ms1) (g : sp_fr c d ms1 ms2) (h1 : p ≤ a := by omega) (h2 : b ≤ q := by omega) (h3 : p ≤ c := by omega) (h4 : d ≤ q := by omega) : sp_fr p q ms ms2 := fun f hf => ⟨(g f (by omega)).1.trans (h f (by omega)).1, (g f (by omega)).2.trans (h f (by omega)).2⟩
theorem sp_fr.A {ms : jj_MS} {f : Nat} {i x : Int} {a b : Nat} (h1 : a ≤ f := by omega) (h2 : f < b := by omega) : sp_fr a b ms (jj_mA ms f i x) := fun g hg => ⟨Eq.refl _, if_neg (by omega)⟩
theorem sp_fr.I {ms : jj_MS} {f : Nat} {x : Int} {a b : Nat} (h1 : a ≤ f := by omega) (h2 : f < b := by omega) : sp_fr a b ms (jj_mI ms f x) := fun g hg => ⟨if_neg (by omega), Eq.refl _⟩
theorem sp_fr.tA {ms m1 m2 : jj_MS} {f : Nat} {i x : Int} {a b : Nat} (h : sp_fr a b ms m1) (e : m2 = jj_mA m1 f i x) (h1 : a ≤ f := by omega) (h2 : f < b := by omega) : sp_fr a b ms m2 := by
  subst e
  exact fun g hg => ⟨(h g hg).1, (if_neg (by omega)).trans (h g hg).2⟩
theorem sp_fr.tI {ms m1 m2 : jj_MS} {f : Nat} {x : Int} {a b : Nat} (h : sp_fr a b ms m1) (e : m2 = jj_mI m1 f x) (h1 : a ≤ f := by omega) (h2 : f < b := by omega) : sp_fr a b ms m2 := by
  subst e
  exact fun g hg => ⟨(if_neg (by omega)).trans (h g hg).1, (h g hg).2⟩
theorem jj_mA_eq {ms : jj_MS} {f : Nat} {i x j : Int} : (jj_mA ms f i x).2 f j = if j = i then x else ms.2 f j := by simp [jj_mA]
theorem jj_mA_ne {ms : jj_MS} {f g : Nat} {i x : Int} (h : g ≠ f) : (jj_mA ms f i x).2 g = ms.2 g := if_neg h
theorem jj_mA_ni {ms : jj_MS} {f g : Nat} {i x j : Int} (h : j ≠ i) : (jj_mA ms f i x).2 g j = ms.2 g j := by
  by_cases e : g = f
  · subst e
    rw [jj_mA_eq, if_neg h]
  · rw [jj_mA_ne e]
theorem jj_mA_1 {ms : jj_MS} {f : Nat} {i x : Int} : (jj_mA ms f i x).1 = ms.1 := rfl
theorem jj_mI_2 {ms : jj_MS} {f : Nat} {x : Int} : (jj_mI ms f x).2 = ms.2 := rfl
theorem jj_mI_eq {ms : jj_MS} {f : Nat} {x : Int} : (jj_mI ms f x).1 f = x := if_pos rfl
theorem jj_mI_ne {ms : jj_MS} {f g : Nat} {x : Int} (h : g ≠ f) : (jj_mI ms f x).1 g = ms.1 g := if_neg h
/-! words -/
theorem sp_pk_snoc {w : sp_W} {c : Int} : sp_pk (w ++ [c]) = 27 * sp_pk w + (c - 96) := by
  unfold sp_pk
  rw [List.reverse_append]
  rfl
theorem sp_pr_bd : ∀ {r : List Int}, (∀ c ∈ r, sp_az c) → 0 ≤ sp_pr r ∧ sp_pr r < (27 ^ r.length : Nat)
  | [], _ => by simp [sp_pr]
  | c :: r, h => by
    obtain ⟨h1, h2⟩ := sp_pr_bd (r := r) (fun x hx => h x (List.mem_cons_of_mem _ hx))
    have h3 := h c List.mem_cons_self
    unfold sp_az at h3
    unfold sp_pr
    rw [List.length_cons, Nat.pow_succ]
    omega
theorem sp_pr_div {c : Int} {r : List Int} (h : sp_az c) : sp_pr (c :: r) / 27 = sp_pr r ∧ sp_pr (c :: r) % 27 = c - 96 := by
  unfold sp_az at h
  show (27 * sp_pr r + (c - 96)) / 27 = _ ∧ (27 * sp_pr r + (c - 96)) % 27 = _
  omega
theorem sp_pr_pos {c : Int} {r : List Int} (h : ∀ x ∈ c :: r, sp_az x) : 0 < sp_pr (c :: r) := by
  have h1 := (sp_pr_bd (r := r) (fun x hx => h x (List.mem_cons_of_mem _ hx))).1
  have h3 := h c List.mem_cons_self
  unfold sp_az at h3
  show 0 < 27 * sp_pr r + (c - 96)
  omega
theorem sp_pr_inj : ∀ {u v : List Int}, (∀ c ∈ u, sp_az c) → (∀ c ∈ v, sp_az c) → sp_pr u = sp_pr v → u = v
  | [], [], _, _, _ => rfl
  | [], c :: r, _, h, e => by
    have := sp_pr_pos h
    rw [← e] at this
    exact absurd this (by decide)
  | c :: r, [], h, _, e => by
    have := sp_pr_pos h
    rw [e] at this
    exact absurd this (by decide)
  | c :: r, d :: s, h, g, e => by
    have h1 := sp_pr_div (r := r) (h c List.mem_cons_self)
    have h2 := sp_pr_div (r := s) (g d List.mem_cons_self)
    rw [e] at h1
    have e1 : c = d := by omega
    rw [e1, sp_pr_inj (fun x hx => h x (List.mem_cons_of_mem _ hx)) (fun x hx => g x (List.mem_cons_of_mem _ hx)) (h1.1.symm.trans h2.1)]
theorem sp_pk_inj {u v : sp_W} (hu : ∀ c ∈ u, sp_az c) (hv : ∀ c ∈ v, sp_az c) : sp_pk u = sp_pk v ↔ u = v := by
  refine ⟨fun e => ?_, fun e => by rw [e]⟩
  have := sp_pr_inj (u := u.reverse) (v := v.reverse) (fun c hc => hu c (List.mem_reverse.mp hc)) (fun c hc => hv c (List.mem_reverse.mp hc)) e
  exact List.reverse_inj.mp this
theorem sp_ok_inj {u v : sp_W} (hu : sp_ok u) (hv : sp_ok v) : sp_pk u = sp_pk v ↔ u = v := sp_pk_inj hu.2.2 hv.2.2
theorem sp_pk_bd {w : sp_W} (h : sp_ok w) : 0 ≤ sp_pk w ∧ sp_pk w < 282429536481 := by
  have h1 := sp_pr_bd (r := w.reverse) (fun c hc => h.2.2 c (List.mem_reverse.mp hc))
  have h2 : (27 ^ w.reverse.length : Nat) ≤ 27 ^ 8 := Nat.pow_le_pow_right (by decide) (by rw [List.length_reverse]; exact h.2.1)
  have h3 : (27 ^ 8 : Nat) = 282429536481 := by decide
  unfold sp_pk
  omega
theorem sp_pk_rl {w : sp_W} (h : sp_ok w) : jj_rl (sp_pk w) := by
  have := sp_pk_bd h
  exact ⟨by omega, by omega⟩
theorem jj_ldiv27 {x : Int} (h0 : 0 ≤ x) (h1 : x < 4611686018427387904) : jj_ldiv x 27 = x / 27 := by
  unfold jj_ldiv
  have e1 : (Int64.ofInt x).toInt = x := Int64.toInt_ofInt_of_le (by omega) (by omega)
  rw [Int64.toInt_div_of_ne_right _ _ (by decide), e1]
  exact Int.tdiv_eq_ediv_of_nonneg h0
theorem jj_lrem27 {x : Int} (h0 : 0 ≤ x) (h1 : x < 4611686018427387904) : jj_lrem x 27 = x % 27 := by
  unfold jj_lrem
  have e1 : (Int64.ofInt x).toInt = x := Int64.toInt_ofInt_of_le (by omega) (by omega)
  have e2 : (Int64.ofInt x / Int64.ofInt 27).toInt = x / 27 := by
    have := jj_ldiv27 h0 h1
    exact this
  rw [Int64.toInt_sub, Int64.toInt_mul, e1, e2]
  have e3 : (Int64.ofInt 27).toInt = 27 := by decide
  rw [e3]
  have e4 : (x / 27 * 27).bmod (2 ^ 64) = x / 27 * 27 := Int.bmod_eq_of_le (by omega) (by omega)
  rw [e4, Int.bmod_eq_of_le (by omega) (by omega)]
  omega
