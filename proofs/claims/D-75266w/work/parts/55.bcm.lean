/-! The comparator: its contract -/
def ja_cmp (p q : Int × Int) : Int := if p.1 - q.1 = 0 then p.2 - q.2 else p.1 - q.1
def jq_X15_compare (o x y : Option Nat) (Q : Int → jj_H → Nat → Prop) (h : jj_H) (k : Nat) : Prop := ∃ c a b p q, o = some c ∧ x = some a ∧ y = some b ∧ jj_gkey h c a p ∧ jj_gkey h c b q ∧ Q (ja_cmp p q) h k
section BCM
variable {G : jj_G} {l : Launch}
theorem cb_X15_compare (J : jx_G G l) {fr lo : Nat} (hf9 : 1 ≤ fr) (hl9 : 23 ≤ lo) : ∀ (o x y : Option Nat) (Q : Int → jj_H → Nat → Prop) (h : jj_H) (k : Nat), jq_X15_compare o x y Q h k → jj_jcR G l fr lo yX15_compare cX15_compare 3 (some (.int)) 9 o [.inr (.inr (.inl x)), .inr (.inr (.inl y))] h k (jn_i Q) := by
  intro o x y Q h k w
  obtain ⟨c, a, b, p, q, rfl, rfl, rfl, hp, hq, w⟩ := w
  obtain ⟨e, fs, lo1, n, f, gs, i, c1, c2, c3, c4, c5, c6, c7, c8, c9, c10, c11, c12, c13, c14⟩ := hp
  obtain ⟨e', fs', lo', n', f', gs', i', d1, d2, d3, d4, d5, d6, d7, d8, d9, d10, d11, d12, d13, d14⟩ := hq
  refine ⟨c, _, 0, rfl, c1, rfl, Nat.zero_le _, (cC_JX15_compare J (Q := fun r h' => r = ja_cmp p q ∧ h' = h) (E := jj_F0) ⟨⟨a, _, rfl, c5, rfl⟩, ⟨b, _, rfl, d5, rfl⟩, ⟨c, _, rfl, c1, rfl⟩, ?_⟩).to ?_ (fun _ _ _ q => q)⟩
  · refine ⟨c, _, some e, rfl, c1, rfl, e, _, some lo1, rfl, c2, c3, a, _, i, rfl, c5, c6, lo1, n, f, rfl, c4, c7, c8, c, _, some e', rfl, d1, rfl, e', _, some lo', rfl, d2, d3, b, _, i', rfl, d5, d6, lo', n', f', rfl, d4, d7, d8, fun v hv => ?_⟩
    rw [c9, d9] at hv
    refine ⟨⟨by omega, by omega⟩, fun c => ⟨a, _, p.2, rfl, c5, c10, b, _, q.2, rfl, d5, d10, ?_, rfl⟩, fun c => ⟨?_, rfl⟩⟩
    · unfold ja_cmp
      rw [if_pos (by omega)]
    · unfold ja_cmp
      rw [if_neg (by omega)]
      exact hv
  · rintro v h' ⟨r, rfl, rfl, rfl⟩
    exact ⟨_, rfl, w⟩
end BCM
theorem ja_cmp_lt {p q : Int × Int} : ja_cmp p q < 0 ↔ jj_klt p q := by
  unfold ja_cmp jj_klt
  split <;> constructor <;> intro h <;> omega
theorem ja_cmp_gt {p q : Int × Int} : 0 < ja_cmp p q ↔ jj_klt q p := by
  unfold ja_cmp jj_klt
  split <;> constructor <;> intro h <;> omega
theorem jj_klt_tr {p q r : Int × Int} (h1 : jj_klt p q) (h2 : jj_klt q r) : jj_klt p r := by
  unfold jj_klt at *
  omega
theorem jj_klt_as {p q : Int × Int} (h1 : jj_klt p q) : ¬ jj_klt q p := by
  unfold jj_klt at *
  omega
theorem jj_nlt_tr {p q r : Int × Int} (h1 : ¬ jj_klt p q) (h2 : ¬ jj_klt q r) : ¬ jj_klt p r := by
  unfold jj_klt at *
  omega
theorem jj_gkey.uniq {h : jj_H} {c g : Nat} {p q : Int × Int} (hp : jj_gkey h c g p) (hq : jj_gkey h c g q) : p = q := by
  obtain ⟨e, fs, lo1, n, f, gs, i, c1, c2, c3, c4, c5, c6, c7, c8, c9, c10, c11, c12, c13, c14⟩ := hp
  obtain ⟨e', fs', lo', n', f', gs', i', d1, d2, d3, d4, d5, d6, d7, d8, d9, d10, d11, d12, d13, d14⟩ := hq
  rw [c1] at d1
  have e1 : e = e' := by
    have := Option.some.inj d1
    simp only [jj_rf, Sum.inl.injEq, Prod.mk.injEq, List.cons.injEq, Sum.inr.injEq, Option.some.injEq, and_true, true_and] at this
    exact this
  subst e1
  rw [c2] at d2
  cases d2
  rw [c3] at d3
  have e2 : lo1 = lo' := by
    have := Option.some.inj d3
    simp only [jj_rf, Sum.inr.injEq, Sum.inl.injEq, Option.some.injEq] at this
    exact this
  subst e2
  rw [c4] at d4
  cases d4
  rw [c5] at d5
  cases d5
  rw [c6] at d6
  cases d6
  rw [c10] at d10
  have e3 : p.2 = q.2 := Sum.inl.inj (Option.some.inj d10)
  exact Prod.ext (c9.symm.trans d9) e3
theorem jj_gkey.keep {h h' : jj_H} {c g : Nat} {p : Int × Int} (hp : jj_gkey h c g p) (hk : ∀ q z, h q = some z → (∀ x, z ≠ .inr (.inr (.inr (.inr x)))) → (∀ t n f, z ≠ .inr (.inr (.inl (t, n, f)))) → h' q = some z) : jj_gkey h' c g p := by
  obtain ⟨e, fs, lo1, n, f, gs, i, c1, c2, c3, c4, c5, c6⟩ := hp
  exact ⟨e, fs, lo1, n, f, gs, i, hk _ _ c1 (fun _ e => by cases e) (fun _ _ _ e => by cases e), hk _ _ c2 (fun _ e => by cases e) (fun _ _ _ e => by cases e), c3, hk _ _ c4 (fun _ e => by cases e) (fun _ _ _ e => by cases e), hk _ _ c5 (fun _ e => by cases e) (fun _ _ _ e => by cases e), c6⟩
theorem jj_gkey.el {h : jj_H} {c g : Nat} {p : Int × Int} (hp : jj_gkey h c g p) : jj_el h (some g) := by
  obtain ⟨e, fs, lo1, n, f, gs, i, c1, c2, c3, c4, c5, c6⟩ := hp
  intro b hb
  cases hb
  exact ⟨_, 7, c5, rfl, by decide⟩
