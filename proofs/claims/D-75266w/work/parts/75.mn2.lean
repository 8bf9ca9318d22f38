/-! ANCHORS, laid by the model -/
section MN2
variable {σ : sp_S} {ms : jj_MS}
theorem sp_an_step {s : Int × Int × Int} {a lo hi j : Int} {r : List Int} (h : sp_anI s j) (hi2 : sp_inc (s.2.2 + 1) hi (a :: r)) (hj : 0 ≤ j) :
    let s' := if a = -1 then s else (s.1 + 1, if s.2.1 = -1 then a else s.2.1, a)
    sp_anI s' (j + 1) ∧ sp_inc (s'.2.2 + 1) hi r ∧ ((s'.1 = j + 1 ∧ s'.2.2 - s'.2.1 + 1 = j + 1) ↔ (a ≠ -1 ∧ (j = 0 ∨ a = s.2.2 + 1) ∧ (s.1 = j ∧ (j = 0 ∨ s.2.2 - s.2.1 + 1 = j)))) := by
  intro s'
  unfold sp_anI at h
  rcases hi2 with ⟨h1, h2⟩ | ⟨h1, h2, h3⟩
  · have e : s' = s := if_pos h1
    rw [e]
    refine ⟨?_, h2, ?_⟩
    · unfold sp_anI
      omega
    · constructor
      · intro c; omega
      · intro c; exact absurd h1 c.1
  · have hne : a ≠ -1 := by omega
    have e : s' = (s.1 + 1, if s.2.1 = -1 then a else s.2.1, a) := if_neg hne
    rw [e]
    refine ⟨?_, h3, ?_⟩
    · unfold sp_anI
      dsimp only
      split <;> omega
    · dsimp only
      constructor
      · intro c
        refine ⟨hne, ?_⟩
        split at c <;> omega
      · intro c
        split <;> omega
theorem mL_layAnchor (W : sp_WF σ) (R : sp_RM σ (ms.2 0) (ms.2 3)) {n e : Nat} {t : sp_N} {d : sp_E} (hn : σ.2.1[n]? = some t) (hte : t.1.2.2 = e) (he : σ.1[e]? = some d) {p : List Int} {hi : Int} (hhi : hi ≤ 1000) (hp : ∀ i : Nat, i < d.1.length → p[i]? = some (ms.2 16 i)) (hpl : p.length = d.1.length) (hinc : sp_inc 0 hi p) {Q : jj_MS → Prop}
    (q : ∀ ms', sp_fr 17 21 ms ms' → (∀ f (i : Nat), i ≠ n → ms'.2 f i = ms.2 f i) → (ms'.2 17 n, ms'.2 18 n, ms'.2 19 n, ms'.2 20 n) = sp_anc p t.2.1.1 t.2.1.2 → Q ms') : fM_layAnchor n Q ms := by
  have hm := (W.ed he).2.1
  have hn40 := sp_lt hn
  have h40 := W.2.2.1
  obtain ⟨-, -, -, -, -, ⟨d', hd', f0, f1, f2⟩, -, -⟩ := W.nt hn
  rw [hte, Int.toNat_natCast, he] at hd'
  have hdd := Option.some.inj hd'
  subst hdd
  have hpr : ∀ i : Nat, i < d.1.length → ms.2 16 i = -1 ∨ (0 ≤ ms.2 16 i ∧ ms.2 16 i < 1000) := fun i h => by
    rcases sp_inc_lt hinc (hp i h) with g | g
    · exact Or.inl g
    · exact Or.inr ⟨g.1, by omega⟩
  have hpj : ∀ i : Nat, i < d.1.length → jj_r (ms.2 16 i) := fun i h => by
    rcases hpr i h with g | g
    · rw [g]; exact ⟨by decide, by decide⟩
    · exact ⟨by omega, by omega⟩
  refine mL_note W R hn (f := 3) t.2.1.1 rfl (mL_note W R hn (f := 4) t.2.1.2 rfl ?_)
  generalize hf : t.2.1.1 = f at *
  generalize hl : t.2.1.2 = l at *
  have hsl := sp_sg_len (p := p) f0 f1 (by omega)
  -- the end's writes
  have fin : ∀ (m1 : jj_MS) (st x5 x6 cnt : Int), m1 = jj_mA ms 20 n cnt → (st, x5, x6, cnt) = sp_anc p f l → fM_layAnchor_j165 n x5 x6 n st Q m1 := by
    intro m1 st x5 x6 cnt e1 e2
    refine ⟨by omega, by omega, fun m4 e4 => ⟨by omega, by omega, fun m5 e5 => ⟨by omega, by omega, fun m6 e6 => ?_⟩⟩⟩
    refine q m6 ((((sp_fr.rfl.tA e1).tA e4).tA e5).tA e6) (fun g i hi => ?_) ?_
    · subst e1; subst e4; subst e5; subst e6
      have hne : ¬ ((i : Int) = n) := by omega
      rw [jj_mA_ni hne, jj_mA_ni hne, jj_mA_ni hne, jj_mA_ni hne]
    · subst e1; subst e4; subst e5; subst e6
      simp [jj_mA, e2]
  have loop : ∀ (N j : Nat) (s : Int × Int × Int) (x7 : Int), (j : Int) ≤ l - f + 1 → l - f + 1 - j < N → sp_an ((sp_sg p f l).drop j) s = sp_an (sp_sg p f l) (0, -1, -1) → sp_anI s j → sp_inc (s.2.2 + 1) hi ((sp_sg p f l).drop j) → s.2.2 < 1000 → (x7 = 0 ∨ x7 = 1) → (x7 = 1 ↔ (s.1 = j ∧ ((j : Int) = 0 ∨ s.2.2 - s.2.1 + 1 = j))) → fM_layAnchor_l29 n f l Q N s.1 s.2.1 s.2.2 x7 (f + j) ms := by
    intro N
    induction N with
    | zero => intro j s x7 _ h; exact absurd h (by omega)
    | succ N ih =>
      intro j s x7 hj hN hs hI hin hb hx hx7
      have hI' := hI
      unfold sp_anI at hI'
      refine ⟨⟨by omega, by omega⟩, ⟨by omega, by omega⟩, fun c => ⟨by omega, by omega, fun m8 e8 => ?_⟩, fun c => ?_⟩
      · have hj1 : (j : Int) = l - f + 1 := by omega
        rw [List.drop_eq_nil_of_le (by omega)] at hs
        have hs : s = sp_an (sp_sg p f l) (0, -1, -1) := hs
        have f8 : sp_fr 17 21 ms m8 := sp_fr.rfl.tA e8
        have R8 := R.fr f8
        have h16 : ∀ i : Int, m8.2 16 i = ms.2 16 i := fun i => by rw [(f8 16 (by omega)).2]
        have ean : sp_anc p f l = if l - f + 1 ≤ 2 * s.1 then (if s.1 = l - f + 1 ∧ s.2.2 - s.2.1 + 1 = l - f + 1 then 0 else 1, s.2.1, s.2.2, s.1) else if (sp_nr f l p 0 (-1, 0)).1 = -1 then (3, -1, -1, s.1) else (2, p.getD (sp_nr f l p 0 (-1, 0)).1.toNat (-1), p.getD (sp_nr f l p 0 (-1, 0)).1.toNat (-1), s.1) := by
          rw [hs]
          rfl
        refine mL_note W R8 hn (f := 2) t.1.2.2 rfl ?_
        rw [hte]
        refine mL_nearestWith W R8 he (fun i h => by rw [h16]; exact hp i h) hpl (fun i h => by rw [h16]; exact hpj i h) f0 f1 f2 ?_
        have hx7' : (x7 = 1 ↔ (s.1 = l - f + 1 ∧ s.2.2 - s.2.1 + 1 = l - f + 1)) := by rw [hx7, hj1]; constructor <;> intro h <;> omega
        have wr : l - f + 1 ≤ 2 * s.1 → fM_layAnchor_j150 n s.2.1 s.2.2 x7 Q m8 := by
          intro hle
          rw [if_pos hle] at ean
          refine ⟨by rcases hx with h | h <;> (rw [h]; exact ⟨by decide, by decide⟩), fun c7 => fin m8 1 _ _ s.1 e8 ?_, fun c7 => fin m8 0 _ _ s.1 e8 ?_⟩
          · rw [ean, if_neg (fun h => ?_)]
            have := hx7'.mpr h
            omega
          · rw [ean, if_pos (hx7'.mp (by omega))]
        refine ⟨by rcases hx with h | h <;> (rw [h]; exact ⟨by decide, by decide⟩), fun c7 => wr ?_, fun c7 => ⟨⟨by omega, by omega⟩, ⟨by omega, by omega⟩, fun c8 => ?_, fun c8 => wr (by omega)⟩⟩
        · have := hx7'.mp (by omega)
          omega
        · rw [if_neg (by omega)] at ean
          generalize hb9 : (sp_nr f l p 0 (-1, 0)).1 = b9 at ean ⊢
          have hbr : b9 = -1 ∨ (0 ≤ b9 ∧ b9 < d.1.length) := by
            rw [← hb9, ← hpl]
            have : ∀ (r : List Int) (k : Int) (s : Int × Int), 0 ≤ k → (s.1 = -1 ∨ (0 ≤ s.1 ∧ s.1 < k + r.length)) → ((sp_nr f l r k s).1 = -1 ∨ (0 ≤ (sp_nr f l r k s).1 ∧ (sp_nr f l r k s).1 < k + r.length)) := by
              intro r
              induction r with
              | nil => intro k s _ h; exact h
              | cons a r ihr =>
                intro k s hk h
                rw [sp_nr]
                have := ihr (k + 1) (if a ≠ -1 ∧ (s.1 = -1 ∨ sp_far f l k < s.2) then (k, sp_far f l k) else s) (by omega) (by
                  rw [List.length_cons] at h
                  split
                  · right
                    dsimp only
                    omega
                  · omega)
                rw [List.length_cons]
                omega
            have := this p 0 (-1, 0) (Int.le_refl _) (Or.inl rfl)
            omega
          have hbj : jj_r b9 := ⟨by omega, by omega⟩
          refine ⟨hbj, fun c9 => ?_, fun c9 => ?_⟩
          · rw [if_neg c9] at ean
            have hb0 : 0 ≤ b9 ∧ b9 < d.1.length := by omega
            refine ⟨by omega, by omega, fun m3 e3 => ⟨hbj, fun _ => ⟨by omega, by omega, ?_⟩, fun c => absurd c c9⟩⟩
            have h9 := hp b9.toNat (by omega)
            have h10 : p.getD b9.toNat (-1) = m3.2 16 b9 := by
              rw [List.getD_eq_getElem?_getD, h9, e3, jj_mA_ne (by decide), h16]
              show ms.2 16 ((b9.toNat : Nat) : Int) = ms.2 16 b9
              rw [Int.toNat_of_nonneg hb0.1]
            have hfin := fin m8 2 (m3.2 16 b9) (m3.2 16 b9) s.1 e8 (by rw [ean, h10])
            exact (hfin.2.2 m3 e3)
          · rw [if_pos c9] at ean
            refine ⟨by omega, by omega, fun m3 e3 => ⟨hbj, fun c => absurd c9 c, fun _ => ?_⟩⟩
            have hfin := fin m8 3 (-1) (-1) s.1 e8 (by rw [ean])
            exact (hfin.2.2 m3 e3)
      · have hjl : (j : Int) ≤ l - f := by omega
        have ej : ((f.toNat + j : Nat) : Int) = f + j := by omega
        have hpk := hp (f.toNat + j) (by omega)
        have hgk := sp_sg_get (p := p) (l := l) f0 hjl
        rw [hpk] at hgk
        rw [sp_drop hgk] at hs hin
        rw [ej] at hgk hs hin
        have st := sp_an_step (lo := 0) hI hin (by omega)
        have hvr : jj_r (ms.2 16 (f + j)) := by
          have := hpj (f.toNat + j) (by omega)
          rw [ej] at this
          exact this
        have hvb : ms.2 16 (f + j) = -1 ∨ (0 ≤ ms.2 16 (f + j) ∧ ms.2 16 (f + j) < 1000) := by
          have := hpr (f.toNat + j) (by omega)
          rw [ej] at this
          exact this
        rw [sp_an] at hs
        generalize hv : ms.2 16 (f + j) = v at *
        have e75 : ∀ y0 : Int, (y0 = 0 ∨ y0 = 1) → (y0 = 1 ↔ (v ≠ -1 ∧ ((j : Int) = 0 ∨ v = s.2.2 + 1) ∧ x7 = 1)) → fM_layAnchor_j75 (fM_layAnchor_l29 n f l Q N) n f l s.1 s.2.1 s.2.2 (f + j) v y0 Q ms := by
          intro y0 hy0 hy
          rw [hx7] at hy
          have hcast : ((j + 1 : Nat) : Int) = (j : Int) + 1 := by omega
          have efj : f + ((j + 1 : Nat) : Int) = f + j + 1 := by omega
          refine ⟨hvr, fun c1 v7 e7 => ?_, fun c1 => ?_⟩
          · rw [if_pos c1] at hs
            simp only [c1, if_true] at st
            have := ih (j + 1) s y0 (by omega) (by omega) hs (by rw [hcast]; exact st.1) st.2.1 hb hy0 (by rw [hy, hcast]; constructor <;> intro h <;> omega)
            rw [efj] at this
            rw [e7]
            exact this
          · rw [if_neg c1] at hs
            have st' := st
            simp only [c1, if_false] at st'
            have nxt : ∀ lo : Int, lo = (if s.2.1 = -1 then v else s.2.1) → fM_layAnchor_j96 (fM_layAnchor_l29 n f l Q N) n f l s.1 y0 (f + j) v lo Q ms := by
              intro lo hlo v5 e5 v6 e6
              have := ih (j + 1) (s.1 + 1, lo, v) y0 (by omega) (by omega) (by rw [hlo]; exact hs) (by rw [hcast, hlo]; exact st'.1) st'.2.1 (by dsimp only; omega) hy0 (by
                rw [hy, ← st'.2.2, hcast, hlo]
                constructor
                · intro h; exact ⟨h.1, Or.inr h.2⟩
                · intro h
                  refine ⟨h.1, ?_⟩
                  rcases h.2 with g | g
                  · omega
                  · exact g)
              rw [efj] at this
              rw [e5, e6]
              exact this
            have hlr : jj_r s.2.1 := ⟨by omega, by omega⟩
            refine ⟨hlr, fun c2 => nxt _ (by rw [if_neg c2]), fun c2 => nxt _ (by rw [if_pos c2])⟩
        refine ⟨by omega, by omega, fun v13 e13 => ?_⟩
        subst e13
        refine ⟨by rcases hx with h | h <;> (rw [h]; exact ⟨by decide, by decide⟩), fun c7 => e75 0 (Or.inl rfl) ⟨fun h => absurd h (by decide), fun h => by omega⟩, fun c7 => ⟨hvr, fun c8 => e75 0 (Or.inl rfl) ⟨fun h => absurd h (by decide), fun h => absurd c8 h.1⟩, fun c8 => ⟨⟨by omega, by omega⟩, ⟨by omega, by omega⟩, fun c9 => e75 1 (Or.inr rfl) ⟨fun _ => ⟨c8, Or.inl (by omega), by omega⟩, fun _ => rfl⟩, fun c9 => ⟨hvr, ⟨by omega, by omega⟩, fun c10 => e75 0 (Or.inl rfl) ⟨fun h => absurd h (by decide), fun h => by omega⟩, fun c10 => e75 1 (Or.inr rfl) ⟨fun _ => ⟨c8, Or.inr c10, by omega⟩, fun _ => rfl⟩⟩⟩⟩⟩
  have := loop ((l - f + 1).toNat + 1) 0 (0, -1, -1) 1 (by omega) (by omega) rfl ⟨by decide, by decide, Or.inl ⟨rfl, rfl, rfl⟩⟩ (sp_inc_mono (by decide) (sp_inc_take _ (sp_inc_drop _ hinc))) (by decide) (Or.inr rfl) ⟨fun _ => ⟨rfl, Or.inl rfl⟩, fun _ => rfl⟩
  have e0 : f + ((0 : Nat) : Int) = f := by omega
  rw [e0] at this
  exact ⟨_, this⟩
end MN2
