/-! A GROUP, put out by the model -/
theorem jj_and_r {x y : Int} : jj_r (jj_and x y) := ⟨Int32.le_toInt _, Int32.toInt_lt _⟩
section MW2
variable {σ : sp_S} {ms : jj_MS}
theorem sp_LG.fr {a b : Nat} {ms' : jj_MS} (h : sp_LG σ ms) (f : sp_fr a b ms ms') (h1 : 30 ≤ a ∨ b ≤ 15 := by omega) : sp_LG σ ms' := by
  obtain ⟨a1, a2, a3, a4⟩ := h
  refine ⟨a1.fr f, by rw [(f 28 (by omega)).1]; exact a2, fun i x h => by rw [(f 21 (by omega)).2]; exact a3 i x h, fun g hg => ?_⟩
  rw [(f 25 (by omega)).2, (f 26 (by omega)).2, (f 27 (by omega)).2, (f 22 (by omega)).2, (f 23 (by omega)).2, (f 24 (by omega)).2]
  exact a4 g hg
theorem mL_putGroup (W : sp_WF σ) (R : sp_RM σ (ms.2 0) (ms.2 3)) (hL : sp_LG σ ms) {t : Nat} {d : sp_E} (ht : σ.2.2.2.1 = t) (hd : σ.1[t]? = some d) {g : Nat} (hg : g < (sp_gb σ).2) (hR : sp_oR [] ms) {Q : jj_MS → Prop} (q : ∀ ms', sp_fr 33 35 ms ms' → sp_oR (sp_out σ d g) ms' → (sp_out σ d g).length ≤ 1600 → Q ms') : fM_putGroup g Q ms := by
  have hle := sp_gb_le W
  have h40 := W.2.2.1
  have h6 := W.2.2.2.2.1
  have hed := W.ed hd
  have hsz := hed.2.1
  have hws := hed.2.2.2.2.1
  have jr : ∀ i : Nat, i < 1000 → jj_r (i : Int) := fun i h => ⟨by omega, by omega⟩
  have gb := sp_gs_bd W (by' := (sp_gb σ).1) (g := (g : Int)) σ.2.1.length (Nat.le_refl _)
  obtain ⟨f1, f2⟩ := sp_gp_first W ht hd g hg
  have f3 : (sp_gp σ g).2.2.2.2.1 < d.1.length := (sp_gs_sp W ht hd (by' := (sp_gb σ).1) (g := (g : Int)) σ.2.1.length).2
  change (-1 ≤ (sp_gp σ g).1 ∧ (sp_gp σ g).1 < _) ∧ (0 ≤ (sp_gp σ g).2.1 ∧ (sp_gp σ g).2.1 ≤ _) ∧ (-1 ≤ (sp_gp σ g).2.2.2.1 ∧ (sp_gp σ g).2.2.2.1 < 1000) ∧ (-1 ≤ (sp_gp σ g).2.2.2.2.1 ∧ (sp_gp σ g).2.2.2.2.1 < 1000) ∧ (0 ≤ (sp_gp σ g).2.2.2.2.2 ∧ ((sp_gp σ g).1 ≠ -1 → (sp_gp σ g).2.2.2.2.2 < _)) ∧ ((sp_gp σ g).1 = -1 ↔ (sp_gp σ g).2.1 = 0) ∧ ((sp_gp σ g).1 = -1 → (sp_gp σ g).2.2.2.1 = -1 ∧ (sp_gp σ g).2.2.2.2.1 = -1) at gb
  have gt := gb.2.2.2.2.1.2 f1
  obtain ⟨nl, hnl⟩ : ∃ tt, σ.2.1[(sp_gp σ g).1.toNat]? = some tt := ⟨σ.2.1[(sp_gp σ g).1.toNat]'(by omega), List.getElem?_eq_getElem _⟩
  obtain ⟨nt, hnt⟩ : ∃ tt, σ.2.1[(sp_gp σ g).2.2.2.2.2.toNat]? = some tt := ⟨σ.2.1[(sp_gp σ g).2.2.2.2.2.toNat]'(by omega), List.getElem?_eq_getElem _⟩
  have hgm : ∀ m, sp_fr 33 35 ms m → m.2 25 g = (sp_gp σ g).1 ∧ m.2 27 g = (sp_gp σ g).2.2.1 ∧ m.2 22 g = (sp_gp σ g).2.2.2.1 ∧ m.2 23 g = (sp_gp σ g).2.2.2.2.1 ∧ m.2 24 g = (sp_gp σ g).2.2.2.2.2 := fun m f => by
    obtain ⟨-, -, -, a4⟩ := hL.fr f
    obtain ⟨b1, -, b2, b3, b4, b5⟩ := a4 g (by omega)
    exact ⟨b1, b2, b3, b4, b5 f1⟩
  have okt := W.nt hnt
  have okl := W.nt hnl
  have hsd := okt.2.2.2.2.2.2.1
  have hsw := okt.2.2.2.2.2.2.2
  -- the pieces
  generalize hc1 : sp_o1 σ (sp_gp σ g).2.2.1 σ.2.2.1.length = c1
  generalize hc2 : jj_sx nl.1.2.1.toNat = c2
  generalize hc3 : (if (sp_gp σ g).2.2.2.1 = -1 then [] else sp_o2 d.1 (sp_gp σ g).2.2.2.1.toNat ((sp_gp σ g).2.2.2.2.1 - (sp_gp σ g).2.2.2.1 + 1).toNat) = c3
  have hout : sp_out σ d g = c1 ++ c2 ++ c3 ++ ((if nt.2.2 = [] then [] else [58]) ++ sp_o2 nt.2.2 0 nt.2.2.length) := by
    unfold sp_out
    rw [hnl, hnt, hc1, hc3]
    dsimp only
    rw [hc2]
  have l1 : c1.length ≤ 54 := by
    have := sp_o1_len W (m := (sp_gp σ g).2.2.1) σ.2.2.1.length
    rw [hc1] at this
    omega
  have l2 : c2.length ≤ 10 := by
    rw [← hc2]
    have h0 := okl.2.2.1
    have h1 := okl.2.2.2.1
    have : nl.1.2.1.toNat < 4 := by omega
    generalize nl.1.2.1.toNat = z at this
    match z, this with
    | 0, _ => decide
    | 1, _ => decide
    | 2, _ => decide
    | 3, _ => decide
  have l3 : c3.length ≤ 1080 := by
    rw [← hc3]
    split
    · simp
    · have := sp_o2_len hws (f := (sp_gp σ g).2.2.2.1.toNat) ((sp_gp σ g).2.2.2.2.1 - (sp_gp σ g).2.2.2.1 + 1).toNat
      omega
  have l4 := fun k => sp_o2_len hsw (f := 0) k
  -- the text
  have texts : ∀ (N i : Nat) (m : jj_MS) (c0 : List Int), sp_fr 33 35 ms m → c0.length ≤ 1200 → sp_oR (c0 ++ sp_o2 nt.2.2 0 i) m → c0 = c1 ++ c2 ++ c3 ++ (if nt.2.2 = [] then [] else [58]) → i ≤ nt.2.2.length → nt.2.2.length - i < N → fM_putGroup_l136 ((sp_gp σ g).2.2.2.2.2.toNat : Nat) Q N i m := by
    intro N
    induction N with
    | zero => intro i m _ _ _ _ _ _ h; exact absurd h (Nat.not_lt_zero _)
    | succ N ih =>
      intro i m c0 hf hl0 ho hc0 hi hN
      have R1 := R.fr hf
      refine mL_note W R1 hnt (f := 5) nt.2.2.length rfl ⟨jr i (by omega), jr _ (by omega), fun c => ?_, fun c => ?_⟩
      · have : i = nt.2.2.length := by omega
        subst this
        have e : sp_out σ d g = c0 ++ sp_o2 nt.2.2 0 nt.2.2.length := by
          rw [hout, hc0]
          simp only [List.append_assoc]
        refine q m hf (by rw [e]; exact ho) ?_
        rw [e, List.length_append]
        have := l4 nt.2.2.length
        omega
      · obtain ⟨w, hw⟩ : ∃ w, nt.2.2[i]? = some w := ⟨nt.2.2[i]'(by omega), List.getElem?_eq_getElem _⟩
        have okw := W.sd hnt hw
        have h8 := okw.2.1
        have li := l4 i
        refine mL_put ho (by rw [List.length_append]; omega) fun m2 f2 o2 => ?_
        refine mL_said W (R1.fr f2) hnt hw (mL_putWord okw o2 (by rw [List.length_append, List.length_append, List.length_singleton]; omega) fun m3 f3 o3 v e => ?_)
        subst e
        refine ih (i + 1) m3 c0 ((hf.trans f2 (p := 33) (q := 35)).trans f3) hl0 ?_ hc0 (by omega) (by omega)
        rw [sp_o2, Nat.zero_add, hw]
        simp only [Option.getD_some]
        have e9 : c0 ++ (sp_o2 nt.2.2 0 i ++ 32 :: w) = c0 ++ sp_o2 nt.2.2 0 i ++ [32] ++ w := by simp
        rw [e9]
        exact o3
  have after : ∀ (m : jj_MS), sp_fr 33 35 ms m → sp_oR (c1 ++ c2 ++ c3) m → fM_putGroup_j112 g Q m := by
    intro m hf ho
    have R1 := R.fr hf
    refine ⟨by omega, by omega, fun v10 e10 => ?_⟩
    have e55 : v10 = (((sp_gp σ g).2.2.2.2.2.toNat : Nat) : Int) := by rw [e10, (hgm m hf).2.2.2.2]; omega
    subst e55
    have lc : (c1 ++ c2 ++ c3).length ≤ 1144 := by rw [List.length_append, List.length_append]; omega
    refine mL_note W R1 hnt (f := 5) nt.2.2.length rfl ⟨jr _ (by omega), fun c => ?_, fun c => mL_put ho (by omega) fun m2 f2 o2 => ?_⟩
    · have e : nt.2.2 = [] := List.length_eq_zero_iff.mp (by omega)
      refine ⟨_, texts _ 0 m (c1 ++ c2 ++ c3) hf (by omega) ?_ (by rw [e]; simp) (Nat.zero_le _) (Nat.lt_succ_self _)⟩
      show sp_oR (_ ++ []) m
      rw [List.append_nil]
      exact ho
    · have e : nt.2.2 ≠ [] := fun h => by rw [h] at c; simp at c
      refine ⟨_, texts _ 0 m2 (c1 ++ c2 ++ c3 ++ [58]) (hf.trans f2) (by rw [List.length_append, List.length_singleton]; omega) ?_ (by rw [if_neg e]) (Nat.zero_le _) (Nat.lt_succ_self _)⟩
      show sp_oR (_ ++ []) m2
      rw [List.append_nil]
      exact o2
  -- the span's words
  have words : (sp_gp σ g).2.2.2.1 ≠ -1 → ∀ (N i : Nat) (m : jj_MS), sp_fr 33 35 ms m → sp_oR (c1 ++ c2 ++ sp_o2 d.1 (sp_gp σ g).2.2.2.1.toNat i) m → (i : Int) ≤ (sp_gp σ g).2.2.2.2.1 - (sp_gp σ g).2.2.2.1 + 1 ∨ i = 0 → (sp_gp σ g).2.2.2.2.1 - (sp_gp σ g).2.2.2.1 + 1 - i < N ∧ 0 < N → fM_putGroup_l72 g Q N ((sp_gp σ g).2.2.2.1 + i) m := by
    intro hne N
    induction N with
    | zero =>
      intro i m hf ho hi hN
      exact absurd hN (by omega)
    | succ N ih =>
      intro i m hf ho hi hN
      have R1 := R.fr hf
      have g23 := (hgm m hf).2.2.2.1
      refine ⟨by omega, by omega, ⟨by omega, by omega⟩, by rw [g23]; exact ⟨by omega, by omega⟩, fun c => ?_, fun c => ?_⟩
      · rw [g23] at c
        refine after m hf ?_
        rw [← hc3, if_neg hne]
        have : ((sp_gp σ g).2.2.2.2.1 - (sp_gp σ g).2.2.2.1 + 1).toNat = i := by omega
        rw [this]
        exact ho
      · rw [g23] at c
        refine ⟨⟨by omega, by omega⟩, fun c2 => absurd c2 (by omega), fun _ => ?_⟩
        have e9 : (sp_gp σ g).2.2.2.1 + (i : Int) = (((sp_gp σ g).2.2.2.1.toNat + i : Nat) : Int) := by omega
        obtain ⟨w, hw⟩ : ∃ w, d.1[(sp_gp σ g).2.2.2.1.toNat + i]? = some w := ⟨d.1[(sp_gp σ g).2.2.2.1.toNat + i]'(by omega), List.getElem?_eq_getElem _⟩
        have okw := W.wd hd hw
        have h8 := okw.2.1
        have li := sp_o2_len hws (f := (sp_gp σ g).2.2.2.1.toNat) i
        refine mL_put ho (by rw [List.length_append, List.length_append]; omega) fun m2 f2 o2 => mL_target (R1.fr f2) ?_
        rw [ht, e9]
        refine mL_wordOf W (R1.fr f2) hd hw (mL_putWord okw o2 (by rw [List.length_append, List.length_append, List.length_append, List.length_singleton]; omega) fun m3 f3 o3 v e => ?_)
        have e10 : v = (sp_gp σ g).2.2.2.1 + ((i + 1 : Nat) : Int) := by omega
        rw [e10]
        refine ih (i + 1) m3 ((hf.trans f2 (p := 33) (q := 35)).trans f3) ?_ (by omega) ⟨by omega, by omega⟩
        rw [sp_o2, hw]
        simp only [Option.getD_some]
        have e11 : c1 ++ c2 ++ (sp_o2 d.1 (sp_gp σ g).2.2.2.1.toNat i ++ 32 :: w) = c1 ++ c2 ++ sp_o2 d.1 (sp_gp σ g).2.2.2.1.toNat i ++ [32] ++ w := by simp
        rw [e11]
        exact o3
  -- the readers
  have readers : ∀ (N r : Nat) (m : jj_MS), sp_fr 33 35 ms m → sp_oR (sp_o1 σ (sp_gp σ g).2.2.1 r) m → r ≤ σ.2.2.1.length → σ.2.2.1.length - r < N → fM_putGroup_l2 g Q N r m := by
    intro N
    induction N with
    | zero => intro r m _ _ _ h; exact absurd h (Nat.not_lt_zero _)
    | succ N ih =>
      intro r m hf ho hr hN
      have R1 := R.fr hf
      have gm := hgm m hf
      show jj_r r ∧ jj_r (m.2 0 1) ∧ _
      rw [R1.2.1]
      refine ⟨jr r (by omega), jr _ (by omega), fun c => ⟨by omega, by omega, ?_⟩, fun c => ⟨by omega, by omega, ?_⟩⟩
      · have : r = σ.2.2.1.length := by omega
        subst this
        rw [hc1] at ho
        have e1 : m.2 25 g = (((sp_gp σ g).1.toNat : Nat) : Int) := by rw [gm.1]; omega
        rw [e1]
        refine mL_note W R1 hnl (f := 1) nl.1.2.1 rfl (mL_putKind ⟨okl.2.2.1, okl.2.2.2.1⟩ ho (by omega) fun m2 f2 o2 => ⟨by omega, by omega, fun v30 e30 => ?_⟩)
        rw [hc2] at o2
        have hf2 : sp_fr 33 35 ms m2 := hf.trans f2
        rw [(hgm m2 hf2).2.2.1] at e30
        subst e30
        by_cases hne : (sp_gp σ g).2.2.2.1 = -1
        · refine ⟨1, by omega, by omega, ⟨by omega, by omega⟩, by rw [(hgm m2 hf2).2.2.2.1]; exact ⟨by omega, by omega⟩, fun c => after m2 hf2 ?_, fun c => ⟨⟨by omega, by omega⟩, fun _ => after m2 hf2 ?_, fun c2 => absurd hne c2⟩⟩
          · rw [← hc3, if_pos hne, List.append_nil]
            exact o2
          · rw [← hc3, if_pos hne, List.append_nil]
            exact o2
        · have := words hne (((sp_gp σ g).2.2.2.2.1 - (sp_gp σ g).2.2.2.1 + 1).toNat + 1) 0 m2 hf2 (by show sp_oR (_ ++ []) m2; rw [List.append_nil]; exact o2) (Or.inr rfl) ⟨by omega, by omega⟩
          have e0 : (sp_gp σ g).2.2.2.1 + ((0 : Nat) : Int) = (sp_gp σ g).2.2.2.1 := by omega
          rw [e0] at this
          exact ⟨_, this⟩
      · rw [gm.2.1]
        obtain ⟨w, hw⟩ : ∃ w, σ.2.2.1[r]? = some w := ⟨σ.2.2.1[r]'(by omega), List.getElem?_eq_getElem _⟩
        have okw := W.2.2.2.2.2.1 w (List.mem_of_getElem? hw)
        have h8 := okw.2.1
        have lr := sp_o1_len W (m := (sp_gp σ g).2.2.1) r
        have es : sp_o1 σ (sp_gp σ g).2.2.1 (r + 1) = sp_o1 σ (sp_gp σ g).2.2.1 r ++ (if jj_and (jj_shr (sp_gp σ g).2.2.1 r) 1 = 1 then w ++ [32] else []) := by
          rw [sp_o1, hw]
          rfl
        refine ⟨jj_and_r, fun c2 v e => ?_, fun c2 => ⟨by omega, by omega, ?_⟩⟩
        · subst e
          refine ih (r + 1) m hf ?_ (by omega) (by omega)
          rw [es, if_neg c2, List.append_nil]
          exact ho
        · rw [R1.2.2.2.2.2.2.2 r w hw]
          refine mL_putWord okw ho (by omega) fun m2 f2 o2 => mL_put o2 (by rw [List.length_append]; omega) fun m3 f3 o3 v e => ?_
          subst e
          refine ih (r + 1) m3 ((hf.trans f2 (p := 33) (q := 35)).trans f3) ?_ (by omega) (by omega)
          rw [es, if_pos c2, ← List.append_assoc]
          exact o3
  exact ⟨_, readers _ 0 ms sp_fr.rfl hR (Nat.zero_le _) (Nat.lt_succ_self _)⟩
end MW2
