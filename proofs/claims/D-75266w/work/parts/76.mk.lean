/-! ALL ANCHORS; ALIKE -/
def sp_dd : List sp_W → List sp_W
  | [] => []
  | a :: r => a :: (sp_dd r).filter (fun x => x ≠ a)
def sp_both (u v : List sp_W) : Nat := ((sp_dd u).filter (fun x => x ∈ v)).length
def sp_txt (th : Int) (u v : List sp_W) : Bool := decide (th * ((sp_dd u).length + (sp_dd v).length - sp_both u v) ≤ 100 * sp_both u v)
/-- what alike asks of two notes and their anchors -/
def sp_al2 (th : Int) (s t : sp_N) (p q : Int × Int × Int × Int) : Bool := decide (s.1.2.1 = t.1.2.1) && decide (p.1 ≠ 3) && decide (q.1 ≠ 3) && decide (min (p.2.2.1 - p.2.1 + 1) (q.2.2.1 - q.2.1 + 1) ≤ 2 * max 0 (min p.2.2.1 q.2.2.1 - max p.2.1 q.2.1 + 1)) && sp_txt th s.2.2 t.2.2
def sp_al (σ : sp_S) (i j : Nat) : Bool := match σ.2.1[i]?, σ.2.1[j]? with
  | some s, some t => decide (i ≠ j) && sp_al2 σ.2.2.2.2 s t (sp_ac σ s) (sp_ac σ t)
  | _, _ => false
def sp_dc (P : sp_W → Bool) : List sp_W → List sp_W → Nat
  | _, [] => 0
  | seen, a :: r => (if a ∉ seen ∧ P a = true then 1 else 0) + sp_dc P (seen ++ [a]) r
theorem sp_dc_eq {P : sp_W → Bool} : ∀ (u seen : List sp_W), sp_dc P seen u = ((sp_dd u).filter (fun x => decide (x ∉ seen) && P x)).length
  | [], _ => rfl
  | a :: r, seen => by
    rw [sp_dc, sp_dc_eq r (seen ++ [a]), sp_dd, List.filter_cons, List.filter_filter]
    have e : (sp_dd r).filter (fun x => decide (x ∉ seen ++ [a]) && P x) = (sp_dd r).filter (fun x => (decide (x ∉ seen) && P x) && decide (x ≠ a)) := by
      refine List.filter_congr fun x _ => ?_
      by_cases h1 : x ∈ seen <;> by_cases h2 : x = a <;> simp [h1, h2]
    rw [e]
    by_cases h1 : a ∈ seen
    · simp [h1]
    · by_cases h2 : P a = true
      · simp [h1, h2]
        omega
      · simp [h1, h2]
theorem sp_dd_len : ∀ (u : List sp_W), (sp_dd u).length ≤ u.length
  | [] => Nat.le_refl _
  | a :: r => by
    have := sp_dd_len r
    have := List.length_filter_le (fun x => decide (x ≠ a)) (sp_dd r)
    rw [sp_dd, List.length_cons, List.length_cons]
    omega
section MK
variable {σ : sp_S} {ms : jj_MS}
theorem sp_pt_inc (W : sp_WF σ) {e : Nat} {d : sp_E} (he : σ.1[e]? = some d) : (sp_pt σ d).length = d.1.length ∧ ∃ hi : Int, hi ≤ 1000 ∧ sp_inc 0 hi (sp_pt σ d) ∧ (∃ (t : Nat) (dt : sp_E), σ.2.2.2.1 = t ∧ σ.1[t]? = some dt ∧ hi = dt.1.length) := by
  obtain ⟨t, dt, ht, hdt⟩ := sp_tg W he
  have hn := (W.ed hdt).2.1
  have hpt : sp_pt σ d = sp_wk d.1 dt.1 0 := by
    unfold sp_pt
    rw [ht, Int.toNat_natCast, hdt]
  refine ⟨by rw [hpt]; exact sp_wk_len _ _ _ _ (Nat.le_refl _), dt.1.length, by omega, ?_, t, dt, ht, hdt, rfl⟩
  have := sp_wk_inc _ d.1 dt.1 0 (Nat.le_refl _)
  rw [Int.zero_add] at this
  rw [hpt]
  exact this
theorem mL_layAnchors (W : sp_WF σ) (R : sp_RM σ (ms.2 0) (ms.2 3)) {Q : jj_MS → Prop} (q : ∀ ms', sp_fr 15 21 ms ms' → (∀ (n : Nat) t, σ.2.1[n]? = some t → (ms'.2 17 n, ms'.2 18 n, ms'.2 19 n, ms'.2 20 n) = sp_ac σ t) → Q ms') : fM_layAnchors Q ms := by
  have h3 := W.1
  have h40 := W.2.2.1
  have outer : ∀ (N e : Nat) (ms1 : jj_MS), sp_fr 15 21 ms ms1 → e ≤ σ.1.length → σ.1.length - e < N → (∀ (n : Nat) t, σ.2.1[n]? = some t → t.1.2.2 < e → (ms1.2 17 n, ms1.2 18 n, ms1.2 19 n, ms1.2 20 n) = sp_ac σ t) → fM_layAnchors_l2 Q N e ms1 := by
    intro N
    induction N with
    | zero => intro e ms1 _ _ h; exact absurd h (Nat.not_lt_zero _)
    | succ N ih =>
      intro e ms1 hf he hN inv
      have R1 := R.fr hf
      show jj_r e ∧ jj_r (ms1.2 0 0) ∧ _
      rw [R1.1]
      refine ⟨jj_rn, jj_rn, fun c => q ms1 hf fun n t hn => inv n t hn ?_, fun c => ?_⟩
      · obtain ⟨-, -, -, -, g1, ⟨d', hd', -⟩, -⟩ := W.nt hn
        have := sp_lt hd'
        omega
      · obtain ⟨d, hd⟩ : ∃ d, σ.1[e]? = some d := ⟨σ.1[e]'(by omega), List.getElem?_eq_getElem _⟩
        obtain ⟨hpl, hi, hhi, hinc, -⟩ := sp_pt_inc W hd
        have inner : ∀ (M k : Nat) (ms2 : jj_MS), sp_fr 15 21 ms ms2 → (∀ i : Nat, i < d.1.length → (sp_pt σ d)[i]? = some (ms2.2 16 i)) → k ≤ σ.2.1.length → σ.2.1.length - k < M → (∀ (n : Nat) t, σ.2.1[n]? = some t → (t.1.2.2 < e ∨ (t.1.2.2 = e ∧ n < k)) → (ms2.2 17 n, ms2.2 18 n, ms2.2 19 n, ms2.2 20 n) = sp_ac σ t) → fM_layAnchors_l17 e (fM_layAnchors_l2 Q N) Q M k ms2 := by
          intro M
          induction M with
          | zero => intro k ms2 _ _ _ h; exact absurd h (Nat.not_lt_zero _)
          | succ M ihM =>
            intro k ms2 hf2 hp2 hk hM inv2
            have R2 := R.fr hf2
            show jj_r k ∧ jj_r (ms2.2 0 2) ∧ _
            rw [R2.2.2.1]
            refine ⟨jj_rn, jj_rn, fun c v3 e3 => ?_, fun c => ?_⟩
            · subst e3
              refine ih (e + 1) ms2 hf2 (by omega) (by omega) fun n t hn hlt => inv2 n t hn ?_
              have := sp_lt hn
              omega
            · obtain ⟨t, ht⟩ : ∃ t, σ.2.1[k]? = some t := ⟨σ.2.1[k]'(by omega), List.getElem?_eq_getElem _⟩
              have hte := (W.nt ht).2.2.2.2
              obtain ⟨hte0, ⟨d', hd', -⟩, -⟩ := hte
              have hte3 := sp_lt hd'
              refine mL_note W R2 ht (f := 2) t.1.2.2 rfl ⟨⟨by omega, by omega⟩, jj_rn, fun c2 v6 e6 => ?_, fun c2 => ?_⟩
              · subst e6
                refine ihM (k + 1) ms2 hf2 hp2 (by omega) (by omega) fun n s hn hlt => inv2 n s hn ?_
                by_cases hnk : n = k
                · subst hnk
                  rw [ht] at hn
                  have := Option.some.inj hn
                  subst this
                  omega
                · omega
              · refine mL_layAnchor W R2 ht c2 hd hhi hp2 hpl hinc fun m3 f3 g1 g2 v9 e9 => ?_
                subst e9
                have esp : sp_ac σ t = sp_anc (sp_pt σ d) t.2.1.1 t.2.1.2 := by
                  unfold sp_ac
                  rw [c2, Int.toNat_natCast, hd]
                refine ihM (k + 1) m3 (hf2.trans f3) (fun i hi => ?_) (by omega) (by omega) fun n s hn hlt => ?_
                · rw [(f3 16 (by omega)).2]
                  exact hp2 i hi
                · by_cases hnk : n = k
                  · subst hnk
                    rw [ht] at hn
                    have := Option.some.inj hn
                    subst this
                    rw [g2, esp]
                  · rw [g1 17 n hnk, g1 18 n hnk, g1 19 n hnk, g1 20 n hnk]
                    exact inv2 n s hn (by omega)
        refine mL_align W R1 hd fun m2 f2 hp => ⟨σ.2.1.length + 1, inner _ 0 m2 (hf.trans f2) hp (Nat.zero_le _) (by omega) fun n t hn hlt => ?_⟩
        rw [(f2 17 (by omega)).2, (f2 18 (by omega)).2, (f2 19 (by omega)).2, (f2 20 (by omega)).2]
        exact inv n t hn (by omega)
  refine ⟨σ.1.length + 1, outer _ 0 ms sp_fr.rfl (Nat.zero_le _) (by omega) fun n t hn h => ?_⟩
  have := (W.nt hn).2.2.2.2.1
  omega
theorem mL_said (W : sp_WF σ) (R : sp_RM σ (ms.2 0) (ms.2 3)) {n i : Nat} {t : sp_N} {w : sp_W} (hn : σ.2.1[n]? = some t) (hi : t.2.2[i]? = some w) {Q : Int → jj_MS → Prop} (q : Q (sp_pk w) ms) : fM_saidBy n i Q ms := by
  have h1 := sp_lt hn
  have h2 := W.2.2.1
  have h3 := sp_lt hi
  have h4 := (W.nt hn).2.2.2.2.2.2.1
  refine ⟨by omega, by omega, ?_⟩
  rw [(R.2.2.2.2.2.2.1 n t hn).2.2.2.2.2.2 i w hi]
  exact q
theorem sp_WF.sd (W : sp_WF σ) {n i : Nat} {t : sp_N} {w : sp_W} (hn : σ.2.1[n]? = some t) (hi : t.2.2[i]? = some w) : sp_ok w := (W.nt hn).2.2.2.2.2.2.2 w (List.mem_of_getElem? hi)
theorem sp_take_mem {l : List sp_W} {i : Nat} {a x : sp_W} (h : l[i]? = some a) : x ∈ l.take (i + 1) ↔ x ∈ l.take i ∨ a = x := by
  obtain ⟨h1, h2⟩ := List.getElem?_eq_some_iff.mp h
  rw [List.take_succ, h]
  simp [eq_comm]
theorem mL_says (W : sp_WF σ) (R : sp_RM σ (ms.2 0) (ms.2 3)) {n : Nat} {t : sp_N} {w : sp_W} (hn : σ.2.1[n]? = some t) (hw : sp_ok w) {Q : Int → jj_MS → Prop} (q1 : w ∈ t.2.2 → Q 1 ms) (q0 : w ∉ t.2.2 → Q 0 ms) : fM_says n (sp_pk w) Q ms := by
  have h4 := (W.nt hn).2.2.2.2.2.2.1
  have loop : ∀ (N i : Nat) (x : Int), i ≤ t.2.2.length → t.2.2.length - i < N → (x = 0 ∨ x = 1) → (x = 1 ↔ w ∈ t.2.2.take i) → fM_says_l6 n (sp_pk w) Q N x i ms := by
    intro N
    induction N with
    | zero => intro i x _ h; exact absurd h (Nat.not_lt_zero _)
    | succ N ih =>
      intro i x hi hN hx hxi
      refine mL_note W R hn (f := 5) t.2.2.length rfl ⟨jj_rn, jj_rn, fun c => ?_, fun c => ?_⟩
      · rw [List.take_of_length_le (by omega)] at hxi
        refine ⟨hx, ?_⟩
        rcases hx with h | h
        · rw [h]; exact q0 (fun hm => by have := hxi.mpr hm; omega)
        · rw [h]; exact q1 (hxi.mp h)
      · obtain ⟨a, ha⟩ : ∃ a, t.2.2[i]? = some a := ⟨t.2.2[i]'(by omega), List.getElem?_eq_getElem _⟩
        have hm := sp_take_mem (x := w) ha
        refine ⟨by rcases hx with h | h <;> (rw [h]; exact ⟨by decide, by decide⟩), fun c1 v3 e3 => ?_, fun c1 => mL_said W R hn ha ⟨sp_pk_rl (W.sd hn ha), sp_pk_rl hw, fun c2 v6 e6 => ?_, fun c2 v7 e7 => ?_⟩⟩
        · subst e3
          exact ih (i + 1) 1 (by omega) (by omega) (Or.inr rfl) ⟨fun _ => hm.mpr (Or.inl (hxi.mp (by omega))), fun _ => rfl⟩
        · subst e6
          refine ih (i + 1) 0 (by omega) (by omega) (Or.inl rfl) ⟨fun h => absurd h (by decide), fun h => ?_⟩
          rcases hm.mp h with g | g
          · have := hxi.mpr g; omega
          · exact absurd (by rw [g]) c2
        · subst e7
          exact ih (i + 1) 1 (by omega) (by omega) (Or.inr rfl) ⟨fun _ => hm.mpr (Or.inr ((sp_ok_inj (W.sd hn ha) hw).mp c2)), fun _ => rfl⟩
  exact ⟨t.2.2.length + 1, loop _ 0 0 (Nat.zero_le _) (by omega) (Or.inl rfl) ⟨fun h => absurd h (by decide), fun h => by simp at h⟩⟩
theorem mL_isRepeated (W : sp_WF σ) (R : sp_RM σ (ms.2 0) (ms.2 3)) {n j : Nat} {t : sp_N} {w : sp_W} (hn : σ.2.1[n]? = some t) (hj : t.2.2[j]? = some w) {Q : Int → jj_MS → Prop} (q1 : w ∈ t.2.2.take j → Q 1 ms) (q0 : w ∉ t.2.2.take j → Q 0 ms) : fM_isRepeated n j Q ms := by
  have h4 := (W.nt hn).2.2.2.2.2.2.1
  have hjl := sp_lt hj
  have hw := W.sd hn hj
  have loop : ∀ (N i : Nat) (x : Int), i ≤ j → j - i < N → (x = 0 ∨ x = 1) → (x = 1 ↔ w ∈ t.2.2.take i) → fM_isRepeated_l5 n j Q N x i ms := by
    intro N
    induction N with
    | zero => intro i x _ h; exact absurd h (Nat.not_lt_zero _)
    | succ N ih =>
      intro i x hi hN hx hxi
      refine ⟨jj_rn, jj_rn, fun c => ?_, fun c => ?_⟩
      · have : i = j := by omega
        subst this
        refine ⟨hx, ?_⟩
        rcases hx with h | h
        · rw [h]; exact q0 (fun hm => by have := hxi.mpr hm; omega)
        · rw [h]; exact q1 (hxi.mp h)
      · obtain ⟨a, ha⟩ : ∃ a, t.2.2[i]? = some a := ⟨t.2.2[i]'(by omega), List.getElem?_eq_getElem _⟩
        have hm := sp_take_mem (x := w) ha
        refine ⟨by rcases hx with h | h <;> (rw [h]; exact ⟨by decide, by decide⟩), fun c1 v3 e3 => ?_, fun c1 => mL_said W R hn ha (mL_said W R hn hj ⟨sp_pk_rl (W.sd hn ha), sp_pk_rl hw, fun c2 v6 e6 => ?_, fun c2 v7 e7 => ?_⟩)⟩
        · subst e3
          exact ih (i + 1) 1 (by omega) (by omega) (Or.inr rfl) ⟨fun _ => hm.mpr (Or.inl (hxi.mp (by omega))), fun _ => rfl⟩
        · subst e6
          refine ih (i + 1) 0 (by omega) (by omega) (Or.inl rfl) ⟨fun h => absurd h (by decide), fun h => ?_⟩
          rcases hm.mp h with g | g
          · have := hxi.mpr g; omega
          · exact absurd (by rw [g]) c2
        · subst e7
          exact ih (i + 1) 1 (by omega) (by omega) (Or.inr rfl) ⟨fun _ => hm.mpr (Or.inr ((sp_ok_inj (W.sd hn ha) hw).mp c2)), fun _ => rfl⟩
  exact ⟨j + 1, loop _ 0 0 (Nat.zero_le _) (by omega) (Or.inl rfl) ⟨fun h => absurd h (by decide), fun h => by simp at h⟩⟩
theorem mL_differentWords (W : sp_WF σ) (R : sp_RM σ (ms.2 0) (ms.2 3)) {n o : Nat} {t s : sp_N} (hn : σ.2.1[n]? = some t) (ho : σ.2.1[o]? = some s) {x3 : Int} (hx3 : x3 = 0 ∨ x3 = 1) {Q : Int → jj_MS → Prop} (q : Q (sp_dc (fun x => decide (x3 = 0) || decide (x ∈ s.2.2)) [] t.2.2) ms) : fM_differentWords n o x3 Q ms := by
  have h4 := (W.nt hn).2.2.2.2.2.2.1
  have loop : ∀ (N i : Nat) (x : Nat), i ≤ t.2.2.length → t.2.2.length - i < N → x + sp_dc (fun x => decide (x3 = 0) || decide (x ∈ s.2.2)) (t.2.2.take i) (t.2.2.drop i) = sp_dc (fun x => decide (x3 = 0) || decide (x ∈ s.2.2)) [] t.2.2 → fM_differentWords_l6 n o x3 Q N x i ms := by
    intro N
    induction N with
    | zero => intro i x _ h; exact absurd h (Nat.not_lt_zero _)
    | succ N ih =>
      intro i x hi hN hx
      refine mL_note W R hn (f := 5) t.2.2.length rfl ⟨jj_rn, jj_rn, fun c => ?_, fun c => ?_⟩
      · rw [List.drop_eq_nil_of_le (by omega)] at hx
        rw [← hx] at q
        exact q
      · obtain ⟨a, ha⟩ : ∃ a, t.2.2[i]? = some a := ⟨t.2.2[i]'(by omega), List.getElem?_eq_getElem _⟩
        have et : t.2.2.take i ++ [a] = t.2.2.take (i + 1) := by rw [List.take_succ, ha]; rfl
        rw [sp_drop ha, sp_dc, et] at hx
        have y0 : ¬ (a ∉ t.2.2.take i ∧ (decide (x3 = 0) || decide (a ∈ s.2.2)) = true) → fM_differentWords_j50 (fM_differentWords_l6 n o x3 Q N) n o x3 x i Q ms := by
          intro h
          rw [if_neg h] at hx
          refine ⟨⟨by decide, by decide⟩, fun _ v1 e1 v2 e2 => ?_, fun c => absurd rfl c⟩
          have := ih (i + 1) x (by omega) (by omega) (by omega)
          rw [e1, e2, Int.add_zero]
          exact this
        have y1 : (a ∉ t.2.2.take i ∧ (decide (x3 = 0) || decide (a ∈ s.2.2)) = true) → fM_differentWords_j46 (fM_differentWords_l6 n o x3 Q N) n o x3 x i Q ms := by
          intro h
          rw [if_pos h] at hx
          refine ⟨⟨by decide, by decide⟩, fun c => absurd c (by decide), fun _ v1 e1 v2 e2 => ?_⟩
          have := ih (i + 1) (x + 1) (by omega) (by omega) (by omega)
          rw [e1, e2]
          exact this
        refine mL_isRepeated W R hn ha (fun hm => ⟨⟨by decide, by decide⟩, fun _ => y0 (fun h => h.1 hm), fun c => absurd c (by decide)⟩) (fun hm => ⟨⟨by decide, by decide⟩, fun c => absurd rfl c, fun _ => ⟨?_, fun c3 => y1 ⟨hm, by simp [c3]⟩, fun c3 => mL_said W R hn ha (mL_says W R ho (W.sd hn ha) (fun h5 => ⟨⟨by decide, by decide⟩, fun c => absurd c (by decide), fun _ => y1 ⟨hm, by simp [h5]⟩⟩) (fun h5 => ⟨⟨by decide, by decide⟩, fun _ => y0 (fun h => ?_), fun c => absurd rfl c⟩))⟩⟩)
        · rcases hx3 with h | h <;> (rw [h]; exact ⟨by decide, by decide⟩)
        · simp [c3, h5] at h
  exact ⟨t.2.2.length + 1, loop _ 0 0 (Nat.zero_le _) (by omega) (Nat.zero_add _)⟩
theorem sp_dc_both {u v : List sp_W} : sp_dc (fun x => decide ((1 : Int) = 0) || decide (x ∈ v)) [] u = sp_both u v := by
  rw [sp_dc_eq]
  unfold sp_both
  congr 1
theorem sp_dc_any {u v : List sp_W} : sp_dc (fun x => decide ((0 : Int) = 0) || decide (x ∈ v)) [] u = (sp_dd u).length := by
  rw [sp_dc_eq]
  try simp
theorem mL_haveLikeTexts (W : sp_WF σ) (R : sp_RM σ (ms.2 0) (ms.2 3)) {n o : Nat} {t s : sp_N} (hn : σ.2.1[n]? = some t) (ho : σ.2.1[o]? = some s) {Q : Int → jj_MS → Prop} (q1 : sp_txt σ.2.2.2.2 t.2.2 s.2.2 = true → Q 1 ms) (q0 : sp_txt σ.2.2.2.2 t.2.2 s.2.2 = false → Q 0 ms) : fM_haveLikeTexts n o Q ms := by
  refine mL_differentWords W R hn ho (Or.inr rfl) (mL_differentWords W R hn ho (Or.inl rfl) (mL_differentWords W R ho hn (Or.inl rfl) fun v7 e7 => ?_))
  rw [sp_dc_any, sp_dc_any, sp_dc_both] at e7
  rw [sp_dc_both]
  have h1 := sp_dd_len t.2.2
  have h2 := sp_dd_len s.2.2
  have h3 := (W.nt hn).2.2.2.2.2.2.1
  have h4 := (W.nt ho).2.2.2.2.2.2.1
  have h5 : sp_both t.2.2 s.2.2 ≤ (sp_dd t.2.2).length := List.length_filter_le _ _
  have h6 : 0 ≤ σ.2.2.2.2 ∧ σ.2.2.2.2 ≤ 100 := W.2.2.2.2.2.2.2.2.2
  have hv : 0 ≤ v7 ∧ v7 ≤ 12 := by omega
  have hm : 0 ≤ σ.2.2.2.2 * v7 ∧ σ.2.2.2.2 * v7 ≤ 100 * 12 := ⟨Int.mul_nonneg h6.1 hv.1, Int.mul_le_mul h6.2 hv.2 hv.1 (by decide)⟩
  rw [R.2.2.2.1]
  have ex : sp_txt σ.2.2.2.2 t.2.2 s.2.2 = decide (σ.2.2.2.2 * v7 ≤ 100 * sp_both t.2.2 s.2.2) := by
    unfold sp_txt
    rw [e7]
  refine ⟨⟨by omega, by omega⟩, ⟨by omega, by omega⟩, fun c => q0 ?_, fun c => q1 ?_⟩
  · rw [ex]
    exact decide_eq_false (by omega)
  · rw [ex]
    exact decide_eq_true (by omega)
def sp_acB (p : Int × Int × Int × Int) : Prop := 0 ≤ p.1 ∧ p.1 ≤ 3 ∧ -1 ≤ p.2.1 ∧ p.2.1 < 1000 ∧ -1 ≤ p.2.2.1 ∧ p.2.2.1 < 1000 ∧ 0 ≤ p.2.2.2 ∧ p.2.2.2 ≤ 120
theorem sp_an_all {hi : Int} (hh : hi ≤ 1000) : ∀ (r : List Int) (s : Int × Int × Int) (j : Int), 0 ≤ j → sp_anI s j → sp_inc (s.2.2 + 1) hi r → (s.2.2 = -1 ∨ s.2.2 < hi) → sp_anI (sp_an r s) (j + r.length) ∧ ((sp_an r s).2.2 = -1 ∨ (sp_an r s).2.2 < hi)
  | [], s, j, _, h, _, h2 => by
    rw [sp_an]
    refine ⟨?_, h2⟩
    simpa using h
  | a :: r, s, j, hj, h, h1, h2 => by
    have st := sp_an_step (lo := 0) h h1 hj
    rw [sp_an]
    have := sp_an_all hh r _ (j + 1) (by omega) st.1 st.2.1 (by
      rcases h1 with g | g
      · rw [if_pos g.1]; exact h2
      · rw [if_neg (by unfold sp_anI at h; omega)]; exact Or.inr g.2.1)
    rw [List.length_cons]
    have e : j + 1 + (r.length : Int) = j + ((r.length + 1 : Nat) : Int) := by omega
    rw [e] at this
    exact this
theorem sp_nr_ne {f l : Int} : ∀ (r : List Int) (k : Int) (s : Int × Int) (p : List Int), 0 ≤ k → p.drop k.toNat = r → (s.1 = -1 ∨ (0 ≤ s.1 ∧ ∃ x, p[s.1.toNat]? = some x ∧ x ≠ -1)) → ((sp_nr f l r k s).1 = -1 ∨ (0 ≤ (sp_nr f l r k s).1 ∧ ∃ x, p[(sp_nr f l r k s).1.toNat]? = some x ∧ x ≠ -1))
  | [], k, s, p, _, _, h => h
  | a :: r, k, s, p, hk, hp, h => by
    have ha : p[k.toNat]? = some a := by
      have : (p.drop k.toNat)[0]? = some a := by rw [hp]; rfl
      rw [List.getElem?_drop] at this
      exact this
    rw [sp_nr]
    refine sp_nr_ne r (k + 1) _ p (by omega) ?_ ?_
    · have : (k + 1).toNat = k.toNat + 1 := by omega
      rw [this, ← List.drop_drop, hp]
      rfl
    · split
      · rename_i c
        exact Or.inr ⟨hk, a, ha, c.1⟩
      · exact h
/-- an anchor: lost, or a span of the target's words -/
theorem sp_anc_bd {p : List Int} {f l hi : Int} (hh : hi ≤ 120) (h0 : 0 ≤ f) (h1 : f ≤ l) (h2 : l < p.length) (h3 : p.length ≤ 120) (hin : sp_inc 0 hi p) : (0 ≤ (sp_anc p f l).2.2.2 ∧ (sp_anc p f l).2.2.2 ≤ 120) ∧ (((sp_anc p f l).1 = 3 ∧ (sp_anc p f l).2.1 = -1 ∧ (sp_anc p f l).2.2.1 = -1) ∨ (0 ≤ (sp_anc p f l).1 ∧ (sp_anc p f l).1 < 3 ∧ 0 ≤ (sp_anc p f l).2.1 ∧ (sp_anc p f l).2.1 ≤ (sp_anc p f l).2.2.1 ∧ (sp_anc p f l).2.2.1 < hi)) := by
  have hsg := sp_sg_len (p := p) h0 h1 h2
  have ha := sp_an_all (hi := hi) (by omega) (sp_sg p f l) (0, -1, -1) 0 (Int.le_refl _) ⟨by decide, by decide, Or.inl ⟨rfl, rfl, rfl⟩⟩ (sp_inc_mono (by decide) (sp_inc_take _ (sp_inc_drop _ hin))) (Or.inl rfl)
  have hb := sp_nr_ne (f := f) (l := l) p 0 (-1, 0) p (Int.le_refl _) rfl (Or.inl rfl)
  unfold sp_anc
  dsimp only
  generalize sp_an (sp_sg p f l) (0, -1, -1) = s at *
  generalize (sp_nr f l p 0 (-1, 0)).1 = b at *
  obtain ⟨⟨a1, a2, a3⟩, a4⟩ := ha
  rw [hsg] at a2
  by_cases c : l - f + 1 ≤ 2 * s.1
  · rw [if_pos c]
    dsimp only
    refine ⟨by omega, Or.inr ⟨?_, ?_, ?_, ?_, ?_⟩⟩
    · split <;> decide
    · split <;> decide
    · omega
    · omega
    · omega
  · rw [if_neg c]
    by_cases c2 : b = -1
    · rw [if_pos c2]
      exact ⟨by dsimp only; omega, Or.inl ⟨rfl, rfl, rfl⟩⟩
    · rw [if_neg c2]
      dsimp only
      refine ⟨by omega, Or.inr ⟨by decide, by decide, ?_⟩⟩
      rcases hb with h | ⟨g1, x, g2, g3⟩
      · exact absurd h c2
      · rw [List.getD_eq_getElem?_getD, g2]
        show 0 ≤ x ∧ x ≤ x ∧ x < hi
        rcases sp_inc_lt hin g2 with g | g
        · exact absurd g g3
        · omega
theorem sp_ac_bd (W : sp_WF σ) {n : Nat} {t : sp_N} (hn : σ.2.1[n]? = some t) : ∃ (g : Nat) (dg : sp_E), σ.2.2.2.1 = g ∧ σ.1[g]? = some dg ∧ (0 ≤ (sp_ac σ t).2.2.2 ∧ (sp_ac σ t).2.2.2 ≤ 120) ∧ (((sp_ac σ t).1 = 3 ∧ (sp_ac σ t).2.1 = -1 ∧ (sp_ac σ t).2.2.1 = -1) ∨ (0 ≤ (sp_ac σ t).1 ∧ (sp_ac σ t).1 < 3 ∧ 0 ≤ (sp_ac σ t).2.1 ∧ (sp_ac σ t).2.1 ≤ (sp_ac σ t).2.2.1 ∧ (sp_ac σ t).2.2.1 < dg.1.length)) := by
  obtain ⟨-, -, -, -, g0, ⟨d, hd, f0, f1, f2⟩, -, -⟩ := W.nt hn
  obtain ⟨hl, hi, -, hinc, g, dg, k1, k2, k3⟩ := sp_pt_inc W hd
  have e : sp_ac σ t = sp_anc (sp_pt σ d) t.2.1.1 t.2.1.2 := by
    unfold sp_ac
    rw [hd]
  have h8 := (W.ed k2).2.1
  have h9 := (W.ed hd).2.1
  rw [e]
  refine ⟨g, dg, k1, k2, ?_⟩
  have := sp_anc_bd (hi := hi) (by omega) f0 f1 (by omega) (by omega) hinc
  rw [k3] at this
  exact this
theorem sp_ac_B (W : sp_WF σ) {n : Nat} {t : sp_N} (hn : σ.2.1[n]? = some t) : sp_acB (sp_ac σ t) := by
  obtain ⟨g, dg, -, h2, h3, h4⟩ := sp_ac_bd W hn
  have := (W.ed h2).2.1
  unfold sp_acB
  omega
theorem mL_alike (W : sp_WF σ) (R : sp_RM σ (ms.2 0) (ms.2 3)) {n o : Nat} {t s : sp_N} (hn : σ.2.1[n]? = some t) (ho : σ.2.1[o]? = some s) (ht : (ms.2 17 n, ms.2 18 n, ms.2 19 n, ms.2 20 n) = sp_ac σ t) (hs : (ms.2 17 o, ms.2 18 o, ms.2 19 o, ms.2 20 o) = sp_ac σ s) {Q : Int → jj_MS → Prop} (q1 : sp_al σ n o = true → Q 1 ms) (q0 : sp_al σ n o = false → Q 0 ms) : fM_alike n o Q ms := by
  have bt := sp_ac_B W hn
  have bs := sp_ac_B W ho
  have h40 := W.2.2.1
  have hn40 := sp_lt hn
  have ho40 := sp_lt ho
  have eal : sp_al σ n o = (decide (n ≠ o) && sp_al2 σ.2.2.2.2 t s (sp_ac σ t) (sp_ac σ s)) := by
    unfold sp_al
    rw [hn, ho]
  generalize hp : sp_ac σ t = p at *
  generalize hq : sp_ac σ s = p' at *
  obtain ⟨b1, b2, b3, b4, b5, b6, b7, b8⟩ := bt
  obtain ⟨d1, d2, d3, d4, d5, d6, d7, d8⟩ := bs
  have t0 : ms.2 17 n = p.1 := by rw [← ht]
  have t1 : ms.2 18 n = p.2.1 := by rw [← ht]
  have t2 : ms.2 19 n = p.2.2.1 := by rw [← ht]
  have s0 : ms.2 17 o = p'.1 := by rw [← hs]
  have s1 : ms.2 18 o = p'.2.1 := by rw [← hs]
  have s2 : ms.2 19 o = p'.2.2.1 := by rw [← hs]
  have kt := W.nt hn
  have ks := W.nt ho
  have k0 := kt.2.2.1
  have k1 := kt.2.2.2.1
  have k2 := ks.2.2.1
  have k3 := ks.2.2.2.1
  have f0 : (p.1 = 3 ∨ p'.1 = 3) → fM_alike_j24 n o Q ms := by
    intro h
    have e0 : sp_al σ n o = false := by
      rw [eal]
      unfold sp_al2
      rcases h with h | h <;> simp [h]
    exact ⟨jj_rn, jj_rn, fun _ => q0 e0, fun _ => ⟨⟨by decide, by decide⟩, fun _ => q0 e0, fun c => absurd rfl c⟩⟩
  refine ⟨by omega, by omega, by rw [t0]; exact ⟨by omega, by omega⟩, fun c => f0 (Or.inl (by rw [← t0]; exact c)), fun c => ⟨by omega, by omega, by rw [s0]; exact ⟨by omega, by omega⟩, fun c2 => f0 (Or.inr (by rw [← s0]; exact c2)), fun c2 => ?_⟩⟩
  rw [t0] at c
  rw [s0] at c2
  refine ⟨jj_rn, jj_rn, fun c3 => q0 ?_, fun c3 => ⟨⟨by decide, by decide⟩, fun c4 => absurd c4 (by decide), fun _ => mL_note W R hn (f := 1) t.1.2.1 rfl (mL_note W R ho (f := 1) s.1.2.1 rfl ⟨⟨by omega, by omega⟩, ⟨by omega, by omega⟩, fun c4 => ?_, fun c4 => q0 ?_⟩)⟩⟩
  · have : n = o := by omega
    rw [eal]
    simp [this]
  · have hno : n ≠ o := by omega
    refine ⟨by omega, by omega, by omega, by omega, by rw [t1]; exact ⟨by omega, by omega⟩, by rw [s1]; exact ⟨by omega, by omega⟩, fun v5 e5 => ⟨by omega, by omega, by omega, by omega, by rw [t2]; exact ⟨by omega, by omega⟩, by rw [s2]; exact ⟨by omega, by omega⟩, fun v6 e6 => ?_⟩⟩
    rw [t1, s1] at e5
    rw [t2, s2] at e6
    refine ⟨⟨by omega, by omega⟩, fun v7 e7 => ⟨by omega, by omega, by omega, by omega, fun v8 e8 => ⟨by omega, by omega, by omega, by omega, fun v9 e9 => ?_⟩⟩⟩
    rw [t1, t2] at e8
    rw [s1, s2] at e9
    have ec : sp_al σ n o = (decide (min v8 v9 ≤ 2 * v7) && sp_txt σ.2.2.2.2 t.2.2 s.2.2) := by
      rw [eal]
      unfold sp_al2
      have e10 : min p.2.2.1 p'.2.2.1 - max p.2.1 p'.2.1 + 1 = v6 - v5 + 1 := by rw [e5, e6]
      rw [e10, ← e7, ← e8, ← e9]
      simp [hno, c4, c, c2]
    refine ⟨⟨by omega, by omega⟩, ⟨by omega, by omega⟩, ⟨by omega, by omega⟩, ⟨by omega, by omega⟩, fun c5 => q0 ?_, fun c5 => mL_haveLikeTexts W R hn ho (fun h => ⟨⟨by decide, by decide⟩, fun c => absurd c (by decide), fun _ => q1 ?_⟩) (fun h => ⟨⟨by decide, by decide⟩, fun _ => q0 ?_, fun c => absurd rfl c⟩)⟩
    · rw [ec, decide_eq_false (by omega)]
      rfl
    · rw [ec, decide_eq_true (by omega), h]
      rfl
    · rw [ec, h, Bool.and_false]
  · rw [eal]
    unfold sp_al2
    simp [c4]
end MK
