/-! THE TEXT's WORDS -/
abbrev sp_Y : Type := sp_S × List Int × (Int × Int) × List Int × (Option sp_S × Option sp_S)
def sp_azb (c : Int) : Bool := decide (97 ≤ c) && decide (c ≤ 122)
def sp_blk (c : Int) : Bool := decide (c = 32) || decide (c = 10)
def sp_rdg : sp_W → List Int → Option (List sp_W)
  | cur, [] => if cur = [] then some [] else if cur.length ≤ 8 then some [cur] else none
  | cur, c :: r => if sp_azb c = true then sp_rdg (cur ++ [c]) r else if sp_blk c = true then (if cur = [] then sp_rdg [] r else if cur.length ≤ 8 then (sp_rdg [] r).map (fun ws => cur :: ws) else none) else none
def sp_rd (text : List Int) : Option (List sp_W) := sp_rdg [] text
/-- the model's text -/
def sp_tR (text : List Int) (ms : jj_MS) : Prop := ms.1 9 = text.length ∧ text.length ≤ 900 ∧ (∀ (i : Nat) c, text[i]? = some c → ms.2 8 i = c) ∧ ∀ c ∈ text, 0 ≤ c ∧ c ≤ 255
theorem sp_rdg_run {cur : sp_W} (hc : cur ≠ []) {r : List Int} (hr : ∀ c, r.head? = some c → sp_azb c = false) : sp_rdg cur r = if cur.length ≤ 8 then (sp_rdg [] r).map (fun ws => cur :: ws) else none := by
  cases r with
  | nil =>
    rw [sp_rdg, sp_rdg, if_neg hc, if_pos rfl]
    rfl
  | cons c r =>
    have h := hr c rfl
    rw [sp_rdg, sp_rdg, h]
    simp only [Bool.false_eq_true, if_false, hc, if_true]
    cases sp_blk c
    · simp
    · simp
theorem sp_rdg_ok : ∀ {r : List Int} {cur : sp_W} {ws : List sp_W}, (∀ c ∈ cur, sp_az c) → sp_rdg cur r = some ws → ∀ w ∈ ws, sp_ok w
  | [], cur, ws, hc, h, w, hw => by
    rw [sp_rdg] at h
    split at h
    · cases h; cases hw
    · split at h
      · rename_i h1 h2
        cases h
        have : w = cur := by simpa using hw
        subst this
        exact ⟨List.length_pos_iff.mpr h1, h2, hc⟩
      · cases h
  | c :: r, cur, ws, hc, h, w, hw => by
    rw [sp_rdg] at h
    split at h
    · rename_i h1
      refine sp_rdg_ok (fun x hx => ?_) h w hw
      rcases List.mem_append.mp hx with hx | hx
      · exact hc x hx
      · have : x = c := by simpa using hx
        subst this
        unfold sp_azb at h1
        simp at h1
        exact h1
    · split at h
      · split at h
        · exact sp_rdg_ok (fun x hx => by cases hx) h w hw
        · rename_i h1 h2 h3
          split at h
          · rename_i h4
            cases h5 : sp_rdg [] r with
            | none => rw [h5] at h; cases h
            | some vs =>
              rw [h5] at h
              cases h
              rcases List.mem_cons.mp hw with rfl | hw
              · exact ⟨List.length_pos_iff.mpr h3, h4, hc⟩
              · exact sp_rdg_ok (fun x hx => by cases hx) h5 w hw
          · cases h
      · cases h
theorem sp_rd_ok {text : List Int} {ws : List sp_W} (h : sp_rd text = some ws) : ∀ w ∈ ws, sp_ok w := sp_rdg_ok (fun x hx => by cases hx) h
section MT
variable {ms : jj_MS}
/-- the words found -/
def sp_fR (ws : List sp_W) (ms : jj_MS) : Prop := ms.1 11 = ws.length ∧ ∀ (i : Nat) w, ws[i]? = some w → ms.2 10 i = sp_pk w
theorem sp_tR.fr {text : List Int} {ms' : jj_MS} {a b : Nat} (h : sp_tR text ms) (f : sp_fr a b ms ms') (h1 : b ≤ 8 ∨ 10 ≤ a := by omega) : sp_tR text ms' := by
  obtain ⟨h1, h2, h3, h4⟩ := h
  exact ⟨by rw [(f 9 (by omega)).1]; exact h1, h2, fun i c hc => by rw [(f 8 (by omega)).2]; exact h3 i c hc, h4⟩
theorem mL_byteAt {text : List Int} (hT : sp_tR text ms) {i : Nat} (hi : i ≤ 1000) {Q : Int → jj_MS → Prop} (q1 : ∀ c, text[i]? = some c → Q c ms) (q0 : text.length ≤ i → Q (-1) ms) : fM_byteAt i Q ms := by
  obtain ⟨h1, h2, h3, -⟩ := hT
  refine ⟨⟨by omega, by omega⟩, ?_⟩
  rw [h1]
  refine ⟨⟨by omega, by omega⟩, fun c => q0 (by omega), fun c => ⟨by omega, by omega, ?_⟩⟩
  obtain ⟨x, hx⟩ : ∃ x, text[i]? = some x := ⟨text[i]'(by omega), List.getElem?_eq_getElem _⟩
  rw [h3 i x hx]
  exact q1 x hx
theorem mL_isLetter {c : Int} (hc : jj_r c) {Q : Int → jj_MS → Prop} (q1 : sp_azb c = true → Q 1 ms) (q0 : sp_azb c = false → Q 0 ms) : fM_isLetter c Q ms := by
  refine mL_btw hc ⟨by decide, by decide⟩ ⟨by decide, by decide⟩ (fun h1 h2 => ⟨Or.inr rfl, q1 ?_⟩) (fun h => ⟨Or.inl rfl, q0 ?_⟩)
  · unfold sp_azb; simp [h1, h2]
  · unfold sp_azb
    by_cases h1 : 97 ≤ c
    · have : ¬ c ≤ 122 := fun h2 => h ⟨h1, h2⟩
      simp [this]
    · simp [h1]
theorem mL_isBlank {c : Int} (hc : jj_r c) {Q : Int → jj_MS → Prop} (q1 : sp_blk c = true → Q 1 ms) (q0 : sp_blk c = false → Q 0 ms) : fM_isBlank c Q ms := by
  refine ⟨hc, fun h => q1 (by unfold sp_blk; simp [h]), fun h => ⟨hc, fun h2 => q0 (by unfold sp_blk; simp [h, h2]), fun h2 => q1 (by unfold sp_blk; simp [h2])⟩⟩
theorem mL_hasWords {text : List Int} (hT : sp_tR text ms) {least most : Nat} (hlo : least ≤ 1000) (hhi : most ≤ 1000) {Q : Int → jj_MS → Prop} (q1 : ∀ ws, sp_rd text = some ws → least ≤ ws.length → ws.length ≤ most → ∀ ms', sp_fr 10 12 ms ms' → sp_fR ws ms' → Q 1 ms') (q0 : (∀ ws, sp_rd text = some ws → ¬ (least ≤ ws.length ∧ ws.length ≤ most)) → ∀ ms', sp_fr 10 12 ms ms' → Q 0 ms') : fM_hasWords least most Q ms := by
  have h900 := hT.2.1
  have h255 := hT.2.2.2
  have r1 : jj_r 1 := ⟨by decide, by decide⟩
  have r0 : jj_r 0 := ⟨by decide, by decide⟩
  have outer : ∀ (N i : Nat) (good : Int) (fs : List sp_W) (m : jj_MS), sp_fr 10 12 ms m → i ≤ text.length + 1 → text.length + 1 - i < N → (good = 0 ∨ good = 1) → 2 * (m.1 11) ≤ i + 1 ∧ 0 ≤ m.1 11 → (i = 0 ∨ 2 * (m.1 11) ≤ i ∨ sp_azb (text.getD i 0) = false) → (good = 1 → sp_rd text = (sp_rdg [] (text.drop i)).map (fun ws => fs ++ ws) ∧ sp_fR fs m) → (good = 0 → sp_rd text = none) → fM_hasWords_l10 least most Q N good i m := by
    intro N
    induction N with
    | zero => intro i good fs m _ _ h; exact absurd h (Nat.not_lt_zero _)
    | succ N ih =>
      intro i good fs m hf hi hN hg hfc hfc2 hgood hbad
      have hT1 := hT.fr hf
      have hgr : jj_r good := by rcases hg with h | h <;> (rw [h]; first | exact r0 | exact r1)
      refine ⟨⟨by omega, by omega⟩, ?_⟩
      rw [hT1.1]
      refine ⟨⟨by omega, by omega⟩, fun c => ⟨hgr, fun c2 => q0 (fun ws h => by rw [hbad c2] at h; cases h) m hf, fun c2 => ?_⟩, fun c => ?_⟩
      · obtain ⟨e1, e2⟩ := hgood (by omega)
        have hd : text.drop i = [] := List.drop_eq_nil_of_le (by omega)
        rw [hd, sp_rdg, if_pos rfl] at e1
        have e1 : sp_rd text = some fs := by rw [e1]; simp
        rw [e2.1]
        refine mL_btw ⟨by have := e2.1; omega, by have := e2.1; omega⟩ ⟨by omega, by omega⟩ ⟨by omega, by omega⟩ (fun h1 h2 => ⟨r1, fun c => absurd c (by decide), fun _ => q1 fs e1 (by omega) (by omega) m hf e2⟩) (fun h => ⟨r0, fun _ => q0 (fun ws h2 => ?_) m hf, fun c => absurd rfl c⟩)
        rw [e1] at h2
        cases h2
        omega
      · -- a run of letters
        have inner : ∀ (M j : Nat) (run : sp_W), j ≤ text.length → i ≤ j → run = (text.drop i).take (j - i) → (∀ c ∈ run, sp_azb c = true) → text.length - j < M → fM_hasWords_l26 least most good i (fM_hasWords_l10 least most Q N) Q M j (sp_pk (run.take 8)) m := by
          intro M
          induction M with
          | zero => intro j run _ _ _ _ h; exact absurd h (Nat.not_lt_zero _)
          | succ M ihM =>
            intro j run hj hij hrun haz hM
            have hrl : run.length = j - i := by rw [hrun, List.length_take, List.length_drop]; omega
            have hsplit : text.drop i = run ++ text.drop j := by
              have : text.drop j = (text.drop i).drop (j - i) := by rw [List.drop_drop]; congr 1; omega
              rw [this, hrun, List.take_append_drop]
            have hfi : i < j → 2 * (m.1 11) ≤ i ∨ (i = 0 ∧ m.1 11 = 0) := by
              intro hlt
              rcases hfc2 with h | h | h
              · exact Or.inr ⟨h, by omega⟩
              · exact Or.inl h
              · exfalso
                obtain ⟨c0, hc0⟩ : ∃ c0, text[i]? = some c0 := ⟨text[i]'(by omega), List.getElem?_eq_getElem _⟩
                have h0 : run[0]? = some c0 := by
                  rw [hrun, List.getElem?_take, if_pos (by omega), List.getElem?_drop]
                  exact hc0
                have := haz c0 (List.mem_of_getElem? h0)
                rw [List.getD_eq_getElem?_getD, hc0] at h
                simp only [Option.getD_some] at h
                rw [this] at h
                cases h
            -- the run ends here
            have fin : (∀ c, text[j]? = some c → sp_azb c = false) → (fM_hasWords_j117 (fM_hasWords_l10 least most Q N) least most j i (sp_pk (run.take 8)) 1 Q m ∨ True) ∧ ((good = 1 ∧ run.length ≤ 8 ∧ (run = [] → ∃ c, text[j]? = some c ∧ sp_blk c = true)) → fM_hasWords_j112 (fM_hasWords_l10 least most Q N) least most j i (sp_pk (run.take 8)) Q m) ∧ (¬ (good = 1 ∧ run.length ≤ 8 ∧ (run = [] → ∃ c, text[j]? = some c ∧ sp_blk c = true)) → fM_hasWords_j116 (fM_hasWords_l10 least most Q N) least most j i (sp_pk (run.take 8)) Q m) := by
              intro hend
              refine ⟨Or.inr trivial, fun ⟨g1, g2, g3⟩ => ?_, fun hno => ?_⟩
              · obtain ⟨e1, e2⟩ := hgood g1
                refine ⟨⟨by omega, by omega⟩, ⟨by omega, by omega⟩, fun c2 v e => ?_, fun c2 => ⟨by omega, by omega, fun m2 e2' m3 e3 => ?_⟩⟩
                · have hij' : j = i := by omega
                  subst hij'
                  subst e
                  have hrn : run = [] := List.length_eq_zero_iff.mp (by omega)
                  obtain ⟨c', hc1, hc2⟩ := g3 hrn
                  refine ih (j + 1) 1 fs m hf (by omega) (by omega) (Or.inr rfl) ⟨by omega, by omega⟩ (Or.inr (Or.inl (by omega))) (fun _ => ⟨?_, e2⟩) (fun h => absurd h (by decide))
                  rw [e1, sp_drop hc1, sp_rdg, if_neg (by rw [hend c' hc1]; decide), if_pos hc2, if_pos rfl]
                · have hrn : run ≠ [] := fun h => by rw [h] at hrl; simp at hrl; omega
                  refine ih j 1 (fs ++ [run]) m3 ((hf.tA e2').tI e3) (by omega) (by omega) (Or.inr rfl) ?_ ?_ (fun _ => ⟨?_, ?_⟩) (fun h => absurd h (by decide))
                  · rw [e3, jj_mI_eq, e2', jj_mA_1]
                    have := hfi (by omega)
                    omega
                  · rw [e3, jj_mI_eq, e2', jj_mA_1]
                    by_cases hjl : j < text.length
                    · right; right
                      rw [List.getD_eq_getElem?_getD, List.getElem?_eq_getElem hjl]
                      exact hend _ (List.getElem?_eq_getElem hjl)
                    · right; right
                      rw [List.getD_eq_getElem?_getD, List.getElem?_eq_none (by omega)]
                      rfl
                  · rw [e1, hsplit]
                    have : sp_rdg [] (run ++ text.drop j) = sp_rdg run (text.drop j) := by
                      have gen : ∀ (u cur : List Int) (v : List Int), (∀ c ∈ u, sp_azb c = true) → sp_rdg cur (u ++ v) = sp_rdg (cur ++ u) v := by
                        intro u
                        induction u with
                        | nil => intro cur v _; simp
                        | cons a u ihu =>
                          intro cur v h
                          rw [List.cons_append, sp_rdg, if_pos (h a List.mem_cons_self), ihu _ _ (fun c hc => h c (List.mem_cons_of_mem _ hc))]
                          simp
                      have := gen run [] (text.drop j) haz
                      simpa using this
                    rw [this, sp_rdg_run hrn (fun c hc => hend c (by rw [← hc, List.head?_drop])), if_pos g2]
                    cases sp_rdg [] (text.drop j) with
                    | none => rfl
                    | some vs => simp
                  · refine ⟨?_, fun k w hw => ?_⟩
                    · rw [e3, jj_mI_eq, e2', jj_mA_1, e2.1, List.length_append]
                      rfl
                    · rw [e3, jj_mI_2, e2', jj_mA_eq, e2.1]
                      rw [List.getElem?_append] at hw
                      split at hw
                      · rw [if_neg (by omega)]
                        exact e2.2 k w hw
                      · have hl := sp_lt hw
                        have : k = fs.length := by simp at hl; omega
                        subst this
                        rw [if_pos rfl]
                        have : run = w := by simpa using hw
                        rw [← this, List.take_of_length_le g2]
              · have hnone : sp_rd text = none := by
                  by_cases hg0 : good = 0
                  · exact hbad hg0
                  · obtain ⟨e1, -⟩ := hgood (by omega)
                    have gen : ∀ (u cur : List Int) (v : List Int), (∀ c ∈ u, sp_azb c = true) → sp_rdg cur (u ++ v) = sp_rdg (cur ++ u) v := by
                      intro u
                      induction u with
                      | nil => intro cur v _; simp
                      | cons a u ihu =>
                        intro cur v h
                        rw [List.cons_append, sp_rdg, if_pos (h a List.mem_cons_self), ihu _ _ (fun c hc => h c (List.mem_cons_of_mem _ hc))]
                        simp
                    have h9 := gen run [] (text.drop j) haz
                    rw [List.nil_append] at h9
                    rw [e1, hsplit, h9]
                    by_cases hrn : run = []
                    · have : ¬ ∃ c, text[j]? = some c ∧ sp_blk c = true := fun h => hno ⟨by omega, by rw [hrn]; simp, fun _ => h⟩
                      have hjl : j < text.length := by rw [hrn] at hrl; simp at hrl; omega
                      have hcj := List.getElem?_eq_getElem hjl
                      rw [hrn, sp_drop hcj, sp_rdg, if_neg (by rw [hend _ hcj]; decide), if_neg (fun h => this ⟨_, hcj, h⟩)]
                      rfl
                    · have : ¬ run.length ≤ 8 := fun h => hno ⟨by omega, h, fun h2 => absurd h2 hrn⟩
                      rw [sp_rdg_run hrn (fun c hc => hend c (by rw [← hc, List.head?_drop])), if_neg this]
                      rfl
                refine ⟨⟨by omega, by omega⟩, ⟨by omega, by omega⟩, fun c2 v e => ?_, fun c2 => ⟨by omega, by omega, fun m2 e2' m3 e3 => ?_⟩⟩
                · have hij' : j = i := by omega
                  subst e
                  exact ih (j + 1) 0 fs m hf (by omega) (by omega) (Or.inl rfl) ⟨by omega, by omega⟩ (Or.inr (Or.inl (by omega))) (fun h => absurd h (by decide)) (fun _ => hnone)
                · refine ih j 0 fs m3 ((hf.tA e2').tI e3) (by omega) (by omega) (Or.inl rfl) ?_ ?_ (fun h => absurd h (by decide)) (fun _ => hnone)
                  · rw [e3, jj_mI_eq, e2', jj_mA_1]
                    have := hfi (by omega)
                    omega
                  · rw [e3, jj_mI_eq, e2', jj_mA_1]
                    right; right
                    by_cases hjl : j < text.length
                    · rw [List.getD_eq_getElem?_getD, List.getElem?_eq_getElem hjl]
                      exact hend _ (List.getElem?_eq_getElem hjl)
                    · rw [List.getD_eq_getElem?_getD, List.getElem?_eq_none (by omega)]
                      rfl
            have stop : (∀ c, text[j]? = some c → sp_azb c = false) → ∀ b : Int, (∀ c, text[j]? = some c → b = c) → (text.length ≤ j → b = -1) → jj_r b → jj_r good ∧ (good = 0 → fM_hasWords_j116 (fM_hasWords_l10 least most Q N) least most j i (sp_pk (run.take 8)) Q m) ∧ (¬ good = 0 → jj_r ((j : Int) - i) ∧ (8 < (j : Int) - i → fM_hasWords_j116 (fM_hasWords_l10 least most Q N) least most j i (sp_pk (run.take 8)) Q m) ∧ (¬ 8 < (j : Int) - i → jj_r j ∧ jj_r i ∧ ((i : Int) < j → fM_hasWords_j112 (fM_hasWords_l10 least most Q N) least most j i (sp_pk (run.take 8)) Q m) ∧ (¬ (i : Int) < j → fM_byteAt j (fun r9 ms8 => fM_isBlank r9 (fun r11 ms10 => jj_r r11 ∧ (r11 = 0 → fM_hasWords_j116 (fM_hasWords_l10 least most Q N) least most j i (sp_pk (run.take 8)) Q ms10) ∧ (¬ r11 = 0 → fM_hasWords_j112 (fM_hasWords_l10 least most Q N) least most j i (sp_pk (run.take 8)) Q ms10)) ms8) m))) := by
              intro hend b hb1 hb2 hbr
              obtain ⟨-, F1, F0⟩ := fin hend
              refine ⟨hgr, fun c2 => F0 (fun h => by omega), fun c2 => ⟨⟨by omega, by omega⟩, fun c3 => F0 (fun h => by omega), fun c3 => ⟨⟨by omega, by omega⟩, ⟨by omega, by omega⟩, fun c4 => F1 ⟨by omega, by omega, fun h => ?_⟩, fun c4 => ?_⟩⟩⟩
              · rw [h] at hrl; simp at hrl; omega
              · refine mL_byteAt hT1 (by omega) (fun x hx => mL_isBlank (by have := h255 x (List.mem_of_getElem? hx); exact ⟨by omega, by omega⟩) (fun h => ⟨r1, fun c => absurd c (by decide), fun _ => F1 ⟨by omega, by omega, fun _ => ⟨x, hx, h⟩⟩⟩) (fun h => ⟨r0, fun _ => F0 (fun hh => ?_), fun c => absurd rfl c⟩)) (fun h => by omega)
                have hrn : run = [] := List.length_eq_zero_iff.mp (by omega)
                obtain ⟨y, hy1, hy2⟩ := hh.2.2 hrn
                rw [hx] at hy1
                cases hy1
                rw [h] at hy2
                cases hy2
            refine mL_byteAt hT1 (by omega) (fun x hx => ?_) (fun hx => ?_)
            · have hxb := h255 x (List.mem_of_getElem? hx)
              have hxr : jj_r x := ⟨by omega, by omega⟩
              have hjl := sp_lt hx
              refine mL_isLetter hxr (fun hz => ⟨r1, fun c => absurd c (by decide), fun _ => ?_⟩) (fun hz => ⟨r0, fun _ => stop (fun c hc => by rw [hx] at hc; cases hc; exact hz) x (fun c hc => by rw [hx] at hc; cases hc; rfl) (fun h => by omega) hxr, fun c => absurd rfl c⟩)
              have hrun' : run ++ [x] = (text.drop i).take (j + 1 - i) := by
                have e9 : j + 1 - i = (j - i) + 1 := by omega
                rw [e9, List.take_succ, ← hrun, List.getElem?_drop]
                have e10 : i + (j - i) = j := by omega
                rw [e10, hx]
                rfl
              have haz' : ∀ c ∈ run ++ [x], sp_azb c = true := fun c hc => by
                rcases List.mem_append.mp hc with h | h
                · exact haz c h
                · have : c = x := by simpa using h
                  rw [this]; exact hz
              have nxt := ihM (j + 1) (run ++ [x]) (by omega) (by omega) hrun' haz' (by omega)
              refine ⟨⟨by omega, by omega⟩, fun c2 v e => ?_, fun c2 => mL_byteAt hT1 (by omega) (fun y hy v15 e15 v16 e16 => ?_) (fun h => by omega)⟩
              · subst e
                have : (run ++ [x]).take 8 = run.take 8 := by rw [List.take_append_of_le_length (by omega)]
                rw [this] at nxt
                exact nxt
              · rw [hx] at hy
                cases hy
                subst e16
                have e9 : (run ++ [x]).take 8 = run.take 8 ++ [x] := by
                  rw [List.take_of_length_le (by rw [List.length_append, List.length_singleton]; omega), List.take_of_length_le (by omega)]
                rw [e9, sp_pk_snoc] at nxt
                have e10 : jj_i2l x = x := jj_ti hxr
                rw [e10] at e15
                have e11 : v15 = 27 * sp_pk (run.take 8) + (x - 96) := by omega
                rw [e11]
                exact nxt
            · have hnone : text[j]? = none := List.getElem?_eq_none hx
              refine mL_isLetter ⟨by decide, by decide⟩ (fun hz => absurd hz (by decide)) (fun hz => ⟨r0, fun _ => stop (fun c hc => by rw [hnone] at hc; cases hc) (-1) (fun c hc => by rw [hnone] at hc; cases hc) (fun _ => rfl) ⟨by decide, by decide⟩, fun c => absurd rfl c⟩)
        refine ⟨text.length + 1, ?_⟩
        have := inner (text.length + 1) i [] (by omega) (Nat.le_refl _) (by simp) (fun c hc => by cases hc) (by omega)
        exact this
  intro m19 e19
  refine ⟨text.length + 2, outer _ 0 1 [] m19 (sp_fr.rfl.tI e19) (Nat.zero_le _) (by omega) (Or.inr rfl) ?_ (Or.inl rfl) (fun _ => ⟨?_, ?_, fun i w h => by simp at h⟩) (fun h => absurd h (by decide))⟩
  · rw [e19, jj_mI_eq]
    exact ⟨by decide, by decide⟩
  · show sp_rdg [] text = _
    rw [List.drop_zero]
    cases sp_rdg [] text with
    | none => rfl
    | some vs => simp
  · rw [e19, jj_mI_eq]
    rfl
end MT
