set_option maxRecDepth 100000
/-! parseNumber(II)I -/
def fM_parseNumber_j14 (x1 : Int) (x2 : Int) (y1 : Int) (Q : Int → jj_MS → Prop) (ms : jj_MS) : Prop :=
  fM_require y1 1 (fun ms1 =>
  fM_isBetween (ms1.1 39) x1 x2 (fun r4 ms3 =>
  fM_require r4 2 (fun ms5 =>
  ∀ v7, v7 = ms5.1 39 →
  fM_advance (fun ms8 =>
  Q v7 ms8) ms5) ms3) ms1) ms

def fM_parseNumber (x1 : Int) (x2 : Int) (Q : Int → jj_MS → Prop) (ms : jj_MS) : Prop :=
  jj_r (ms.1 37) ∧ (¬ (ms.1 37) = 3 → (
    fM_parseNumber_j14 x1 x2 0 Q ms)) ∧
  ((ms.1 37) = 3 → (
    fM_parseNumber_j14 x1 x2 1 Q ms))

theorem sM_parseNumber_j14 {X : jj_X} {h0 : jj_H} {m0 k : Nat} {N : Option jj_AV → jj_H → Prop} {XN : String → Nat → jj_H → Prop} (F : jj_F X RX3 cX3_parseNumber 4) (M : jj_M X (some (.int)) 4 83 N XN) (S : jj_GS X.1 X.2.2.1) (hs : jj_hs X.1 h0 m0) {Q : Int → jj_MS → Prop} (hQ : ∀ r ms, Q r ms → N (some (.inl r)) (jj_mh h0 m0 ms)) : ∀ (x1 : Int) (x2 : Int) (y1 : Int) (ms : jj_MS), fM_parseNumber_j14 x1 x2 y1 Q ms → jj_J X 4 14 [(0, .inr (.inr (.inl (some m0)))), (1, .inl x1), (2, .inl x2)] [.inl y1, .inr (.inr (.inl (some m0)))] (jj_mh h0 m0 ms) k := by
  intro x1 x2 y1 ms w
  unfold fM_parseNumber_j14 at w
  refine jr_iconst (pc := 14) F dX3_parseNumber_14 ?_
  refine jr_callV (pc := 15) (As := [_, _]) F M (lw_V q3692 q3694 qs106 q143 q3695) dX3_parseNumber_15 hM_require rfl (Nat.le_of_ble_eq_true rfl) (Nat.le_of_ble_eq_true rfl) (Nat.le_of_ble_eq_true rfl) (jj_set_self _ _ _) rfl rfl (Nat.zero_le _) (cM_require S hs w) (fun v9 h9 q9 => ?_) (fun _ _ _ q9 => q9.elim)
  obtain ⟨ms1, rfl, rfl, w⟩ := q9
  refine jr_aload_n (pc := 18) F (j := 0) dX3_parseNumber_18 rfl ?_
  refine jr_aload_n (pc := 19) F (j := 0) dX3_parseNumber_19 rfl ?_
  refine jm_get (pc := 20) (f := 39) (v := .inl _) F (Nat.le_of_ble_eq_true rfl) q3169 rfl rfl dX3_parseNumber_20 ?_
  refine jr_iload_n (pc := 23) F (j := 1) dX3_parseNumber_23 rfl ?_
  refine jr_iload_n (pc := 24) F (j := 2) dX3_parseNumber_24 rfl ?_
  refine jr_callS (pc := 25) (As := [_, _, _]) F M (lw_S q3284 q3285 q143 q3286) dX3_parseNumber_25 hM_isBetween.2 rfl (Nat.le_of_ble_eq_true rfl) (Nat.le_of_ble_eq_true rfl) (Nat.le_of_ble_eq_true rfl) (Nat.zero_le _) (cM_isBetween S hs w) (fun v9 h9 q9 => ?_) (fun _ _ _ q9 => q9.elim)
  obtain ⟨r4, ms3, rfl, rfl, w⟩ := q9
  refine jr_iconst (pc := 28) F dX3_parseNumber_28 ?_
  refine jr_callV (pc := 29) (As := [_, _]) F M (lw_V q3692 q3694 qs106 q143 q3695) dX3_parseNumber_29 hM_require rfl (Nat.le_of_ble_eq_true rfl) (Nat.le_of_ble_eq_true rfl) (Nat.le_of_ble_eq_true rfl) (jj_set_self _ _ _) rfl rfl (Nat.zero_le _) (cM_require S hs w) (fun v9 h9 q9 => ?_) (fun _ _ _ q9 => q9.elim)
  obtain ⟨ms5, rfl, rfl, w⟩ := q9
  refine jr_aload_n (pc := 32) F (j := 0) dX3_parseNumber_32 rfl ?_
  refine jm_get (pc := 33) (f := 39) (v := .inl _) F (Nat.le_of_ble_eq_true rfl) q3169 rfl rfl dX3_parseNumber_33 ?_
  have w := w _ rfl
  refine jr_istore_n (pc := 36) F (vs' := [(3, .inl _), (0, .inr (.inr (.inl _))), (1, .inl _), (2, .inl _)]) dX3_parseNumber_36 (Nat.le_of_ble_eq_true rfl) rfl ?_
  refine jr_aload_n (pc := 37) F (j := 1) dX3_parseNumber_37 rfl ?_
  refine jr_callV (pc := 38) (As := []) F M (lw_V q3696 q3698 qs107 q143 q3699) dX3_parseNumber_38 hM_advance rfl (Nat.le_of_ble_eq_true rfl) (Nat.le_of_ble_eq_true rfl) (Nat.le_of_ble_eq_true rfl) (jj_set_self _ _ _) rfl rfl (Nat.zero_le _) (cM_advance S hs w) (fun v9 h9 q9 => ?_) (fun _ _ _ q9 => q9.elim)
  obtain ⟨ms8, rfl, rfl, w⟩ := q9
  refine jr_iload_n (pc := 41) F (j := 0) dX3_parseNumber_41 rfl ?_
  exact jr_iret (pc := 42) F M dX3_parseNumber_42 (hQ _ _ w)

theorem sM_parseNumber {X : jj_X} {h0 : jj_H} {m0 k : Nat} {N : Option jj_AV → jj_H → Prop} {XN : String → Nat → jj_H → Prop} (F : jj_F X RX3 cX3_parseNumber 4) (M : jj_M X (some (.int)) 4 83 N XN) (S : jj_GS X.1 X.2.2.1) (hs : jj_hs X.1 h0 m0) {Q : Int → jj_MS → Prop} (hQ : ∀ r ms, Q r ms → N (some (.inl r)) (jj_mh h0 m0 ms)) : ∀ (x1 : Int) (x2 : Int) (ms : jj_MS), fM_parseNumber x1 x2 Q ms → jj_J X 4 0 [(0, .inr (.inr (.inl (some m0)))), (1, .inl x1), (2, .inl x2)] [] (jj_mh h0 m0 ms) k := by
  intro x1 x2 ms w
  unfold fM_parseNumber at w
  refine jr_aload_n (pc := 0) F (j := 0) dX3_parseNumber_0 rfl ?_
  refine jr_aload_n (pc := 1) F (j := 0) dX3_parseNumber_1 rfl ?_
  refine jm_get (pc := 2) (f := 37) (v := .inl _) F (Nat.le_of_ble_eq_true rfl) q3167 rfl rfl dX3_parseNumber_2 ?_
  refine jr_iconst (pc := 5) F dX3_parseNumber_5 ?_
  obtain ⟨hx9, w1, w2⟩ := w
  refine jr_icmp_ne (pc := 6) (tgt := 13) F hx9 ⟨by decide, by decide⟩ dX3_parseNumber_6 rfl (fun c9 => ?_) (fun c9 => ?_)
  · have w := w1 c9
    refine jr_iconst (pc := 13) F dX3_parseNumber_13 ?_
    exact sM_parseNumber_j14 F M S hs hQ _ _ _ _ w
  · have w := w2 c9
    refine jr_iconst (pc := 9) F dX3_parseNumber_9 ?_
    refine jr_goto (pc := 10) (tgt := 14) F dX3_parseNumber_10 rfl ?_
    exact sM_parseNumber_j14 F M S hs hQ _ _ _ _ w

theorem cM_parseNumber {G : jj_G} {l : Launch} (S : jj_GS G l) {h0 : jj_H} {m0 : Nat} (hs : jj_hs G h0 m0) {x1 : Int} {x2 : Int} {ms : jj_MS} {Q : Int → jj_MS → Prop} (w : fM_parseNumber x1 x2 Q ms) : jj_Ct G l yX3_parseNumber (ws_ yX3_parseNumber cX3_parseNumber 4 (some (.int))) 4 83 [.inr (.inr (.inl (some m0))), .inl x1, .inl x2] (jj_mh h0 m0 ms) 0 (jm_Ni h0 m0 Q) jj_F0 := by
  refine jj_Ct.of S.1 (by decide +kernel) (Nat.le_of_ble_eq_true rfl) rfl (fun X hG hl F M O hnm => ?_)
  subst hG; subst hl
  exact sM_parseNumber F M S hs (fun r ms q => ⟨r, ms, rfl, rfl, q⟩) _ _ _ w
theorem hM_parseNumber : yX3_parseNumber.cls = RX3 ∧ yX3_parseNumber.cls ≠ "java/lang/invoke/MethodHandle" ∧ yX3_parseNumber.cls ≠ "java/lang/invoke/VarHandle" ∧ (parseMethodDescriptor yX3_parseNumber.desc).map (fun d => d.parameters.length) = some 2 := by decide +kernel
/-! requireWord()V -/
def fM_requireWord_j33 (y1 : Int) (Q : jj_MS → Prop) (ms : jj_MS) : Prop :=
  fM_require y1 2 (fun ms1 =>
  Q ms1) ms

def fM_requireWord_j14 (y1 : Int) (Q : jj_MS → Prop) (ms : jj_MS) : Prop :=
  fM_require y1 1 (fun ms3 =>
  jj_r (ms3.1 38) ∧ (8 < (ms3.1 38) → (
    fM_requireWord_j33 0 Q ms3)) ∧
  (¬ 8 < (ms3.1 38) → (
    fM_requireWord_j33 1 Q ms3))) ms

def fM_requireWord (Q : jj_MS → Prop) (ms : jj_MS) : Prop :=
  jj_r (ms.1 37) ∧ (¬ (ms.1 37) = 2 → (
    fM_requireWord_j14 0 Q ms)) ∧
  ((ms.1 37) = 2 → (
    fM_requireWord_j14 1 Q ms))

theorem sM_requireWord_j33 {X : jj_X} {h0 : jj_H} {m0 k : Nat} {N : Option jj_AV → jj_H → Prop} {XN : String → Nat → jj_H → Prop} (F : jj_F X RX3 cX3_requireWord 1) (M : jj_M X (none) 1 22 N XN) (S : jj_GS X.1 X.2.2.1) (hs : jj_hs X.1 h0 m0) {Q : jj_MS → Prop} (hQ : ∀ ms, Q ms → N none (jj_mh h0 m0 ms)) : ∀ (y1 : Int) (ms : jj_MS), fM_requireWord_j33 y1 Q ms → jj_J X 1 33 [] [.inl y1, .inr (.inr (.inl (some m0)))] (jj_mh h0 m0 ms) k := by
  intro y1 ms w
  unfold fM_requireWord_j33 at w
  refine jr_iconst (pc := 33) F dX3_requireWord_33 ?_
  refine jr_callV (pc := 34) (As := [_, _]) F M (lw_V q3692 q3694 qs106 q143 q3695) dX3_requireWord_34 hM_require rfl (Nat.le_of_ble_eq_true rfl) (Nat.le_of_ble_eq_true rfl) (Nat.le_of_ble_eq_true rfl) (jj_set_self _ _ _) rfl rfl (Nat.zero_le _) (cM_require S hs w) (fun v9 h9 q9 => ?_) (fun _ _ _ q9 => q9.elim)
  obtain ⟨ms1, rfl, rfl, w⟩ := q9
  exact jr_vret (pc := 37) F M dX3_requireWord_37 (hQ _ w)

theorem sM_requireWord_j14 {X : jj_X} {h0 : jj_H} {m0 k : Nat} {N : Option jj_AV → jj_H → Prop} {XN : String → Nat → jj_H → Prop} (F : jj_F X RX3 cX3_requireWord 1) (M : jj_M X (none) 1 22 N XN) (S : jj_GS X.1 X.2.2.1) (hs : jj_hs X.1 h0 m0) {Q : jj_MS → Prop} (hQ : ∀ ms, Q ms → N none (jj_mh h0 m0 ms)) : ∀ (y1 : Int) (ms : jj_MS), fM_requireWord_j14 y1 Q ms → jj_J X 1 14 [(0, .inr (.inr (.inl (some m0))))] [.inl y1, .inr (.inr (.inl (some m0)))] (jj_mh h0 m0 ms) k := by
  intro y1 ms w
  unfold fM_requireWord_j14 at w
  refine jr_iconst (pc := 14) F dX3_requireWord_14 ?_
  refine jr_callV (pc := 15) (As := [_, _]) F M (lw_V q3692 q3694 qs106 q143 q3695) dX3_requireWord_15 hM_require rfl (Nat.le_of_ble_eq_true rfl) (Nat.le_of_ble_eq_true rfl) (Nat.le_of_ble_eq_true rfl) (jj_set_self _ _ _) rfl rfl (Nat.zero_le _) (cM_require S hs w) (fun v9 h9 q9 => ?_) (fun _ _ _ q9 => q9.elim)
  obtain ⟨ms3, rfl, rfl, w⟩ := q9
  refine jr_aload_n (pc := 18) F (j := 0) dX3_requireWord_18 rfl ?_
  refine jr_aload_n (pc := 19) F (j := 0) dX3_requireWord_19 rfl ?_
  refine jm_get (pc := 20) (f := 38) (v := .inl _) F (Nat.le_of_ble_eq_true rfl) q3168 rfl rfl dX3_requireWord_20 ?_
  refine jr_bipush (pc := 23) F dX3_requireWord_23 (by decide +kernel) ?_
  obtain ⟨hx9, w1, w2⟩ := w
  refine jr_icmp_gt (pc := 25) (tgt := 32) F hx9 ⟨by decide, by decide⟩ dX3_requireWord_25 rfl (fun c9 => ?_) (fun c9 => ?_)
  · have w := w1 c9
    refine jr_iconst (pc := 32) F dX3_requireWord_32 ?_
    refine jj_J.sub [] rfl ?_
    exact sM_requireWord_j33 F M S hs hQ _ _ w
  · have w := w2 c9
    refine jr_iconst (pc := 28) F dX3_requireWord_28 ?_
    refine jr_goto (pc := 29) (tgt := 33) F dX3_requireWord_29 rfl ?_
    refine jj_J.sub [] rfl ?_
    exact sM_requireWord_j33 F M S hs hQ _ _ w

theorem sM_requireWord {X : jj_X} {h0 : jj_H} {m0 k : Nat} {N : Option jj_AV → jj_H → Prop} {XN : String → Nat → jj_H → Prop} (F : jj_F X RX3 cX3_requireWord 1) (M : jj_M X (none) 1 22 N XN) (S : jj_GS X.1 X.2.2.1) (hs : jj_hs X.1 h0 m0) {Q : jj_MS → Prop} (hQ : ∀ ms, Q ms → N none (jj_mh h0 m0 ms)) : ∀ (ms : jj_MS), fM_requireWord Q ms → jj_J X 1 0 [(0, .inr (.inr (.inl (some m0))))] [] (jj_mh h0 m0 ms) k := by
  intro  ms w
  unfold fM_requireWord at w
  refine jr_aload_n (pc := 0) F (j := 0) dX3_requireWord_0 rfl ?_
  refine jr_aload_n (pc := 1) F (j := 0) dX3_requireWord_1 rfl ?_
  refine jm_get (pc := 2) (f := 37) (v := .inl _) F (Nat.le_of_ble_eq_true rfl) q3167 rfl rfl dX3_requireWord_2 ?_
  refine jr_iconst (pc := 5) F dX3_requireWord_5 ?_
  obtain ⟨hx9, w1, w2⟩ := w
  refine jr_icmp_ne (pc := 6) (tgt := 13) F hx9 ⟨by decide, by decide⟩ dX3_requireWord_6 rfl (fun c9 => ?_) (fun c9 => ?_)
  · have w := w1 c9
    refine jr_iconst (pc := 13) F dX3_requireWord_13 ?_
    exact sM_requireWord_j14 F M S hs hQ _ _ w
  · have w := w2 c9
    refine jr_iconst (pc := 9) F dX3_requireWord_9 ?_
    refine jr_goto (pc := 10) (tgt := 14) F dX3_requireWord_10 rfl ?_
    exact sM_requireWord_j14 F M S hs hQ _ _ w

theorem cM_requireWord {G : jj_G} {l : Launch} (S : jj_GS G l) {h0 : jj_H} {m0 : Nat} (hs : jj_hs G h0 m0) {ms : jj_MS} {Q : jj_MS → Prop} (w : fM_requireWord Q ms) : jj_Ct G l yX3_requireWord (ws_ yX3_requireWord cX3_requireWord 1 (none)) 1 22 [.inr (.inr (.inl (some m0)))] (jj_mh h0 m0 ms) 0 (jm_Nv h0 m0 Q) jj_F0 := by
  refine jj_Ct.of S.1 (by decide +kernel) (Nat.le_of_ble_eq_true rfl) rfl (fun X hG hl F M O hnm => ?_)
  subst hG; subst hl
  exact sM_requireWord F M S hs (fun ms q => ⟨ms, rfl, rfl, q⟩) _ w
theorem hM_requireWord : yX3_requireWord.cls = RX3 ∧ yX3_requireWord.cls ≠ "java/lang/invoke/MethodHandle" ∧ yX3_requireWord.cls ≠ "java/lang/invoke/VarHandle" ∧ (parseMethodDescriptor yX3_requireWord.desc).map (fun d => d.parameters.length) = some 0 := by decide +kernel
/-! parseEdition()V -/
def fM_parseEdition_j145 (K63 : Int → jj_MS → Prop) (x3 : Int) (Q : jj_MS → Prop) (ms : jj_MS) : Prop :=
  fM_advance (fun ms1 =>
  fM_isFine (fun r4 ms3 =>
  jj_r r4 ∧ (r4 = 0 → (
    K63 0 ms3)) ∧
  (¬ r4 = 0 → (
    jj_r (ms3.1 37) ∧ ((ms3.1 37) = 2 → (
      K63 1 ms3)) ∧
    (¬ (ms3.1 37) = 2 → (
      jj_r (ms3.1 37) ∧ (¬ (ms3.1 37) = 5 → (
        K63 0 ms3)) ∧
      ((ms3.1 37) = 5 → (
        K63 1 ms3))))))) ms1) ms

def fM_parseEdition_j123 (K63 : Int → jj_MS → Prop) (x3 : Int) (x5 : Int) (y1 : Int) (Q : jj_MS → Prop) (ms : jj_MS) : Prop :=
  fM_require y1 4 (fun ms5 =>
  fM_isFine (fun r8 ms7 =>
  jj_r r8 ∧ (r8 = 0 → (
    fM_parseEdition_j145 K63 x3 Q ms7)) ∧
  (¬ r8 = 0 → (
    fM_appendWord x3 (ms7.1 42) x5 (fun ms9 =>
    fM_parseEdition_j145 K63 x3 Q ms9) ms7))) ms5) ms

def fM_parseEdition_j103 (K63 : Int → jj_MS → Prop) (x3 : Int) (x5 : Int) (Q : jj_MS → Prop) (ms : jj_MS) : Prop :=
  fM_requireWord (fun ms11 =>
  fM_sizeOf x3 (fun r14 ms13 =>
  jj_r r14 ∧ (120 ≤ r14 → (
    fM_parseEdition_j123 K63 x3 x5 0 Q ms13)) ∧
  (¬ 120 ≤ r14 → (
    fM_parseEdition_j123 K63 x3 x5 1 Q ms13))) ms11) ms

def fM_parseEdition_j89 (K63 : Int → jj_MS → Prop) (x3 : Int) (y0 : Int) (Q : jj_MS → Prop) (ms : jj_MS) : Prop :=
  jj_r (ms.1 37) ∧ (¬ (ms.1 37) = 5 → (
    fM_parseEdition_j103 K63 x3 y0 Q ms)) ∧
  ((ms.1 37) = 5 → (
    fM_advance (fun ms15 =>
    fM_parseEdition_j103 K63 x3 y0 Q ms15) ms))

def fM_parseEdition_j84 (K63 : Int → jj_MS → Prop) (x3 : Int) (Q : jj_MS → Prop) (ms : jj_MS) : Prop :=
  fM_parseEdition_j89 K63 x3 1 Q ms

def fM_parseEdition_l63 (x3 : Int) (Q : jj_MS → Prop) : Nat → Int → jj_MS → Prop
  | 0, _, _ => False
  | n + 1, x4, ms =>
  jj_r x4 ∧ (x4 = 0 → (
    Q ms)) ∧
  (¬ x4 = 0 → (
    jj_r (ms.1 37) ∧ ((ms.1 37) = 5 → (
      fM_parseEdition_j84 (fM_parseEdition_l63 x3 Q n) x3 Q ms)) ∧
    (¬ (ms.1 37) = 5 → (
      fM_sizeOf x3 (fun r18 ms17 =>
      jj_r r18 ∧ (¬ r18 = 0 → (
        fM_parseEdition_j89 (fM_parseEdition_l63 x3 Q n) x3 0 Q ms17)) ∧
      (r18 = 0 → (
        fM_parseEdition_j84 (fM_parseEdition_l63 x3 Q n) x3 Q ms17))) ms))))

def fM_parseEdition_j56 (y0 : Int) (Q : jj_MS → Prop) (ms : jj_MS) : Prop :=
  fM_isFine (fun r20 ms19 =>
  ∃ n9, fM_parseEdition_l63 y0 Q n9 r20 ms19) ms

def fM_parseEdition_j14 (y1 : Int) (Q : jj_MS → Prop) (ms : jj_MS) : Prop :=
  fM_require y1 4 (fun ms21 =>
  fM_advance (fun ms23 =>
  fM_parseNumber 8 60 (fun r26 ms25 =>
  fM_parseNumber 1 40 (fun r28 ms27 =>
  fM_isFine (fun r30 ms29 =>
  jj_r r30 ∧ (r30 = 0 → (
    fM_parseEdition_j56 0 Q ms29)) ∧
  (¬ r30 = 0 → (
    fM_beginEdition r26 r28 (fun r32 ms31 =>
    fM_parseEdition_j56 r32 Q ms31) ms29))) ms27) ms25) ms23) ms21) ms

def fM_parseEdition (Q : jj_MS → Prop) (ms : jj_MS) : Prop :=
  fM_editions (fun r34 ms33 =>
  jj_r r34 ∧ (3 ≤ r34 → (
    fM_parseEdition_j14 0 Q ms33)) ∧
  (¬ 3 ≤ r34 → (
    fM_parseEdition_j14 1 Q ms33))) ms

theorem sM_parseEdition_j145 {X : jj_X} {h0 : jj_H} {m0 k : Nat} {N : Option jj_AV → jj_H → Prop} {XN : String → Nat → jj_H → Prop} (F : jj_F X RX3 cX3_parseEdition 6) (M : jj_M X (none) 5 106 N XN) (S : jj_GS X.1 X.2.2.1) (hs : jj_hs X.1 h0 m0) {Q : jj_MS → Prop} (hQ : ∀ ms, Q ms → N none (jj_mh h0 m0 ms)) (x3 : Int) {K63 : Int → jj_MS → Prop} (hK63 : ∀ (z4 : Int) (ms : jj_MS), K63 z4 ms → jj_J X 6 63 [(0, .inr (.inr (.inl (some m0)))), (3, .inl x3), (4, .inl z4)] [] (jj_mh h0 m0 ms) k) : ∀ (ms : jj_MS), fM_parseEdition_j145 K63 x3 Q ms → jj_J X 6 145 [(0, .inr (.inr (.inl (some m0)))), (3, .inl x3)] [] (jj_mh h0 m0 ms) k := by
  intro  ms w
  unfold fM_parseEdition_j145 at w
  refine jr_aload_n (pc := 145) F (j := 0) dX3_parseEdition_145 rfl ?_
  refine jr_callV (pc := 146) (As := []) F M (lw_V q3696 q3698 qs107 q143 q3699) dX3_parseEdition_146 hM_advance rfl (Nat.le_of_ble_eq_true rfl) (Nat.le_of_ble_eq_true rfl) (Nat.le_of_ble_eq_true rfl) (jj_set_self _ _ _) rfl rfl (Nat.zero_le _) (cM_advance S hs w) (fun v9 h9 q9 => ?_) (fun _ _ _ q9 => q9.elim)
  obtain ⟨ms1, rfl, rfl, w⟩ := q9
  refine jr_aload_n (pc := 149) F (j := 0) dX3_parseEdition_149 rfl ?_
  refine jr_callV (pc := 150) (As := []) F M (lw_V q3675 q3677 qs102 q143 q3678) dX3_parseEdition_150 hM_isFine rfl (Nat.le_of_ble_eq_true rfl) (Nat.le_of_ble_eq_true rfl) (Nat.le_of_ble_eq_true rfl) (jj_set_self _ _ _) rfl rfl (Nat.zero_le _) (cM_isFine S hs w) (fun v9 h9 q9 => ?_) (fun _ _ _ q9 => q9.elim)
  obtain ⟨r4, ms3, rfl, rfl, w⟩ := q9
  obtain ⟨hx9, w1, w2⟩ := w
  refine jr_if_eq (pc := 153) (tgt := 176) F hx9 dX3_parseEdition_153 rfl (fun c9 => ?_) (fun c9 => ?_)
  · have w := w1 c9
    refine jr_iconst (pc := 176) F dX3_parseEdition_176 ?_
    refine jr_istore (pc := 177) F (vs' := [(4, .inl _), (0, .inr (.inr (.inl _))), (3, .inl _)]) dX3_parseEdition_177 (Nat.le_of_ble_eq_true rfl) rfl ?_
    refine jr_goto (pc := 179) (tgt := 63) F dX3_parseEdition_179 rfl ?_
    refine jj_J.sub [1, 2, 0] rfl ?_
    exact hK63 _ _ w
  · have w := w2 c9
    refine jr_aload_n (pc := 156) F (j := 0) dX3_parseEdition_156 rfl ?_
    refine jm_get (pc := 157) (f := 37) (v := .inl _) F (Nat.le_of_ble_eq_true rfl) q3167 rfl rfl dX3_parseEdition_157 ?_
    refine jr_iconst (pc := 160) F dX3_parseEdition_160 ?_
    obtain ⟨hx9, w1, w2⟩ := w
    refine jr_icmp_eq (pc := 161) (tgt := 172) F hx9 ⟨by decide, by decide⟩ dX3_parseEdition_161 rfl (fun c9 => ?_) (fun c9 => ?_)
    · have w := w1 c9
      refine jr_iconst (pc := 172) F dX3_parseEdition_172 ?_
      refine jr_goto (pc := 173) (tgt := 177) F dX3_parseEdition_173 rfl ?_
      refine jr_istore (pc := 177) F (vs' := [(4, .inl _), (0, .inr (.inr (.inl _))), (3, .inl _)]) dX3_parseEdition_177 (Nat.le_of_ble_eq_true rfl) rfl ?_
      refine jr_goto (pc := 179) (tgt := 63) F dX3_parseEdition_179 rfl ?_
      refine jj_J.sub [1, 2, 0] rfl ?_
      exact hK63 _ _ w
    · have w := w2 c9
      refine jr_aload_n (pc := 164) F (j := 0) dX3_parseEdition_164 rfl ?_
      refine jm_get (pc := 165) (f := 37) (v := .inl _) F (Nat.le_of_ble_eq_true rfl) q3167 rfl rfl dX3_parseEdition_165 ?_
      refine jr_iconst (pc := 168) F dX3_parseEdition_168 ?_
      obtain ⟨hx9, w1, w2⟩ := w
      refine jr_icmp_ne (pc := 169) (tgt := 176) F hx9 ⟨by decide, by decide⟩ dX3_parseEdition_169 rfl (fun c9 => ?_) (fun c9 => ?_)
      · have w := w1 c9
        refine jr_iconst (pc := 176) F dX3_parseEdition_176 ?_
        refine jr_istore (pc := 177) F (vs' := [(4, .inl _), (0, .inr (.inr (.inl _))), (3, .inl _)]) dX3_parseEdition_177 (Nat.le_of_ble_eq_true rfl) rfl ?_
        refine jr_goto (pc := 179) (tgt := 63) F dX3_parseEdition_179 rfl ?_
        refine jj_J.sub [1, 2, 0] rfl ?_
        exact hK63 _ _ w
      · have w := w2 c9
        refine jr_iconst (pc := 172) F dX3_parseEdition_172 ?_
        refine jr_goto (pc := 173) (tgt := 177) F dX3_parseEdition_173 rfl ?_
        refine jr_istore (pc := 177) F (vs' := [(4, .inl _), (0, .inr (.inr (.inl _))), (3, .inl _)]) dX3_parseEdition_177 (Nat.le_of_ble_eq_true rfl) rfl ?_
        refine jr_goto (pc := 179) (tgt := 63) F dX3_parseEdition_179 rfl ?_
        refine jj_J.sub [1, 2, 0] rfl ?_
        exact hK63 _ _ w

theorem sM_parseEdition_j123 {X : jj_X} {h0 : jj_H} {m0 k : Nat} {N : Option jj_AV → jj_H → Prop} {XN : String → Nat → jj_H → Prop} (F : jj_F X RX3 cX3_parseEdition 6) (M : jj_M X (none) 5 106 N XN) (S : jj_GS X.1 X.2.2.1) (hs : jj_hs X.1 h0 m0) {Q : jj_MS → Prop} (hQ : ∀ ms, Q ms → N none (jj_mh h0 m0 ms)) (x3 : Int) {K63 : Int → jj_MS → Prop} (hK63 : ∀ (z4 : Int) (ms : jj_MS), K63 z4 ms → jj_J X 6 63 [(0, .inr (.inr (.inl (some m0)))), (3, .inl x3), (4, .inl z4)] [] (jj_mh h0 m0 ms) k) : ∀ (x5 : Int) (y1 : Int) (ms : jj_MS), fM_parseEdition_j123 K63 x3 x5 y1 Q ms → jj_J X 6 123 [(0, .inr (.inr (.inl (some m0)))), (3, .inl x3), (5, .inl x5)] [.inl y1, .inr (.inr (.inl (some m0)))] (jj_mh h0 m0 ms) k := by
  intro x5 y1 ms w
  unfold fM_parseEdition_j123 at w
  refine jr_iconst (pc := 123) F dX3_parseEdition_123 ?_
  refine jr_callV (pc := 124) (As := [_, _]) F M (lw_V q3692 q3694 qs106 q143 q3695) dX3_parseEdition_124 hM_require rfl (Nat.le_of_ble_eq_true rfl) (Nat.le_of_ble_eq_true rfl) (Nat.le_of_ble_eq_true rfl) (jj_set_self _ _ _) rfl rfl (Nat.zero_le _) (cM_require S hs w) (fun v9 h9 q9 => ?_) (fun _ _ _ q9 => q9.elim)
  obtain ⟨ms5, rfl, rfl, w⟩ := q9
  refine jr_aload_n (pc := 127) F (j := 0) dX3_parseEdition_127 rfl ?_
  refine jr_callV (pc := 128) (As := []) F M (lw_V q3675 q3677 qs102 q143 q3678) dX3_parseEdition_128 hM_isFine rfl (Nat.le_of_ble_eq_true rfl) (Nat.le_of_ble_eq_true rfl) (Nat.le_of_ble_eq_true rfl) (jj_set_self _ _ _) rfl rfl (Nat.zero_le _) (cM_isFine S hs w) (fun v9 h9 q9 => ?_) (fun _ _ _ q9 => q9.elim)
  obtain ⟨r8, ms7, rfl, rfl, w⟩ := q9
  obtain ⟨hx9, w1, w2⟩ := w
  refine jr_if_eq (pc := 131) (tgt := 145) F hx9 dX3_parseEdition_131 rfl (fun c9 => ?_) (fun c9 => ?_)
  · have w := w1 c9
    refine jj_J.sub [0, 1] rfl ?_
    exact sM_parseEdition_j145 F M S hs hQ _ hK63 _ w
  · have w := w2 c9
    refine jr_aload_n (pc := 134) F (j := 0) dX3_parseEdition_134 rfl ?_
    refine jr_iload_n (pc := 135) F (j := 1) dX3_parseEdition_135 rfl ?_
    refine jr_aload_n (pc := 136) F (j := 0) dX3_parseEdition_136 rfl ?_
    refine jm_get (pc := 137) (f := 42) (v := .inr (.inl _)) F (Nat.le_of_ble_eq_true rfl) q3172 rfl rfl dX3_parseEdition_137 ?_
    refine jr_iload (pc := 140) F (j := 2) dX3_parseEdition_140 rfl ?_
    refine jr_callV (pc := 142) (As := [_, _, _]) F M (lw_V q3410 q3412 qs71 q143 q3413) dX3_parseEdition_142 hM_appendWord rfl (Nat.le_of_ble_eq_true rfl) (Nat.le_of_ble_eq_true rfl) (Nat.le_of_ble_eq_true rfl) (jj_set_self _ _ _) rfl rfl (Nat.zero_le _) (cM_appendWord S hs w) (fun v9 h9 q9 => ?_) (fun _ _ _ q9 => q9.elim)
    obtain ⟨ms9, rfl, rfl, w⟩ := q9
    refine jj_J.sub [0, 1] rfl ?_
    exact sM_parseEdition_j145 F M S hs hQ _ hK63 _ w

theorem sM_parseEdition_j103 {X : jj_X} {h0 : jj_H} {m0 k : Nat} {N : Option jj_AV → jj_H → Prop} {XN : String → Nat → jj_H → Prop} (F : jj_F X RX3 cX3_parseEdition 6) (M : jj_M X (none) 5 106 N XN) (S : jj_GS X.1 X.2.2.1) (hs : jj_hs X.1 h0 m0) {Q : jj_MS → Prop} (hQ : ∀ ms, Q ms → N none (jj_mh h0 m0 ms)) (x3 : Int) {K63 : Int → jj_MS → Prop} (hK63 : ∀ (z4 : Int) (ms : jj_MS), K63 z4 ms → jj_J X 6 63 [(0, .inr (.inr (.inl (some m0)))), (3, .inl x3), (4, .inl z4)] [] (jj_mh h0 m0 ms) k) : ∀ (x5 : Int) (ms : jj_MS), fM_parseEdition_j103 K63 x3 x5 Q ms → jj_J X 6 103 [(0, .inr (.inr (.inl (some m0)))), (3, .inl x3), (5, .inl x5)] [] (jj_mh h0 m0 ms) k := by
  intro x5 ms w
  unfold fM_parseEdition_j103 at w
  refine jr_aload_n (pc := 103) F (j := 0) dX3_parseEdition_103 rfl ?_
  refine jr_callV (pc := 104) (As := []) F M (lw_V q3704 q3706 qs109 q143 q3707) dX3_parseEdition_104 hM_requireWord rfl (Nat.le_of_ble_eq_true rfl) (Nat.le_of_ble_eq_true rfl) (Nat.le_of_ble_eq_true rfl) (jj_set_self _ _ _) rfl rfl (Nat.zero_le _) (cM_requireWord S hs w) (fun v9 h9 q9 => ?_) (fun _ _ _ q9 => q9.elim)
  obtain ⟨ms11, rfl, rfl, w⟩ := q9
  refine jr_aload_n (pc := 107) F (j := 0) dX3_parseEdition_107 rfl ?_
  refine jr_aload_n (pc := 108) F (j := 0) dX3_parseEdition_108 rfl ?_
  refine jr_iload_n (pc := 109) F (j := 1) dX3_parseEdition_109 rfl ?_
  refine jr_callV (pc := 110) (As := [_]) F M (lw_V q3307 q3309 qs51 q143 q3310) dX3_parseEdition_110 hM_sizeOf rfl (Nat.le_of_ble_eq_true rfl) (Nat.le_of_ble_eq_true rfl) (Nat.le_of_ble_eq_true rfl) (jj_set_self _ _ _) rfl rfl (Nat.zero_le _) (cM_sizeOf S hs w) (fun v9 h9 q9 => ?_) (fun _ _ _ q9 => q9.elim)
  obtain ⟨r14, ms13, rfl, rfl, w⟩ := q9
  refine jr_bipush (pc := 113) F dX3_parseEdition_113 (by decide +kernel) ?_
  obtain ⟨hx9, w1, w2⟩ := w
  refine jr_icmp_ge (pc := 115) (tgt := 122) F hx9 ⟨by decide, by decide⟩ dX3_parseEdition_115 rfl (fun c9 => ?_) (fun c9 => ?_)
  · have w := w1 c9
    refine jr_iconst (pc := 122) F dX3_parseEdition_122 ?_
    exact sM_parseEdition_j123 F M S hs hQ _ hK63 _ _ _ w
  · have w := w2 c9
    refine jr_iconst (pc := 118) F dX3_parseEdition_118 ?_
    refine jr_goto (pc := 119) (tgt := 123) F dX3_parseEdition_119 rfl ?_
    exact sM_parseEdition_j123 F M S hs hQ _ hK63 _ _ _ w

theorem sM_parseEdition_j89 {X : jj_X} {h0 : jj_H} {m0 k : Nat} {N : Option jj_AV → jj_H → Prop} {XN : String → Nat → jj_H → Prop} (F : jj_F X RX3 cX3_parseEdition 6) (M : jj_M X (none) 5 106 N XN) (S : jj_GS X.1 X.2.2.1) (hs : jj_hs X.1 h0 m0) {Q : jj_MS → Prop} (hQ : ∀ ms, Q ms → N none (jj_mh h0 m0 ms)) (x3 : Int) {K63 : Int → jj_MS → Prop} (hK63 : ∀ (z4 : Int) (ms : jj_MS), K63 z4 ms → jj_J X 6 63 [(0, .inr (.inr (.inl (some m0)))), (3, .inl x3), (4, .inl z4)] [] (jj_mh h0 m0 ms) k) : ∀ (y0 : Int) (ms : jj_MS), fM_parseEdition_j89 K63 x3 y0 Q ms → jj_J X 6 89 [(0, .inr (.inr (.inl (some m0)))), (3, .inl x3)] [.inl y0] (jj_mh h0 m0 ms) k := by
  intro y0 ms w
  unfold fM_parseEdition_j89 at w
  refine jr_istore (pc := 89) F (vs' := [(5, .inl _), (0, .inr (.inr (.inl _))), (3, .inl _)]) dX3_parseEdition_89 (Nat.le_of_ble_eq_true rfl) rfl ?_
  refine jr_aload_n (pc := 91) F (j := 1) dX3_parseEdition_91 rfl ?_
  refine jm_get (pc := 92) (f := 37) (v := .inl _) F (Nat.le_of_ble_eq_true rfl) q3167 rfl rfl dX3_parseEdition_92 ?_
  refine jr_iconst (pc := 95) F dX3_parseEdition_95 ?_
  obtain ⟨hx9, w1, w2⟩ := w
  refine jr_icmp_ne (pc := 96) (tgt := 103) F hx9 ⟨by decide, by decide⟩ dX3_parseEdition_96 rfl (fun c9 => ?_) (fun c9 => ?_)
  · have w := w1 c9
    refine jj_J.sub [1, 2, 0] rfl ?_
    exact sM_parseEdition_j103 F M S hs hQ _ hK63 _ _ w
  · have w := w2 c9
    refine jr_aload_n (pc := 99) F (j := 1) dX3_parseEdition_99 rfl ?_
    refine jr_callV (pc := 100) (As := []) F M (lw_V q3696 q3698 qs107 q143 q3699) dX3_parseEdition_100 hM_advance rfl (Nat.le_of_ble_eq_true rfl) (Nat.le_of_ble_eq_true rfl) (Nat.le_of_ble_eq_true rfl) (jj_set_self _ _ _) rfl rfl (Nat.zero_le _) (cM_advance S hs w) (fun v9 h9 q9 => ?_) (fun _ _ _ q9 => q9.elim)
    obtain ⟨ms15, rfl, rfl, w⟩ := q9
    refine jj_J.sub [1, 2, 0] rfl ?_
    exact sM_parseEdition_j103 F M S hs hQ _ hK63 _ _ w

theorem sM_parseEdition_j84 {X : jj_X} {h0 : jj_H} {m0 k : Nat} {N : Option jj_AV → jj_H → Prop} {XN : String → Nat → jj_H → Prop} (F : jj_F X RX3 cX3_parseEdition 6) (M : jj_M X (none) 5 106 N XN) (S : jj_GS X.1 X.2.2.1) (hs : jj_hs X.1 h0 m0) {Q : jj_MS → Prop} (hQ : ∀ ms, Q ms → N none (jj_mh h0 m0 ms)) (x3 : Int) {K63 : Int → jj_MS → Prop} (hK63 : ∀ (z4 : Int) (ms : jj_MS), K63 z4 ms → jj_J X 6 63 [(0, .inr (.inr (.inl (some m0)))), (3, .inl x3), (4, .inl z4)] [] (jj_mh h0 m0 ms) k) : ∀ (ms : jj_MS), fM_parseEdition_j84 K63 x3 Q ms → jj_J X 6 84 [(0, .inr (.inr (.inl (some m0)))), (3, .inl x3)] [] (jj_mh h0 m0 ms) k := by
  intro  ms w
  unfold fM_parseEdition_j84 at w
  refine jr_iconst (pc := 84) F dX3_parseEdition_84 ?_
  refine jr_goto (pc := 85) (tgt := 89) F dX3_parseEdition_85 rfl ?_
  exact sM_parseEdition_j89 F M S hs hQ _ hK63 _ _ w

theorem sM_parseEdition_l63 {X : jj_X} {h0 : jj_H} {m0 k : Nat} {N : Option jj_AV → jj_H → Prop} {XN : String → Nat → jj_H → Prop} (F : jj_F X RX3 cX3_parseEdition 6) (M : jj_M X (none) 5 106 N XN) (S : jj_GS X.1 X.2.2.1) (hs : jj_hs X.1 h0 m0) {Q : jj_MS → Prop} (hQ : ∀ ms, Q ms → N none (jj_mh h0 m0 ms)) (x3 : Int) : ∀ (n : Nat) (x4 : Int) (ms : jj_MS), fM_parseEdition_l63 x3 Q n x4 ms → jj_J X 6 63 [(0, .inr (.inr (.inl (some m0)))), (3, .inl x3), (4, .inl x4)] [] (jj_mh h0 m0 ms) k := by
  intro n
  induction n with
  | zero =>
    intro x4 ms w
    exact (show False from w).elim
  | succ n ih =>
    intro x4 ms w
    rw [fM_parseEdition_l63] at w
    refine jr_iload (pc := 63) F (j := 2) dX3_parseEdition_63 rfl ?_
    obtain ⟨hx9, w1, w2⟩ := w
    refine jr_if_eq (pc := 65) (tgt := 182) F hx9 dX3_parseEdition_65 rfl (fun c9 => ?_) (fun c9 => ?_)
    · have w := w1 c9
      exact jr_vret (pc := 182) F M dX3_parseEdition_182 (hQ _ w)
    · have w := w2 c9
      refine jr_aload_n (pc := 68) F (j := 0) dX3_parseEdition_68 rfl ?_
      refine jm_get (pc := 69) (f := 37) (v := .inl _) F (Nat.le_of_ble_eq_true rfl) q3167 rfl rfl dX3_parseEdition_69 ?_
      refine jr_iconst (pc := 72) F dX3_parseEdition_72 ?_
      obtain ⟨hx9, w1, w2⟩ := w
      refine jr_icmp_eq (pc := 73) (tgt := 84) F hx9 ⟨by decide, by decide⟩ dX3_parseEdition_73 rfl (fun c9 => ?_) (fun c9 => ?_)
      · have w := w1 c9
        refine jj_J.sub [0, 1] rfl ?_
        exact sM_parseEdition_j84 F M S hs hQ _ ih _ w
      · have w := w2 c9
        refine jr_aload_n (pc := 76) F (j := 0) dX3_parseEdition_76 rfl ?_
        refine jr_iload_n (pc := 77) F (j := 1) dX3_parseEdition_77 rfl ?_
        refine jr_callV (pc := 78) (As := [_]) F M (lw_V q3307 q3309 qs51 q143 q3310) dX3_parseEdition_78 hM_sizeOf rfl (Nat.le_of_ble_eq_true rfl) (Nat.le_of_ble_eq_true rfl) (Nat.le_of_ble_eq_true rfl) (jj_set_self _ _ _) rfl rfl (Nat.zero_le _) (cM_sizeOf S hs w) (fun v9 h9 q9 => ?_) (fun _ _ _ q9 => q9.elim)
        obtain ⟨r18, ms17, rfl, rfl, w⟩ := q9
        obtain ⟨hx9, w1, w2⟩ := w
        refine jr_if_ne (pc := 81) (tgt := 88) F hx9 dX3_parseEdition_81 rfl (fun c9 => ?_) (fun c9 => ?_)
        · have w := w1 c9
          refine jr_iconst (pc := 88) F dX3_parseEdition_88 ?_
          refine jj_J.sub [0, 1] rfl ?_
          exact sM_parseEdition_j89 F M S hs hQ _ ih _ _ w
        · have w := w2 c9
          refine jj_J.sub [0, 1] rfl ?_
          exact sM_parseEdition_j84 F M S hs hQ _ ih _ w

theorem sM_parseEdition_j56 {X : jj_X} {h0 : jj_H} {m0 k : Nat} {N : Option jj_AV → jj_H → Prop} {XN : String → Nat → jj_H → Prop} (F : jj_F X RX3 cX3_parseEdition 6) (M : jj_M X (none) 5 106 N XN) (S : jj_GS X.1 X.2.2.1) (hs : jj_hs X.1 h0 m0) {Q : jj_MS → Prop} (hQ : ∀ ms, Q ms → N none (jj_mh h0 m0 ms)) : ∀ (y0 : Int) (ms : jj_MS), fM_parseEdition_j56 y0 Q ms → jj_J X 6 56 [(0, .inr (.inr (.inl (some m0))))] [.inl y0] (jj_mh h0 m0 ms) k := by
  intro y0 ms w
  unfold fM_parseEdition_j56 at w
  refine jr_istore_n (pc := 56) F (vs' := [(3, .inl _), (0, .inr (.inr (.inl _)))]) dX3_parseEdition_56 (Nat.le_of_ble_eq_true rfl) rfl ?_
  refine jr_aload_n (pc := 57) F (j := 1) dX3_parseEdition_57 rfl ?_
  refine jr_callV (pc := 58) (As := []) F M (lw_V q3675 q3677 qs102 q143 q3678) dX3_parseEdition_58 hM_isFine rfl (Nat.le_of_ble_eq_true rfl) (Nat.le_of_ble_eq_true rfl) (Nat.le_of_ble_eq_true rfl) (jj_set_self _ _ _) rfl rfl (Nat.zero_le _) (cM_isFine S hs w) (fun v9 h9 q9 => ?_) (fun _ _ _ q9 => q9.elim)
  obtain ⟨r20, ms19, rfl, rfl, w⟩ := q9
  refine jr_istore (pc := 61) F (vs' := [(4, .inl _), (3, .inl _), (0, .inr (.inr (.inl _)))]) dX3_parseEdition_61 (Nat.le_of_ble_eq_true rfl) rfl ?_
  refine jj_J.sub [2, 1, 0] rfl ?_
  obtain ⟨n9, w⟩ := w
  exact sM_parseEdition_l63 F M S hs hQ _ n9 _ _ w

theorem sM_parseEdition_j14 {X : jj_X} {h0 : jj_H} {m0 k : Nat} {N : Option jj_AV → jj_H → Prop} {XN : String → Nat → jj_H → Prop} (F : jj_F X RX3 cX3_parseEdition 6) (M : jj_M X (none) 5 106 N XN) (S : jj_GS X.1 X.2.2.1) (hs : jj_hs X.1 h0 m0) {Q : jj_MS → Prop} (hQ : ∀ ms, Q ms → N none (jj_mh h0 m0 ms)) : ∀ (y1 : Int) (ms : jj_MS), fM_parseEdition_j14 y1 Q ms → jj_J X 6 14 [(0, .inr (.inr (.inl (some m0))))] [.inl y1, .inr (.inr (.inl (some m0)))] (jj_mh h0 m0 ms) k := by
  intro y1 ms w
  unfold fM_parseEdition_j14 at w
  refine jr_iconst (pc := 14) F dX3_parseEdition_14 ?_
  refine jr_callV (pc := 15) (As := [_, _]) F M (lw_V q3692 q3694 qs106 q143 q3695) dX3_parseEdition_15 hM_require rfl (Nat.le_of_ble_eq_true rfl) (Nat.le_of_ble_eq_true rfl) (Nat.le_of_ble_eq_true rfl) (jj_set_self _ _ _) rfl rfl (Nat.zero_le _) (cM_require S hs w) (fun v9 h9 q9 => ?_) (fun _ _ _ q9 => q9.elim)
  obtain ⟨ms21, rfl, rfl, w⟩ := q9
  refine jr_aload_n (pc := 18) F (j := 0) dX3_parseEdition_18 rfl ?_
  refine jr_callV (pc := 19) (As := []) F M (lw_V q3696 q3698 qs107 q143 q3699) dX3_parseEdition_19 hM_advance rfl (Nat.le_of_ble_eq_true rfl) (Nat.le_of_ble_eq_true rfl) (Nat.le_of_ble_eq_true rfl) (jj_set_self _ _ _) rfl rfl (Nat.zero_le _) (cM_advance S hs w) (fun v9 h9 q9 => ?_) (fun _ _ _ q9 => q9.elim)
  obtain ⟨ms23, rfl, rfl, w⟩ := q9
  refine jr_aload_n (pc := 22) F (j := 0) dX3_parseEdition_22 rfl ?_
  refine jr_bipush (pc := 23) F dX3_parseEdition_23 (by decide +kernel) ?_
  refine jr_bipush (pc := 25) F dX3_parseEdition_25 (by decide +kernel) ?_
  refine jr_callV (pc := 27) (As := [_, _]) F M (lw_V q3700 q3702 qs108 q143 q3703) dX3_parseEdition_27 hM_parseNumber rfl (Nat.le_of_ble_eq_true rfl) (Nat.le_of_ble_eq_true rfl) (Nat.le_of_ble_eq_true rfl) (jj_set_self _ _ _) rfl rfl (Nat.zero_le _) (cM_parseNumber S hs w) (fun v9 h9 q9 => ?_) (fun _ _ _ q9 => q9.elim)
  obtain ⟨r26, ms25, rfl, rfl, w⟩ := q9
  refine jr_istore_n (pc := 30) F (vs' := [(1, .inl _), (0, .inr (.inr (.inl _)))]) dX3_parseEdition_30 (Nat.le_of_ble_eq_true rfl) rfl ?_
  refine jr_aload_n (pc := 31) F (j := 1) dX3_parseEdition_31 rfl ?_
  refine jr_iconst (pc := 32) F dX3_parseEdition_32 ?_
  refine jr_bipush (pc := 33) F dX3_parseEdition_33 (by decide +kernel) ?_
  refine jr_callV (pc := 35) (As := [_, _]) F M (lw_V q3700 q3702 qs108 q143 q3703) dX3_parseEdition_35 hM_parseNumber rfl (Nat.le_of_ble_eq_true rfl) (Nat.le_of_ble_eq_true rfl) (Nat.le_of_ble_eq_true rfl) (jj_set_self _ _ _) rfl rfl (Nat.zero_le _) (cM_parseNumber S hs w) (fun v9 h9 q9 => ?_) (fun _ _ _ q9 => q9.elim)
  obtain ⟨r28, ms27, rfl, rfl, w⟩ := q9
  refine jr_istore_n (pc := 38) F (vs' := [(2, .inl _), (1, .inl _), (0, .inr (.inr (.inl _)))]) dX3_parseEdition_38 (Nat.le_of_ble_eq_true rfl) rfl ?_
  refine jr_aload_n (pc := 39) F (j := 2) dX3_parseEdition_39 rfl ?_
  refine jr_callV (pc := 40) (As := []) F M (lw_V q3675 q3677 qs102 q143 q3678) dX3_parseEdition_40 hM_isFine rfl (Nat.le_of_ble_eq_true rfl) (Nat.le_of_ble_eq_true rfl) (Nat.le_of_ble_eq_true rfl) (jj_set_self _ _ _) rfl rfl (Nat.zero_le _) (cM_isFine S hs w) (fun v9 h9 q9 => ?_) (fun _ _ _ q9 => q9.elim)
  obtain ⟨r30, ms29, rfl, rfl, w⟩ := q9
  obtain ⟨hx9, w1, w2⟩ := w
  refine jr_if_eq (pc := 43) (tgt := 55) F hx9 dX3_parseEdition_43 rfl (fun c9 => ?_) (fun c9 => ?_)
  · have w := w1 c9
    refine jr_iconst (pc := 55) F dX3_parseEdition_55 ?_
    refine jj_J.sub [2] rfl ?_
    exact sM_parseEdition_j56 F M S hs hQ _ _ w
  · have w := w2 c9
    refine jr_aload_n (pc := 46) F (j := 2) dX3_parseEdition_46 rfl ?_
    refine jr_iload_n (pc := 47) F (j := 1) dX3_parseEdition_47 rfl ?_
    refine jr_iload_n (pc := 48) F (j := 0) dX3_parseEdition_48 rfl ?_
    refine jr_callV (pc := 49) (As := [_, _]) F M (lw_V q3406 q3408 qs70 q143 q3409) dX3_parseEdition_49 hM_beginEdition rfl (Nat.le_of_ble_eq_true rfl) (Nat.le_of_ble_eq_true rfl) (Nat.le_of_ble_eq_true rfl) (jj_set_self _ _ _) rfl rfl (Nat.zero_le _) (cM_beginEdition S hs w) (fun v9 h9 q9 => ?_) (fun _ _ _ q9 => q9.elim)
    obtain ⟨r32, ms31, rfl, rfl, w⟩ := q9
    refine jr_goto (pc := 52) (tgt := 56) F dX3_parseEdition_52 rfl ?_
    refine jj_J.sub [2] rfl ?_
    exact sM_parseEdition_j56 F M S hs hQ _ _ w

theorem sM_parseEdition {X : jj_X} {h0 : jj_H} {m0 k : Nat} {N : Option jj_AV → jj_H → Prop} {XN : String → Nat → jj_H → Prop} (F : jj_F X RX3 cX3_parseEdition 6) (M : jj_M X (none) 5 106 N XN) (S : jj_GS X.1 X.2.2.1) (hs : jj_hs X.1 h0 m0) {Q : jj_MS → Prop} (hQ : ∀ ms, Q ms → N none (jj_mh h0 m0 ms)) : ∀ (ms : jj_MS), fM_parseEdition Q ms → jj_J X 6 0 [(0, .inr (.inr (.inl (some m0))))] [] (jj_mh h0 m0 ms) k := by
  intro  ms w
  unfold fM_parseEdition at w
  refine jr_aload_n (pc := 0) F (j := 0) dX3_parseEdition_0 rfl ?_
  refine jr_aload_n (pc := 1) F (j := 0) dX3_parseEdition_1 rfl ?_
  refine jr_callV (pc := 2) (As := []) F M (lw_V q3299 q3301 qs49 q143 q3302) dX3_parseEdition_2 hM_editions rfl (Nat.le_of_ble_eq_true rfl) (Nat.le_of_ble_eq_true rfl) (Nat.le_of_ble_eq_true rfl) (jj_set_self _ _ _) rfl rfl (Nat.zero_le _) (cM_editions S hs w) (fun v9 h9 q9 => ?_) (fun _ _ _ q9 => q9.elim)
  obtain ⟨r34, ms33, rfl, rfl, w⟩ := q9
  refine jr_iconst (pc := 5) F dX3_parseEdition_5 ?_
  obtain ⟨hx9, w1, w2⟩ := w
  refine jr_icmp_ge (pc := 6) (tgt := 13) F hx9 ⟨by decide, by decide⟩ dX3_parseEdition_6 rfl (fun c9 => ?_) (fun c9 => ?_)
  · have w := w1 c9
    refine jr_iconst (pc := 13) F dX3_parseEdition_13 ?_
    exact sM_parseEdition_j14 F M S hs hQ _ _ w
  · have w := w2 c9
    refine jr_iconst (pc := 9) F dX3_parseEdition_9 ?_
    refine jr_goto (pc := 10) (tgt := 14) F dX3_parseEdition_10 rfl ?_
    exact sM_parseEdition_j14 F M S hs hQ _ _ w

theorem cM_parseEdition {G : jj_G} {l : Launch} (S : jj_GS G l) {h0 : jj_H} {m0 : Nat} (hs : jj_hs G h0 m0) {ms : jj_MS} {Q : jj_MS → Prop} (w : fM_parseEdition Q ms) : jj_Ct G l yX3_parseEdition (ws_ yX3_parseEdition cX3_parseEdition 6 (none)) 5 106 [.inr (.inr (.inl (some m0)))] (jj_mh h0 m0 ms) 0 (jm_Nv h0 m0 Q) jj_F0 := by
  refine jj_Ct.of S.1 (by decide +kernel) (Nat.le_of_ble_eq_true rfl) rfl (fun X hG hl F M O hnm => ?_)
  subst hG; subst hl
  exact sM_parseEdition F M S hs (fun ms q => ⟨ms, rfl, rfl, q⟩) _ w
theorem hM_parseEdition : yX3_parseEdition.cls = RX3 ∧ yX3_parseEdition.cls ≠ "java/lang/invoke/MethodHandle" ∧ yX3_parseEdition.cls ≠ "java/lang/invoke/VarHandle" ∧ (parseMethodDescriptor yX3_parseEdition.desc).map (fun d => d.parameters.length) = some 0 := by decide +kernel
/-! parseKind()I -/
def fM_parseKind_j69 (x1 : Int) (y1 : Int) (Q : Int → jj_MS → Prop) (ms : jj_MS) : Prop :=
  fM_require y1 1 (fun ms1 =>
  fM_advance (fun ms3 =>
  Q x1 ms3) ms1) ms

def fM_parseKind_j57 (y0 : Int) (Q : Int → jj_MS → Prop) (ms : jj_MS) : Prop :=
  jj_r y0 ∧ (y0 = ((-1)) → (
    fM_parseKind_j69 y0 0 Q ms)) ∧
  (¬ y0 = ((-1)) → (
    fM_parseKind_j69 y0 1 Q ms))

def fM_parseKind (Q : Int → jj_MS → Prop) (ms : jj_MS) : Prop :=
  fM_isKey ((jj_sx 0)) (fun r6 ms5 =>
  jj_r r6 ∧ (r6 = 0 → (
    fM_isKey ((jj_sx 1)) (fun r8 ms7 =>
    jj_r r8 ∧ (r8 = 0 → (
      fM_isKey ((jj_sx 2)) (fun r10 ms9 =>
      jj_r r10 ∧ (r10 = 0 → (
        fM_isKey ((jj_sx 3)) (fun r12 ms11 =>
        jj_r r12 ∧ (r12 = 0 → (
          fM_parseKind_j57 ((-1)) Q ms11)) ∧
        (¬ r12 = 0 → (
          fM_parseKind_j57 3 Q ms11))) ms9)) ∧
      (¬ r10 = 0 → (
        fM_parseKind_j57 2 Q ms9))) ms7)) ∧
    (¬ r8 = 0 → (
      fM_parseKind_j57 1 Q ms7))) ms5)) ∧
  (¬ r6 = 0 → (
    fM_parseKind_j57 0 Q ms5))) ms

theorem sM_parseKind_j69 {X : jj_X} {h0 : jj_H} {m0 k : Nat} {N : Option jj_AV → jj_H → Prop} {XN : String → Nat → jj_H → Prop} (F : jj_F X RX3 cX3_parseKind 2) (M : jj_M X (some (.int)) 10 345 N XN) (S : jj_GS X.1 X.2.2.1) (hs : jj_hs X.1 h0 m0) {Q : Int → jj_MS → Prop} (hQ : ∀ r ms, Q r ms → N (some (.inl r)) (jj_mh h0 m0 ms)) : ∀ (x1 : Int) (y1 : Int) (ms : jj_MS), fM_parseKind_j69 x1 y1 Q ms → jj_J X 2 69 [(0, .inr (.inr (.inl (some m0)))), (1, .inl x1)] [.inl y1, .inr (.inr (.inl (some m0)))] (jj_mh h0 m0 ms) k := by
  intro x1 y1 ms w
  unfold fM_parseKind_j69 at w
  refine jr_iconst (pc := 69) F dX3_parseKind_69 ?_
  refine jr_callV (pc := 70) (As := [_, _]) F M (lw_V q3692 q3694 qs106 q143 q3695) dX3_parseKind_70 hM_require rfl (Nat.le_of_ble_eq_true rfl) (Nat.le_of_ble_eq_true rfl) (Nat.le_of_ble_eq_true rfl) (jj_set_self _ _ _) rfl rfl (Nat.zero_le _) (cM_require S hs w) (fun v9 h9 q9 => ?_) (fun _ _ _ q9 => q9.elim)
  obtain ⟨ms1, rfl, rfl, w⟩ := q9
  refine jr_aload_n (pc := 73) F (j := 0) dX3_parseKind_73 rfl ?_
  refine jr_callV (pc := 74) (As := []) F M (lw_V q3696 q3698 qs107 q143 q3699) dX3_parseKind_74 hM_advance rfl (Nat.le_of_ble_eq_true rfl) (Nat.le_of_ble_eq_true rfl) (Nat.le_of_ble_eq_true rfl) (jj_set_self _ _ _) rfl rfl (Nat.zero_le _) (cM_advance S hs w) (fun v9 h9 q9 => ?_) (fun _ _ _ q9 => q9.elim)
  obtain ⟨ms3, rfl, rfl, w⟩ := q9
  refine jr_iload_n (pc := 77) F (j := 1) dX3_parseKind_77 rfl ?_
  exact jr_iret (pc := 78) F M dX3_parseKind_78 (hQ _ _ w)

theorem sM_parseKind_j57 {X : jj_X} {h0 : jj_H} {m0 k : Nat} {N : Option jj_AV → jj_H → Prop} {XN : String → Nat → jj_H → Prop} (F : jj_F X RX3 cX3_parseKind 2) (M : jj_M X (some (.int)) 10 345 N XN) (S : jj_GS X.1 X.2.2.1) (hs : jj_hs X.1 h0 m0) {Q : Int → jj_MS → Prop} (hQ : ∀ r ms, Q r ms → N (some (.inl r)) (jj_mh h0 m0 ms)) : ∀ (y0 : Int) (ms : jj_MS), fM_parseKind_j57 y0 Q ms → jj_J X 2 57 [(0, .inr (.inr (.inl (some m0))))] [.inl y0] (jj_mh h0 m0 ms) k := by
  intro y0 ms w
  unfold fM_parseKind_j57 at w
  refine jr_istore_n (pc := 57) F (vs' := [(1, .inl _), (0, .inr (.inr (.inl _)))]) dX3_parseKind_57 (Nat.le_of_ble_eq_true rfl) rfl ?_
  refine jr_aload_n (pc := 58) F (j := 1) dX3_parseKind_58 rfl ?_
  refine jr_iload_n (pc := 59) F (j := 0) dX3_parseKind_59 rfl ?_
  refine jr_iconst (pc := 60) F dX3_parseKind_60 ?_
  obtain ⟨hx9, w1, w2⟩ := w
  refine jr_icmp_eq (pc := 61) (tgt := 68) F hx9 ⟨by decide, by decide⟩ dX3_parseKind_61 rfl (fun c9 => ?_) (fun c9 => ?_)
  · have w := w1 c9
    refine jr_iconst (pc := 68) F dX3_parseKind_68 ?_
    refine jj_J.sub [1, 0] rfl ?_
    exact sM_parseKind_j69 F M S hs hQ _ _ _ w
  · have w := w2 c9
    refine jr_iconst (pc := 64) F dX3_parseKind_64 ?_
    refine jr_goto (pc := 65) (tgt := 69) F dX3_parseKind_65 rfl ?_
    refine jj_J.sub [1, 0] rfl ?_
    exact sM_parseKind_j69 F M S hs hQ _ _ _ w

theorem sM_parseKind {X : jj_X} {h0 : jj_H} {m0 k : Nat} {N : Option jj_AV → jj_H → Prop} {XN : String → Nat → jj_H → Prop} (F : jj_F X RX3 cX3_parseKind 2) (M : jj_M X (some (.int)) 10 345 N XN) (S : jj_GS X.1 X.2.2.1) (hs : jj_hs X.1 h0 m0) {Q : Int → jj_MS → Prop} (hQ : ∀ r ms, Q r ms → N (some (.inl r)) (jj_mh h0 m0 ms)) : ∀ (ms : jj_MS), fM_parseKind Q ms → jj_J X 2 0 [(0, .inr (.inr (.inl (some m0))))] [] (jj_mh h0 m0 ms) k := by
  intro  ms w
  unfold fM_parseKind at w
  refine jr_aload_n (pc := 0) F (j := 0) dX3_parseKind_0 rfl ?_
  refine jr_ldcwS (pc := 1) F S 0 rfl dX3_parseKind_1 ?_
  refine jr_callV (pc := 4) (As := [_]) F M (lw_V q3684 q3686 qs104 q143 q3687) dX3_parseKind_4 hM_isKey rfl (Nat.le_of_ble_eq_true rfl) (Nat.le_of_ble_eq_true rfl) (Nat.le_of_ble_eq_true rfl) (jj_set_self _ _ _) rfl rfl (Nat.zero_le _) (cM_isKey S hs (hs 0 (by decide)) w) (fun v9 h9 q9 => ?_) (fun _ _ _ q9 => q9.elim)
  obtain ⟨r6, ms5, rfl, rfl, w⟩ := q9
  obtain ⟨hx9, w1, w2⟩ := w
  refine jr_if_eq (pc := 7) (tgt := 14) F hx9 dX3_parseKind_7 rfl (fun c9 => ?_) (fun c9 => ?_)
  · have w := w1 c9
    refine jr_aload_n (pc := 14) F (j := 0) dX3_parseKind_14 rfl ?_
    refine jr_ldcwS (pc := 15) F S 1 rfl dX3_parseKind_15 ?_
    refine jr_callV (pc := 18) (As := [_]) F M (lw_V q3684 q3686 qs104 q143 q3687) dX3_parseKind_18 hM_isKey rfl (Nat.le_of_ble_eq_true rfl) (Nat.le_of_ble_eq_true rfl) (Nat.le_of_ble_eq_true rfl) (jj_set_self _ _ _) rfl rfl (Nat.zero_le _) (cM_isKey S hs (hs 1 (by decide)) w) (fun v9 h9 q9 => ?_) (fun _ _ _ q9 => q9.elim)
    obtain ⟨r8, ms7, rfl, rfl, w⟩ := q9
    obtain ⟨hx9, w1, w2⟩ := w
    refine jr_if_eq (pc := 21) (tgt := 28) F hx9 dX3_parseKind_21 rfl (fun c9 => ?_) (fun c9 => ?_)
    · have w := w1 c9
      refine jr_aload_n (pc := 28) F (j := 0) dX3_parseKind_28 rfl ?_
      refine jr_ldcwS (pc := 29) F S 2 rfl dX3_parseKind_29 ?_
      refine jr_callV (pc := 32) (As := [_]) F M (lw_V q3684 q3686 qs104 q143 q3687) dX3_parseKind_32 hM_isKey rfl (Nat.le_of_ble_eq_true rfl) (Nat.le_of_ble_eq_true rfl) (Nat.le_of_ble_eq_true rfl) (jj_set_self _ _ _) rfl rfl (Nat.zero_le _) (cM_isKey S hs (hs 2 (by decide)) w) (fun v9 h9 q9 => ?_) (fun _ _ _ q9 => q9.elim)
      obtain ⟨r10, ms9, rfl, rfl, w⟩ := q9
      obtain ⟨hx9, w1, w2⟩ := w
      refine jr_if_eq (pc := 35) (tgt := 42) F hx9 dX3_parseKind_35 rfl (fun c9 => ?_) (fun c9 => ?_)
      · have w := w1 c9
        refine jr_aload_n (pc := 42) F (j := 0) dX3_parseKind_42 rfl ?_
        refine jr_ldcwS (pc := 43) F S 3 rfl dX3_parseKind_43 ?_
        refine jr_callV (pc := 46) (As := [_]) F M (lw_V q3684 q3686 qs104 q143 q3687) dX3_parseKind_46 hM_isKey rfl (Nat.le_of_ble_eq_true rfl) (Nat.le_of_ble_eq_true rfl) (Nat.le_of_ble_eq_true rfl) (jj_set_self _ _ _) rfl rfl (Nat.zero_le _) (cM_isKey S hs (hs 3 (by decide)) w) (fun v9 h9 q9 => ?_) (fun _ _ _ q9 => q9.elim)
        obtain ⟨r12, ms11, rfl, rfl, w⟩ := q9
        obtain ⟨hx9, w1, w2⟩ := w
        refine jr_if_eq (pc := 49) (tgt := 56) F hx9 dX3_parseKind_49 rfl (fun c9 => ?_) (fun c9 => ?_)
        · have w := w1 c9
          refine jr_iconst (pc := 56) F dX3_parseKind_56 ?_
          exact sM_parseKind_j57 F M S hs hQ _ _ w
        · have w := w2 c9
          refine jr_iconst (pc := 52) F dX3_parseKind_52 ?_
          refine jr_goto (pc := 53) (tgt := 57) F dX3_parseKind_53 rfl ?_
          exact sM_parseKind_j57 F M S hs hQ _ _ w
      · have w := w2 c9
        refine jr_iconst (pc := 38) F dX3_parseKind_38 ?_
        refine jr_goto (pc := 39) (tgt := 57) F dX3_parseKind_39 rfl ?_
        exact sM_parseKind_j57 F M S hs hQ _ _ w
    · have w := w2 c9
      refine jr_iconst (pc := 24) F dX3_parseKind_24 ?_
      refine jr_goto (pc := 25) (tgt := 57) F dX3_parseKind_25 rfl ?_
      exact sM_parseKind_j57 F M S hs hQ _ _ w
  · have w := w2 c9
    refine jr_iconst (pc := 10) F dX3_parseKind_10 ?_
    refine jr_goto (pc := 11) (tgt := 57) F dX3_parseKind_11 rfl ?_
    exact sM_parseKind_j57 F M S hs hQ _ _ w

theorem cM_parseKind {G : jj_G} {l : Launch} (S : jj_GS G l) {h0 : jj_H} {m0 : Nat} (hs : jj_hs G h0 m0) {ms : jj_MS} {Q : Int → jj_MS → Prop} (w : fM_parseKind Q ms) : jj_Ct G l yX3_parseKind (ws_ yX3_parseKind cX3_parseKind 2 (some (.int))) 10 345 [.inr (.inr (.inl (some m0)))] (jj_mh h0 m0 ms) 0 (jm_Ni h0 m0 Q) jj_F0 := by
  refine jj_Ct.of S.1 (by decide +kernel) (Nat.le_of_ble_eq_true rfl) rfl (fun X hG hl F M O hnm => ?_)
  subst hG; subst hl
  exact sM_parseKind F M S hs (fun r ms q => ⟨r, ms, rfl, rfl, q⟩) _ w
theorem hM_parseKind : yX3_parseKind.cls = RX3 ∧ yX3_parseKind.cls ≠ "java/lang/invoke/MethodHandle" ∧ yX3_parseKind.cls ≠ "java/lang/invoke/VarHandle" ∧ (parseMethodDescriptor yX3_parseKind.desc).map (fun d => d.parameters.length) = some 0 := by decide +kernel
/-! firstInLine(II)I -/
def fM_firstInLine_l2 (x1 : Int) (x2 : Int) (Q : Int → jj_MS → Prop) : Nat → Int → jj_MS → Prop
  | 0, _, _ => False
  | n + 1, x3, ms =>
  fM_sizeOf x1 (fun r2 ms1 =>
  jj_r x3 ∧ jj_r r2 ∧ (r2 ≤ x3 → (
    Q ((-1)) ms1)) ∧
  (¬ r2 ≤ x3 → (
    0 ≤ x3 ∧ x3 < 120 ∧
    jj_r (ms1.2 12 x3) ∧ jj_r x2 ∧ (¬ (ms1.2 12 x3) = x2 → (
      ∀ v3, v3 = x3 + 1 →
      fM_firstInLine_l2 x1 x2 Q n v3 ms1)) ∧
    ((ms1.2 12 x3) = x2 → (
      Q x3 ms1))))) ms

def fM_firstInLine (x1 : Int) (x2 : Int) (Q : Int → jj_MS → Prop) (ms : jj_MS) : Prop :=
  ∃ n9, fM_firstInLine_l2 x1 x2 Q n9 0 ms

theorem sM_firstInLine_l2 {X : jj_X} {h0 : jj_H} {m0 k : Nat} {N : Option jj_AV → jj_H → Prop} {XN : String → Nat → jj_H → Prop} (F : jj_F X RX3 cX3_firstInLine 4) (M : jj_M X (some (.int)) 2 43 N XN) (S : jj_GS X.1 X.2.2.1) (hs : jj_hs X.1 h0 m0) {Q : Int → jj_MS → Prop} (hQ : ∀ r ms, Q r ms → N (some (.inl r)) (jj_mh h0 m0 ms)) (x1 : Int) (x2 : Int) : ∀ (n : Nat) (x3 : Int) (ms : jj_MS), fM_firstInLine_l2 x1 x2 Q n x3 ms → jj_J X 4 2 [(0, .inr (.inr (.inl (some m0)))), (1, .inl x1), (2, .inl x2), (3, .inl x3)] [] (jj_mh h0 m0 ms) k := by
  intro n
  induction n with
  | zero =>
    intro x3 ms w
    exact (show False from w).elim
  | succ n ih =>
    intro x3 ms w
    rw [fM_firstInLine_l2] at w
    refine jr_iload_n (pc := 2) F (j := 3) dX3_firstInLine_2 rfl ?_
    refine jr_aload_n (pc := 3) F (j := 0) dX3_firstInLine_3 rfl ?_
    refine jr_iload_n (pc := 4) F (j := 1) dX3_firstInLine_4 rfl ?_
    refine jr_callV (pc := 5) (As := [_]) F M (lw_V q3307 q3309 qs51 q143 q3310) dX3_firstInLine_5 hM_sizeOf rfl (Nat.le_of_ble_eq_true rfl) (Nat.le_of_ble_eq_true rfl) (Nat.le_of_ble_eq_true rfl) (jj_set_self _ _ _) rfl rfl (Nat.zero_le _) (cM_sizeOf S hs w) (fun v9 h9 q9 => ?_) (fun _ _ _ q9 => q9.elim)
    obtain ⟨r2, ms1, rfl, rfl, w⟩ := q9
    obtain ⟨hx9, hy9, w1, w2⟩ := w
    refine jr_icmp_ge (pc := 8) (tgt := 29) F hx9 hy9 dX3_firstInLine_8 rfl (fun c9 => ?_) (fun c9 => ?_)
    · have w := w1 c9
      refine jr_iconst (pc := 29) F dX3_firstInLine_29 ?_
      exact jr_iret (pc := 30) F M dX3_firstInLine_30 (hQ _ _ w)
    · have w := w2 c9
      refine jr_aload_n (pc := 11) F (j := 0) dX3_firstInLine_11 rfl ?_
      refine jm_get (pc := 12) (f := 12) (v := .inr (.inr (.inl (some (m0 + 1 + 9))))) F (Nat.le_of_ble_eq_true rfl) q3142 rfl rfl dX3_firstInLine_12 ?_
      refine jr_iload_n (pc := 15) F (j := 3) dX3_firstInLine_15 rfl ?_
      obtain ⟨hi1, hi2, w⟩ := w
      refine jm_iald (pc := 16) (f := 12) (o := 9) F rfl (by decide) hi1 hi2 dX3_firstInLine_16 ?_
      refine jr_iload_n (pc := 17) F (j := 2) dX3_firstInLine_17 rfl ?_
      obtain ⟨hx9, hy9, w1, w2⟩ := w
      refine jr_icmp_ne (pc := 18) (tgt := 23) F hx9 hy9 dX3_firstInLine_18 rfl (fun c9 => ?_) (fun c9 => ?_)
      · have w := w1 c9
        have w := w _ rfl
        refine jr_iinc (pc := 23) F (j := 3) (vs' := [(3, .inl _), (0, .inr (.inr (.inl _))), (1, .inl _), (2, .inl _)]) dX3_firstInLine_23 rfl rfl (Nat.le_of_ble_eq_true rfl) rfl ?_
        refine jr_goto (pc := 26) (tgt := 2) F dX3_firstInLine_26 rfl ?_
        refine jj_J.sub [1, 2, 3, 0] rfl ?_
        exact ih _ _ w
      · have w := w2 c9
        refine jr_iload_n (pc := 21) F (j := 3) dX3_firstInLine_21 rfl ?_
        exact jr_iret (pc := 22) F M dX3_firstInLine_22 (hQ _ _ w)

theorem sM_firstInLine {X : jj_X} {h0 : jj_H} {m0 k : Nat} {N : Option jj_AV → jj_H → Prop} {XN : String → Nat → jj_H → Prop} (F : jj_F X RX3 cX3_firstInLine 4) (M : jj_M X (some (.int)) 2 43 N XN) (S : jj_GS X.1 X.2.2.1) (hs : jj_hs X.1 h0 m0) {Q : Int → jj_MS → Prop} (hQ : ∀ r ms, Q r ms → N (some (.inl r)) (jj_mh h0 m0 ms)) : ∀ (x1 : Int) (x2 : Int) (ms : jj_MS), fM_firstInLine x1 x2 Q ms → jj_J X 4 0 [(0, .inr (.inr (.inl (some m0)))), (1, .inl x1), (2, .inl x2)] [] (jj_mh h0 m0 ms) k := by
  intro x1 x2 ms w
  unfold fM_firstInLine at w
  refine jr_iconst (pc := 0) F dX3_firstInLine_0 ?_
  refine jr_istore_n (pc := 1) F (vs' := [(3, .inl _), (0, .inr (.inr (.inl _))), (1, .inl _), (2, .inl _)]) dX3_firstInLine_1 (Nat.le_of_ble_eq_true rfl) rfl ?_
  refine jj_J.sub [1, 2, 3, 0] rfl ?_
  obtain ⟨n9, w⟩ := w
  exact sM_firstInLine_l2 F M S hs hQ _ _ n9 _ _ w

theorem cM_firstInLine {G : jj_G} {l : Launch} (S : jj_GS G l) {h0 : jj_H} {m0 : Nat} (hs : jj_hs G h0 m0) {x1 : Int} {x2 : Int} {ms : jj_MS} {Q : Int → jj_MS → Prop} (w : fM_firstInLine x1 x2 Q ms) : jj_Ct G l yX3_firstInLine (ws_ yX3_firstInLine cX3_firstInLine 4 (some (.int))) 2 43 [.inr (.inr (.inl (some m0))), .inl x1, .inl x2] (jj_mh h0 m0 ms) 0 (jm_Ni h0 m0 Q) jj_F0 := by
  refine jj_Ct.of S.1 (by decide +kernel) (Nat.le_of_ble_eq_true rfl) rfl (fun X hG hl F M O hnm => ?_)
  subst hG; subst hl
  exact sM_firstInLine F M S hs (fun r ms q => ⟨r, ms, rfl, rfl, q⟩) _ _ _ w
theorem hM_firstInLine : yX3_firstInLine.cls = RX3 ∧ yX3_firstInLine.cls ≠ "java/lang/invoke/MethodHandle" ∧ yX3_firstInLine.cls ≠ "java/lang/invoke/VarHandle" ∧ (parseMethodDescriptor yX3_firstInLine.desc).map (fun d => d.parameters.length) = some 2 := by decide +kernel
/-! parseKey(Ljava/lang/String;)V -/
def fM_parseKey (s1 : List Int) (Q : jj_MS → Prop) (ms : jj_MS) : Prop :=
  fM_isKey s1 (fun r2 ms1 =>
  fM_require r2 1 (fun ms3 =>
  fM_advance (fun ms5 =>
  Q ms5) ms3) ms1) ms

theorem sM_parseKey {X : jj_X} {h0 : jj_H} {m0 k : Nat} {N : Option jj_AV → jj_H → Prop} {XN : String → Nat → jj_H → Prop} (F : jj_F X RX3 cX3_parseKey 2) (M : jj_M X (none) 10 345 N XN) (S : jj_GS X.1 X.2.2.1) (hs : jj_hs X.1 h0 m0) {Q : jj_MS → Prop} (hQ : ∀ ms, Q ms → N none (jj_mh h0 m0 ms)) {a1 : Nat} {s1 : List Int} (ha1 : a1 ≠ m0 ∧ h0 a1 = some (jj_str s1)) : ∀ (ms : jj_MS), fM_parseKey s1 Q ms → jj_J X 2 0 [(0, .inr (.inr (.inl (some m0)))), (1, .inr (.inr (.inl (some a1))))] [] (jj_mh h0 m0 ms) k := by
  intro  ms w
  unfold fM_parseKey at w
  refine jr_aload_n (pc := 0) F (j := 0) dX3_parseKey_0 rfl ?_
  refine jr_aload_n (pc := 1) F (j := 0) dX3_parseKey_1 rfl ?_
  refine jr_aload_n (pc := 2) F (j := 1) dX3_parseKey_2 rfl ?_
  refine jr_callV (pc := 3) (As := [_]) F M (lw_V q3684 q3686 qs104 q143 q3687) dX3_parseKey_3 hM_isKey rfl (Nat.le_of_ble_eq_true rfl) (Nat.le_of_ble_eq_true rfl) (Nat.le_of_ble_eq_true rfl) (jj_set_self _ _ _) rfl rfl (Nat.zero_le _) (cM_isKey S hs ha1 w) (fun v9 h9 q9 => ?_) (fun _ _ _ q9 => q9.elim)
  obtain ⟨r2, ms1, rfl, rfl, w⟩ := q9
  refine jr_iconst (pc := 6) F dX3_parseKey_6 ?_
  refine jr_callV (pc := 7) (As := [_, _]) F M (lw_V q3692 q3694 qs106 q143 q3695) dX3_parseKey_7 hM_require rfl (Nat.le_of_ble_eq_true rfl) (Nat.le_of_ble_eq_true rfl) (Nat.le_of_ble_eq_true rfl) (jj_set_self _ _ _) rfl rfl (Nat.zero_le _) (cM_require S hs w) (fun v9 h9 q9 => ?_) (fun _ _ _ q9 => q9.elim)
  obtain ⟨ms3, rfl, rfl, w⟩ := q9
  refine jr_aload_n (pc := 10) F (j := 0) dX3_parseKey_10 rfl ?_
  refine jr_callV (pc := 11) (As := []) F M (lw_V q3696 q3698 qs107 q143 q3699) dX3_parseKey_11 hM_advance rfl (Nat.le_of_ble_eq_true rfl) (Nat.le_of_ble_eq_true rfl) (Nat.le_of_ble_eq_true rfl) (jj_set_self _ _ _) rfl rfl (Nat.zero_le _) (cM_advance S hs w) (fun v9 h9 q9 => ?_) (fun _ _ _ q9 => q9.elim)
  obtain ⟨ms5, rfl, rfl, w⟩ := q9
  exact jr_vret (pc := 14) F M dX3_parseKey_14 (hQ _ w)

theorem cM_parseKey {G : jj_G} {l : Launch} (S : jj_GS G l) {h0 : jj_H} {m0 : Nat} (hs : jj_hs G h0 m0) {s1 : List Int} {a1 : Nat} (ha1 : a1 ≠ m0 ∧ h0 a1 = some (jj_str s1)) {ms : jj_MS} {Q : jj_MS → Prop} (w : fM_parseKey s1 Q ms) : jj_Ct G l yX3_parseKey (ws_ yX3_parseKey cX3_parseKey 2 (none)) 10 345 [.inr (.inr (.inl (some m0))), .inr (.inr (.inl (some a1)))] (jj_mh h0 m0 ms) 0 (jm_Nv h0 m0 Q) jj_F0 := by
  refine jj_Ct.of S.1 (by decide +kernel) (Nat.le_of_ble_eq_true rfl) rfl (fun X hG hl F M O hnm => ?_)
  subst hG; subst hl
  exact sM_parseKey F M S hs (fun ms q => ⟨ms, rfl, rfl, q⟩) ha1 _ w
theorem hM_parseKey : yX3_parseKey.cls = RX3 ∧ yX3_parseKey.cls ≠ "java/lang/invoke/MethodHandle" ∧ yX3_parseKey.cls ≠ "java/lang/invoke/VarHandle" ∧ (parseMethodDescriptor yX3_parseKey.desc).map (fun d => d.parameters.length) = some 1 := by decide +kernel
/-! parsePage(I)V -/
def fM_parsePage_j133 (x1 : Int) (x5 : Int) (x6 : Int) (Q : jj_MS → Prop) (ms : jj_MS) : Prop :=
  fM_parseNumber 0 (x6 - 1) (fun r2 ms1 =>
  ∀ ms3, ms3 = jj_mI ms1 43 (x5 + r2) →
  fM_parseKey ((jj_sx 10)) (fun ms4 =>
  fM_sizeOf x1 (fun r7 ms6 =>
  fM_parseNumber 1 (r7 - (ms6.1 43)) (fun r9 ms8 =>
  ∀ ms10, ms10 = jj_mI ms8 44 (((ms4.1 43) + r9) - 1) →
  Q ms10) ms6) ms4) ms3) ms

def fM_parsePage_l92 (x1 : Int) (x4 : Int) (x5 : Int) (Q : jj_MS → Prop) : Nat → Int → jj_MS → Prop
  | 0, _, _ => False
  | n + 1, x6, ms =>
  fM_isFine (fun r12 ms11 =>
  jj_r r12 ∧ (r12 = 0 → (
    fM_parsePage_j133 x1 x5 x6 Q ms11)) ∧
  (¬ r12 = 0 → (
    fM_sizeOf x1 (fun r14 ms13 =>
    jj_r (x5 + x6) ∧ jj_r r14 ∧ (r14 ≤ (x5 + x6) → (
      fM_parsePage_j133 x1 x5 x6 Q ms13)) ∧
    (¬ r14 ≤ (x5 + x6) → (
      0 ≤ (x5 + x6) ∧ (x5 + x6) < 120 ∧
      jj_r (ms13.2 12 (x5 + x6)) ∧ jj_r x4 ∧ (¬ (ms13.2 12 (x5 + x6)) = x4 → (
        fM_parsePage_j133 x1 x5 x6 Q ms13)) ∧
      ((ms13.2 12 (x5 + x6)) = x4 → (
        ∀ v15, v15 = x6 + 1 →
        fM_parsePage_l92 x1 x4 x5 Q n v15 ms13))))) ms11))) ms

def fM_parsePage (x1 : Int) (Q : jj_MS → Prop) (ms : jj_MS) : Prop :=
  fM_layOut x1 (fun ms16 =>
  fM_advance (fun ms18 =>
  fM_pagesOf x1 (fun r21 ms20 =>
  fM_parseNumber 0 (r21 - 1) (fun r23 ms22 =>
  fM_parseKey ((jj_sx 8)) (fun ms24 =>
  fM_ofEdition x1 2 (fun r27 ms26 =>
  fM_linesOf x1 (fun r29 ms28 =>
  jj_r r27 ∧ jj_r (r29 - (r27 * r23)) ∧
  fM_parseNumber 0 ((min r27 (r29 - (r27 * r23))) - 1) (fun r31 ms30 =>
  ∀ v32, v32 = (r27 * r23) + r31 →
  fM_parseKey ((jj_sx 9)) (fun ms33 =>
  fM_isFine (fun r36 ms35 =>
  jj_r r36 ∧ (r36 = 0 → (
    ∃ n9, fM_parsePage_l92 x1 v32 0 Q n9 0 ms35)) ∧
  (¬ r36 = 0 → (
    fM_firstInLine x1 v32 (fun r38 ms37 =>
    ∃ n9, fM_parsePage_l92 x1 v32 r38 Q n9 0 ms37) ms35))) ms33) ms30) ms28) ms26) ms24) ms22) ms20) ms18) ms16) ms

theorem sM_parsePage_j133 {X : jj_X} {h0 : jj_H} {m0 k : Nat} {N : Option jj_AV → jj_H → Prop} {XN : String → Nat → jj_H → Prop} (F : jj_F X RX3 cX3_parsePage 7) (M : jj_M X (none) 11 366 N XN) (S : jj_GS X.1 X.2.2.1) (hs : jj_hs X.1 h0 m0) {Q : jj_MS → Prop} (hQ : ∀ ms, Q ms → N none (jj_mh h0 m0 ms)) : ∀ (x1 : Int) (x5 : Int) (x6 : Int) (ms : jj_MS), fM_parsePage_j133 x1 x5 x6 Q ms → jj_J X 7 133 [(0, .inr (.inr (.inl (some m0)))), (1, .inl x1), (5, .inl x5), (6, .inl x6)] [] (jj_mh h0 m0 ms) k := by
  intro x1 x5 x6 ms w
  unfold fM_parsePage_j133 at w
  refine jr_aload_n (pc := 133) F (j := 0) dX3_parsePage_133 rfl ?_
  refine jr_iload (pc := 134) F (j := 2) dX3_parsePage_134 rfl ?_
  refine jr_aload_n (pc := 136) F (j := 0) dX3_parsePage_136 rfl ?_
  refine jr_iconst (pc := 137) F dX3_parsePage_137 ?_
  refine jr_iload (pc := 138) F (j := 3) dX3_parsePage_138 rfl ?_
  refine jr_iconst (pc := 140) F dX3_parsePage_140 ?_
  refine jr_isub (pc := 141) F dX3_parsePage_141 ?_
  refine jr_callV (pc := 142) (As := [_, _]) F M (lw_V q3700 q3702 qs108 q143 q3703) dX3_parsePage_142 hM_parseNumber rfl (Nat.le_of_ble_eq_true rfl) (Nat.le_of_ble_eq_true rfl) (Nat.le_of_ble_eq_true rfl) (jj_set_self _ _ _) rfl rfl (Nat.zero_le _) (cM_parseNumber S hs w) (fun v9 h9 q9 => ?_) (fun _ _ _ q9 => q9.elim)
  obtain ⟨r2, ms1, rfl, rfl, w⟩ := q9
  refine jr_iadd (pc := 145) F dX3_parsePage_145 ?_
  have w := w _ rfl
  refine jm_put (pc := 146) (f := 43) F (Nat.le_of_ble_eq_true rfl) q3173 rfl rfl rfl rfl rfl rfl dX3_parsePage_146 ?_
  refine jr_aload_n (pc := 149) F (j := 0) dX3_parsePage_149 rfl ?_
  refine jr_ldcwS (pc := 150) F S 10 rfl dX3_parsePage_150 ?_
  refine jr_callV (pc := 153) (As := [_]) F M (lw_V q3728 q3730 qs114 q143 q3731) dX3_parsePage_153 hM_parseKey rfl (Nat.le_of_ble_eq_true rfl) (Nat.le_of_ble_eq_true rfl) (Nat.le_of_ble_eq_true rfl) (jj_set_self _ _ _) rfl rfl (Nat.zero_le _) (cM_parseKey S hs (hs 10 (by decide)) w) (fun v9 h9 q9 => ?_) (fun _ _ _ q9 => q9.elim)
  obtain ⟨ms4, rfl, rfl, w⟩ := q9
  refine jr_aload_n (pc := 156) F (j := 0) dX3_parsePage_156 rfl ?_
  refine jr_aload_n (pc := 157) F (j := 0) dX3_parsePage_157 rfl ?_
  refine jm_get (pc := 158) (f := 43) (v := .inl _) F (Nat.le_of_ble_eq_true rfl) q3173 rfl rfl dX3_parsePage_158 ?_
  refine jr_aload_n (pc := 161) F (j := 0) dX3_parsePage_161 rfl ?_
  refine jr_iconst (pc := 162) F dX3_parsePage_162 ?_
  refine jr_aload_n (pc := 163) F (j := 0) dX3_parsePage_163 rfl ?_
  refine jr_iload_n (pc := 164) F (j := 1) dX3_parsePage_164 rfl ?_
  refine jr_callV (pc := 165) (As := [_]) F M (lw_V q3307 q3309 qs51 q143 q3310) dX3_parsePage_165 hM_sizeOf rfl (Nat.le_of_ble_eq_true rfl) (Nat.le_of_ble_eq_true rfl) (Nat.le_of_ble_eq_true rfl) (jj_set_self _ _ _) rfl rfl (Nat.zero_le _) (cM_sizeOf S hs w) (fun v9 h9 q9 => ?_) (fun _ _ _ q9 => q9.elim)
  obtain ⟨r7, ms6, rfl, rfl, w⟩ := q9
  refine jr_aload_n (pc := 168) F (j := 0) dX3_parsePage_168 rfl ?_
  refine jm_get (pc := 169) (f := 43) (v := .inl _) F (Nat.le_of_ble_eq_true rfl) q3173 rfl rfl dX3_parsePage_169 ?_
  refine jr_isub (pc := 172) F dX3_parsePage_172 ?_
  refine jr_callV (pc := 173) (As := [_, _]) F M (lw_V q3700 q3702 qs108 q143 q3703) dX3_parsePage_173 hM_parseNumber rfl (Nat.le_of_ble_eq_true rfl) (Nat.le_of_ble_eq_true rfl) (Nat.le_of_ble_eq_true rfl) (jj_set_self _ _ _) rfl rfl (Nat.zero_le _) (cM_parseNumber S hs w) (fun v9 h9 q9 => ?_) (fun _ _ _ q9 => q9.elim)
  obtain ⟨r9, ms8, rfl, rfl, w⟩ := q9
  refine jr_iadd (pc := 176) F dX3_parsePage_176 ?_
  refine jr_iconst (pc := 177) F dX3_parsePage_177 ?_
  refine jr_isub (pc := 178) F dX3_parsePage_178 ?_
  have w := w _ rfl
  refine jm_put (pc := 179) (f := 44) F (Nat.le_of_ble_eq_true rfl) q3174 rfl rfl rfl rfl rfl rfl dX3_parsePage_179 ?_
  exact jr_vret (pc := 182) F M dX3_parsePage_182 (hQ _ w)

theorem sM_parsePage_l92 {X : jj_X} {h0 : jj_H} {m0 k : Nat} {N : Option jj_AV → jj_H → Prop} {XN : String → Nat → jj_H → Prop} (F : jj_F X RX3 cX3_parsePage 7) (M : jj_M X (none) 11 366 N XN) (S : jj_GS X.1 X.2.2.1) (hs : jj_hs X.1 h0 m0) {Q : jj_MS → Prop} (hQ : ∀ ms, Q ms → N none (jj_mh h0 m0 ms)) (x1 : Int) (x4 : Int) (x5 : Int) : ∀ (n : Nat) (x6 : Int) (ms : jj_MS), fM_parsePage_l92 x1 x4 x5 Q n x6 ms → jj_J X 7 92 [(0, .inr (.inr (.inl (some m0)))), (1, .inl x1), (4, .inl x4), (5, .inl x5), (6, .inl x6)] [] (jj_mh h0 m0 ms) k := by
  intro n
  induction n with
  | zero =>
    intro x6 ms w
    exact (show False from w).elim
  | succ n ih =>
    intro x6 ms w
    rw [fM_parsePage_l92] at w
    refine jr_aload_n (pc := 92) F (j := 0) dX3_parsePage_92 rfl ?_
    refine jr_callV (pc := 93) (As := []) F M (lw_V q3675 q3677 qs102 q143 q3678) dX3_parsePage_93 hM_isFine rfl (Nat.le_of_ble_eq_true rfl) (Nat.le_of_ble_eq_true rfl) (Nat.le_of_ble_eq_true rfl) (jj_set_self _ _ _) rfl rfl (Nat.zero_le _) (cM_isFine S hs w) (fun v9 h9 q9 => ?_) (fun _ _ _ q9 => q9.elim)
    obtain ⟨r12, ms11, rfl, rfl, w⟩ := q9
    obtain ⟨hx9, w1, w2⟩ := w
    refine jr_if_eq (pc := 96) (tgt := 133) F hx9 dX3_parsePage_96 rfl (fun c9 => ?_) (fun c9 => ?_)
    · have w := w1 c9
      refine jj_J.sub [0, 1, 3, 4] rfl ?_
      exact sM_parsePage_j133 F M S hs hQ _ _ _ _ w
    · have w := w2 c9
      refine jr_iload (pc := 99) F (j := 3) dX3_parsePage_99 rfl ?_
      refine jr_iload (pc := 101) F (j := 4) dX3_parsePage_101 rfl ?_
      refine jr_iadd (pc := 103) F dX3_parsePage_103 ?_
      refine jr_aload_n (pc := 104) F (j := 0) dX3_parsePage_104 rfl ?_
      refine jr_iload_n (pc := 105) F (j := 1) dX3_parsePage_105 rfl ?_
      refine jr_callV (pc := 106) (As := [_]) F M (lw_V q3307 q3309 qs51 q143 q3310) dX3_parsePage_106 hM_sizeOf rfl (Nat.le_of_ble_eq_true rfl) (Nat.le_of_ble_eq_true rfl) (Nat.le_of_ble_eq_true rfl) (jj_set_self _ _ _) rfl rfl (Nat.zero_le _) (cM_sizeOf S hs w) (fun v9 h9 q9 => ?_) (fun _ _ _ q9 => q9.elim)
      obtain ⟨r14, ms13, rfl, rfl, w⟩ := q9
      obtain ⟨hx9, hy9, w1, w2⟩ := w
      refine jr_icmp_ge (pc := 109) (tgt := 133) F hx9 hy9 dX3_parsePage_109 rfl (fun c9 => ?_) (fun c9 => ?_)
      · have w := w1 c9
        refine jj_J.sub [0, 1, 3, 4] rfl ?_
        exact sM_parsePage_j133 F M S hs hQ _ _ _ _ w
      · have w := w2 c9
        refine jr_aload_n (pc := 112) F (j := 0) dX3_parsePage_112 rfl ?_
        refine jm_get (pc := 113) (f := 12) (v := .inr (.inr (.inl (some (m0 + 1 + 9))))) F (Nat.le_of_ble_eq_true rfl) q3142 rfl rfl dX3_parsePage_113 ?_
        refine jr_iload (pc := 116) F (j := 3) dX3_parsePage_116 rfl ?_
        refine jr_iload (pc := 118) F (j := 4) dX3_parsePage_118 rfl ?_
        refine jr_iadd (pc := 120) F dX3_parsePage_120 ?_
        obtain ⟨hi1, hi2, w⟩ := w
        refine jm_iald (pc := 121) (f := 12) (o := 9) F rfl (by decide) hi1 hi2 dX3_parsePage_121 ?_
        refine jr_iload (pc := 122) F (j := 2) dX3_parsePage_122 rfl ?_
        obtain ⟨hx9, hy9, w1, w2⟩ := w
        refine jr_icmp_ne (pc := 124) (tgt := 133) F hx9 hy9 dX3_parsePage_124 rfl (fun c9 => ?_) (fun c9 => ?_)
        · have w := w1 c9
          refine jj_J.sub [0, 1, 3, 4] rfl ?_
          exact sM_parsePage_j133 F M S hs hQ _ _ _ _ w
        · have w := w2 c9
          have w := w _ rfl
          refine jr_iinc (pc := 127) F (j := 4) (vs' := [(6, .inl _), (0, .inr (.inr (.inl _))), (1, .inl _), (4, .inl _), (5, .inl _)]) dX3_parsePage_127 rfl rfl (Nat.le_of_ble_eq_true rfl) rfl ?_
          refine jr_goto (pc := 130) (tgt := 92) F dX3_parsePage_130 rfl ?_
          refine jj_J.sub [1, 2, 3, 4, 0] rfl ?_
          exact ih _ _ w

theorem sM_parsePage {X : jj_X} {h0 : jj_H} {m0 k : Nat} {N : Option jj_AV → jj_H → Prop} {XN : String → Nat → jj_H → Prop} (F : jj_F X RX3 cX3_parsePage 7) (M : jj_M X (none) 11 366 N XN) (S : jj_GS X.1 X.2.2.1) (hs : jj_hs X.1 h0 m0) {Q : jj_MS → Prop} (hQ : ∀ ms, Q ms → N none (jj_mh h0 m0 ms)) : ∀ (x1 : Int) (ms : jj_MS), fM_parsePage x1 Q ms → jj_J X 7 0 [(0, .inr (.inr (.inl (some m0)))), (1, .inl x1)] [] (jj_mh h0 m0 ms) k := by
  intro x1 ms w
  unfold fM_parsePage at w
  refine jr_aload_n (pc := 0) F (j := 0) dX3_parsePage_0 rfl ?_
  refine jr_iload_n (pc := 1) F (j := 1) dX3_parsePage_1 rfl ?_
  refine jr_callV (pc := 2) (As := [_]) F M (lw_V q3422 q3424 qs73 q143 q3425) dX3_parsePage_2 hM_layOut rfl (Nat.le_of_ble_eq_true rfl) (Nat.le_of_ble_eq_true rfl) (Nat.le_of_ble_eq_true rfl) (jj_set_self _ _ _) rfl rfl (Nat.zero_le _) (cM_layOut S hs w) (fun v9 h9 q9 => ?_) (fun _ _ _ q9 => q9.elim)
  obtain ⟨ms16, rfl, rfl, w⟩ := q9
  refine jr_aload_n (pc := 5) F (j := 0) dX3_parsePage_5 rfl ?_
  refine jr_callV (pc := 6) (As := []) F M (lw_V q3696 q3698 qs107 q143 q3699) dX3_parsePage_6 hM_advance rfl (Nat.le_of_ble_eq_true rfl) (Nat.le_of_ble_eq_true rfl) (Nat.le_of_ble_eq_true rfl) (jj_set_self _ _ _) rfl rfl (Nat.zero_le _) (cM_advance S hs w) (fun v9 h9 q9 => ?_) (fun _ _ _ q9 => q9.elim)
  obtain ⟨ms18, rfl, rfl, w⟩ := q9
  refine jr_aload_n (pc := 9) F (j := 0) dX3_parsePage_9 rfl ?_
  refine jr_iconst (pc := 10) F dX3_parsePage_10 ?_
  refine jr_aload_n (pc := 11) F (j := 0) dX3_parsePage_11 rfl ?_
  refine jr_iload_n (pc := 12) F (j := 1) dX3_parsePage_12 rfl ?_
  refine jr_callV (pc := 13) (As := [_]) F M (lw_V q3433 q3435 qs75 q143 q3436) dX3_parsePage_13 hM_pagesOf rfl (Nat.le_of_ble_eq_true rfl) (Nat.le_of_ble_eq_true rfl) (Nat.le_of_ble_eq_true rfl) (jj_set_self _ _ _) rfl rfl (Nat.zero_le _) (cM_pagesOf S hs w) (fun v9 h9 q9 => ?_) (fun _ _ _ q9 => q9.elim)
  obtain ⟨r21, ms20, rfl, rfl, w⟩ := q9
  refine jr_iconst (pc := 16) F dX3_parsePage_16 ?_
  refine jr_isub (pc := 17) F dX3_parsePage_17 ?_
  refine jr_callV (pc := 18) (As := [_, _]) F M (lw_V q3700 q3702 qs108 q143 q3703) dX3_parsePage_18 hM_parseNumber rfl (Nat.le_of_ble_eq_true rfl) (Nat.le_of_ble_eq_true rfl) (Nat.le_of_ble_eq_true rfl) (jj_set_self _ _ _) rfl rfl (Nat.zero_le _) (cM_parseNumber S hs w) (fun v9 h9 q9 => ?_) (fun _ _ _ q9 => q9.elim)
  obtain ⟨r23, ms22, rfl, rfl, w⟩ := q9
  refine jr_istore_n (pc := 21) F (vs' := [(2, .inl _), (0, .inr (.inr (.inl _))), (1, .inl _)]) dX3_parsePage_21 (Nat.le_of_ble_eq_true rfl) rfl ?_
  refine jr_aload_n (pc := 22) F (j := 1) dX3_parsePage_22 rfl ?_
  refine jr_ldcwS (pc := 23) F S 8 rfl dX3_parsePage_23 ?_
  refine jr_callV (pc := 26) (As := [_]) F M (lw_V q3728 q3730 qs114 q143 q3731) dX3_parsePage_26 hM_parseKey rfl (Nat.le_of_ble_eq_true rfl) (Nat.le_of_ble_eq_true rfl) (Nat.le_of_ble_eq_true rfl) (jj_set_self _ _ _) rfl rfl (Nat.zero_le _) (cM_parseKey S hs (hs 8 (by decide)) w) (fun v9 h9 q9 => ?_) (fun _ _ _ q9 => q9.elim)
  obtain ⟨ms24, rfl, rfl, w⟩ := q9
  refine jr_aload_n (pc := 29) F (j := 1) dX3_parsePage_29 rfl ?_
  refine jr_iload_n (pc := 30) F (j := 2) dX3_parsePage_30 rfl ?_
  refine jr_iconst (pc := 31) F dX3_parsePage_31 ?_
  refine jr_callV (pc := 32) (As := [_, _]) F M (lw_V q3311 q3313 qs52 q143 q3314) dX3_parsePage_32 hM_ofEdition rfl (Nat.le_of_ble_eq_true rfl) (Nat.le_of_ble_eq_true rfl) (Nat.le_of_ble_eq_true rfl) (jj_set_self _ _ _) rfl rfl (Nat.zero_le _) (cM_ofEdition S hs w) (fun v9 h9 q9 => ?_) (fun _ _ _ q9 => q9.elim)
  obtain ⟨r27, ms26, rfl, rfl, w⟩ := q9
  refine jr_istore_n (pc := 35) F (vs' := [(3, .inl _), (2, .inl _), (0, .inr (.inr (.inl _))), (1, .inl _)]) dX3_parsePage_35 (Nat.le_of_ble_eq_true rfl) rfl ?_
  refine jr_iload_n (pc := 36) F (j := 0) dX3_parsePage_36 rfl ?_
  refine jr_iload_n (pc := 37) F (j := 1) dX3_parsePage_37 rfl ?_
  refine jr_imul (pc := 38) F dX3_parsePage_38 ?_
  refine jr_aload_n (pc := 39) F (j := 2) dX3_parsePage_39 rfl ?_
  refine jr_iconst (pc := 40) F dX3_parsePage_40 ?_
  refine jr_iload_n (pc := 41) F (j := 0) dX3_parsePage_41 rfl ?_
  refine jr_aload_n (pc := 42) F (j := 2) dX3_parsePage_42 rfl ?_
  refine jr_iload_n (pc := 43) F (j := 3) dX3_parsePage_43 rfl ?_
  refine jr_callV (pc := 44) (As := [_]) F M (lw_V q3437 q3439 qs76 q143 q3440) dX3_parsePage_44 hM_linesOf rfl (Nat.le_of_ble_eq_true rfl) (Nat.le_of_ble_eq_true rfl) (Nat.le_of_ble_eq_true rfl) (jj_set_self _ _ _) rfl rfl (Nat.zero_le _) (cM_linesOf S hs w) (fun v9 h9 q9 => ?_) (fun _ _ _ q9 => q9.elim)
  obtain ⟨r29, ms28, rfl, rfl, w⟩ := q9
  refine jr_iload_n (pc := 47) F (j := 0) dX3_parsePage_47 rfl ?_
  refine jr_iload_n (pc := 48) F (j := 1) dX3_parsePage_48 rfl ?_
  refine jr_imul (pc := 49) F dX3_parsePage_49 ?_
  refine jr_isub (pc := 50) F dX3_parsePage_50 ?_
  obtain ⟨hx9, hy9, w⟩ := w
  refine jr_mmin (pc := 51) F M hx9 hy9 q3358 (Nat.le_of_ble_eq_true rfl) (Nat.le_of_ble_eq_true rfl) (Nat.le_of_ble_eq_true rfl) dX3_parsePage_51 ?_
  refine jr_iconst (pc := 54) F dX3_parsePage_54 ?_
  refine jr_isub (pc := 55) F dX3_parsePage_55 ?_
  refine jr_callV (pc := 56) (As := [_, _]) F M (lw_V q3700 q3702 qs108 q143 q3703) dX3_parsePage_56 hM_parseNumber rfl (Nat.le_of_ble_eq_true rfl) (Nat.le_of_ble_eq_true rfl) (Nat.le_of_ble_eq_true rfl) (jj_set_self _ _ _) rfl rfl (Nat.zero_le _) (cM_parseNumber S hs w) (fun v9 h9 q9 => ?_) (fun _ _ _ q9 => q9.elim)
  obtain ⟨r31, ms30, rfl, rfl, w⟩ := q9
  refine jr_iadd (pc := 59) F dX3_parsePage_59 ?_
  have w := w _ rfl
  refine jr_istore (pc := 60) F (vs' := [(4, .inl _), (3, .inl _), (2, .inl _), (0, .inr (.inr (.inl _))), (1, .inl _)]) dX3_parsePage_60 (Nat.le_of_ble_eq_true rfl) rfl ?_
  refine jr_aload_n (pc := 62) F (j := 3) dX3_parsePage_62 rfl ?_
  refine jr_ldcwS (pc := 63) F S 9 rfl dX3_parsePage_63 ?_
  refine jr_callV (pc := 66) (As := [_]) F M (lw_V q3728 q3730 qs114 q143 q3731) dX3_parsePage_66 hM_parseKey rfl (Nat.le_of_ble_eq_true rfl) (Nat.le_of_ble_eq_true rfl) (Nat.le_of_ble_eq_true rfl) (jj_set_self _ _ _) rfl rfl (Nat.zero_le _) (cM_parseKey S hs (hs 9 (by decide)) w) (fun v9 h9 q9 => ?_) (fun _ _ _ q9 => q9.elim)
  obtain ⟨ms33, rfl, rfl, w⟩ := q9
  refine jr_aload_n (pc := 69) F (j := 3) dX3_parsePage_69 rfl ?_
  refine jr_callV (pc := 70) (As := []) F M (lw_V q3675 q3677 qs102 q143 q3678) dX3_parsePage_70 hM_isFine rfl (Nat.le_of_ble_eq_true rfl) (Nat.le_of_ble_eq_true rfl) (Nat.le_of_ble_eq_true rfl) (jj_set_self _ _ _) rfl rfl (Nat.zero_le _) (cM_isFine S hs w) (fun v9 h9 q9 => ?_) (fun _ _ _ q9 => q9.elim)
  obtain ⟨r36, ms35, rfl, rfl, w⟩ := q9
  obtain ⟨hx9, w1, w2⟩ := w
  refine jr_if_eq (pc := 73) (tgt := 86) F hx9 dX3_parsePage_73 rfl (fun c9 => ?_) (fun c9 => ?_)
  · have w := w1 c9
    refine jr_iconst (pc := 86) F dX3_parsePage_86 ?_
    refine jr_istore (pc := 87) F (vs' := [(5, .inl _), (4, .inl _), (3, .inl _), (2, .inl _), (0, .inr (.inr (.inl _))), (1, .inl _)]) dX3_parsePage_87 (Nat.le_of_ble_eq_true rfl) rfl ?_
    refine jr_iconst (pc := 89) F dX3_parsePage_89 ?_
    refine jr_istore (pc := 90) F (vs' := [(6, .inl _), (5, .inl _), (4, .inl _), (3, .inl _), (2, .inl _), (0, .inr (.inr (.inl _))), (1, .inl _)]) dX3_parsePage_90 (Nat.le_of_ble_eq_true rfl) rfl ?_
    refine jj_J.sub [5, 6, 2, 1, 0] rfl ?_
    obtain ⟨n9, w⟩ := w
    exact sM_parsePage_l92 F M S hs hQ _ _ _ n9 _ _ w
  · have w := w2 c9
    refine jr_aload_n (pc := 76) F (j := 3) dX3_parsePage_76 rfl ?_
    refine jr_iload_n (pc := 77) F (j := 4) dX3_parsePage_77 rfl ?_
    refine jr_iload (pc := 78) F (j := 0) dX3_parsePage_78 rfl ?_
    refine jr_callV (pc := 80) (As := [_, _]) F M (lw_V q3733 q3735 qs115 q143 q3736) dX3_parsePage_80 hM_firstInLine rfl (Nat.le_of_ble_eq_true rfl) (Nat.le_of_ble_eq_true rfl) (Nat.le_of_ble_eq_true rfl) (jj_set_self _ _ _) rfl rfl (Nat.zero_le _) (cM_firstInLine S hs w) (fun v9 h9 q9 => ?_) (fun _ _ _ q9 => q9.elim)
    obtain ⟨r38, ms37, rfl, rfl, w⟩ := q9
    refine jr_goto (pc := 83) (tgt := 87) F dX3_parsePage_83 rfl ?_
    refine jr_istore (pc := 87) F (vs' := [(5, .inl _), (4, .inl _), (3, .inl _), (2, .inl _), (0, .inr (.inr (.inl _))), (1, .inl _)]) dX3_parsePage_87 (Nat.le_of_ble_eq_true rfl) rfl ?_
    refine jr_iconst (pc := 89) F dX3_parsePage_89 ?_
    refine jr_istore (pc := 90) F (vs' := [(6, .inl _), (5, .inl _), (4, .inl _), (3, .inl _), (2, .inl _), (0, .inr (.inr (.inl _))), (1, .inl _)]) dX3_parsePage_90 (Nat.le_of_ble_eq_true rfl) rfl ?_
    refine jj_J.sub [5, 6, 2, 1, 0] rfl ?_
    obtain ⟨n9, w⟩ := w
    exact sM_parsePage_l92 F M S hs hQ _ _ _ n9 _ _ w

theorem cM_parsePage {G : jj_G} {l : Launch} (S : jj_GS G l) {h0 : jj_H} {m0 : Nat} (hs : jj_hs G h0 m0) {x1 : Int} {ms : jj_MS} {Q : jj_MS → Prop} (w : fM_parsePage x1 Q ms) : jj_Ct G l yX3_parsePage (ws_ yX3_parsePage cX3_parsePage 7 (none)) 11 366 [.inr (.inr (.inl (some m0))), .inl x1] (jj_mh h0 m0 ms) 0 (jm_Nv h0 m0 Q) jj_F0 := by
  refine jj_Ct.of S.1 (by decide +kernel) (Nat.le_of_ble_eq_true rfl) rfl (fun X hG hl F M O hnm => ?_)
  subst hG; subst hl
  exact sM_parsePage F M S hs (fun ms q => ⟨ms, rfl, rfl, q⟩) _ _ w
theorem hM_parsePage : yX3_parsePage.cls = RX3 ∧ yX3_parsePage.cls ≠ "java/lang/invoke/MethodHandle" ∧ yX3_parsePage.cls ≠ "java/lang/invoke/VarHandle" ∧ (parseMethodDescriptor yX3_parsePage.desc).map (fun d => d.parameters.length) = some 1 := by decide +kernel
/-! standsAt(II)Z -/
def fM_standsAt_l23 (x1 : Int) (x2 : Int) (Q : Int → jj_MS → Prop) : Nat → Int → Int → jj_MS → Prop
  | 0, _, _, _ => False
  | n + 1, x3, x4, ms =>
  jj_r x4 ∧ jj_r (ms.1 11) ∧ ((ms.1 11) ≤ x4 → (
    (x3 = 0 ∨ x3 = 1) ∧ Q x3 ms)) ∧
  (¬ (ms.1 11) ≤ x4 → (
    jj_r x3 ∧ (x3 = 0 → (
      (x3 = 0 ∨ x3 = 1) ∧ Q x3 ms)) ∧
    (¬ x3 = 0 → (
      fM_wordOf x1 (x2 + x4) (fun r2 ms1 =>
      0 ≤ x4 ∧ x4 < 500 ∧
      jj_rl r2 ∧ jj_rl (ms1.2 10 x4) ∧ (¬ r2 = (ms1.2 10 x4) → (
        ∀ v3, v3 = x4 + 1 →
        fM_standsAt_l23 x1 x2 Q n 0 v3 ms1)) ∧
      (r2 = (ms1.2 10 x4) → (
        ∀ v4, v4 = x4 + 1 →
        fM_standsAt_l23 x1 x2 Q n 1 v4 ms1))) ms))))

def fM_standsAt (x1 : Int) (x2 : Int) (Q : Int → jj_MS → Prop) (ms : jj_MS) : Prop :=
  fM_sizeOf x1 (fun r6 ms5 =>
  jj_r (x2 + (ms.1 11)) ∧ jj_r r6 ∧ (r6 < (x2 + (ms.1 11)) → (
    ∃ n9, fM_standsAt_l23 x1 x2 Q n9 0 0 ms5)) ∧
  (¬ r6 < (x2 + (ms.1 11)) → (
    ∃ n9, fM_standsAt_l23 x1 x2 Q n9 1 0 ms5))) ms

theorem sM_standsAt_l23 {X : jj_X} {h0 : jj_H} {m0 k : Nat} {N : Option jj_AV → jj_H → Prop} {XN : String → Nat → jj_H → Prop} (F : jj_F X RX3 cX3_standsAt 5) (M : jj_M X (some (.boolean)) 2 43 N XN) (S : jj_GS X.1 X.2.2.1) (hs : jj_hs X.1 h0 m0) {Q : Int → jj_MS → Prop} (hQ : ∀ r ms, Q r ms → N (some (.inl r)) (jj_mh h0 m0 ms)) (x1 : Int) (x2 : Int) : ∀ (n : Nat) (x3 : Int) (x4 : Int) (ms : jj_MS), fM_standsAt_l23 x1 x2 Q n x3 x4 ms → jj_J X 5 23 [(0, .inr (.inr (.inl (some m0)))), (1, .inl x1), (2, .inl x2), (3, .inl x3), (4, .inl x4)] [] (jj_mh h0 m0 ms) k := by
  intro n
  induction n with
  | zero =>
    intro x3 x4 ms w
    exact (show False from w).elim
  | succ n ih =>
    intro x3 x4 ms w
    rw [fM_standsAt_l23] at w
    refine jr_iload (pc := 23) F (j := 4) dX3_standsAt_23 rfl ?_
    refine jr_aload_n (pc := 25) F (j := 0) dX3_standsAt_25 rfl ?_
    refine jm_get (pc := 26) (f := 11) (v := .inl _) F (Nat.le_of_ble_eq_true rfl) q3141 rfl rfl dX3_standsAt_26 ?_
    obtain ⟨hx9, hy9, w1, w2⟩ := w
    refine jr_icmp_ge (pc := 29) (tgt := 68) F hx9 hy9 dX3_standsAt_29 rfl (fun c9 => ?_) (fun c9 => ?_)
    · have w := w1 c9
      refine jr_iload_n (pc := 68) F (j := 3) dX3_standsAt_68 rfl ?_
      exact jr_zret (pc := 69) F M dX3_standsAt_69 w.1 (hQ _ _ w.2)
    · have w := w2 c9
      refine jr_iload_n (pc := 32) F (j := 3) dX3_standsAt_32 rfl ?_
      obtain ⟨hx9, w1, w2⟩ := w
      refine jr_if_eq (pc := 33) (tgt := 68) F hx9 dX3_standsAt_33 rfl (fun c9 => ?_) (fun c9 => ?_)
      · have w := w1 c9
        refine jr_iload_n (pc := 68) F (j := 3) dX3_standsAt_68 rfl ?_
        exact jr_zret (pc := 69) F M dX3_standsAt_69 w.1 (hQ _ _ w.2)
      · have w := w2 c9
        refine jr_aload_n (pc := 36) F (j := 0) dX3_standsAt_36 rfl ?_
        refine jr_iload_n (pc := 37) F (j := 1) dX3_standsAt_37 rfl ?_
        refine jr_iload_n (pc := 38) F (j := 2) dX3_standsAt_38 rfl ?_
        refine jr_iload (pc := 39) F (j := 4) dX3_standsAt_39 rfl ?_
        refine jr_iadd (pc := 41) F dX3_standsAt_41 ?_
        refine jr_callV (pc := 42) (As := [_, _]) F M (lw_V q3323 q3325 qs55 q143 q3326) dX3_standsAt_42 hM_wordOf rfl (Nat.le_of_ble_eq_true rfl) (Nat.le_of_ble_eq_true rfl) (Nat.le_of_ble_eq_true rfl) (jj_set_self _ _ _) rfl rfl (Nat.zero_le _) (cM_wordOf S hs w) (fun v9 h9 q9 => ?_) (fun _ _ _ q9 => q9.elim)
        obtain ⟨r2, ms1, rfl, rfl, w⟩ := q9
        refine jr_aload_n (pc := 45) F (j := 0) dX3_standsAt_45 rfl ?_
        refine jm_get (pc := 46) (f := 10) (v := .inr (.inr (.inl (some (m0 + 1 + 8))))) F (Nat.le_of_ble_eq_true rfl) q3140 rfl rfl dX3_standsAt_46 ?_
        refine jr_iload (pc := 49) F (j := 4) dX3_standsAt_49 rfl ?_
        obtain ⟨hi1, hi2, w⟩ := w
        refine jm_lald (pc := 51) (f := 10) (o := 8) F rfl (by decide) hi1 hi2 dX3_standsAt_51 ?_
        obtain ⟨hx9, hy9, w1, w2⟩ := w
        refine jr_lc_ne (pc := 52) (tgt := 60) F hx9 hy9 dX3_standsAt_52 dX3_standsAt_53 rfl (fun c9 => ?_) (fun c9 => ?_)
        · have w := w1 c9
          refine jr_iconst (pc := 60) F dX3_standsAt_60 ?_
          refine jr_istore_n (pc := 61) F (vs' := [(3, .inl _), (0, .inr (.inr (.inl _))), (1, .inl _), (2, .inl _), (4, .inl _)]) dX3_standsAt_61 (Nat.le_of_ble_eq_true rfl) rfl ?_
          have w := w _ rfl
          refine jr_iinc (pc := 62) F (j := 4) (vs' := [(4, .inl _), (3, .inl _), (0, .inr (.inr (.inl _))), (1, .inl _), (2, .inl _)]) dX3_standsAt_62 rfl rfl (Nat.le_of_ble_eq_true rfl) rfl ?_
          refine jr_goto (pc := 65) (tgt := 23) F dX3_standsAt_65 rfl ?_
          refine jj_J.sub [2, 3, 4, 1, 0] rfl ?_
          exact ih _ _ _ w
        · have w := w2 c9
          refine jr_iconst (pc := 56) F dX3_standsAt_56 ?_
          refine jr_goto (pc := 57) (tgt := 61) F dX3_standsAt_57 rfl ?_
          refine jr_istore_n (pc := 61) F (vs' := [(3, .inl _), (0, .inr (.inr (.inl _))), (1, .inl _), (2, .inl _), (4, .inl _)]) dX3_standsAt_61 (Nat.le_of_ble_eq_true rfl) rfl ?_
          have w := w _ rfl
          refine jr_iinc (pc := 62) F (j := 4) (vs' := [(4, .inl _), (3, .inl _), (0, .inr (.inr (.inl _))), (1, .inl _), (2, .inl _)]) dX3_standsAt_62 rfl rfl (Nat.le_of_ble_eq_true rfl) rfl ?_
          refine jr_goto (pc := 65) (tgt := 23) F dX3_standsAt_65 rfl ?_
          refine jj_J.sub [2, 3, 4, 1, 0] rfl ?_
          exact ih _ _ _ w

theorem sM_standsAt {X : jj_X} {h0 : jj_H} {m0 k : Nat} {N : Option jj_AV → jj_H → Prop} {XN : String → Nat → jj_H → Prop} (F : jj_F X RX3 cX3_standsAt 5) (M : jj_M X (some (.boolean)) 2 43 N XN) (S : jj_GS X.1 X.2.2.1) (hs : jj_hs X.1 h0 m0) {Q : Int → jj_MS → Prop} (hQ : ∀ r ms, Q r ms → N (some (.inl r)) (jj_mh h0 m0 ms)) : ∀ (x1 : Int) (x2 : Int) (ms : jj_MS), fM_standsAt x1 x2 Q ms → jj_J X 5 0 [(0, .inr (.inr (.inl (some m0)))), (1, .inl x1), (2, .inl x2)] [] (jj_mh h0 m0 ms) k := by
  intro x1 x2 ms w
  unfold fM_standsAt at w
  refine jr_iload_n (pc := 0) F (j := 2) dX3_standsAt_0 rfl ?_
  refine jr_aload_n (pc := 1) F (j := 0) dX3_standsAt_1 rfl ?_
  refine jm_get (pc := 2) (f := 11) (v := .inl _) F (Nat.le_of_ble_eq_true rfl) q3141 rfl rfl dX3_standsAt_2 ?_
  refine jr_iadd (pc := 5) F dX3_standsAt_5 ?_
  refine jr_aload_n (pc := 6) F (j := 0) dX3_standsAt_6 rfl ?_
  refine jr_iload_n (pc := 7) F (j := 1) dX3_standsAt_7 rfl ?_
  refine jr_callV (pc := 8) (As := [_]) F M (lw_V q3307 q3309 qs51 q143 q3310) dX3_standsAt_8 hM_sizeOf rfl (Nat.le_of_ble_eq_true rfl) (Nat.le_of_ble_eq_true rfl) (Nat.le_of_ble_eq_true rfl) (jj_set_self _ _ _) rfl rfl (Nat.zero_le _) (cM_sizeOf S hs w) (fun v9 h9 q9 => ?_) (fun _ _ _ q9 => q9.elim)
  obtain ⟨r6, ms5, rfl, rfl, w⟩ := q9
  obtain ⟨hx9, hy9, w1, w2⟩ := w
  refine jr_icmp_gt (pc := 11) (tgt := 18) F hx9 hy9 dX3_standsAt_11 rfl (fun c9 => ?_) (fun c9 => ?_)
  · have w := w1 c9
    refine jr_iconst (pc := 18) F dX3_standsAt_18 ?_
    refine jr_istore_n (pc := 19) F (vs' := [(3, .inl _), (0, .inr (.inr (.inl _))), (1, .inl _), (2, .inl _)]) dX3_standsAt_19 (Nat.le_of_ble_eq_true rfl) rfl ?_
    refine jr_iconst (pc := 20) F dX3_standsAt_20 ?_
    refine jr_istore (pc := 21) F (vs' := [(4, .inl _), (3, .inl _), (0, .inr (.inr (.inl _))), (1, .inl _), (2, .inl _)]) dX3_standsAt_21 (Nat.le_of_ble_eq_true rfl) rfl ?_
    refine jj_J.sub [2, 3, 4, 1, 0] rfl ?_
    obtain ⟨n9, w⟩ := w
    exact sM_standsAt_l23 F M S hs hQ _ _ n9 _ _ _ w
  · have w := w2 c9
    refine jr_iconst (pc := 14) F dX3_standsAt_14 ?_
    refine jr_goto (pc := 15) (tgt := 19) F dX3_standsAt_15 rfl ?_
    refine jr_istore_n (pc := 19) F (vs' := [(3, .inl _), (0, .inr (.inr (.inl _))), (1, .inl _), (2, .inl _)]) dX3_standsAt_19 (Nat.le_of_ble_eq_true rfl) rfl ?_
    refine jr_iconst (pc := 20) F dX3_standsAt_20 ?_
    refine jr_istore (pc := 21) F (vs' := [(4, .inl _), (3, .inl _), (0, .inr (.inr (.inl _))), (1, .inl _), (2, .inl _)]) dX3_standsAt_21 (Nat.le_of_ble_eq_true rfl) rfl ?_
    refine jj_J.sub [2, 3, 4, 1, 0] rfl ?_
    obtain ⟨n9, w⟩ := w
    exact sM_standsAt_l23 F M S hs hQ _ _ n9 _ _ _ w

theorem cM_standsAt {G : jj_G} {l : Launch} (S : jj_GS G l) {h0 : jj_H} {m0 : Nat} (hs : jj_hs G h0 m0) {x1 : Int} {x2 : Int} {ms : jj_MS} {Q : Int → jj_MS → Prop} (w : fM_standsAt x1 x2 Q ms) : jj_Ct G l yX3_standsAt (ws_ yX3_standsAt cX3_standsAt 5 (some (.boolean))) 2 43 [.inr (.inr (.inl (some m0))), .inl x1, .inl x2] (jj_mh h0 m0 ms) 0 (jm_Ni h0 m0 Q) jj_F0 := by
  refine jj_Ct.of S.1 (by decide +kernel) (Nat.le_of_ble_eq_true rfl) rfl (fun X hG hl F M O hnm => ?_)
  subst hG; subst hl
  exact sM_standsAt F M S hs (fun r ms q => ⟨r, ms, rfl, rfl, q⟩) _ _ _ w
theorem hM_standsAt : yX3_standsAt.cls = RX3 ∧ yX3_standsAt.cls ≠ "java/lang/invoke/MethodHandle" ∧ yX3_standsAt.cls ≠ "java/lang/invoke/VarHandle" ∧ (parseMethodDescriptor yX3_standsAt.desc).map (fun d => d.parameters.length) = some 2 := by decide +kernel
/-! parseQuote(I)V -/
def fM_parseQuote_j171 (y1 : Int) (Q : jj_MS → Prop) (ms : jj_MS) : Prop :=
  fM_require y1 5 (fun ms1 =>
  ∀ ms3, ms3 = jj_mI ms1 44 (((ms1.1 43) + (ms1.1 11)) - 1) →
  fM_advance (fun ms4 =>
  Q ms4) ms3) ms

def fM_parseQuote_j166 (Q : jj_MS → Prop) (ms : jj_MS) : Prop :=
  fM_parseQuote_j171 1 Q ms

def fM_parseQuote_j146 (x1 : Int) (Q : jj_MS → Prop) (ms : jj_MS) : Prop :=
  fM_isFine (fun r7 ms6 =>
  jj_r r7 ∧ (r7 = 0 → (
    fM_parseQuote_j166 Q ms6)) ∧
  (¬ r7 = 0 → (
    fM_sizeOf x1 (fun r9 ms8 =>
    jj_r (ms6.1 43) ∧ jj_r r9 ∧ (r9 ≤ (ms6.1 43) → (
      fM_parseQuote_j171 0 Q ms8)) ∧
    (¬ r9 ≤ (ms6.1 43) → (
      fM_parseQuote_j166 Q ms8))) ms6))) ms

def fM_parseQuote_l102 (x1 : Int) (Q : jj_MS → Prop) : Nat → jj_MS → Prop
  | 0, _ => False
  | n + 1, ms =>
  fM_isFine (fun r11 ms10 =>
  jj_r r11 ∧ (r11 = 0 → (
    fM_parseQuote_j146 x1 Q ms10)) ∧
  (¬ r11 = 0 → (
    fM_sizeOf x1 (fun r13 ms12 =>
    jj_r (ms10.1 43) ∧ jj_r r13 ∧ (r13 ≤ (ms10.1 43) → (
      fM_parseQuote_j146 x1 Q ms12)) ∧
    (¬ r13 ≤ (ms10.1 43) → (
      fM_standsAt x1 (ms12.1 43) (fun r15 ms14 =>
      jj_r r15 ∧ (¬ r15 = 0 → (
        fM_parseQuote_j146 x1 Q ms14)) ∧
      (r15 = 0 → (
        ∀ ms16, ms16 = jj_mI ms14 43 ((ms14.1 43) + 1) →
        fM_parseQuote_l102 x1 Q n ms16))) ms12))) ms10))) ms

def fM_parseQuote_l37 (x1 : Int) (Q : jj_MS → Prop) : Nat → Int → jj_MS → Prop
  | 0, _, _ => False
  | n + 1, x2, ms =>
  jj_r x2 ∧ (x2 = 0 → (
    ∀ ms17, ms17 = jj_mI ms 43 0 →
    ∃ n9, fM_parseQuote_l102 x1 Q n9 ms17)) ∧
  (¬ x2 = 0 → (
    fM_requireWord (fun ms18 =>
    0 ≤ (ms18.1 11) ∧ (ms18.1 11) < 500 ∧
    ∀ ms20, ms20 = jj_mA ms18 10 (ms18.1 11) (ms18.1 42) →
    ∀ ms21, ms21 = jj_mI ms20 11 ((ms20.1 11) + 1) →
    fM_advance (fun ms22 =>
    fM_isFine (fun r25 ms24 =>
    jj_r r25 ∧ (r25 = 0 → (
      fM_parseQuote_l37 x1 Q n 0 ms24)) ∧
    (¬ r25 = 0 → (
      jj_r (ms24.1 37) ∧ ((ms24.1 37) = 6 → (
        fM_parseQuote_l37 x1 Q n 0 ms24)) ∧
      (¬ (ms24.1 37) = 6 → (
        fM_parseQuote_l37 x1 Q n 1 ms24))))) ms22) ms21) ms))

def fM_parseQuote_j19 (x1 : Int) (y1 : Int) (Q : jj_MS → Prop) (ms : jj_MS) : Prop :=
  fM_require y1 1 (fun ms26 =>
  fM_advance (fun ms28 =>
  ∀ ms30, ms30 = jj_mI ms28 11 0 →
  fM_isFine (fun r32 ms31 =>
  ∃ n9, fM_parseQuote_l37 x1 Q n9 r32 ms31) ms30) ms26) ms

def fM_parseQuote (x1 : Int) (Q : jj_MS → Prop) (ms : jj_MS) : Prop :=
  fM_advance (fun ms33 =>
  jj_r (ms33.1 37) ∧ (¬ (ms33.1 37) = 6 → (
    fM_parseQuote_j19 x1 0 Q ms33)) ∧
  ((ms33.1 37) = 6 → (
    fM_parseQuote_j19 x1 1 Q ms33))) ms

theorem sM_parseQuote_j171 {X : jj_X} {h0 : jj_H} {m0 k : Nat} {N : Option jj_AV → jj_H → Prop} {XN : String → Nat → jj_H → Prop} (F : jj_F X RX3 cX3_parseQuote 3) (M : jj_M X (none) 4 83 N XN) (S : jj_GS X.1 X.2.2.1) (hs : jj_hs X.1 h0 m0) {Q : jj_MS → Prop} (hQ : ∀ ms, Q ms → N none (jj_mh h0 m0 ms)) : ∀ (y1 : Int) (ms : jj_MS), fM_parseQuote_j171 y1 Q ms → jj_J X 3 171 [(0, .inr (.inr (.inl (some m0))))] [.inl y1, .inr (.inr (.inl (some m0)))] (jj_mh h0 m0 ms) k := by
  intro y1 ms w
  unfold fM_parseQuote_j171 at w
  refine jr_iconst (pc := 171) F dX3_parseQuote_171 ?_
  refine jr_callV (pc := 172) (As := [_, _]) F M (lw_V q3692 q3694 qs106 q143 q3695) dX3_parseQuote_172 hM_require rfl (Nat.le_of_ble_eq_true rfl) (Nat.le_of_ble_eq_true rfl) (Nat.le_of_ble_eq_true rfl) (jj_set_self _ _ _) rfl rfl (Nat.zero_le _) (cM_require S hs w) (fun v9 h9 q9 => ?_) (fun _ _ _ q9 => q9.elim)
  obtain ⟨ms1, rfl, rfl, w⟩ := q9
  refine jr_aload_n (pc := 175) F (j := 0) dX3_parseQuote_175 rfl ?_
  refine jr_aload_n (pc := 176) F (j := 0) dX3_parseQuote_176 rfl ?_
  refine jm_get (pc := 177) (f := 43) (v := .inl _) F (Nat.le_of_ble_eq_true rfl) q3173 rfl rfl dX3_parseQuote_177 ?_
  refine jr_aload_n (pc := 180) F (j := 0) dX3_parseQuote_180 rfl ?_
  refine jm_get (pc := 181) (f := 11) (v := .inl _) F (Nat.le_of_ble_eq_true rfl) q3141 rfl rfl dX3_parseQuote_181 ?_
  refine jr_iadd (pc := 184) F dX3_parseQuote_184 ?_
  refine jr_iconst (pc := 185) F dX3_parseQuote_185 ?_
  refine jr_isub (pc := 186) F dX3_parseQuote_186 ?_
  have w := w _ rfl
  refine jm_put (pc := 187) (f := 44) F (Nat.le_of_ble_eq_true rfl) q3174 rfl rfl rfl rfl rfl rfl dX3_parseQuote_187 ?_
  refine jr_aload_n (pc := 190) F (j := 0) dX3_parseQuote_190 rfl ?_
  refine jr_callV (pc := 191) (As := []) F M (lw_V q3696 q3698 qs107 q143 q3699) dX3_parseQuote_191 hM_advance rfl (Nat.le_of_ble_eq_true rfl) (Nat.le_of_ble_eq_true rfl) (Nat.le_of_ble_eq_true rfl) (jj_set_self _ _ _) rfl rfl (Nat.zero_le _) (cM_advance S hs w) (fun v9 h9 q9 => ?_) (fun _ _ _ q9 => q9.elim)
  obtain ⟨ms4, rfl, rfl, w⟩ := q9
  exact jr_vret (pc := 194) F M dX3_parseQuote_194 (hQ _ w)

theorem sM_parseQuote_j166 {X : jj_X} {h0 : jj_H} {m0 k : Nat} {N : Option jj_AV → jj_H → Prop} {XN : String → Nat → jj_H → Prop} (F : jj_F X RX3 cX3_parseQuote 3) (M : jj_M X (none) 4 83 N XN) (S : jj_GS X.1 X.2.2.1) (hs : jj_hs X.1 h0 m0) {Q : jj_MS → Prop} (hQ : ∀ ms, Q ms → N none (jj_mh h0 m0 ms)) : ∀ (ms : jj_MS), fM_parseQuote_j166 Q ms → jj_J X 3 166 [(0, .inr (.inr (.inl (some m0))))] [.inr (.inr (.inl (some m0)))] (jj_mh h0 m0 ms) k := by
  intro  ms w
  unfold fM_parseQuote_j166 at w
  refine jr_iconst (pc := 166) F dX3_parseQuote_166 ?_
  refine jr_goto (pc := 167) (tgt := 171) F dX3_parseQuote_167 rfl ?_
  exact sM_parseQuote_j171 F M S hs hQ _ _ w

theorem sM_parseQuote_j146 {X : jj_X} {h0 : jj_H} {m0 k : Nat} {N : Option jj_AV → jj_H → Prop} {XN : String → Nat → jj_H → Prop} (F : jj_F X RX3 cX3_parseQuote 3) (M : jj_M X (none) 4 83 N XN) (S : jj_GS X.1 X.2.2.1) (hs : jj_hs X.1 h0 m0) {Q : jj_MS → Prop} (hQ : ∀ ms, Q ms → N none (jj_mh h0 m0 ms)) : ∀ (x1 : Int) (ms : jj_MS), fM_parseQuote_j146 x1 Q ms → jj_J X 3 146 [(0, .inr (.inr (.inl (some m0)))), (1, .inl x1)] [] (jj_mh h0 m0 ms) k := by
  intro x1 ms w
  unfold fM_parseQuote_j146 at w
  refine jr_aload_n (pc := 146) F (j := 0) dX3_parseQuote_146 rfl ?_
  refine jr_aload_n (pc := 147) F (j := 0) dX3_parseQuote_147 rfl ?_
  refine jr_callV (pc := 148) (As := []) F M (lw_V q3675 q3677 qs102 q143 q3678) dX3_parseQuote_148 hM_isFine rfl (Nat.le_of_ble_eq_true rfl) (Nat.le_of_ble_eq_true rfl) (Nat.le_of_ble_eq_true rfl) (jj_set_self _ _ _) rfl rfl (Nat.zero_le _) (cM_isFine S hs w) (fun v9 h9 q9 => ?_) (fun _ _ _ q9 => q9.elim)
  obtain ⟨r7, ms6, rfl, rfl, w⟩ := q9
  obtain ⟨hx9, w1, w2⟩ := w
  refine jr_if_eq (pc := 151) (tgt := 166) F hx9 dX3_parseQuote_151 rfl (fun c9 => ?_) (fun c9 => ?_)
  · have w := w1 c9
    refine jj_J.sub [0] rfl ?_
    exact sM_parseQuote_j166 F M S hs hQ _ w
  · have w := w2 c9
    refine jr_aload_n (pc := 154) F (j := 0) dX3_parseQuote_154 rfl ?_
    refine jm_get (pc := 155) (f := 43) (v := .inl _) F (Nat.le_of_ble_eq_true rfl) q3173 rfl rfl dX3_parseQuote_155 ?_
    refine jr_aload_n (pc := 158) F (j := 0) dX3_parseQuote_158 rfl ?_
    refine jr_iload_n (pc := 159) F (j := 1) dX3_parseQuote_159 rfl ?_
    refine jr_callV (pc := 160) (As := [_]) F M (lw_V q3307 q3309 qs51 q143 q3310) dX3_parseQuote_160 hM_sizeOf rfl (Nat.le_of_ble_eq_true rfl) (Nat.le_of_ble_eq_true rfl) (Nat.le_of_ble_eq_true rfl) (jj_set_self _ _ _) rfl rfl (Nat.zero_le _) (cM_sizeOf S hs w) (fun v9 h9 q9 => ?_) (fun _ _ _ q9 => q9.elim)
    obtain ⟨r9, ms8, rfl, rfl, w⟩ := q9
    obtain ⟨hx9, hy9, w1, w2⟩ := w
    refine jr_icmp_ge (pc := 163) (tgt := 170) F hx9 hy9 dX3_parseQuote_163 rfl (fun c9 => ?_) (fun c9 => ?_)
    · have w := w1 c9
      refine jr_iconst (pc := 170) F dX3_parseQuote_170 ?_
      refine jj_J.sub [0] rfl ?_
      exact sM_parseQuote_j171 F M S hs hQ _ _ w
    · have w := w2 c9
      refine jj_J.sub [0] rfl ?_
      exact sM_parseQuote_j166 F M S hs hQ _ w

theorem sM_parseQuote_l102 {X : jj_X} {h0 : jj_H} {m0 k : Nat} {N : Option jj_AV → jj_H → Prop} {XN : String → Nat → jj_H → Prop} (F : jj_F X RX3 cX3_parseQuote 3) (M : jj_M X (none) 4 83 N XN) (S : jj_GS X.1 X.2.2.1) (hs : jj_hs X.1 h0 m0) {Q : jj_MS → Prop} (hQ : ∀ ms, Q ms → N none (jj_mh h0 m0 ms)) (x1 : Int) : ∀ (n : Nat) (ms : jj_MS), fM_parseQuote_l102 x1 Q n ms → jj_J X 3 102 [(0, .inr (.inr (.inl (some m0)))), (1, .inl x1)] [] (jj_mh h0 m0 ms) k := by
  intro n
  induction n with
  | zero =>
    intro  ms w
    exact (show False from w).elim
  | succ n ih =>
    intro  ms w
    rw [fM_parseQuote_l102] at w
    refine jr_aload_n (pc := 102) F (j := 0) dX3_parseQuote_102 rfl ?_
    refine jr_callV (pc := 103) (As := []) F M (lw_V q3675 q3677 qs102 q143 q3678) dX3_parseQuote_103 hM_isFine rfl (Nat.le_of_ble_eq_true rfl) (Nat.le_of_ble_eq_true rfl) (Nat.le_of_ble_eq_true rfl) (jj_set_self _ _ _) rfl rfl (Nat.zero_le _) (cM_isFine S hs w) (fun v9 h9 q9 => ?_) (fun _ _ _ q9 => q9.elim)
    obtain ⟨r11, ms10, rfl, rfl, w⟩ := q9
    obtain ⟨hx9, w1, w2⟩ := w
    refine jr_if_eq (pc := 106) (tgt := 146) F hx9 dX3_parseQuote_106 rfl (fun c9 => ?_) (fun c9 => ?_)
    · have w := w1 c9
      exact sM_parseQuote_j146 F M S hs hQ _ _ w
    · have w := w2 c9
      refine jr_aload_n (pc := 109) F (j := 0) dX3_parseQuote_109 rfl ?_
      refine jm_get (pc := 110) (f := 43) (v := .inl _) F (Nat.le_of_ble_eq_true rfl) q3173 rfl rfl dX3_parseQuote_110 ?_
      refine jr_aload_n (pc := 113) F (j := 0) dX3_parseQuote_113 rfl ?_
      refine jr_iload_n (pc := 114) F (j := 1) dX3_parseQuote_114 rfl ?_
      refine jr_callV (pc := 115) (As := [_]) F M (lw_V q3307 q3309 qs51 q143 q3310) dX3_parseQuote_115 hM_sizeOf rfl (Nat.le_of_ble_eq_true rfl) (Nat.le_of_ble_eq_true rfl) (Nat.le_of_ble_eq_true rfl) (jj_set_self _ _ _) rfl rfl (Nat.zero_le _) (cM_sizeOf S hs w) (fun v9 h9 q9 => ?_) (fun _ _ _ q9 => q9.elim)
      obtain ⟨r13, ms12, rfl, rfl, w⟩ := q9
      obtain ⟨hx9, hy9, w1, w2⟩ := w
      refine jr_icmp_ge (pc := 118) (tgt := 146) F hx9 hy9 dX3_parseQuote_118 rfl (fun c9 => ?_) (fun c9 => ?_)
      · have w := w1 c9
        exact sM_parseQuote_j146 F M S hs hQ _ _ w
      · have w := w2 c9
        refine jr_aload_n (pc := 121) F (j := 0) dX3_parseQuote_121 rfl ?_
        refine jr_iload_n (pc := 122) F (j := 1) dX3_parseQuote_122 rfl ?_
        refine jr_aload_n (pc := 123) F (j := 0) dX3_parseQuote_123 rfl ?_
        refine jm_get (pc := 124) (f := 43) (v := .inl _) F (Nat.le_of_ble_eq_true rfl) q3173 rfl rfl dX3_parseQuote_124 ?_
        refine jr_callV (pc := 127) (As := [_, _]) F M (lw_V q3743 q3745 qs117 q143 q3746) dX3_parseQuote_127 hM_standsAt rfl (Nat.le_of_ble_eq_true rfl) (Nat.le_of_ble_eq_true rfl) (Nat.le_of_ble_eq_true rfl) (jj_set_self _ _ _) rfl rfl (Nat.zero_le _) (cM_standsAt S hs w) (fun v9 h9 q9 => ?_) (fun _ _ _ q9 => q9.elim)
        obtain ⟨r15, ms14, rfl, rfl, w⟩ := q9
        obtain ⟨hx9, w1, w2⟩ := w
        refine jr_if_ne (pc := 130) (tgt := 146) F hx9 dX3_parseQuote_130 rfl (fun c9 => ?_) (fun c9 => ?_)
        · have w := w1 c9
          exact sM_parseQuote_j146 F M S hs hQ _ _ w
        · have w := w2 c9
          refine jr_aload_n (pc := 133) F (j := 0) dX3_parseQuote_133 rfl ?_
          refine jr_dup (pc := 134) F dX3_parseQuote_134 rfl ?_
          refine jm_get (pc := 135) (f := 43) (v := .inl _) F (Nat.le_of_ble_eq_true rfl) q3173 rfl rfl dX3_parseQuote_135 ?_
          refine jr_iconst (pc := 138) F dX3_parseQuote_138 ?_
          refine jr_iadd (pc := 139) F dX3_parseQuote_139 ?_
          have w := w _ rfl
          refine jm_put (pc := 140) (f := 43) F (Nat.le_of_ble_eq_true rfl) q3173 rfl rfl rfl rfl rfl rfl dX3_parseQuote_140 ?_
          refine jr_goto (pc := 143) (tgt := 102) F dX3_parseQuote_143 rfl ?_
          exact ih _ w

theorem sM_parseQuote_l37 {X : jj_X} {h0 : jj_H} {m0 k : Nat} {N : Option jj_AV → jj_H → Prop} {XN : String → Nat → jj_H → Prop} (F : jj_F X RX3 cX3_parseQuote 3) (M : jj_M X (none) 4 83 N XN) (S : jj_GS X.1 X.2.2.1) (hs : jj_hs X.1 h0 m0) {Q : jj_MS → Prop} (hQ : ∀ ms, Q ms → N none (jj_mh h0 m0 ms)) (x1 : Int) : ∀ (n : Nat) (x2 : Int) (ms : jj_MS), fM_parseQuote_l37 x1 Q n x2 ms → jj_J X 3 37 [(0, .inr (.inr (.inl (some m0)))), (1, .inl x1), (2, .inl x2)] [] (jj_mh h0 m0 ms) k := by
  intro n
  induction n with
  | zero =>
    intro x2 ms w
    exact (show False from w).elim
  | succ n ih =>
    intro x2 ms w
    rw [fM_parseQuote_l37] at w
    refine jr_iload_n (pc := 37) F (j := 2) dX3_parseQuote_37 rfl ?_
    obtain ⟨hx9, w1, w2⟩ := w
    refine jr_if_eq (pc := 38) (tgt := 97) F hx9 dX3_parseQuote_38 rfl (fun c9 => ?_) (fun c9 => ?_)
    · have w := w1 c9
      refine jr_aload_n (pc := 97) F (j := 0) dX3_parseQuote_97 rfl ?_
      refine jr_iconst (pc := 98) F dX3_parseQuote_98 ?_
      have w := w _ rfl
      refine jm_put (pc := 99) (f := 43) F (Nat.le_of_ble_eq_true rfl) q3173 rfl rfl rfl rfl rfl rfl dX3_parseQuote_99 ?_
      refine jj_J.sub [0, 1] rfl ?_
      obtain ⟨n9, w⟩ := w
      exact sM_parseQuote_l102 F M S hs hQ _ n9 _ w
    · have w := w2 c9
      refine jr_aload_n (pc := 41) F (j := 0) dX3_parseQuote_41 rfl ?_
      refine jr_callV (pc := 42) (As := []) F M (lw_V q3704 q3706 qs109 q143 q3707) dX3_parseQuote_42 hM_requireWord rfl (Nat.le_of_ble_eq_true rfl) (Nat.le_of_ble_eq_true rfl) (Nat.le_of_ble_eq_true rfl) (jj_set_self _ _ _) rfl rfl (Nat.zero_le _) (cM_requireWord S hs w) (fun v9 h9 q9 => ?_) (fun _ _ _ q9 => q9.elim)
      obtain ⟨ms18, rfl, rfl, w⟩ := q9
      refine jr_aload_n (pc := 45) F (j := 0) dX3_parseQuote_45 rfl ?_
      refine jm_get (pc := 46) (f := 10) (v := .inr (.inr (.inl (some (m0 + 1 + 8))))) F (Nat.le_of_ble_eq_true rfl) q3140 rfl rfl dX3_parseQuote_46 ?_
      refine jr_aload_n (pc := 49) F (j := 0) dX3_parseQuote_49 rfl ?_
      refine jm_get (pc := 50) (f := 11) (v := .inl _) F (Nat.le_of_ble_eq_true rfl) q3141 rfl rfl dX3_parseQuote_50 ?_
      refine jr_aload_n (pc := 53) F (j := 0) dX3_parseQuote_53 rfl ?_
      refine jm_get (pc := 54) (f := 42) (v := .inr (.inl _)) F (Nat.le_of_ble_eq_true rfl) q3172 rfl rfl dX3_parseQuote_54 ?_
      obtain ⟨hi1, hi2, w⟩ := w
      have w := w _ rfl
      refine jm_last (pc := 57) (f := 10) (o := 8) F (Nat.le_of_ble_eq_true rfl) rfl (by decide) hi1 hi2 dX3_parseQuote_57 ?_
      refine jr_aload_n (pc := 58) F (j := 0) dX3_parseQuote_58 rfl ?_
      refine jr_dup (pc := 59) F dX3_parseQuote_59 rfl ?_
      refine jm_get (pc := 60) (f := 11) (v := .inl _) F (Nat.le_of_ble_eq_true rfl) q3141 rfl rfl dX3_parseQuote_60 ?_
      refine jr_iconst (pc := 63) F dX3_parseQuote_63 ?_
      refine jr_iadd (pc := 64) F dX3_parseQuote_64 ?_
      have w := w _ rfl
      refine jm_put (pc := 65) (f := 11) F (Nat.le_of_ble_eq_true rfl) q3141 rfl rfl rfl rfl rfl rfl dX3_parseQuote_65 ?_
      refine jr_aload_n (pc := 68) F (j := 0) dX3_parseQuote_68 rfl ?_
      refine jr_callV (pc := 69) (As := []) F M (lw_V q3696 q3698 qs107 q143 q3699) dX3_parseQuote_69 hM_advance rfl (Nat.le_of_ble_eq_true rfl) (Nat.le_of_ble_eq_true rfl) (Nat.le_of_ble_eq_true rfl) (jj_set_self _ _ _) rfl rfl (Nat.zero_le _) (cM_advance S hs w) (fun v9 h9 q9 => ?_) (fun _ _ _ q9 => q9.elim)
      obtain ⟨ms22, rfl, rfl, w⟩ := q9
      refine jr_aload_n (pc := 72) F (j := 0) dX3_parseQuote_72 rfl ?_
      refine jr_callV (pc := 73) (As := []) F M (lw_V q3675 q3677 qs102 q143 q3678) dX3_parseQuote_73 hM_isFine rfl (Nat.le_of_ble_eq_true rfl) (Nat.le_of_ble_eq_true rfl) (Nat.le_of_ble_eq_true rfl) (jj_set_self _ _ _) rfl rfl (Nat.zero_le _) (cM_isFine S hs w) (fun v9 h9 q9 => ?_) (fun _ _ _ q9 => q9.elim)
      obtain ⟨r25, ms24, rfl, rfl, w⟩ := q9
      obtain ⟨hx9, w1, w2⟩ := w
      refine jr_if_eq (pc := 76) (tgt := 92) F hx9 dX3_parseQuote_76 rfl (fun c9 => ?_) (fun c9 => ?_)
      · have w := w1 c9
        refine jr_iconst (pc := 92) F dX3_parseQuote_92 ?_
        refine jr_istore_n (pc := 93) F (vs' := [(2, .inl _), (0, .inr (.inr (.inl _))), (1, .inl _)]) dX3_parseQuote_93 (Nat.le_of_ble_eq_true rfl) rfl ?_
        refine jr_goto (pc := 94) (tgt := 37) F dX3_parseQuote_94 rfl ?_
        refine jj_J.sub [1, 2, 0] rfl ?_
        exact ih _ _ w
      · have w := w2 c9
        refine jr_aload_n (pc := 79) F (j := 0) dX3_parseQuote_79 rfl ?_
        refine jm_get (pc := 80) (f := 37) (v := .inl _) F (Nat.le_of_ble_eq_true rfl) q3167 rfl rfl dX3_parseQuote_80 ?_
        refine jr_bipush (pc := 83) F dX3_parseQuote_83 (by decide +kernel) ?_
        obtain ⟨hx9, w1, w2⟩ := w
        refine jr_icmp_eq (pc := 85) (tgt := 92) F hx9 ⟨by decide, by decide⟩ dX3_parseQuote_85 rfl (fun c9 => ?_) (fun c9 => ?_)
        · have w := w1 c9
          refine jr_iconst (pc := 92) F dX3_parseQuote_92 ?_
          refine jr_istore_n (pc := 93) F (vs' := [(2, .inl _), (0, .inr (.inr (.inl _))), (1, .inl _)]) dX3_parseQuote_93 (Nat.le_of_ble_eq_true rfl) rfl ?_
          refine jr_goto (pc := 94) (tgt := 37) F dX3_parseQuote_94 rfl ?_
          refine jj_J.sub [1, 2, 0] rfl ?_
          exact ih _ _ w
        · have w := w2 c9
          refine jr_iconst (pc := 88) F dX3_parseQuote_88 ?_
          refine jr_goto (pc := 89) (tgt := 93) F dX3_parseQuote_89 rfl ?_
          refine jr_istore_n (pc := 93) F (vs' := [(2, .inl _), (0, .inr (.inr (.inl _))), (1, .inl _)]) dX3_parseQuote_93 (Nat.le_of_ble_eq_true rfl) rfl ?_
          refine jr_goto (pc := 94) (tgt := 37) F dX3_parseQuote_94 rfl ?_
          refine jj_J.sub [1, 2, 0] rfl ?_
          exact ih _ _ w

theorem sM_parseQuote_j19 {X : jj_X} {h0 : jj_H} {m0 k : Nat} {N : Option jj_AV → jj_H → Prop} {XN : String → Nat → jj_H → Prop} (F : jj_F X RX3 cX3_parseQuote 3) (M : jj_M X (none) 4 83 N XN) (S : jj_GS X.1 X.2.2.1) (hs : jj_hs X.1 h0 m0) {Q : jj_MS → Prop} (hQ : ∀ ms, Q ms → N none (jj_mh h0 m0 ms)) : ∀ (x1 : Int) (y1 : Int) (ms : jj_MS), fM_parseQuote_j19 x1 y1 Q ms → jj_J X 3 19 [(0, .inr (.inr (.inl (some m0)))), (1, .inl x1)] [.inl y1, .inr (.inr (.inl (some m0)))] (jj_mh h0 m0 ms) k := by
  intro x1 y1 ms w
  unfold fM_parseQuote_j19 at w
  refine jr_iconst (pc := 19) F dX3_parseQuote_19 ?_
  refine jr_callV (pc := 20) (As := [_, _]) F M (lw_V q3692 q3694 qs106 q143 q3695) dX3_parseQuote_20 hM_require rfl (Nat.le_of_ble_eq_true rfl) (Nat.le_of_ble_eq_true rfl) (Nat.le_of_ble_eq_true rfl) (jj_set_self _ _ _) rfl rfl (Nat.zero_le _) (cM_require S hs w) (fun v9 h9 q9 => ?_) (fun _ _ _ q9 => q9.elim)
  obtain ⟨ms26, rfl, rfl, w⟩ := q9
  refine jr_aload_n (pc := 23) F (j := 0) dX3_parseQuote_23 rfl ?_
  refine jr_callV (pc := 24) (As := []) F M (lw_V q3696 q3698 qs107 q143 q3699) dX3_parseQuote_24 hM_advance rfl (Nat.le_of_ble_eq_true rfl) (Nat.le_of_ble_eq_true rfl) (Nat.le_of_ble_eq_true rfl) (jj_set_self _ _ _) rfl rfl (Nat.zero_le _) (cM_advance S hs w) (fun v9 h9 q9 => ?_) (fun _ _ _ q9 => q9.elim)
  obtain ⟨ms28, rfl, rfl, w⟩ := q9
  refine jr_aload_n (pc := 27) F (j := 0) dX3_parseQuote_27 rfl ?_
  refine jr_iconst (pc := 28) F dX3_parseQuote_28 ?_
  have w := w _ rfl
  refine jm_put (pc := 29) (f := 11) F (Nat.le_of_ble_eq_true rfl) q3141 rfl rfl rfl rfl rfl rfl dX3_parseQuote_29 ?_
  refine jr_aload_n (pc := 32) F (j := 0) dX3_parseQuote_32 rfl ?_
  refine jr_callV (pc := 33) (As := []) F M (lw_V q3675 q3677 qs102 q143 q3678) dX3_parseQuote_33 hM_isFine rfl (Nat.le_of_ble_eq_true rfl) (Nat.le_of_ble_eq_true rfl) (Nat.le_of_ble_eq_true rfl) (jj_set_self _ _ _) rfl rfl (Nat.zero_le _) (cM_isFine S hs w) (fun v9 h9 q9 => ?_) (fun _ _ _ q9 => q9.elim)
  obtain ⟨r32, ms31, rfl, rfl, w⟩ := q9
  refine jr_istore_n (pc := 36) F (vs' := [(2, .inl _), (0, .inr (.inr (.inl _))), (1, .inl _)]) dX3_parseQuote_36 (Nat.le_of_ble_eq_true rfl) rfl ?_
  refine jj_J.sub [1, 2, 0] rfl ?_
  obtain ⟨n9, w⟩ := w
  exact sM_parseQuote_l37 F M S hs hQ _ n9 _ _ w

theorem sM_parseQuote {X : jj_X} {h0 : jj_H} {m0 k : Nat} {N : Option jj_AV → jj_H → Prop} {XN : String → Nat → jj_H → Prop} (F : jj_F X RX3 cX3_parseQuote 3) (M : jj_M X (none) 4 83 N XN) (S : jj_GS X.1 X.2.2.1) (hs : jj_hs X.1 h0 m0) {Q : jj_MS → Prop} (hQ : ∀ ms, Q ms → N none (jj_mh h0 m0 ms)) : ∀ (x1 : Int) (ms : jj_MS), fM_parseQuote x1 Q ms → jj_J X 3 0 [(0, .inr (.inr (.inl (some m0)))), (1, .inl x1)] [] (jj_mh h0 m0 ms) k := by
  intro x1 ms w
  unfold fM_parseQuote at w
  refine jr_aload_n (pc := 0) F (j := 0) dX3_parseQuote_0 rfl ?_
  refine jr_callV (pc := 1) (As := []) F M (lw_V q3696 q3698 qs107 q143 q3699) dX3_parseQuote_1 hM_advance rfl (Nat.le_of_ble_eq_true rfl) (Nat.le_of_ble_eq_true rfl) (Nat.le_of_ble_eq_true rfl) (jj_set_self _ _ _) rfl rfl (Nat.zero_le _) (cM_advance S hs w) (fun v9 h9 q9 => ?_) (fun _ _ _ q9 => q9.elim)
  obtain ⟨ms33, rfl, rfl, w⟩ := q9
  refine jr_aload_n (pc := 4) F (j := 0) dX3_parseQuote_4 rfl ?_
  refine jr_aload_n (pc := 5) F (j := 0) dX3_parseQuote_5 rfl ?_
  refine jm_get (pc := 6) (f := 37) (v := .inl _) F (Nat.le_of_ble_eq_true rfl) q3167 rfl rfl dX3_parseQuote_6 ?_
  refine jr_bipush (pc := 9) F dX3_parseQuote_9 (by decide +kernel) ?_
  obtain ⟨hx9, w1, w2⟩ := w
  refine jr_icmp_ne (pc := 11) (tgt := 18) F hx9 ⟨by decide, by decide⟩ dX3_parseQuote_11 rfl (fun c9 => ?_) (fun c9 => ?_)
  · have w := w1 c9
    refine jr_iconst (pc := 18) F dX3_parseQuote_18 ?_
    exact sM_parseQuote_j19 F M S hs hQ _ _ _ w
  · have w := w2 c9
    refine jr_iconst (pc := 14) F dX3_parseQuote_14 ?_
    refine jr_goto (pc := 15) (tgt := 19) F dX3_parseQuote_15 rfl ?_
    exact sM_parseQuote_j19 F M S hs hQ _ _ _ w

theorem cM_parseQuote {G : jj_G} {l : Launch} (S : jj_GS G l) {h0 : jj_H} {m0 : Nat} (hs : jj_hs G h0 m0) {x1 : Int} {ms : jj_MS} {Q : jj_MS → Prop} (w : fM_parseQuote x1 Q ms) : jj_Ct G l yX3_parseQuote (ws_ yX3_parseQuote cX3_parseQuote 3 (none)) 4 83 [.inr (.inr (.inl (some m0))), .inl x1] (jj_mh h0 m0 ms) 0 (jm_Nv h0 m0 Q) jj_F0 := by
  refine jj_Ct.of S.1 (by decide +kernel) (Nat.le_of_ble_eq_true rfl) rfl (fun X hG hl F M O hnm => ?_)
  subst hG; subst hl
  exact sM_parseQuote F M S hs (fun ms q => ⟨ms, rfl, rfl, q⟩) _ _ w
theorem hM_parseQuote : yX3_parseQuote.cls = RX3 ∧ yX3_parseQuote.cls ≠ "java/lang/invoke/MethodHandle" ∧ yX3_parseQuote.cls ≠ "java/lang/invoke/VarHandle" ∧ (parseMethodDescriptor yX3_parseQuote.desc).map (fun d => d.parameters.length) = some 1 := by decide +kernel
/-! parseSaid(I)V -/
def fM_parseSaid_j61 (K9 : Int → jj_MS → Prop) (x1 : Int) (Q : jj_MS → Prop) (ms : jj_MS) : Prop :=
  fM_advance (fun ms1 =>
  fM_isFine (fun r4 ms3 =>
  jj_r r4 ∧ (r4 = 0 → (
    K9 0 ms3)) ∧
  (¬ r4 = 0 → (
    jj_r (ms3.1 37) ∧ (¬ (ms3.1 37) = 2 → (
      K9 0 ms3)) ∧
    ((ms3.1 37) = 2 → (
      K9 1 ms3))))) ms1) ms

def fM_parseSaid_j41 (K9 : Int → jj_MS → Prop) (x1 : Int) (y1 : Int) (Q : jj_MS → Prop) (ms : jj_MS) : Prop :=
  fM_require y1 4 (fun ms5 =>
  fM_isFine (fun r8 ms7 =>
  jj_r r8 ∧ (r8 = 0 → (
    fM_parseSaid_j61 K9 x1 Q ms7)) ∧
  (¬ r8 = 0 → (
    fM_say x1 (ms7.1 42) (fun ms9 =>
    fM_parseSaid_j61 K9 x1 Q ms9) ms7))) ms5) ms

def fM_parseSaid_j36 (K9 : Int → jj_MS → Prop) (x1 : Int) (Q : jj_MS → Prop) (ms : jj_MS) : Prop :=
  fM_parseSaid_j41 K9 x1 1 Q ms

def fM_parseSaid_l9 (x1 : Int) (Q : jj_MS → Prop) : Nat → Int → jj_MS → Prop
  | 0, _, _ => False
  | n + 1, x2, ms =>
  jj_r x2 ∧ (x2 = 0 → (
    Q ms)) ∧
  (¬ x2 = 0 → (
    fM_requireWord (fun ms11 =>
    fM_isFine (fun r14 ms13 =>
    jj_r r14 ∧ (r14 = 0 → (
      fM_parseSaid_j36 (fM_parseSaid_l9 x1 Q n) x1 Q ms13)) ∧
    (¬ r14 = 0 → (
      fM_ofNote x1 5 (fun r16 ms15 =>
      jj_r r16 ∧ (6 ≤ r16 → (
        fM_parseSaid_j41 (fM_parseSaid_l9 x1 Q n) x1 0 Q ms15)) ∧
      (¬ 6 ≤ r16 → (
        fM_parseSaid_j36 (fM_parseSaid_l9 x1 Q n) x1 Q ms15))) ms13))) ms11) ms))

def fM_parseSaid (x1 : Int) (Q : jj_MS → Prop) (ms : jj_MS) : Prop :=
  fM_advance (fun ms17 =>
  fM_isFine (fun r20 ms19 =>
  ∃ n9, fM_parseSaid_l9 x1 Q n9 r20 ms19) ms17) ms

theorem sM_parseSaid_j61 {X : jj_X} {h0 : jj_H} {m0 k : Nat} {N : Option jj_AV → jj_H → Prop} {XN : String → Nat → jj_H → Prop} (F : jj_F X RX3 cX3_parseSaid 3) (M : jj_M X (none) 4 83 N XN) (S : jj_GS X.1 X.2.2.1) (hs : jj_hs X.1 h0 m0) {Q : jj_MS → Prop} (hQ : ∀ ms, Q ms → N none (jj_mh h0 m0 ms)) (x1 : Int) {K9 : Int → jj_MS → Prop} (hK9 : ∀ (z2 : Int) (ms : jj_MS), K9 z2 ms → jj_J X 3 9 [(0, .inr (.inr (.inl (some m0)))), (1, .inl x1), (2, .inl z2)] [] (jj_mh h0 m0 ms) k) : ∀ (ms : jj_MS), fM_parseSaid_j61 K9 x1 Q ms → jj_J X 3 61 [(0, .inr (.inr (.inl (some m0)))), (1, .inl x1)] [] (jj_mh h0 m0 ms) k := by
  intro  ms w
  unfold fM_parseSaid_j61 at w
  refine jr_aload_n (pc := 61) F (j := 0) dX3_parseSaid_61 rfl ?_
  refine jr_callV (pc := 62) (As := []) F M (lw_V q3696 q3698 qs107 q143 q3699) dX3_parseSaid_62 hM_advance rfl (Nat.le_of_ble_eq_true rfl) (Nat.le_of_ble_eq_true rfl) (Nat.le_of_ble_eq_true rfl) (jj_set_self _ _ _) rfl rfl (Nat.zero_le _) (cM_advance S hs w) (fun v9 h9 q9 => ?_) (fun _ _ _ q9 => q9.elim)
  obtain ⟨ms1, rfl, rfl, w⟩ := q9
  refine jr_aload_n (pc := 65) F (j := 0) dX3_parseSaid_65 rfl ?_
  refine jr_callV (pc := 66) (As := []) F M (lw_V q3675 q3677 qs102 q143 q3678) dX3_parseSaid_66 hM_isFine rfl (Nat.le_of_ble_eq_true rfl) (Nat.le_of_ble_eq_true rfl) (Nat.le_of_ble_eq_true rfl) (jj_set_self _ _ _) rfl rfl (Nat.zero_le _) (cM_isFine S hs w) (fun v9 h9 q9 => ?_) (fun _ _ _ q9 => q9.elim)
  obtain ⟨r4, ms3, rfl, rfl, w⟩ := q9
  obtain ⟨hx9, w1, w2⟩ := w
  refine jr_if_eq (pc := 69) (tgt := 84) F hx9 dX3_parseSaid_69 rfl (fun c9 => ?_) (fun c9 => ?_)
  · have w := w1 c9
    refine jr_iconst (pc := 84) F dX3_parseSaid_84 ?_
    refine jr_istore_n (pc := 85) F (vs' := [(2, .inl _), (0, .inr (.inr (.inl _))), (1, .inl _)]) dX3_parseSaid_85 (Nat.le_of_ble_eq_true rfl) rfl ?_
    refine jr_goto (pc := 86) (tgt := 9) F dX3_parseSaid_86 rfl ?_
    refine jj_J.sub [1, 2, 0] rfl ?_
    exact hK9 _ _ w
  · have w := w2 c9
    refine jr_aload_n (pc := 72) F (j := 0) dX3_parseSaid_72 rfl ?_
    refine jm_get (pc := 73) (f := 37) (v := .inl _) F (Nat.le_of_ble_eq_true rfl) q3167 rfl rfl dX3_parseSaid_73 ?_
    refine jr_iconst (pc := 76) F dX3_parseSaid_76 ?_
    obtain ⟨hx9, w1, w2⟩ := w
    refine jr_icmp_ne (pc := 77) (tgt := 84) F hx9 ⟨by decide, by decide⟩ dX3_parseSaid_77 rfl (fun c9 => ?_) (fun c9 => ?_)
    · have w := w1 c9
      refine jr_iconst (pc := 84) F dX3_parseSaid_84 ?_
      refine jr_istore_n (pc := 85) F (vs' := [(2, .inl _), (0, .inr (.inr (.inl _))), (1, .inl _)]) dX3_parseSaid_85 (Nat.le_of_ble_eq_true rfl) rfl ?_
      refine jr_goto (pc := 86) (tgt := 9) F dX3_parseSaid_86 rfl ?_
      refine jj_J.sub [1, 2, 0] rfl ?_
      exact hK9 _ _ w
    · have w := w2 c9
      refine jr_iconst (pc := 80) F dX3_parseSaid_80 ?_
      refine jr_goto (pc := 81) (tgt := 85) F dX3_parseSaid_81 rfl ?_
      refine jr_istore_n (pc := 85) F (vs' := [(2, .inl _), (0, .inr (.inr (.inl _))), (1, .inl _)]) dX3_parseSaid_85 (Nat.le_of_ble_eq_true rfl) rfl ?_
      refine jr_goto (pc := 86) (tgt := 9) F dX3_parseSaid_86 rfl ?_
      refine jj_J.sub [1, 2, 0] rfl ?_
      exact hK9 _ _ w

theorem sM_parseSaid_j41 {X : jj_X} {h0 : jj_H} {m0 k : Nat} {N : Option jj_AV → jj_H → Prop} {XN : String → Nat → jj_H → Prop} (F : jj_F X RX3 cX3_parseSaid 3) (M : jj_M X (none) 4 83 N XN) (S : jj_GS X.1 X.2.2.1) (hs : jj_hs X.1 h0 m0) {Q : jj_MS → Prop} (hQ : ∀ ms, Q ms → N none (jj_mh h0 m0 ms)) (x1 : Int) {K9 : Int → jj_MS → Prop} (hK9 : ∀ (z2 : Int) (ms : jj_MS), K9 z2 ms → jj_J X 3 9 [(0, .inr (.inr (.inl (some m0)))), (1, .inl x1), (2, .inl z2)] [] (jj_mh h0 m0 ms) k) : ∀ (y1 : Int) (ms : jj_MS), fM_parseSaid_j41 K9 x1 y1 Q ms → jj_J X 3 41 [(0, .inr (.inr (.inl (some m0)))), (1, .inl x1)] [.inl y1, .inr (.inr (.inl (some m0)))] (jj_mh h0 m0 ms) k := by
  intro y1 ms w
  unfold fM_parseSaid_j41 at w
  refine jr_iconst (pc := 41) F dX3_parseSaid_41 ?_
  refine jr_callV (pc := 42) (As := [_, _]) F M (lw_V q3692 q3694 qs106 q143 q3695) dX3_parseSaid_42 hM_require rfl (Nat.le_of_ble_eq_true rfl) (Nat.le_of_ble_eq_true rfl) (Nat.le_of_ble_eq_true rfl) (jj_set_self _ _ _) rfl rfl (Nat.zero_le _) (cM_require S hs w) (fun v9 h9 q9 => ?_) (fun _ _ _ q9 => q9.elim)
  obtain ⟨ms5, rfl, rfl, w⟩ := q9
  refine jr_aload_n (pc := 45) F (j := 0) dX3_parseSaid_45 rfl ?_
  refine jr_callV (pc := 46) (As := []) F M (lw_V q3675 q3677 qs102 q143 q3678) dX3_parseSaid_46 hM_isFine rfl (Nat.le_of_ble_eq_true rfl) (Nat.le_of_ble_eq_true rfl) (Nat.le_of_ble_eq_true rfl) (jj_set_self _ _ _) rfl rfl (Nat.zero_le _) (cM_isFine S hs w) (fun v9 h9 q9 => ?_) (fun _ _ _ q9 => q9.elim)
  obtain ⟨r8, ms7, rfl, rfl, w⟩ := q9
  obtain ⟨hx9, w1, w2⟩ := w
  refine jr_if_eq (pc := 49) (tgt := 61) F hx9 dX3_parseSaid_49 rfl (fun c9 => ?_) (fun c9 => ?_)
  · have w := w1 c9
    exact sM_parseSaid_j61 F M S hs hQ _ hK9 _ w
  · have w := w2 c9
    refine jr_aload_n (pc := 52) F (j := 0) dX3_parseSaid_52 rfl ?_
    refine jr_iload_n (pc := 53) F (j := 1) dX3_parseSaid_53 rfl ?_
    refine jr_aload_n (pc := 54) F (j := 0) dX3_parseSaid_54 rfl ?_
    refine jm_get (pc := 55) (f := 42) (v := .inr (.inl _)) F (Nat.le_of_ble_eq_true rfl) q3172 rfl rfl dX3_parseSaid_55 ?_
    refine jr_callV (pc := 58) (As := [_, _]) F M (lw_V q3516 q3518 qs86 q143 q3519) dX3_parseSaid_58 hM_say rfl (Nat.le_of_ble_eq_true rfl) (Nat.le_of_ble_eq_true rfl) (Nat.le_of_ble_eq_true rfl) (jj_set_self _ _ _) rfl rfl (Nat.zero_le _) (cM_say S hs w) (fun v9 h9 q9 => ?_) (fun _ _ _ q9 => q9.elim)
    obtain ⟨ms9, rfl, rfl, w⟩ := q9
    exact sM_parseSaid_j61 F M S hs hQ _ hK9 _ w

theorem sM_parseSaid_j36 {X : jj_X} {h0 : jj_H} {m0 k : Nat} {N : Option jj_AV → jj_H → Prop} {XN : String → Nat → jj_H → Prop} (F : jj_F X RX3 cX3_parseSaid 3) (M : jj_M X (none) 4 83 N XN) (S : jj_GS X.1 X.2.2.1) (hs : jj_hs X.1 h0 m0) {Q : jj_MS → Prop} (hQ : ∀ ms, Q ms → N none (jj_mh h0 m0 ms)) (x1 : Int) {K9 : Int → jj_MS → Prop} (hK9 : ∀ (z2 : Int) (ms : jj_MS), K9 z2 ms → jj_J X 3 9 [(0, .inr (.inr (.inl (some m0)))), (1, .inl x1), (2, .inl z2)] [] (jj_mh h0 m0 ms) k) : ∀ (ms : jj_MS), fM_parseSaid_j36 K9 x1 Q ms → jj_J X 3 36 [(0, .inr (.inr (.inl (some m0)))), (1, .inl x1)] [.inr (.inr (.inl (some m0)))] (jj_mh h0 m0 ms) k := by
  intro  ms w
  unfold fM_parseSaid_j36 at w
  refine jr_iconst (pc := 36) F dX3_parseSaid_36 ?_
  refine jr_goto (pc := 37) (tgt := 41) F dX3_parseSaid_37 rfl ?_
  exact sM_parseSaid_j41 F M S hs hQ _ hK9 _ _ w

theorem sM_parseSaid_l9 {X : jj_X} {h0 : jj_H} {m0 k : Nat} {N : Option jj_AV → jj_H → Prop} {XN : String → Nat → jj_H → Prop} (F : jj_F X RX3 cX3_parseSaid 3) (M : jj_M X (none) 4 83 N XN) (S : jj_GS X.1 X.2.2.1) (hs : jj_hs X.1 h0 m0) {Q : jj_MS → Prop} (hQ : ∀ ms, Q ms → N none (jj_mh h0 m0 ms)) (x1 : Int) : ∀ (n : Nat) (x2 : Int) (ms : jj_MS), fM_parseSaid_l9 x1 Q n x2 ms → jj_J X 3 9 [(0, .inr (.inr (.inl (some m0)))), (1, .inl x1), (2, .inl x2)] [] (jj_mh h0 m0 ms) k := by
  intro n
  induction n with
  | zero =>
    intro x2 ms w
    exact (show False from w).elim
  | succ n ih =>
    intro x2 ms w
    rw [fM_parseSaid_l9] at w
    refine jr_iload_n (pc := 9) F (j := 2) dX3_parseSaid_9 rfl ?_
    obtain ⟨hx9, w1, w2⟩ := w
    refine jr_if_eq (pc := 10) (tgt := 89) F hx9 dX3_parseSaid_10 rfl (fun c9 => ?_) (fun c9 => ?_)
    · have w := w1 c9
      exact jr_vret (pc := 89) F M dX3_parseSaid_89 (hQ _ w)
    · have w := w2 c9
      refine jr_aload_n (pc := 13) F (j := 0) dX3_parseSaid_13 rfl ?_
      refine jr_callV (pc := 14) (As := []) F M (lw_V q3704 q3706 qs109 q143 q3707) dX3_parseSaid_14 hM_requireWord rfl (Nat.le_of_ble_eq_true rfl) (Nat.le_of_ble_eq_true rfl) (Nat.le_of_ble_eq_true rfl) (jj_set_self _ _ _) rfl rfl (Nat.zero_le _) (cM_requireWord S hs w) (fun v9 h9 q9 => ?_) (fun _ _ _ q9 => q9.elim)
      obtain ⟨ms11, rfl, rfl, w⟩ := q9
      refine jr_aload_n (pc := 17) F (j := 0) dX3_parseSaid_17 rfl ?_
      refine jr_aload_n (pc := 18) F (j := 0) dX3_parseSaid_18 rfl ?_
      refine jr_callV (pc := 19) (As := []) F M (lw_V q3675 q3677 qs102 q143 q3678) dX3_parseSaid_19 hM_isFine rfl (Nat.le_of_ble_eq_true rfl) (Nat.le_of_ble_eq_true rfl) (Nat.le_of_ble_eq_true rfl) (jj_set_self _ _ _) rfl rfl (Nat.zero_le _) (cM_isFine S hs w) (fun v9 h9 q9 => ?_) (fun _ _ _ q9 => q9.elim)
      obtain ⟨r14, ms13, rfl, rfl, w⟩ := q9
      obtain ⟨hx9, w1, w2⟩ := w
      refine jr_if_eq (pc := 22) (tgt := 36) F hx9 dX3_parseSaid_22 rfl (fun c9 => ?_) (fun c9 => ?_)
      · have w := w1 c9
        refine jj_J.sub [0, 1] rfl ?_
        exact sM_parseSaid_j36 F M S hs hQ _ ih _ w
      · have w := w2 c9
        refine jr_aload_n (pc := 25) F (j := 0) dX3_parseSaid_25 rfl ?_
        refine jr_iload_n (pc := 26) F (j := 1) dX3_parseSaid_26 rfl ?_
        refine jr_iconst (pc := 27) F dX3_parseSaid_27 ?_
        refine jr_callV (pc := 28) (As := [_, _]) F M (lw_V q3338 q3340 qs57 q143 q3341) dX3_parseSaid_28 hM_ofNote rfl (Nat.le_of_ble_eq_true rfl) (Nat.le_of_ble_eq_true rfl) (Nat.le_of_ble_eq_true rfl) (jj_set_self _ _ _) rfl rfl (Nat.zero_le _) (cM_ofNote S hs w) (fun v9 h9 q9 => ?_) (fun _ _ _ q9 => q9.elim)
        obtain ⟨r16, ms15, rfl, rfl, w⟩ := q9
        refine jr_bipush (pc := 31) F dX3_parseSaid_31 (by decide +kernel) ?_
        obtain ⟨hx9, w1, w2⟩ := w
        refine jr_icmp_ge (pc := 33) (tgt := 40) F hx9 ⟨by decide, by decide⟩ dX3_parseSaid_33 rfl (fun c9 => ?_) (fun c9 => ?_)
        · have w := w1 c9
          refine jr_iconst (pc := 40) F dX3_parseSaid_40 ?_
          refine jj_J.sub [0, 1] rfl ?_
          exact sM_parseSaid_j41 F M S hs hQ _ ih _ _ w
        · have w := w2 c9
          refine jj_J.sub [0, 1] rfl ?_
          exact sM_parseSaid_j36 F M S hs hQ _ ih _ w

theorem sM_parseSaid {X : jj_X} {h0 : jj_H} {m0 k : Nat} {N : Option jj_AV → jj_H → Prop} {XN : String → Nat → jj_H → Prop} (F : jj_F X RX3 cX3_parseSaid 3) (M : jj_M X (none) 4 83 N XN) (S : jj_GS X.1 X.2.2.1) (hs : jj_hs X.1 h0 m0) {Q : jj_MS → Prop} (hQ : ∀ ms, Q ms → N none (jj_mh h0 m0 ms)) : ∀ (x1 : Int) (ms : jj_MS), fM_parseSaid x1 Q ms → jj_J X 3 0 [(0, .inr (.inr (.inl (some m0)))), (1, .inl x1)] [] (jj_mh h0 m0 ms) k := by
  intro x1 ms w
  unfold fM_parseSaid at w
  refine jr_aload_n (pc := 0) F (j := 0) dX3_parseSaid_0 rfl ?_
  refine jr_callV (pc := 1) (As := []) F M (lw_V q3696 q3698 qs107 q143 q3699) dX3_parseSaid_1 hM_advance rfl (Nat.le_of_ble_eq_true rfl) (Nat.le_of_ble_eq_true rfl) (Nat.le_of_ble_eq_true rfl) (jj_set_self _ _ _) rfl rfl (Nat.zero_le _) (cM_advance S hs w) (fun v9 h9 q9 => ?_) (fun _ _ _ q9 => q9.elim)
  obtain ⟨ms17, rfl, rfl, w⟩ := q9
  refine jr_aload_n (pc := 4) F (j := 0) dX3_parseSaid_4 rfl ?_
  refine jr_callV (pc := 5) (As := []) F M (lw_V q3675 q3677 qs102 q143 q3678) dX3_parseSaid_5 hM_isFine rfl (Nat.le_of_ble_eq_true rfl) (Nat.le_of_ble_eq_true rfl) (Nat.le_of_ble_eq_true rfl) (jj_set_self _ _ _) rfl rfl (Nat.zero_le _) (cM_isFine S hs w) (fun v9 h9 q9 => ?_) (fun _ _ _ q9 => q9.elim)
  obtain ⟨r20, ms19, rfl, rfl, w⟩ := q9
  refine jr_istore_n (pc := 8) F (vs' := [(2, .inl _), (0, .inr (.inr (.inl _))), (1, .inl _)]) dX3_parseSaid_8 (Nat.le_of_ble_eq_true rfl) rfl ?_
  refine jj_J.sub [1, 2, 0] rfl ?_
  obtain ⟨n9, w⟩ := w
  exact sM_parseSaid_l9 F M S hs hQ _ n9 _ _ w

theorem cM_parseSaid {G : jj_G} {l : Launch} (S : jj_GS G l) {h0 : jj_H} {m0 : Nat} (hs : jj_hs G h0 m0) {x1 : Int} {ms : jj_MS} {Q : jj_MS → Prop} (w : fM_parseSaid x1 Q ms) : jj_Ct G l yX3_parseSaid (ws_ yX3_parseSaid cX3_parseSaid 3 (none)) 4 83 [.inr (.inr (.inl (some m0))), .inl x1] (jj_mh h0 m0 ms) 0 (jm_Nv h0 m0 Q) jj_F0 := by
  refine jj_Ct.of S.1 (by decide +kernel) (Nat.le_of_ble_eq_true rfl) rfl (fun X hG hl F M O hnm => ?_)
  subst hG; subst hl
  exact sM_parseSaid F M S hs (fun ms q => ⟨ms, rfl, rfl, q⟩) _ _ w
theorem hM_parseSaid : yX3_parseSaid.cls = RX3 ∧ yX3_parseSaid.cls ≠ "java/lang/invoke/MethodHandle" ∧ yX3_parseSaid.cls ≠ "java/lang/invoke/VarHandle" ∧ (parseMethodDescriptor yX3_parseSaid.desc).map (fun d => d.parameters.length) = some 1 := by decide +kernel
/-! parseNote()V -/
def fM_parseNote_j144 (x1 : Int) (x2 : Int) (x3 : Int) (Q : jj_MS → Prop) (ms : jj_MS) : Prop :=
  fM_isFine (fun r2 ms1 =>
  jj_r r2 ∧ (¬ r2 = 0 → (
    fM_appendNote x2 x3 x1 (ms1.1 43) (ms1.1 44) (fun r4 ms3 =>
    fM_isKey ((jj_sx 12)) (fun r6 ms5 =>
    jj_r r6 ∧ (r6 = 0 → (
      Q ms5)) ∧
    (¬ r6 = 0 → (
      fM_parseSaid r4 (fun ms7 =>
      Q ms7) ms5))) ms3) ms1)) ∧
  (r2 = 0 → (
    Q ms1))) ms

def fM_parseNote_j120 (x1 : Int) (x2 : Int) (x3 : Int) (Q : jj_MS → Prop) (ms : jj_MS) : Prop :=
  fM_isKey ((jj_sx 11)) (fun r10 ms9 =>
  fM_require r10 1 (fun ms11 =>
  fM_isFine (fun r14 ms13 =>
  jj_r r14 ∧ (r14 = 0 → (
    fM_parseNote_j144 x1 x2 x3 Q ms13)) ∧
  (¬ r14 = 0 → (
    fM_parseQuote x1 (fun ms15 =>
    fM_parseNote_j144 x1 x2 x3 Q ms15) ms13))) ms11) ms9) ms

def fM_parseNote_j82 (x1 : Int) (x2 : Int) (y1 : Int) (Q : jj_MS → Prop) (ms : jj_MS) : Prop :=
  fM_require y1 3 (fun ms17 =>
  fM_advance (fun ms19 =>
  fM_parseKind (fun r22 ms21 =>
  fM_isFine (fun r24 ms23 =>
  jj_r r24 ∧ (r24 = 0 → (
    fM_parseNote_j120 x1 x2 r22 Q ms23)) ∧
  (¬ r24 = 0 → (
    fM_isKey ((jj_sx 7)) (fun r26 ms25 =>
    jj_r r26 ∧ (r26 = 0 → (
      fM_parseNote_j120 x1 x2 r22 Q ms25)) ∧
    (¬ r26 = 0 → (
      fM_parsePage x1 (fun ms27 =>
      fM_parseNote_j144 x1 x2 r22 Q ms27) ms25))) ms23))) ms21) ms19) ms17) ms

def fM_parseNote_j70 (x1 : Int) (y0 : Int) (Q : jj_MS → Prop) (ms : jj_MS) : Prop :=
  jj_r y0 ∧ (y0 = ((-1)) → (
    fM_parseNote_j82 x1 y0 0 Q ms)) ∧
  (¬ y0 = ((-1)) → (
    fM_parseNote_j82 x1 y0 1 Q ms))

def fM_parseNote_j32 (y1 : Int) (Q : jj_MS → Prop) (ms : jj_MS) : Prop :=
  fM_require y1 5 (fun ms29 =>
  fM_editions (fun r32 ms31 =>
  ∀ v33, v33 = r32 - 1 →
  fM_advance (fun ms34 =>
  fM_requireWord (fun ms36 =>
  fM_isFine (fun r39 ms38 =>
  jj_r r39 ∧ (r39 = 0 → (
    fM_parseNote_j70 v33 0 Q ms38)) ∧
  (¬ r39 = 0 → (
    fM_readerNamed (ms38.1 42) (fun r41 ms40 =>
    fM_parseNote_j70 v33 r41 Q ms40) ms38))) ms36) ms34) ms31) ms29) ms

def fM_parseNote_j15 (y1 : Int) (Q : jj_MS → Prop) (ms : jj_MS) : Prop :=
  fM_require y1 4 (fun ms42 =>
  fM_editions (fun r45 ms44 =>
  jj_r r45 ∧ (r45 ≤ 0 → (
    fM_parseNote_j32 0 Q ms44)) ∧
  (¬ r45 ≤ 0 → (
    fM_parseNote_j32 1 Q ms44))) ms42) ms

def fM_parseNote (Q : jj_MS → Prop) (ms : jj_MS) : Prop :=
  fM_notes (fun r47 ms46 =>
  jj_r r47 ∧ (40 ≤ r47 → (
    fM_parseNote_j15 0 Q ms46)) ∧
  (¬ 40 ≤ r47 → (
    fM_parseNote_j15 1 Q ms46))) ms

theorem sM_parseNote_j144 {X : jj_X} {h0 : jj_H} {m0 k : Nat} {N : Option jj_AV → jj_H → Prop} {XN : String → Nat → jj_H → Prop} (F : jj_F X RX3 cX3_parseNote 5) (M : jj_M X (none) 12 392 N XN) (S : jj_GS X.1 X.2.2.1) (hs : jj_hs X.1 h0 m0) {Q : jj_MS → Prop} (hQ : ∀ ms, Q ms → N none (jj_mh h0 m0 ms)) : ∀ (x1 : Int) (x2 : Int) (x3 : Int) (ms : jj_MS), fM_parseNote_j144 x1 x2 x3 Q ms → jj_J X 5 144 [(0, .inr (.inr (.inl (some m0)))), (1, .inl x1), (2, .inl x2), (3, .inl x3)] [] (jj_mh h0 m0 ms) k := by
  intro x1 x2 x3 ms w
  unfold fM_parseNote_j144 at w
  refine jr_aload_n (pc := 144) F (j := 0) dX3_parseNote_144 rfl ?_
  refine jr_callV (pc := 145) (As := []) F M (lw_V q3675 q3677 qs102 q143 q3678) dX3_parseNote_145 hM_isFine rfl (Nat.le_of_ble_eq_true rfl) (Nat.le_of_ble_eq_true rfl) (Nat.le_of_ble_eq_true rfl) (jj_set_self _ _ _) rfl rfl (Nat.zero_le _) (cM_isFine S hs w) (fun v9 h9 q9 => ?_) (fun _ _ _ q9 => q9.elim)
  obtain ⟨r2, ms1, rfl, rfl, w⟩ := q9
  obtain ⟨hx9, w1, w2⟩ := w
  refine jr_if_ne (pc := 148) (tgt := 152) F hx9 dX3_parseNote_148 rfl (fun c9 => ?_) (fun c9 => ?_)
  · have w := w1 c9
    refine jr_aload_n (pc := 152) F (j := 0) dX3_parseNote_152 rfl ?_
    refine jr_iload_n (pc := 153) F (j := 2) dX3_parseNote_153 rfl ?_
    refine jr_iload_n (pc := 154) F (j := 3) dX3_parseNote_154 rfl ?_
    refine jr_iload_n (pc := 155) F (j := 1) dX3_parseNote_155 rfl ?_
    refine jr_aload_n (pc := 156) F (j := 0) dX3_parseNote_156 rfl ?_
    refine jm_get (pc := 157) (f := 43) (v := .inl _) F (Nat.le_of_ble_eq_true rfl) q3173 rfl rfl dX3_parseNote_157 ?_
    refine jr_aload_n (pc := 160) F (j := 0) dX3_parseNote_160 rfl ?_
    refine jm_get (pc := 161) (f := 44) (v := .inl _) F (Nat.le_of_ble_eq_true rfl) q3174 rfl rfl dX3_parseNote_161 ?_
    refine jr_callV (pc := 164) (As := [_, _, _, _, _]) F M (lw_V q3512 q3514 qs85 q143 q3515) dX3_parseNote_164 hM_appendNote rfl (Nat.le_of_ble_eq_true rfl) (Nat.le_of_ble_eq_true rfl) (Nat.le_of_ble_eq_true rfl) (jj_set_self _ _ _) rfl rfl (Nat.zero_le _) (cM_appendNote S hs w) (fun v9 h9 q9 => ?_) (fun _ _ _ q9 => q9.elim)
    obtain ⟨r4, ms3, rfl, rfl, w⟩ := q9
    refine jr_istore (pc := 167) F (vs' := [(4, .inl _), (0, .inr (.inr (.inl _))), (1, .inl _), (2, .inl _), (3, .inl _)]) dX3_parseNote_167 (Nat.le_of_ble_eq_true rfl) rfl ?_
    refine jr_aload_n (pc := 169) F (j := 1) dX3_parseNote_169 rfl ?_
    refine jr_ldcwS (pc := 170) F S 12 rfl dX3_parseNote_170 ?_
    refine jr_callV (pc := 173) (As := [_]) F M (lw_V q3684 q3686 qs104 q143 q3687) dX3_parseNote_173 hM_isKey rfl (Nat.le_of_ble_eq_true rfl) (Nat.le_of_ble_eq_true rfl) (Nat.le_of_ble_eq_true rfl) (jj_set_self _ _ _) rfl rfl (Nat.zero_le _) (cM_isKey S hs (hs 12 (by decide)) w) (fun v9 h9 q9 => ?_) (fun _ _ _ q9 => q9.elim)
    obtain ⟨r6, ms5, rfl, rfl, w⟩ := q9
    obtain ⟨hx9, w1, w2⟩ := w
    refine jr_if_eq (pc := 176) (tgt := 185) F hx9 dX3_parseNote_176 rfl (fun c9 => ?_) (fun c9 => ?_)
    · have w := w1 c9
      exact jr_vret (pc := 185) F M dX3_parseNote_185 (hQ _ w)
    · have w := w2 c9
      refine jr_aload_n (pc := 179) F (j := 1) dX3_parseNote_179 rfl ?_
      refine jr_iload (pc := 180) F (j := 0) dX3_parseNote_180 rfl ?_
      refine jr_callV (pc := 182) (As := [_]) F M (lw_V q3748 q3750 qs118 q143 q3751) dX3_parseNote_182 hM_parseSaid rfl (Nat.le_of_ble_eq_true rfl) (Nat.le_of_ble_eq_true rfl) (Nat.le_of_ble_eq_true rfl) (jj_set_self _ _ _) rfl rfl (Nat.zero_le _) (cM_parseSaid S hs w) (fun v9 h9 q9 => ?_) (fun _ _ _ q9 => q9.elim)
      obtain ⟨ms7, rfl, rfl, w⟩ := q9
      exact jr_vret (pc := 185) F M dX3_parseNote_185 (hQ _ w)
  · have w := w2 c9
    exact jr_vret (pc := 151) F M dX3_parseNote_151 (hQ _ w)

theorem sM_parseNote_j120 {X : jj_X} {h0 : jj_H} {m0 k : Nat} {N : Option jj_AV → jj_H → Prop} {XN : String → Nat → jj_H → Prop} (F : jj_F X RX3 cX3_parseNote 5) (M : jj_M X (none) 12 392 N XN) (S : jj_GS X.1 X.2.2.1) (hs : jj_hs X.1 h0 m0) {Q : jj_MS → Prop} (hQ : ∀ ms, Q ms → N none (jj_mh h0 m0 ms)) : ∀ (x1 : Int) (x2 : Int) (x3 : Int) (ms : jj_MS), fM_parseNote_j120 x1 x2 x3 Q ms → jj_J X 5 120 [(0, .inr (.inr (.inl (some m0)))), (1, .inl x1), (2, .inl x2), (3, .inl x3)] [] (jj_mh h0 m0 ms) k := by
  intro x1 x2 x3 ms w
  unfold fM_parseNote_j120 at w
  refine jr_aload_n (pc := 120) F (j := 0) dX3_parseNote_120 rfl ?_
  refine jr_aload_n (pc := 121) F (j := 0) dX3_parseNote_121 rfl ?_
  refine jr_ldcwS (pc := 122) F S 11 rfl dX3_parseNote_122 ?_
  refine jr_callV (pc := 125) (As := [_]) F M (lw_V q3684 q3686 qs104 q143 q3687) dX3_parseNote_125 hM_isKey rfl (Nat.le_of_ble_eq_true rfl) (Nat.le_of_ble_eq_true rfl) (Nat.le_of_ble_eq_true rfl) (jj_set_self _ _ _) rfl rfl (Nat.zero_le _) (cM_isKey S hs (hs 11 (by decide)) w) (fun v9 h9 q9 => ?_) (fun _ _ _ q9 => q9.elim)
  obtain ⟨r10, ms9, rfl, rfl, w⟩ := q9
  refine jr_iconst (pc := 128) F dX3_parseNote_128 ?_
  refine jr_callV (pc := 129) (As := [_, _]) F M (lw_V q3692 q3694 qs106 q143 q3695) dX3_parseNote_129 hM_require rfl (Nat.le_of_ble_eq_true rfl) (Nat.le_of_ble_eq_true rfl) (Nat.le_of_ble_eq_true rfl) (jj_set_self _ _ _) rfl rfl (Nat.zero_le _) (cM_require S hs w) (fun v9 h9 q9 => ?_) (fun _ _ _ q9 => q9.elim)
  obtain ⟨ms11, rfl, rfl, w⟩ := q9
  refine jr_aload_n (pc := 132) F (j := 0) dX3_parseNote_132 rfl ?_
  refine jr_callV (pc := 133) (As := []) F M (lw_V q3675 q3677 qs102 q143 q3678) dX3_parseNote_133 hM_isFine rfl (Nat.le_of_ble_eq_true rfl) (Nat.le_of_ble_eq_true rfl) (Nat.le_of_ble_eq_true rfl) (jj_set_self _ _ _) rfl rfl (Nat.zero_le _) (cM_isFine S hs w) (fun v9 h9 q9 => ?_) (fun _ _ _ q9 => q9.elim)
  obtain ⟨r14, ms13, rfl, rfl, w⟩ := q9
  obtain ⟨hx9, w1, w2⟩ := w
  refine jr_if_eq (pc := 136) (tgt := 144) F hx9 dX3_parseNote_136 rfl (fun c9 => ?_) (fun c9 => ?_)
  · have w := w1 c9
    exact sM_parseNote_j144 F M S hs hQ _ _ _ _ w
  · have w := w2 c9
    refine jr_aload_n (pc := 139) F (j := 0) dX3_parseNote_139 rfl ?_
    refine jr_iload_n (pc := 140) F (j := 1) dX3_parseNote_140 rfl ?_
    refine jr_callV (pc := 141) (As := [_]) F M (lw_V q3739 q3741 qs116 q143 q3742) dX3_parseNote_141 hM_parseQuote rfl (Nat.le_of_ble_eq_true rfl) (Nat.le_of_ble_eq_true rfl) (Nat.le_of_ble_eq_true rfl) (jj_set_self _ _ _) rfl rfl (Nat.zero_le _) (cM_parseQuote S hs w) (fun v9 h9 q9 => ?_) (fun _ _ _ q9 => q9.elim)
    obtain ⟨ms15, rfl, rfl, w⟩ := q9
    exact sM_parseNote_j144 F M S hs hQ _ _ _ _ w

theorem sM_parseNote_j82 {X : jj_X} {h0 : jj_H} {m0 k : Nat} {N : Option jj_AV → jj_H → Prop} {XN : String → Nat → jj_H → Prop} (F : jj_F X RX3 cX3_parseNote 5) (M : jj_M X (none) 12 392 N XN) (S : jj_GS X.1 X.2.2.1) (hs : jj_hs X.1 h0 m0) {Q : jj_MS → Prop} (hQ : ∀ ms, Q ms → N none (jj_mh h0 m0 ms)) : ∀ (x1 : Int) (x2 : Int) (y1 : Int) (ms : jj_MS), fM_parseNote_j82 x1 x2 y1 Q ms → jj_J X 5 82 [(0, .inr (.inr (.inl (some m0)))), (1, .inl x1), (2, .inl x2)] [.inl y1, .inr (.inr (.inl (some m0)))] (jj_mh h0 m0 ms) k := by
  intro x1 x2 y1 ms w
  unfold fM_parseNote_j82 at w
  refine jr_iconst (pc := 82) F dX3_parseNote_82 ?_
  refine jr_callV (pc := 83) (As := [_, _]) F M (lw_V q3692 q3694 qs106 q143 q3695) dX3_parseNote_83 hM_require rfl (Nat.le_of_ble_eq_true rfl) (Nat.le_of_ble_eq_true rfl) (Nat.le_of_ble_eq_true rfl) (jj_set_self _ _ _) rfl rfl (Nat.zero_le _) (cM_require S hs w) (fun v9 h9 q9 => ?_) (fun _ _ _ q9 => q9.elim)
  obtain ⟨ms17, rfl, rfl, w⟩ := q9
  refine jr_aload_n (pc := 86) F (j := 0) dX3_parseNote_86 rfl ?_
  refine jr_callV (pc := 87) (As := []) F M (lw_V q3696 q3698 qs107 q143 q3699) dX3_parseNote_87 hM_advance rfl (Nat.le_of_ble_eq_true rfl) (Nat.le_of_ble_eq_true rfl) (Nat.le_of_ble_eq_true rfl) (jj_set_self _ _ _) rfl rfl (Nat.zero_le _) (cM_advance S hs w) (fun v9 h9 q9 => ?_) (fun _ _ _ q9 => q9.elim)
  obtain ⟨ms19, rfl, rfl, w⟩ := q9
  refine jr_aload_n (pc := 90) F (j := 0) dX3_parseNote_90 rfl ?_
  refine jr_callV (pc := 91) (As := []) F M (lw_V q3718 q3720 qs112 q143 q3721) dX3_parseNote_91 hM_parseKind rfl (Nat.le_of_ble_eq_true rfl) (Nat.le_of_ble_eq_true rfl) (Nat.le_of_ble_eq_true rfl) (jj_set_self _ _ _) rfl rfl (Nat.zero_le _) (cM_parseKind S hs w) (fun v9 h9 q9 => ?_) (fun _ _ _ q9 => q9.elim)
  obtain ⟨r22, ms21, rfl, rfl, w⟩ := q9
  refine jr_istore_n (pc := 94) F (vs' := [(3, .inl _), (0, .inr (.inr (.inl _))), (1, .inl _), (2, .inl _)]) dX3_parseNote_94 (Nat.le_of_ble_eq_true rfl) rfl ?_
  refine jr_aload_n (pc := 95) F (j := 1) dX3_parseNote_95 rfl ?_
  refine jr_callV (pc := 96) (As := []) F M (lw_V q3675 q3677 qs102 q143 q3678) dX3_parseNote_96 hM_isFine rfl (Nat.le_of_ble_eq_true rfl) (Nat.le_of_ble_eq_true rfl) (Nat.le_of_ble_eq_true rfl) (jj_set_self _ _ _) rfl rfl (Nat.zero_le _) (cM_isFine S hs w) (fun v9 h9 q9 => ?_) (fun _ _ _ q9 => q9.elim)
  obtain ⟨r24, ms23, rfl, rfl, w⟩ := q9
  obtain ⟨hx9, w1, w2⟩ := w
  refine jr_if_eq (pc := 99) (tgt := 120) F hx9 dX3_parseNote_99 rfl (fun c9 => ?_) (fun c9 => ?_)
  · have w := w1 c9
    refine jj_J.sub [1, 2, 3, 0] rfl ?_
    exact sM_parseNote_j120 F M S hs hQ _ _ _ _ w
  · have w := w2 c9
    refine jr_aload_n (pc := 102) F (j := 1) dX3_parseNote_102 rfl ?_
    refine jr_ldcwS (pc := 103) F S 7 rfl dX3_parseNote_103 ?_
    refine jr_callV (pc := 106) (As := [_]) F M (lw_V q3684 q3686 qs104 q143 q3687) dX3_parseNote_106 hM_isKey rfl (Nat.le_of_ble_eq_true rfl) (Nat.le_of_ble_eq_true rfl) (Nat.le_of_ble_eq_true rfl) (jj_set_self _ _ _) rfl rfl (Nat.zero_le _) (cM_isKey S hs (hs 7 (by decide)) w) (fun v9 h9 q9 => ?_) (fun _ _ _ q9 => q9.elim)
    obtain ⟨r26, ms25, rfl, rfl, w⟩ := q9
    obtain ⟨hx9, w1, w2⟩ := w
    refine jr_if_eq (pc := 109) (tgt := 120) F hx9 dX3_parseNote_109 rfl (fun c9 => ?_) (fun c9 => ?_)
    · have w := w1 c9
      refine jj_J.sub [1, 2, 3, 0] rfl ?_
      exact sM_parseNote_j120 F M S hs hQ _ _ _ _ w
    · have w := w2 c9
      refine jr_aload_n (pc := 112) F (j := 1) dX3_parseNote_112 rfl ?_
      refine jr_iload_n (pc := 113) F (j := 2) dX3_parseNote_113 rfl ?_
      refine jr_callV (pc := 114) (As := [_]) F M (lw_V q3723 q3725 qs113 q143 q3726) dX3_parseNote_114 hM_parsePage rfl (Nat.le_of_ble_eq_true rfl) (Nat.le_of_ble_eq_true rfl) (Nat.le_of_ble_eq_true rfl) (jj_set_self _ _ _) rfl rfl (Nat.zero_le _) (cM_parsePage S hs w) (fun v9 h9 q9 => ?_) (fun _ _ _ q9 => q9.elim)
      obtain ⟨ms27, rfl, rfl, w⟩ := q9
      refine jr_goto (pc := 117) (tgt := 144) F dX3_parseNote_117 rfl ?_
      refine jj_J.sub [1, 2, 3, 0] rfl ?_
      exact sM_parseNote_j144 F M S hs hQ _ _ _ _ w

theorem sM_parseNote_j70 {X : jj_X} {h0 : jj_H} {m0 k : Nat} {N : Option jj_AV → jj_H → Prop} {XN : String → Nat → jj_H → Prop} (F : jj_F X RX3 cX3_parseNote 5) (M : jj_M X (none) 12 392 N XN) (S : jj_GS X.1 X.2.2.1) (hs : jj_hs X.1 h0 m0) {Q : jj_MS → Prop} (hQ : ∀ ms, Q ms → N none (jj_mh h0 m0 ms)) : ∀ (x1 : Int) (y0 : Int) (ms : jj_MS), fM_parseNote_j70 x1 y0 Q ms → jj_J X 5 70 [(0, .inr (.inr (.inl (some m0)))), (1, .inl x1)] [.inl y0] (jj_mh h0 m0 ms) k := by
  intro x1 y0 ms w
  unfold fM_parseNote_j70 at w
  refine jr_istore_n (pc := 70) F (vs' := [(2, .inl _), (0, .inr (.inr (.inl _))), (1, .inl _)]) dX3_parseNote_70 (Nat.le_of_ble_eq_true rfl) rfl ?_
  refine jr_aload_n (pc := 71) F (j := 1) dX3_parseNote_71 rfl ?_
  refine jr_iload_n (pc := 72) F (j := 0) dX3_parseNote_72 rfl ?_
  refine jr_iconst (pc := 73) F dX3_parseNote_73 ?_
  obtain ⟨hx9, w1, w2⟩ := w
  refine jr_icmp_eq (pc := 74) (tgt := 81) F hx9 ⟨by decide, by decide⟩ dX3_parseNote_74 rfl (fun c9 => ?_) (fun c9 => ?_)
  · have w := w1 c9
    refine jr_iconst (pc := 81) F dX3_parseNote_81 ?_
    refine jj_J.sub [1, 2, 0] rfl ?_
    exact sM_parseNote_j82 F M S hs hQ _ _ _ _ w
  · have w := w2 c9
    refine jr_iconst (pc := 77) F dX3_parseNote_77 ?_
    refine jr_goto (pc := 78) (tgt := 82) F dX3_parseNote_78 rfl ?_
    refine jj_J.sub [1, 2, 0] rfl ?_
    exact sM_parseNote_j82 F M S hs hQ _ _ _ _ w

theorem sM_parseNote_j32 {X : jj_X} {h0 : jj_H} {m0 k : Nat} {N : Option jj_AV → jj_H → Prop} {XN : String → Nat → jj_H → Prop} (F : jj_F X RX3 cX3_parseNote 5) (M : jj_M X (none) 12 392 N XN) (S : jj_GS X.1 X.2.2.1) (hs : jj_hs X.1 h0 m0) {Q : jj_MS → Prop} (hQ : ∀ ms, Q ms → N none (jj_mh h0 m0 ms)) : ∀ (y1 : Int) (ms : jj_MS), fM_parseNote_j32 y1 Q ms → jj_J X 5 32 [(0, .inr (.inr (.inl (some m0))))] [.inl y1, .inr (.inr (.inl (some m0)))] (jj_mh h0 m0 ms) k := by
  intro y1 ms w
  unfold fM_parseNote_j32 at w
  refine jr_iconst (pc := 32) F dX3_parseNote_32 ?_
  refine jr_callV (pc := 33) (As := [_, _]) F M (lw_V q3692 q3694 qs106 q143 q3695) dX3_parseNote_33 hM_require rfl (Nat.le_of_ble_eq_true rfl) (Nat.le_of_ble_eq_true rfl) (Nat.le_of_ble_eq_true rfl) (jj_set_self _ _ _) rfl rfl (Nat.zero_le _) (cM_require S hs w) (fun v9 h9 q9 => ?_) (fun _ _ _ q9 => q9.elim)
  obtain ⟨ms29, rfl, rfl, w⟩ := q9
  refine jr_aload_n (pc := 36) F (j := 0) dX3_parseNote_36 rfl ?_
  refine jr_callV (pc := 37) (As := []) F M (lw_V q3299 q3301 qs49 q143 q3302) dX3_parseNote_37 hM_editions rfl (Nat.le_of_ble_eq_true rfl) (Nat.le_of_ble_eq_true rfl) (Nat.le_of_ble_eq_true rfl) (jj_set_self _ _ _) rfl rfl (Nat.zero_le _) (cM_editions S hs w) (fun v9 h9 q9 => ?_) (fun _ _ _ q9 => q9.elim)
  obtain ⟨r32, ms31, rfl, rfl, w⟩ := q9
  refine jr_iconst (pc := 40) F dX3_parseNote_40 ?_
  refine jr_isub (pc := 41) F dX3_parseNote_41 ?_
  have w := w _ rfl
  refine jr_istore_n (pc := 42) F (vs' := [(1, .inl _), (0, .inr (.inr (.inl _)))]) dX3_parseNote_42 (Nat.le_of_ble_eq_true rfl) rfl ?_
  refine jr_aload_n (pc := 43) F (j := 1) dX3_parseNote_43 rfl ?_
  refine jr_callV (pc := 44) (As := []) F M (lw_V q3696 q3698 qs107 q143 q3699) dX3_parseNote_44 hM_advance rfl (Nat.le_of_ble_eq_true rfl) (Nat.le_of_ble_eq_true rfl) (Nat.le_of_ble_eq_true rfl) (jj_set_self _ _ _) rfl rfl (Nat.zero_le _) (cM_advance S hs w) (fun v9 h9 q9 => ?_) (fun _ _ _ q9 => q9.elim)
  obtain ⟨ms34, rfl, rfl, w⟩ := q9
  refine jr_aload_n (pc := 47) F (j := 1) dX3_parseNote_47 rfl ?_
  refine jr_callV (pc := 48) (As := []) F M (lw_V q3704 q3706 qs109 q143 q3707) dX3_parseNote_48 hM_requireWord rfl (Nat.le_of_ble_eq_true rfl) (Nat.le_of_ble_eq_true rfl) (Nat.le_of_ble_eq_true rfl) (jj_set_self _ _ _) rfl rfl (Nat.zero_le _) (cM_requireWord S hs w) (fun v9 h9 q9 => ?_) (fun _ _ _ q9 => q9.elim)
  obtain ⟨ms36, rfl, rfl, w⟩ := q9
  refine jr_aload_n (pc := 51) F (j := 1) dX3_parseNote_51 rfl ?_
  refine jr_callV (pc := 52) (As := []) F M (lw_V q3675 q3677 qs102 q143 q3678) dX3_parseNote_52 hM_isFine rfl (Nat.le_of_ble_eq_true rfl) (Nat.le_of_ble_eq_true rfl) (Nat.le_of_ble_eq_true rfl) (jj_set_self _ _ _) rfl rfl (Nat.zero_le _) (cM_isFine S hs w) (fun v9 h9 q9 => ?_) (fun _ _ _ q9 => q9.elim)
  obtain ⟨r39, ms38, rfl, rfl, w⟩ := q9
  obtain ⟨hx9, w1, w2⟩ := w
  refine jr_if_eq (pc := 55) (tgt := 69) F hx9 dX3_parseNote_55 rfl (fun c9 => ?_) (fun c9 => ?_)
  · have w := w1 c9
    refine jr_iconst (pc := 69) F dX3_parseNote_69 ?_
    refine jj_J.sub [1, 0] rfl ?_
    exact sM_parseNote_j70 F M S hs hQ _ _ _ w
  · have w := w2 c9
    refine jr_aload_n (pc := 58) F (j := 1) dX3_parseNote_58 rfl ?_
    refine jr_aload_n (pc := 59) F (j := 1) dX3_parseNote_59 rfl ?_
    refine jm_get (pc := 60) (f := 42) (v := .inr (.inl _)) F (Nat.le_of_ble_eq_true rfl) q3172 rfl rfl dX3_parseNote_60 ?_
    refine jr_callV (pc := 63) (As := [_]) F M (lw_V q3492 q3494 qs81 q143 q3495) dX3_parseNote_63 hM_readerNamed rfl (Nat.le_of_ble_eq_true rfl) (Nat.le_of_ble_eq_true rfl) (Nat.le_of_ble_eq_true rfl) (jj_set_self _ _ _) rfl rfl (Nat.zero_le _) (cM_readerNamed S hs w) (fun v9 h9 q9 => ?_) (fun _ _ _ q9 => q9.elim)
    obtain ⟨r41, ms40, rfl, rfl, w⟩ := q9
    refine jr_goto (pc := 66) (tgt := 70) F dX3_parseNote_66 rfl ?_
    refine jj_J.sub [1, 0] rfl ?_
    exact sM_parseNote_j70 F M S hs hQ _ _ _ w

theorem sM_parseNote_j15 {X : jj_X} {h0 : jj_H} {m0 k : Nat} {N : Option jj_AV → jj_H → Prop} {XN : String → Nat → jj_H → Prop} (F : jj_F X RX3 cX3_parseNote 5) (M : jj_M X (none) 12 392 N XN) (S : jj_GS X.1 X.2.2.1) (hs : jj_hs X.1 h0 m0) {Q : jj_MS → Prop} (hQ : ∀ ms, Q ms → N none (jj_mh h0 m0 ms)) : ∀ (y1 : Int) (ms : jj_MS), fM_parseNote_j15 y1 Q ms → jj_J X 5 15 [(0, .inr (.inr (.inl (some m0))))] [.inl y1, .inr (.inr (.inl (some m0)))] (jj_mh h0 m0 ms) k := by
  intro y1 ms w
  unfold fM_parseNote_j15 at w
  refine jr_iconst (pc := 15) F dX3_parseNote_15 ?_
  refine jr_callV (pc := 16) (As := [_, _]) F M (lw_V q3692 q3694 qs106 q143 q3695) dX3_parseNote_16 hM_require rfl (Nat.le_of_ble_eq_true rfl) (Nat.le_of_ble_eq_true rfl) (Nat.le_of_ble_eq_true rfl) (jj_set_self _ _ _) rfl rfl (Nat.zero_le _) (cM_require S hs w) (fun v9 h9 q9 => ?_) (fun _ _ _ q9 => q9.elim)
  obtain ⟨ms42, rfl, rfl, w⟩ := q9
  refine jr_aload_n (pc := 19) F (j := 0) dX3_parseNote_19 rfl ?_
  refine jr_aload_n (pc := 20) F (j := 0) dX3_parseNote_20 rfl ?_
  refine jr_callV (pc := 21) (As := []) F M (lw_V q3299 q3301 qs49 q143 q3302) dX3_parseNote_21 hM_editions rfl (Nat.le_of_ble_eq_true rfl) (Nat.le_of_ble_eq_true rfl) (Nat.le_of_ble_eq_true rfl) (jj_set_self _ _ _) rfl rfl (Nat.zero_le _) (cM_editions S hs w) (fun v9 h9 q9 => ?_) (fun _ _ _ q9 => q9.elim)
  obtain ⟨r45, ms44, rfl, rfl, w⟩ := q9
  obtain ⟨hx9, w1, w2⟩ := w
  refine jr_if_le (pc := 24) (tgt := 31) F hx9 dX3_parseNote_24 rfl (fun c9 => ?_) (fun c9 => ?_)
  · have w := w1 c9
    refine jr_iconst (pc := 31) F dX3_parseNote_31 ?_
    exact sM_parseNote_j32 F M S hs hQ _ _ w
  · have w := w2 c9
    refine jr_iconst (pc := 27) F dX3_parseNote_27 ?_
    refine jr_goto (pc := 28) (tgt := 32) F dX3_parseNote_28 rfl ?_
    exact sM_parseNote_j32 F M S hs hQ _ _ w

theorem sM_parseNote {X : jj_X} {h0 : jj_H} {m0 k : Nat} {N : Option jj_AV → jj_H → Prop} {XN : String → Nat → jj_H → Prop} (F : jj_F X RX3 cX3_parseNote 5) (M : jj_M X (none) 12 392 N XN) (S : jj_GS X.1 X.2.2.1) (hs : jj_hs X.1 h0 m0) {Q : jj_MS → Prop} (hQ : ∀ ms, Q ms → N none (jj_mh h0 m0 ms)) : ∀ (ms : jj_MS), fM_parseNote Q ms → jj_J X 5 0 [(0, .inr (.inr (.inl (some m0))))] [] (jj_mh h0 m0 ms) k := by
  intro  ms w
  unfold fM_parseNote at w
  refine jr_aload_n (pc := 0) F (j := 0) dX3_parseNote_0 rfl ?_
  refine jr_aload_n (pc := 1) F (j := 0) dX3_parseNote_1 rfl ?_
  refine jr_callV (pc := 2) (As := []) F M (lw_V q3334 q3336 qs56 q143 q3337) dX3_parseNote_2 hM_notes rfl (Nat.le_of_ble_eq_true rfl) (Nat.le_of_ble_eq_true rfl) (Nat.le_of_ble_eq_true rfl) (jj_set_self _ _ _) rfl rfl (Nat.zero_le _) (cM_notes S hs w) (fun v9 h9 q9 => ?_) (fun _ _ _ q9 => q9.elim)
  obtain ⟨r47, ms46, rfl, rfl, w⟩ := q9
  refine jr_bipush (pc := 5) F dX3_parseNote_5 (by decide +kernel) ?_
  obtain ⟨hx9, w1, w2⟩ := w
  refine jr_icmp_ge (pc := 7) (tgt := 14) F hx9 ⟨by decide, by decide⟩ dX3_parseNote_7 rfl (fun c9 => ?_) (fun c9 => ?_)
  · have w := w1 c9
    refine jr_iconst (pc := 14) F dX3_parseNote_14 ?_
    exact sM_parseNote_j15 F M S hs hQ _ _ w
  · have w := w2 c9
    refine jr_iconst (pc := 10) F dX3_parseNote_10 ?_
    refine jr_goto (pc := 11) (tgt := 15) F dX3_parseNote_11 rfl ?_
    exact sM_parseNote_j15 F M S hs hQ _ _ w

theorem cM_parseNote {G : jj_G} {l : Launch} (S : jj_GS G l) {h0 : jj_H} {m0 : Nat} (hs : jj_hs G h0 m0) {ms : jj_MS} {Q : jj_MS → Prop} (w : fM_parseNote Q ms) : jj_Ct G l yX3_parseNote (ws_ yX3_parseNote cX3_parseNote 5 (none)) 12 392 [.inr (.inr (.inl (some m0)))] (jj_mh h0 m0 ms) 0 (jm_Nv h0 m0 Q) jj_F0 := by
  refine jj_Ct.of S.1 (by decide +kernel) (Nat.le_of_ble_eq_true rfl) rfl (fun X hG hl F M O hnm => ?_)
  subst hG; subst hl
  exact sM_parseNote F M S hs (fun ms q => ⟨ms, rfl, rfl, q⟩) _ w
theorem hM_parseNote : yX3_parseNote.cls = RX3 ∧ yX3_parseNote.cls ≠ "java/lang/invoke/MethodHandle" ∧ yX3_parseNote.cls ≠ "java/lang/invoke/VarHandle" ∧ (parseMethodDescriptor yX3_parseNote.desc).map (fun d => d.parameters.length) = some 0 := by decide +kernel
/-! parseReader()V -/
def fM_parseReader_j72 (Q : jj_MS → Prop) (ms : jj_MS) : Prop :=
  fM_advance (fun ms1 =>
  Q ms1) ms

def fM_parseReader_j52 (y1 : Int) (Q : jj_MS → Prop) (ms : jj_MS) : Prop :=
  fM_require y1 3 (fun ms3 =>
  fM_isFine (fun r6 ms5 =>
  jj_r r6 ∧ (r6 = 0 → (
    fM_parseReader_j72 Q ms5)) ∧
  (¬ r6 = 0 → (
    fM_appendReader (ms5.1 42) (fun r8 ms7 =>
    fM_parseReader_j72 Q ms7) ms5))) ms3) ms

def fM_parseReader_j47 (Q : jj_MS → Prop) (ms : jj_MS) : Prop :=
  fM_parseReader_j52 1 Q ms

def fM_parseReader_j15 (y1 : Int) (Q : jj_MS → Prop) (ms : jj_MS) : Prop :=
  fM_require y1 4 (fun ms9 =>
  fM_advance (fun ms11 =>
  fM_requireWord (fun ms13 =>
  fM_isFine (fun r16 ms15 =>
  jj_r r16 ∧ (r16 = 0 → (
    fM_parseReader_j47 Q ms15)) ∧
  (¬ r16 = 0 → (
    fM_readerNamed (ms15.1 42) (fun r18 ms17 =>
    jj_r r18 ∧ (¬ r18 = ((-1)) → (
      fM_parseReader_j52 0 Q ms17)) ∧
    (r18 = ((-1)) → (
      fM_parseReader_j47 Q ms17))) ms15))) ms13) ms11) ms9) ms

def fM_parseReader (Q : jj_MS → Prop) (ms : jj_MS) : Prop :=
  fM_readers (fun r20 ms19 =>
  jj_r r20 ∧ (6 ≤ r20 → (
    fM_parseReader_j15 0 Q ms19)) ∧
  (¬ 6 ≤ r20 → (
    fM_parseReader_j15 1 Q ms19))) ms

theorem sM_parseReader_j72 {X : jj_X} {h0 : jj_H} {m0 k : Nat} {N : Option jj_AV → jj_H → Prop} {XN : String → Nat → jj_H → Prop} (F : jj_F X RX3 cX3_parseReader 2) (M : jj_M X (none) 4 83 N XN) (S : jj_GS X.1 X.2.2.1) (hs : jj_hs X.1 h0 m0) {Q : jj_MS → Prop} (hQ : ∀ ms, Q ms → N none (jj_mh h0 m0 ms)) : ∀ (ms : jj_MS), fM_parseReader_j72 Q ms → jj_J X 2 72 [(0, .inr (.inr (.inl (some m0))))] [] (jj_mh h0 m0 ms) k := by
  intro  ms w
  unfold fM_parseReader_j72 at w
  refine jr_aload_n (pc := 72) F (j := 0) dX3_parseReader_72 rfl ?_
  refine jr_callV (pc := 73) (As := []) F M (lw_V q3696 q3698 qs107 q143 q3699) dX3_parseReader_73 hM_advance rfl (Nat.le_of_ble_eq_true rfl) (Nat.le_of_ble_eq_true rfl) (Nat.le_of_ble_eq_true rfl) (jj_set_self _ _ _) rfl rfl (Nat.zero_le _) (cM_advance S hs w) (fun v9 h9 q9 => ?_) (fun _ _ _ q9 => q9.elim)
  obtain ⟨ms1, rfl, rfl, w⟩ := q9
  exact jr_vret (pc := 76) F M dX3_parseReader_76 (hQ _ w)

theorem sM_parseReader_j52 {X : jj_X} {h0 : jj_H} {m0 k : Nat} {N : Option jj_AV → jj_H → Prop} {XN : String → Nat → jj_H → Prop} (F : jj_F X RX3 cX3_parseReader 2) (M : jj_M X (none) 4 83 N XN) (S : jj_GS X.1 X.2.2.1) (hs : jj_hs X.1 h0 m0) {Q : jj_MS → Prop} (hQ : ∀ ms, Q ms → N none (jj_mh h0 m0 ms)) : ∀ (y1 : Int) (ms : jj_MS), fM_parseReader_j52 y1 Q ms → jj_J X 2 52 [(0, .inr (.inr (.inl (some m0))))] [.inl y1, .inr (.inr (.inl (some m0)))] (jj_mh h0 m0 ms) k := by
  intro y1 ms w
  unfold fM_parseReader_j52 at w
  refine jr_iconst (pc := 52) F dX3_parseReader_52 ?_
  refine jr_callV (pc := 53) (As := [_, _]) F M (lw_V q3692 q3694 qs106 q143 q3695) dX3_parseReader_53 hM_require rfl (Nat.le_of_ble_eq_true rfl) (Nat.le_of_ble_eq_true rfl) (Nat.le_of_ble_eq_true rfl) (jj_set_self _ _ _) rfl rfl (Nat.zero_le _) (cM_require S hs w) (fun v9 h9 q9 => ?_) (fun _ _ _ q9 => q9.elim)
  obtain ⟨ms3, rfl, rfl, w⟩ := q9
  refine jr_aload_n (pc := 56) F (j := 0) dX3_parseReader_56 rfl ?_
  refine jr_callV (pc := 57) (As := []) F M (lw_V q3675 q3677 qs102 q143 q3678) dX3_parseReader_57 hM_isFine rfl (Nat.le_of_ble_eq_true rfl) (Nat.le_of_ble_eq_true rfl) (Nat.le_of_ble_eq_true rfl) (jj_set_self _ _ _) rfl rfl (Nat.zero_le _) (cM_isFine S hs w) (fun v9 h9 q9 => ?_) (fun _ _ _ q9 => q9.elim)
  obtain ⟨r6, ms5, rfl, rfl, w⟩ := q9
  obtain ⟨hx9, w1, w2⟩ := w
  refine jr_if_eq (pc := 60) (tgt := 72) F hx9 dX3_parseReader_60 rfl (fun c9 => ?_) (fun c9 => ?_)
  · have w := w1 c9
    exact sM_parseReader_j72 F M S hs hQ _ w
  · have w := w2 c9
    refine jr_aload_n (pc := 63) F (j := 0) dX3_parseReader_63 rfl ?_
    refine jr_aload_n (pc := 64) F (j := 0) dX3_parseReader_64 rfl ?_
    refine jm_get (pc := 65) (f := 42) (v := .inr (.inl _)) F (Nat.le_of_ble_eq_true rfl) q3172 rfl rfl dX3_parseReader_65 ?_
    refine jr_callV (pc := 68) (As := [_]) F M (lw_V q3500 q3502 qs83 q143 q3503) dX3_parseReader_68 hM_appendReader rfl (Nat.le_of_ble_eq_true rfl) (Nat.le_of_ble_eq_true rfl) (Nat.le_of_ble_eq_true rfl) (jj_set_self _ _ _) rfl rfl (Nat.zero_le _) (cM_appendReader S hs w) (fun v9 h9 q9 => ?_) (fun _ _ _ q9 => q9.elim)
    obtain ⟨r8, ms7, rfl, rfl, w⟩ := q9
    refine jr_istore_n (pc := 71) F (vs' := [(1, .inl _), (0, .inr (.inr (.inl _)))]) dX3_parseReader_71 (Nat.le_of_ble_eq_true rfl) rfl ?_
    refine jj_J.sub [1] rfl ?_
    exact sM_parseReader_j72 F M S hs hQ _ w

theorem sM_parseReader_j47 {X : jj_X} {h0 : jj_H} {m0 k : Nat} {N : Option jj_AV → jj_H → Prop} {XN : String → Nat → jj_H → Prop} (F : jj_F X RX3 cX3_parseReader 2) (M : jj_M X (none) 4 83 N XN) (S : jj_GS X.1 X.2.2.1) (hs : jj_hs X.1 h0 m0) {Q : jj_MS → Prop} (hQ : ∀ ms, Q ms → N none (jj_mh h0 m0 ms)) : ∀ (ms : jj_MS), fM_parseReader_j47 Q ms → jj_J X 2 47 [(0, .inr (.inr (.inl (some m0))))] [.inr (.inr (.inl (some m0)))] (jj_mh h0 m0 ms) k := by
  intro  ms w
  unfold fM_parseReader_j47 at w
  refine jr_iconst (pc := 47) F dX3_parseReader_47 ?_
  refine jr_goto (pc := 48) (tgt := 52) F dX3_parseReader_48 rfl ?_
  exact sM_parseReader_j52 F M S hs hQ _ _ w

theorem sM_parseReader_j15 {X : jj_X} {h0 : jj_H} {m0 k : Nat} {N : Option jj_AV → jj_H → Prop} {XN : String → Nat → jj_H → Prop} (F : jj_F X RX3 cX3_parseReader 2) (M : jj_M X (none) 4 83 N XN) (S : jj_GS X.1 X.2.2.1) (hs : jj_hs X.1 h0 m0) {Q : jj_MS → Prop} (hQ : ∀ ms, Q ms → N none (jj_mh h0 m0 ms)) : ∀ (y1 : Int) (ms : jj_MS), fM_parseReader_j15 y1 Q ms → jj_J X 2 15 [(0, .inr (.inr (.inl (some m0))))] [.inl y1, .inr (.inr (.inl (some m0)))] (jj_mh h0 m0 ms) k := by
  intro y1 ms w
  unfold fM_parseReader_j15 at w
  refine jr_iconst (pc := 15) F dX3_parseReader_15 ?_
  refine jr_callV (pc := 16) (As := [_, _]) F M (lw_V q3692 q3694 qs106 q143 q3695) dX3_parseReader_16 hM_require rfl (Nat.le_of_ble_eq_true rfl) (Nat.le_of_ble_eq_true rfl) (Nat.le_of_ble_eq_true rfl) (jj_set_self _ _ _) rfl rfl (Nat.zero_le _) (cM_require S hs w) (fun v9 h9 q9 => ?_) (fun _ _ _ q9 => q9.elim)
  obtain ⟨ms9, rfl, rfl, w⟩ := q9
  refine jr_aload_n (pc := 19) F (j := 0) dX3_parseReader_19 rfl ?_
  refine jr_callV (pc := 20) (As := []) F M (lw_V q3696 q3698 qs107 q143 q3699) dX3_parseReader_20 hM_advance rfl (Nat.le_of_ble_eq_true rfl) (Nat.le_of_ble_eq_true rfl) (Nat.le_of_ble_eq_true rfl) (jj_set_self _ _ _) rfl rfl (Nat.zero_le _) (cM_advance S hs w) (fun v9 h9 q9 => ?_) (fun _ _ _ q9 => q9.elim)
  obtain ⟨ms11, rfl, rfl, w⟩ := q9
  refine jr_aload_n (pc := 23) F (j := 0) dX3_parseReader_23 rfl ?_
  refine jr_callV (pc := 24) (As := []) F M (lw_V q3704 q3706 qs109 q143 q3707) dX3_parseReader_24 hM_requireWord rfl (Nat.le_of_ble_eq_true rfl) (Nat.le_of_ble_eq_true rfl) (Nat.le_of_ble_eq_true rfl) (jj_set_self _ _ _) rfl rfl (Nat.zero_le _) (cM_requireWord S hs w) (fun v9 h9 q9 => ?_) (fun _ _ _ q9 => q9.elim)
  obtain ⟨ms13, rfl, rfl, w⟩ := q9
  refine jr_aload_n (pc := 27) F (j := 0) dX3_parseReader_27 rfl ?_
  refine jr_aload_n (pc := 28) F (j := 0) dX3_parseReader_28 rfl ?_
  refine jr_callV (pc := 29) (As := []) F M (lw_V q3675 q3677 qs102 q143 q3678) dX3_parseReader_29 hM_isFine rfl (Nat.le_of_ble_eq_true rfl) (Nat.le_of_ble_eq_true rfl) (Nat.le_of_ble_eq_true rfl) (jj_set_self _ _ _) rfl rfl (Nat.zero_le _) (cM_isFine S hs w) (fun v9 h9 q9 => ?_) (fun _ _ _ q9 => q9.elim)
  obtain ⟨r16, ms15, rfl, rfl, w⟩ := q9
  obtain ⟨hx9, w1, w2⟩ := w
  refine jr_if_eq (pc := 32) (tgt := 47) F hx9 dX3_parseReader_32 rfl (fun c9 => ?_) (fun c9 => ?_)
  · have w := w1 c9
    exact sM_parseReader_j47 F M S hs hQ _ w
  · have w := w2 c9
    refine jr_aload_n (pc := 35) F (j := 0) dX3_parseReader_35 rfl ?_
    refine jr_aload_n (pc := 36) F (j := 0) dX3_parseReader_36 rfl ?_
    refine jm_get (pc := 37) (f := 42) (v := .inr (.inl _)) F (Nat.le_of_ble_eq_true rfl) q3172 rfl rfl dX3_parseReader_37 ?_
    refine jr_callV (pc := 40) (As := [_]) F M (lw_V q3492 q3494 qs81 q143 q3495) dX3_parseReader_40 hM_readerNamed rfl (Nat.le_of_ble_eq_true rfl) (Nat.le_of_ble_eq_true rfl) (Nat.le_of_ble_eq_true rfl) (jj_set_self _ _ _) rfl rfl (Nat.zero_le _) (cM_readerNamed S hs w) (fun v9 h9 q9 => ?_) (fun _ _ _ q9 => q9.elim)
    obtain ⟨r18, ms17, rfl, rfl, w⟩ := q9
    refine jr_iconst (pc := 43) F dX3_parseReader_43 ?_
    obtain ⟨hx9, w1, w2⟩ := w
    refine jr_icmp_ne (pc := 44) (tgt := 51) F hx9 ⟨by decide, by decide⟩ dX3_parseReader_44 rfl (fun c9 => ?_) (fun c9 => ?_)
    · have w := w1 c9
      refine jr_iconst (pc := 51) F dX3_parseReader_51 ?_
      exact sM_parseReader_j52 F M S hs hQ _ _ w
    · have w := w2 c9
      exact sM_parseReader_j47 F M S hs hQ _ w

theorem sM_parseReader {X : jj_X} {h0 : jj_H} {m0 k : Nat} {N : Option jj_AV → jj_H → Prop} {XN : String → Nat → jj_H → Prop} (F : jj_F X RX3 cX3_parseReader 2) (M : jj_M X (none) 4 83 N XN) (S : jj_GS X.1 X.2.2.1) (hs : jj_hs X.1 h0 m0) {Q : jj_MS → Prop} (hQ : ∀ ms, Q ms → N none (jj_mh h0 m0 ms)) : ∀ (ms : jj_MS), fM_parseReader Q ms → jj_J X 2 0 [(0, .inr (.inr (.inl (some m0))))] [] (jj_mh h0 m0 ms) k := by
  intro  ms w
  unfold fM_parseReader at w
  refine jr_aload_n (pc := 0) F (j := 0) dX3_parseReader_0 rfl ?_
  refine jr_aload_n (pc := 1) F (j := 0) dX3_parseReader_1 rfl ?_
  refine jr_callV (pc := 2) (As := []) F M (lw_V q3496 q3498 qs82 q143 q3499) dX3_parseReader_2 hM_readers rfl (Nat.le_of_ble_eq_true rfl) (Nat.le_of_ble_eq_true rfl) (Nat.le_of_ble_eq_true rfl) (jj_set_self _ _ _) rfl rfl (Nat.zero_le _) (cM_readers S hs w) (fun v9 h9 q9 => ?_) (fun _ _ _ q9 => q9.elim)
  obtain ⟨r20, ms19, rfl, rfl, w⟩ := q9
  refine jr_bipush (pc := 5) F dX3_parseReader_5 (by decide +kernel) ?_
  obtain ⟨hx9, w1, w2⟩ := w
  refine jr_icmp_ge (pc := 7) (tgt := 14) F hx9 ⟨by decide, by decide⟩ dX3_parseReader_7 rfl (fun c9 => ?_) (fun c9 => ?_)
  · have w := w1 c9
    refine jr_iconst (pc := 14) F dX3_parseReader_14 ?_
    exact sM_parseReader_j15 F M S hs hQ _ _ w
  · have w := w2 c9
    refine jr_iconst (pc := 10) F dX3_parseReader_10 ?_
    refine jr_goto (pc := 11) (tgt := 15) F dX3_parseReader_11 rfl ?_
    exact sM_parseReader_j15 F M S hs hQ _ _ w

theorem cM_parseReader {G : jj_G} {l : Launch} (S : jj_GS G l) {h0 : jj_H} {m0 : Nat} (hs : jj_hs G h0 m0) {ms : jj_MS} {Q : jj_MS → Prop} (w : fM_parseReader Q ms) : jj_Ct G l yX3_parseReader (ws_ yX3_parseReader cX3_parseReader 2 (none)) 4 83 [.inr (.inr (.inl (some m0)))] (jj_mh h0 m0 ms) 0 (jm_Nv h0 m0 Q) jj_F0 := by
  refine jj_Ct.of S.1 (by decide +kernel) (Nat.le_of_ble_eq_true rfl) rfl (fun X hG hl F M O hnm => ?_)
  subst hG; subst hl
  exact sM_parseReader F M S hs (fun ms q => ⟨ms, rfl, rfl, q⟩) _ w
theorem hM_parseReader : yX3_parseReader.cls = RX3 ∧ yX3_parseReader.cls ≠ "java/lang/invoke/MethodHandle" ∧ yX3_parseReader.cls ≠ "java/lang/invoke/VarHandle" ∧ (parseMethodDescriptor yX3_parseReader.desc).map (fun d => d.parameters.length) = some 0 := by decide +kernel
/-! parseRecord()V -/
def fM_parseRecord_j116 (y1 : Int) (Q : jj_MS → Prop) (ms : jj_MS) : Prop :=
  fM_require y1 1 (fun ms1 =>
  fM_advance (fun ms3 =>
  Q ms3) ms1) ms

def fM_parseRecord_j102 (Q : jj_MS → Prop) (ms : jj_MS) : Prop :=
  jj_r (ms.1 37) ∧ (¬ (ms.1 37) = 4 → (
    fM_parseRecord_j116 0 Q ms)) ∧
  ((ms.1 37) = 4 → (
    fM_parseRecord_j116 1 Q ms))

def fM_parseRecord_j101 (y1 : Int) (y2 : Int) (Q : jj_MS → Prop) (ms : jj_MS) : Prop :=
  0 ≤ y1 ∧ y1 < 614 ∧
  ∀ ms5, ms5 = jj_mA ms 0 y1 y2 →
  fM_parseRecord_j102 Q ms5

def fM_parseRecord (Q : jj_MS → Prop) (ms : jj_MS) : Prop :=
  fM_isKey ((jj_sx 4)) (fun r7 ms6 =>
  jj_r r7 ∧ (r7 = 0 → (
    fM_isKey ((jj_sx 5)) (fun r9 ms8 =>
    jj_r r9 ∧ (r9 = 0 → (
      fM_isKey ((jj_sx 6)) (fun r11 ms10 =>
      jj_r r11 ∧ (r11 = 0 → (
        fM_isKey ((jj_sx 13)) (fun r13 ms12 =>
        fM_require r13 1 (fun ms14 =>
        fM_advance (fun ms16 =>
        fM_editions (fun r19 ms18 =>
        fM_parseNumber 0 (r19 - 1) (fun r21 ms20 =>
        fM_isFine (fun r23 ms22 =>
        jj_r r23 ∧ (r23 = 0 → (
          fM_parseRecord_j101 4 (ms22.2 0 4) Q ms22)) ∧
        (¬ r23 = 0 → (
          fM_parseRecord_j101 4 r21 Q ms22))) ms20) ms18) ms16) ms14) ms12) ms10)) ∧
      (¬ r11 = 0 → (
        fM_parseNote (fun ms24 =>
        fM_parseRecord_j102 Q ms24) ms10))) ms8)) ∧
    (¬ r9 = 0 → (
      fM_parseReader (fun ms26 =>
      fM_parseRecord_j102 Q ms26) ms8))) ms6)) ∧
  (¬ r7 = 0 → (
    fM_parseEdition (fun ms28 =>
    fM_parseRecord_j102 Q ms28) ms6))) ms

theorem sM_parseRecord_j116 {X : jj_X} {h0 : jj_H} {m0 k : Nat} {N : Option jj_AV → jj_H → Prop} {XN : String → Nat → jj_H → Prop} (F : jj_F X RX3 cX3_parseRecord 2) (M : jj_M X (none) 13 416 N XN) (S : jj_GS X.1 X.2.2.1) (hs : jj_hs X.1 h0 m0) {Q : jj_MS → Prop} (hQ : ∀ ms, Q ms → N none (jj_mh h0 m0 ms)) : ∀ (y1 : Int) (ms : jj_MS), fM_parseRecord_j116 y1 Q ms → jj_J X 2 116 [(0, .inr (.inr (.inl (some m0))))] [.inl y1, .inr (.inr (.inl (some m0)))] (jj_mh h0 m0 ms) k := by
  intro y1 ms w
  unfold fM_parseRecord_j116 at w
  refine jr_iconst (pc := 116) F dX3_parseRecord_116 ?_
  refine jr_callV (pc := 117) (As := [_, _]) F M (lw_V q3692 q3694 qs106 q143 q3695) dX3_parseRecord_117 hM_require rfl (Nat.le_of_ble_eq_true rfl) (Nat.le_of_ble_eq_true rfl) (Nat.le_of_ble_eq_true rfl) (jj_set_self _ _ _) rfl rfl (Nat.zero_le _) (cM_require S hs w) (fun v9 h9 q9 => ?_) (fun _ _ _ q9 => q9.elim)
  obtain ⟨ms1, rfl, rfl, w⟩ := q9
  refine jr_aload_n (pc := 120) F (j := 0) dX3_parseRecord_120 rfl ?_
  refine jr_callV (pc := 121) (As := []) F M (lw_V q3696 q3698 qs107 q143 q3699) dX3_parseRecord_121 hM_advance rfl (Nat.le_of_ble_eq_true rfl) (Nat.le_of_ble_eq_true rfl) (Nat.le_of_ble_eq_true rfl) (jj_set_self _ _ _) rfl rfl (Nat.zero_le _) (cM_advance S hs w) (fun v9 h9 q9 => ?_) (fun _ _ _ q9 => q9.elim)
  obtain ⟨ms3, rfl, rfl, w⟩ := q9
  exact jr_vret (pc := 124) F M dX3_parseRecord_124 (hQ _ w)

theorem sM_parseRecord_j102 {X : jj_X} {h0 : jj_H} {m0 k : Nat} {N : Option jj_AV → jj_H → Prop} {XN : String → Nat → jj_H → Prop} (F : jj_F X RX3 cX3_parseRecord 2) (M : jj_M X (none) 13 416 N XN) (S : jj_GS X.1 X.2.2.1) (hs : jj_hs X.1 h0 m0) {Q : jj_MS → Prop} (hQ : ∀ ms, Q ms → N none (jj_mh h0 m0 ms)) : ∀ (ms : jj_MS), fM_parseRecord_j102 Q ms → jj_J X 2 102 [(0, .inr (.inr (.inl (some m0))))] [] (jj_mh h0 m0 ms) k := by
  intro  ms w
  unfold fM_parseRecord_j102 at w
  refine jr_aload_n (pc := 102) F (j := 0) dX3_parseRecord_102 rfl ?_
  refine jr_aload_n (pc := 103) F (j := 0) dX3_parseRecord_103 rfl ?_
  refine jm_get (pc := 104) (f := 37) (v := .inl _) F (Nat.le_of_ble_eq_true rfl) q3167 rfl rfl dX3_parseRecord_104 ?_
  refine jr_iconst (pc := 107) F dX3_parseRecord_107 ?_
  obtain ⟨hx9, w1, w2⟩ := w
  refine jr_icmp_ne (pc := 108) (tgt := 115) F hx9 ⟨by decide, by decide⟩ dX3_parseRecord_108 rfl (fun c9 => ?_) (fun c9 => ?_)
  · have w := w1 c9
    refine jr_iconst (pc := 115) F dX3_parseRecord_115 ?_
    exact sM_parseRecord_j116 F M S hs hQ _ _ w
  · have w := w2 c9
    refine jr_iconst (pc := 111) F dX3_parseRecord_111 ?_
    refine jr_goto (pc := 112) (tgt := 116) F dX3_parseRecord_112 rfl ?_
    exact sM_parseRecord_j116 F M S hs hQ _ _ w

theorem sM_parseRecord_j101 {X : jj_X} {h0 : jj_H} {m0 k : Nat} {N : Option jj_AV → jj_H → Prop} {XN : String → Nat → jj_H → Prop} (F : jj_F X RX3 cX3_parseRecord 2) (M : jj_M X (none) 13 416 N XN) (S : jj_GS X.1 X.2.2.1) (hs : jj_hs X.1 h0 m0) {Q : jj_MS → Prop} (hQ : ∀ ms, Q ms → N none (jj_mh h0 m0 ms)) : ∀ (y1 : Int) (y2 : Int) (ms : jj_MS), fM_parseRecord_j101 y1 y2 Q ms → jj_J X 2 101 [(0, .inr (.inr (.inl (some m0))))] [.inl y2, .inl y1, .inr (.inr (.inl (some (m0 + 1 + 0))))] (jj_mh h0 m0 ms) k := by
  intro y1 y2 ms w
  unfold fM_parseRecord_j101 at w
  obtain ⟨hi1, hi2, w⟩ := w
  have w := w _ rfl
  refine jm_iast (pc := 101) (f := 0) (o := 0) F (Nat.le_of_ble_eq_true rfl) rfl (by decide) hi1 hi2 dX3_parseRecord_101 ?_
  exact sM_parseRecord_j102 F M S hs hQ _ w

theorem sM_parseRecord {X : jj_X} {h0 : jj_H} {m0 k : Nat} {N : Option jj_AV → jj_H → Prop} {XN : String → Nat → jj_H → Prop} (F : jj_F X RX3 cX3_parseRecord 2) (M : jj_M X (none) 13 416 N XN) (S : jj_GS X.1 X.2.2.1) (hs : jj_hs X.1 h0 m0) {Q : jj_MS → Prop} (hQ : ∀ ms, Q ms → N none (jj_mh h0 m0 ms)) : ∀ (ms : jj_MS), fM_parseRecord Q ms → jj_J X 2 0 [(0, .inr (.inr (.inl (some m0))))] [] (jj_mh h0 m0 ms) k := by
  intro  ms w
  unfold fM_parseRecord at w
  refine jr_aload_n (pc := 0) F (j := 0) dX3_parseRecord_0 rfl ?_
  refine jr_ldcwS (pc := 1) F S 4 rfl dX3_parseRecord_1 ?_
  refine jr_callV (pc := 4) (As := [_]) F M (lw_V q3684 q3686 qs104 q143 q3687) dX3_parseRecord_4 hM_isKey rfl (Nat.le_of_ble_eq_true rfl) (Nat.le_of_ble_eq_true rfl) (Nat.le_of_ble_eq_true rfl) (jj_set_self _ _ _) rfl rfl (Nat.zero_le _) (cM_isKey S hs (hs 4 (by decide)) w) (fun v9 h9 q9 => ?_) (fun _ _ _ q9 => q9.elim)
  obtain ⟨r7, ms6, rfl, rfl, w⟩ := q9
  obtain ⟨hx9, w1, w2⟩ := w
  refine jr_if_eq (pc := 7) (tgt := 17) F hx9 dX3_parseRecord_7 rfl (fun c9 => ?_) (fun c9 => ?_)
  · have w := w1 c9
    refine jr_aload_n (pc := 17) F (j := 0) dX3_parseRecord_17 rfl ?_
    refine jr_ldcwS (pc := 18) F S 5 rfl dX3_parseRecord_18 ?_
    refine jr_callV (pc := 21) (As := [_]) F M (lw_V q3684 q3686 qs104 q143 q3687) dX3_parseRecord_21 hM_isKey rfl (Nat.le_of_ble_eq_true rfl) (Nat.le_of_ble_eq_true rfl) (Nat.le_of_ble_eq_true rfl) (jj_set_self _ _ _) rfl rfl (Nat.zero_le _) (cM_isKey S hs (hs 5 (by decide)) w) (fun v9 h9 q9 => ?_) (fun _ _ _ q9 => q9.elim)
    obtain ⟨r9, ms8, rfl, rfl, w⟩ := q9
    obtain ⟨hx9, w1, w2⟩ := w
    refine jr_if_eq (pc := 24) (tgt := 34) F hx9 dX3_parseRecord_24 rfl (fun c9 => ?_) (fun c9 => ?_)
    · have w := w1 c9
      refine jr_aload_n (pc := 34) F (j := 0) dX3_parseRecord_34 rfl ?_
      refine jr_ldcwS (pc := 35) F S 6 rfl dX3_parseRecord_35 ?_
      refine jr_callV (pc := 38) (As := [_]) F M (lw_V q3684 q3686 qs104 q143 q3687) dX3_parseRecord_38 hM_isKey rfl (Nat.le_of_ble_eq_true rfl) (Nat.le_of_ble_eq_true rfl) (Nat.le_of_ble_eq_true rfl) (jj_set_self _ _ _) rfl rfl (Nat.zero_le _) (cM_isKey S hs (hs 6 (by decide)) w) (fun v9 h9 q9 => ?_) (fun _ _ _ q9 => q9.elim)
      obtain ⟨r11, ms10, rfl, rfl, w⟩ := q9
      obtain ⟨hx9, w1, w2⟩ := w
      refine jr_if_eq (pc := 41) (tgt := 51) F hx9 dX3_parseRecord_41 rfl (fun c9 => ?_) (fun c9 => ?_)
      · have w := w1 c9
        refine jr_aload_n (pc := 51) F (j := 0) dX3_parseRecord_51 rfl ?_
        refine jr_aload_n (pc := 52) F (j := 0) dX3_parseRecord_52 rfl ?_
        refine jr_ldcwS (pc := 53) F S 13 rfl dX3_parseRecord_53 ?_
        refine jr_callV (pc := 56) (As := [_]) F M (lw_V q3684 q3686 qs104 q143 q3687) dX3_parseRecord_56 hM_isKey rfl (Nat.le_of_ble_eq_true rfl) (Nat.le_of_ble_eq_true rfl) (Nat.le_of_ble_eq_true rfl) (jj_set_self _ _ _) rfl rfl (Nat.zero_le _) (cM_isKey S hs (hs 13 (by decide)) w) (fun v9 h9 q9 => ?_) (fun _ _ _ q9 => q9.elim)
        obtain ⟨r13, ms12, rfl, rfl, w⟩ := q9
        refine jr_iconst (pc := 59) F dX3_parseRecord_59 ?_
        refine jr_callV (pc := 60) (As := [_, _]) F M (lw_V q3692 q3694 qs106 q143 q3695) dX3_parseRecord_60 hM_require rfl (Nat.le_of_ble_eq_true rfl) (Nat.le_of_ble_eq_true rfl) (Nat.le_of_ble_eq_true rfl) (jj_set_self _ _ _) rfl rfl (Nat.zero_le _) (cM_require S hs w) (fun v9 h9 q9 => ?_) (fun _ _ _ q9 => q9.elim)
        obtain ⟨ms14, rfl, rfl, w⟩ := q9
        refine jr_aload_n (pc := 63) F (j := 0) dX3_parseRecord_63 rfl ?_
        refine jr_callV (pc := 64) (As := []) F M (lw_V q3696 q3698 qs107 q143 q3699) dX3_parseRecord_64 hM_advance rfl (Nat.le_of_ble_eq_true rfl) (Nat.le_of_ble_eq_true rfl) (Nat.le_of_ble_eq_true rfl) (jj_set_self _ _ _) rfl rfl (Nat.zero_le _) (cM_advance S hs w) (fun v9 h9 q9 => ?_) (fun _ _ _ q9 => q9.elim)
        obtain ⟨ms16, rfl, rfl, w⟩ := q9
        refine jr_aload_n (pc := 67) F (j := 0) dX3_parseRecord_67 rfl ?_
        refine jr_iconst (pc := 68) F dX3_parseRecord_68 ?_
        refine jr_aload_n (pc := 69) F (j := 0) dX3_parseRecord_69 rfl ?_
        refine jr_callV (pc := 70) (As := []) F M (lw_V q3299 q3301 qs49 q143 q3302) dX3_parseRecord_70 hM_editions rfl (Nat.le_of_ble_eq_true rfl) (Nat.le_of_ble_eq_true rfl) (Nat.le_of_ble_eq_true rfl) (jj_set_self _ _ _) rfl rfl (Nat.zero_le _) (cM_editions S hs w) (fun v9 h9 q9 => ?_) (fun _ _ _ q9 => q9.elim)
        obtain ⟨r19, ms18, rfl, rfl, w⟩ := q9
        refine jr_iconst (pc := 73) F dX3_parseRecord_73 ?_
        refine jr_isub (pc := 74) F dX3_parseRecord_74 ?_
        refine jr_callV (pc := 75) (As := [_, _]) F M (lw_V q3700 q3702 qs108 q143 q3703) dX3_parseRecord_75 hM_parseNumber rfl (Nat.le_of_ble_eq_true rfl) (Nat.le_of_ble_eq_true rfl) (Nat.le_of_ble_eq_true rfl) (jj_set_self _ _ _) rfl rfl (Nat.zero_le _) (cM_parseNumber S hs w) (fun v9 h9 q9 => ?_) (fun _ _ _ q9 => q9.elim)
        obtain ⟨r21, ms20, rfl, rfl, w⟩ := q9
        refine jr_istore_n (pc := 78) F (vs' := [(1, .inl _), (0, .inr (.inr (.inl _)))]) dX3_parseRecord_78 (Nat.le_of_ble_eq_true rfl) rfl ?_
        refine jr_aload_n (pc := 79) F (j := 1) dX3_parseRecord_79 rfl ?_
        refine jm_get (pc := 80) (f := 0) (v := .inr (.inr (.inl (some (m0 + 1 + 0))))) F (Nat.le_of_ble_eq_true rfl) q3130 rfl rfl dX3_parseRecord_80 ?_
        refine jr_iconst (pc := 83) F dX3_parseRecord_83 ?_
        refine jr_aload_n (pc := 84) F (j := 1) dX3_parseRecord_84 rfl ?_
        refine jr_callV (pc := 85) (As := []) F M (lw_V q3675 q3677 qs102 q143 q3678) dX3_parseRecord_85 hM_isFine rfl (Nat.le_of_ble_eq_true rfl) (Nat.le_of_ble_eq_true rfl) (Nat.le_of_ble_eq_true rfl) (jj_set_self _ _ _) rfl rfl (Nat.zero_le _) (cM_isFine S hs w) (fun v9 h9 q9 => ?_) (fun _ _ _ q9 => q9.elim)
        obtain ⟨r23, ms22, rfl, rfl, w⟩ := q9
        obtain ⟨hx9, w1, w2⟩ := w
        refine jr_if_eq (pc := 88) (tgt := 95) F hx9 dX3_parseRecord_88 rfl (fun c9 => ?_) (fun c9 => ?_)
        · have w := w1 c9
          refine jr_aload_n (pc := 95) F (j := 1) dX3_parseRecord_95 rfl ?_
          refine jm_get (pc := 96) (f := 0) (v := .inr (.inr (.inl (some (m0 + 1 + 0))))) F (Nat.le_of_ble_eq_true rfl) q3130 rfl rfl dX3_parseRecord_96 ?_
          refine jr_iconst (pc := 99) F dX3_parseRecord_99 ?_
          refine jm_iald (pc := 100) (f := 0) (o := 0) F rfl (by decide) (by decide) (by decide) dX3_parseRecord_100 ?_
          refine jj_J.sub [1] rfl ?_
          exact sM_parseRecord_j101 F M S hs hQ _ _ _ w
        · have w := w2 c9
          refine jr_iload_n (pc := 91) F (j := 0) dX3_parseRecord_91 rfl ?_
          refine jr_goto (pc := 92) (tgt := 101) F dX3_parseRecord_92 rfl ?_
          refine jj_J.sub [1] rfl ?_
          exact sM_parseRecord_j101 F M S hs hQ _ _ _ w
      · have w := w2 c9
        refine jr_aload_n (pc := 44) F (j := 0) dX3_parseRecord_44 rfl ?_
        refine jr_callV (pc := 45) (As := []) F M (lw_V q3714 q3716 qs111 q143 q3717) dX3_parseRecord_45 hM_parseNote rfl (Nat.le_of_ble_eq_true rfl) (Nat.le_of_ble_eq_true rfl) (Nat.le_of_ble_eq_true rfl) (jj_set_self _ _ _) rfl rfl (Nat.zero_le _) (cM_parseNote S hs w) (fun v9 h9 q9 => ?_) (fun _ _ _ q9 => q9.elim)
        obtain ⟨ms24, rfl, rfl, w⟩ := q9
        refine jr_goto (pc := 48) (tgt := 102) F dX3_parseRecord_48 rfl ?_
        exact sM_parseRecord_j102 F M S hs hQ _ w
    · have w := w2 c9
      refine jr_aload_n (pc := 27) F (j := 0) dX3_parseRecord_27 rfl ?_
      refine jr_callV (pc := 28) (As := []) F M (lw_V q3709 q3711 qs110 q143 q3712) dX3_parseRecord_28 hM_parseReader rfl (Nat.le_of_ble_eq_true rfl) (Nat.le_of_ble_eq_true rfl) (Nat.le_of_ble_eq_true rfl) (jj_set_self _ _ _) rfl rfl (Nat.zero_le _) (cM_parseReader S hs w) (fun v9 h9 q9 => ?_) (fun _ _ _ q9 => q9.elim)
      obtain ⟨ms26, rfl, rfl, w⟩ := q9
      refine jr_goto (pc := 31) (tgt := 102) F dX3_parseRecord_31 rfl ?_
      exact sM_parseRecord_j102 F M S hs hQ _ w
  · have w := w2 c9
    refine jr_aload_n (pc := 10) F (j := 0) dX3_parseRecord_10 rfl ?_
    refine jr_callV (pc := 11) (As := []) F M (lw_V q3688 q3690 qs105 q143 q3691) dX3_parseRecord_11 hM_parseEdition rfl (Nat.le_of_ble_eq_true rfl) (Nat.le_of_ble_eq_true rfl) (Nat.le_of_ble_eq_true rfl) (jj_set_self _ _ _) rfl rfl (Nat.zero_le _) (cM_parseEdition S hs w) (fun v9 h9 q9 => ?_) (fun _ _ _ q9 => q9.elim)
    obtain ⟨ms28, rfl, rfl, w⟩ := q9
    refine jr_goto (pc := 14) (tgt := 102) F dX3_parseRecord_14 rfl ?_
    exact sM_parseRecord_j102 F M S hs hQ _ w

theorem cM_parseRecord {G : jj_G} {l : Launch} (S : jj_GS G l) {h0 : jj_H} {m0 : Nat} (hs : jj_hs G h0 m0) {ms : jj_MS} {Q : jj_MS → Prop} (w : fM_parseRecord Q ms) : jj_Ct G l yX3_parseRecord (ws_ yX3_parseRecord cX3_parseRecord 2 (none)) 13 416 [.inr (.inr (.inl (some m0)))] (jj_mh h0 m0 ms) 0 (jm_Nv h0 m0 Q) jj_F0 := by
  refine jj_Ct.of S.1 (by decide +kernel) (Nat.le_of_ble_eq_true rfl) rfl (fun X hG hl F M O hnm => ?_)
  subst hG; subst hl
  exact sM_parseRecord F M S hs (fun ms q => ⟨ms, rfl, rfl, q⟩) _ w
theorem hM_parseRecord : yX3_parseRecord.cls = RX3 ∧ yX3_parseRecord.cls ≠ "java/lang/invoke/MethodHandle" ∧ yX3_parseRecord.cls ≠ "java/lang/invoke/VarHandle" ∧ (parseMethodDescriptor yX3_parseRecord.desc).map (fun d => d.parameters.length) = some 0 := by decide +kernel
/-! importText()I -/
def fM_importText_j76 (x1 : Int) (Q : Int → jj_MS → Prop) (ms : jj_MS) : Prop :=
  ∀ ms1, ms1 = jj_mI ms 9 0 →
  fM_isFine (fun r3 ms2 =>
  jj_r r3 ∧ (¬ r3 = 0 → (
    Q x1 ms2)) ∧
  (r3 = 0 → (
    fM_copy 1 0 0 0 (fun ms4 =>
    fM_copyWords 4 0 3 0 (fun ms6 =>
    Q ((-1)) ms6) ms4) ms2))) ms1

def fM_importText_l52 (Q : Int → jj_MS → Prop) : Nat → Int → jj_MS → Prop
  | 0, _, _ => False
  | n + 1, x1, ms =>
  fM_isFine (fun r9 ms8 =>
  jj_r r9 ∧ (r9 = 0 → (
    fM_importText_j76 x1 Q ms8)) ∧
  (¬ r9 = 0 → (
    jj_r (ms8.1 37) ∧ ((ms8.1 37) = 0 → (
      fM_importText_j76 x1 Q ms8)) ∧
    (¬ (ms8.1 37) = 0 → (
      fM_parseRecord (fun ms10 =>
      ∀ v12, v12 = x1 + 1 →
      fM_importText_l52 Q n v12 ms10) ms8))))) ms

def fM_importText (Q : Int → jj_MS → Prop) (ms : jj_MS) : Prop :=
  ∀ ms13, ms13 = jj_mI ms 7 0 →
  fM_copy 0 0 1 0 (fun ms14 =>
  fM_copyWords 3 0 4 0 (fun ms16 =>
  ∀ ms18, ms18 = jj_mI ms16 40 0 →
  ∀ ms19, ms19 = jj_mI ms18 41 ((-1)) →
  ∀ ms20, ms20 = jj_mI ms19 35 0 →
  fM_nextToken (fun ms21 =>
  ∃ n9, fM_importText_l52 Q n9 0 ms21) ms20) ms14) ms13

theorem sM_importText_j76 {X : jj_X} {h0 : jj_H} {m0 k : Nat} {N : Option jj_AV → jj_H → Prop} {XN : String → Nat → jj_H → Prop} (F : jj_F X RX3 cX3_importText 2) (M : jj_M X (some (.int)) 14 437 N XN) (S : jj_GS X.1 X.2.2.1) (hs : jj_hs X.1 h0 m0) {Q : Int → jj_MS → Prop} (hQ : ∀ r ms, Q r ms → N (some (.inl r)) (jj_mh h0 m0 ms)) : ∀ (x1 : Int) (ms : jj_MS), fM_importText_j76 x1 Q ms → jj_J X 2 76 [(0, .inr (.inr (.inl (some m0)))), (1, .inl x1)] [] (jj_mh h0 m0 ms) k := by
  intro x1 ms w
  unfold fM_importText_j76 at w
  refine jr_aload_n (pc := 76) F (j := 0) dX3_importText_76 rfl ?_
  refine jr_iconst (pc := 77) F dX3_importText_77 ?_
  have w := w _ rfl
  refine jm_put (pc := 78) (f := 9) F (Nat.le_of_ble_eq_true rfl) q3139 rfl rfl rfl rfl rfl rfl dX3_importText_78 ?_
  refine jr_aload_n (pc := 81) F (j := 0) dX3_importText_81 rfl ?_
  refine jr_callV (pc := 82) (As := []) F M (lw_V q3675 q3677 qs102 q143 q3678) dX3_importText_82 hM_isFine rfl (Nat.le_of_ble_eq_true rfl) (Nat.le_of_ble_eq_true rfl) (Nat.le_of_ble_eq_true rfl) (jj_set_self _ _ _) rfl rfl (Nat.zero_le _) (cM_isFine S hs w) (fun v9 h9 q9 => ?_) (fun _ _ _ q9 => q9.elim)
  obtain ⟨r3, ms2, rfl, rfl, w⟩ := q9
  obtain ⟨hx9, w1, w2⟩ := w
  refine jr_if_ne (pc := 85) (tgt := 116) F hx9 dX3_importText_85 rfl (fun c9 => ?_) (fun c9 => ?_)
  · have w := w1 c9
    refine jr_iload_n (pc := 116) F (j := 1) dX3_importText_116 rfl ?_
    exact jr_iret (pc := 117) F M dX3_importText_117 (hQ _ _ w)
  · have w := w2 c9
    refine jr_aload_n (pc := 88) F (j := 0) dX3_importText_88 rfl ?_
    refine jm_get (pc := 89) (f := 1) (v := .inr (.inr (.inl (some (m0 + 1 + 1))))) F (Nat.le_of_ble_eq_true rfl) q3131 rfl rfl dX3_importText_89 ?_
    refine jr_iconst (pc := 92) F dX3_importText_92 ?_
    refine jr_aload_n (pc := 93) F (j := 0) dX3_importText_93 rfl ?_
    refine jm_get (pc := 94) (f := 0) (v := .inr (.inr (.inl (some (m0 + 1 + 0))))) F (Nat.le_of_ble_eq_true rfl) q3130 rfl rfl dX3_importText_94 ?_
    refine jr_iconst (pc := 97) F dX3_importText_97 ?_
    refine jr_callS (pc := 98) (As := [_, _, _, _]) F M (lw_S q3661 q3662 q143 q3663) dX3_importText_98 hM_copy.2 rfl (Nat.le_of_ble_eq_true rfl) (Nat.le_of_ble_eq_true rfl) (Nat.le_of_ble_eq_true rfl) (Nat.zero_le _) (cM_copy S hs (f0 := 1) ⟨by decide, rfl, by decide⟩ (f2 := 0) ⟨by decide, rfl, by decide⟩ w) (fun v9 h9 q9 => ?_) (fun _ _ _ q9 => q9.elim)
    obtain ⟨ms4, rfl, rfl, w⟩ := q9
    refine jr_aload_n (pc := 101) F (j := 0) dX3_importText_101 rfl ?_
    refine jm_get (pc := 102) (f := 4) (v := .inr (.inr (.inl (some (m0 + 1 + 4))))) F (Nat.le_of_ble_eq_true rfl) q3134 rfl rfl dX3_importText_102 ?_
    refine jr_iconst (pc := 105) F dX3_importText_105 ?_
    refine jr_aload_n (pc := 106) F (j := 0) dX3_importText_106 rfl ?_
    refine jm_get (pc := 107) (f := 3) (v := .inr (.inr (.inl (some (m0 + 1 + 3))))) F (Nat.le_of_ble_eq_true rfl) q3133 rfl rfl dX3_importText_107 ?_
    refine jr_iconst (pc := 110) F dX3_importText_110 ?_
    refine jr_callS (pc := 111) (As := [_, _, _, _]) F M (lw_S q3664 q3665 q143 q3666) dX3_importText_111 hM_copyWords.2 rfl (Nat.le_of_ble_eq_true rfl) (Nat.le_of_ble_eq_true rfl) (Nat.le_of_ble_eq_true rfl) (Nat.zero_le _) (cM_copyWords S hs (f0 := 4) ⟨by decide, rfl, by decide⟩ (f2 := 3) ⟨by decide, rfl, by decide⟩ w) (fun v9 h9 q9 => ?_) (fun _ _ _ q9 => q9.elim)
    obtain ⟨ms6, rfl, rfl, w⟩ := q9
    refine jr_iconst (pc := 114) F dX3_importText_114 ?_
    exact jr_iret (pc := 115) F M dX3_importText_115 (hQ _ _ w)

theorem sM_importText_l52 {X : jj_X} {h0 : jj_H} {m0 k : Nat} {N : Option jj_AV → jj_H → Prop} {XN : String → Nat → jj_H → Prop} (F : jj_F X RX3 cX3_importText 2) (M : jj_M X (some (.int)) 14 437 N XN) (S : jj_GS X.1 X.2.2.1) (hs : jj_hs X.1 h0 m0) {Q : Int → jj_MS → Prop} (hQ : ∀ r ms, Q r ms → N (some (.inl r)) (jj_mh h0 m0 ms)) : ∀ (n : Nat) (x1 : Int) (ms : jj_MS), fM_importText_l52 Q n x1 ms → jj_J X 2 52 [(0, .inr (.inr (.inl (some m0)))), (1, .inl x1)] [] (jj_mh h0 m0 ms) k := by
  intro n
  induction n with
  | zero =>
    intro x1 ms w
    exact (show False from w).elim
  | succ n ih =>
    intro x1 ms w
    rw [fM_importText_l52] at w
    refine jr_aload_n (pc := 52) F (j := 0) dX3_importText_52 rfl ?_
    refine jr_callV (pc := 53) (As := []) F M (lw_V q3675 q3677 qs102 q143 q3678) dX3_importText_53 hM_isFine rfl (Nat.le_of_ble_eq_true rfl) (Nat.le_of_ble_eq_true rfl) (Nat.le_of_ble_eq_true rfl) (jj_set_self _ _ _) rfl rfl (Nat.zero_le _) (cM_isFine S hs w) (fun v9 h9 q9 => ?_) (fun _ _ _ q9 => q9.elim)
    obtain ⟨r9, ms8, rfl, rfl, w⟩ := q9
    obtain ⟨hx9, w1, w2⟩ := w
    refine jr_if_eq (pc := 56) (tgt := 76) F hx9 dX3_importText_56 rfl (fun c9 => ?_) (fun c9 => ?_)
    · have w := w1 c9
      exact sM_importText_j76 F M S hs hQ _ _ w
    · have w := w2 c9
      refine jr_aload_n (pc := 59) F (j := 0) dX3_importText_59 rfl ?_
      refine jm_get (pc := 60) (f := 37) (v := .inl _) F (Nat.le_of_ble_eq_true rfl) q3167 rfl rfl dX3_importText_60 ?_
      obtain ⟨hx9, w1, w2⟩ := w
      refine jr_if_eq (pc := 63) (tgt := 76) F hx9 dX3_importText_63 rfl (fun c9 => ?_) (fun c9 => ?_)
      · have w := w1 c9
        exact sM_importText_j76 F M S hs hQ _ _ w
      · have w := w2 c9
        refine jr_aload_n (pc := 66) F (j := 0) dX3_importText_66 rfl ?_
        refine jr_callV (pc := 67) (As := []) F M (lw_V q3679 q3681 qs103 q143 q3682) dX3_importText_67 hM_parseRecord rfl (Nat.le_of_ble_eq_true rfl) (Nat.le_of_ble_eq_true rfl) (Nat.le_of_ble_eq_true rfl) (jj_set_self _ _ _) rfl rfl (Nat.zero_le _) (cM_parseRecord S hs w) (fun v9 h9 q9 => ?_) (fun _ _ _ q9 => q9.elim)
        obtain ⟨ms10, rfl, rfl, w⟩ := q9
        have w := w _ rfl
        refine jr_iinc (pc := 70) F (j := 1) (vs' := [(1, .inl _), (0, .inr (.inr (.inl _)))]) dX3_importText_70 rfl rfl (Nat.le_of_ble_eq_true rfl) rfl ?_
        refine jr_goto (pc := 73) (tgt := 52) F dX3_importText_73 rfl ?_
        refine jj_J.sub [1, 0] rfl ?_
        exact ih _ _ w

theorem sM_importText {X : jj_X} {h0 : jj_H} {m0 k : Nat} {N : Option jj_AV → jj_H → Prop} {XN : String → Nat → jj_H → Prop} (F : jj_F X RX3 cX3_importText 2) (M : jj_M X (some (.int)) 14 437 N XN) (S : jj_GS X.1 X.2.2.1) (hs : jj_hs X.1 h0 m0) {Q : Int → jj_MS → Prop} (hQ : ∀ r ms, Q r ms → N (some (.inl r)) (jj_mh h0 m0 ms)) : ∀ (ms : jj_MS), fM_importText Q ms → jj_J X 2 0 [(0, .inr (.inr (.inl (some m0))))] [] (jj_mh h0 m0 ms) k := by
  intro  ms w
  unfold fM_importText at w
  refine jr_aload_n (pc := 0) F (j := 0) dX3_importText_0 rfl ?_
  refine jr_iconst (pc := 1) F dX3_importText_1 ?_
  have w := w _ rfl
  refine jm_put (pc := 2) (f := 7) F (Nat.le_of_ble_eq_true rfl) q3137 rfl rfl rfl rfl rfl rfl dX3_importText_2 ?_
  refine jr_aload_n (pc := 5) F (j := 0) dX3_importText_5 rfl ?_
  refine jm_get (pc := 6) (f := 0) (v := .inr (.inr (.inl (some (m0 + 1 + 0))))) F (Nat.le_of_ble_eq_true rfl) q3130 rfl rfl dX3_importText_6 ?_
  refine jr_iconst (pc := 9) F dX3_importText_9 ?_
  refine jr_aload_n (pc := 10) F (j := 0) dX3_importText_10 rfl ?_
  refine jm_get (pc := 11) (f := 1) (v := .inr (.inr (.inl (some (m0 + 1 + 1))))) F (Nat.le_of_ble_eq_true rfl) q3131 rfl rfl dX3_importText_11 ?_
  refine jr_iconst (pc := 14) F dX3_importText_14 ?_
  refine jr_callS (pc := 15) (As := [_, _, _, _]) F M (lw_S q3661 q3662 q143 q3663) dX3_importText_15 hM_copy.2 rfl (Nat.le_of_ble_eq_true rfl) (Nat.le_of_ble_eq_true rfl) (Nat.le_of_ble_eq_true rfl) (Nat.zero_le _) (cM_copy S hs (f0 := 0) ⟨by decide, rfl, by decide⟩ (f2 := 1) ⟨by decide, rfl, by decide⟩ w) (fun v9 h9 q9 => ?_) (fun _ _ _ q9 => q9.elim)
  obtain ⟨ms14, rfl, rfl, w⟩ := q9
  refine jr_aload_n (pc := 18) F (j := 0) dX3_importText_18 rfl ?_
  refine jm_get (pc := 19) (f := 3) (v := .inr (.inr (.inl (some (m0 + 1 + 3))))) F (Nat.le_of_ble_eq_true rfl) q3133 rfl rfl dX3_importText_19 ?_
  refine jr_iconst (pc := 22) F dX3_importText_22 ?_
  refine jr_aload_n (pc := 23) F (j := 0) dX3_importText_23 rfl ?_
  refine jm_get (pc := 24) (f := 4) (v := .inr (.inr (.inl (some (m0 + 1 + 4))))) F (Nat.le_of_ble_eq_true rfl) q3134 rfl rfl dX3_importText_24 ?_
  refine jr_iconst (pc := 27) F dX3_importText_27 ?_
  refine jr_callS (pc := 28) (As := [_, _, _, _]) F M (lw_S q3664 q3665 q143 q3666) dX3_importText_28 hM_copyWords.2 rfl (Nat.le_of_ble_eq_true rfl) (Nat.le_of_ble_eq_true rfl) (Nat.le_of_ble_eq_true rfl) (Nat.zero_le _) (cM_copyWords S hs (f0 := 3) ⟨by decide, rfl, by decide⟩ (f2 := 4) ⟨by decide, rfl, by decide⟩ w) (fun v9 h9 q9 => ?_) (fun _ _ _ q9 => q9.elim)
  obtain ⟨ms16, rfl, rfl, w⟩ := q9
  refine jr_aload_n (pc := 31) F (j := 0) dX3_importText_31 rfl ?_
  refine jr_iconst (pc := 32) F dX3_importText_32 ?_
  have w := w _ rfl
  refine jm_put (pc := 33) (f := 40) F (Nat.le_of_ble_eq_true rfl) q3170 rfl rfl rfl rfl rfl rfl dX3_importText_33 ?_
  refine jr_aload_n (pc := 36) F (j := 0) dX3_importText_36 rfl ?_
  refine jr_iconst (pc := 37) F dX3_importText_37 ?_
  have w := w _ rfl
  refine jm_put (pc := 38) (f := 41) F (Nat.le_of_ble_eq_true rfl) q3171 rfl rfl rfl rfl rfl rfl dX3_importText_38 ?_
  refine jr_aload_n (pc := 41) F (j := 0) dX3_importText_41 rfl ?_
  refine jr_iconst (pc := 42) F dX3_importText_42 ?_
  have w := w _ rfl
  refine jm_put (pc := 43) (f := 35) F (Nat.le_of_ble_eq_true rfl) q3165 rfl rfl rfl rfl rfl rfl dX3_importText_43 ?_
  refine jr_aload_n (pc := 46) F (j := 0) dX3_importText_46 rfl ?_
  refine jr_callV (pc := 47) (As := []) F M (lw_V q3667 q3669 qs101 q143 q3670) dX3_importText_47 hM_nextToken rfl (Nat.le_of_ble_eq_true rfl) (Nat.le_of_ble_eq_true rfl) (Nat.le_of_ble_eq_true rfl) (jj_set_self _ _ _) rfl rfl (Nat.zero_le _) (cM_nextToken S hs w) (fun v9 h9 q9 => ?_) (fun _ _ _ q9 => q9.elim)
  obtain ⟨ms21, rfl, rfl, w⟩ := q9
  refine jr_iconst (pc := 50) F dX3_importText_50 ?_
  refine jr_istore_n (pc := 51) F (vs' := [(1, .inl _), (0, .inr (.inr (.inl _)))]) dX3_importText_51 (Nat.le_of_ble_eq_true rfl) rfl ?_
  refine jj_J.sub [1, 0] rfl ?_
  obtain ⟨n9, w⟩ := w
  exact sM_importText_l52 F M S hs hQ n9 _ _ w

theorem cM_importText {G : jj_G} {l : Launch} (S : jj_GS G l) {h0 : jj_H} {m0 : Nat} (hs : jj_hs G h0 m0) {ms : jj_MS} {Q : Int → jj_MS → Prop} (w : fM_importText Q ms) : jj_Ct G l yX3_importText (ws_ yX3_importText cX3_importText 2 (some (.int))) 14 437 [.inr (.inr (.inl (some m0)))] (jj_mh h0 m0 ms) 0 (jm_Ni h0 m0 Q) jj_F0 := by
  refine jj_Ct.of S.1 (by decide +kernel) (Nat.le_of_ble_eq_true rfl) rfl (fun X hG hl F M O hnm => ?_)
  subst hG; subst hl
  exact sM_importText F M S hs (fun r ms q => ⟨r, ms, rfl, rfl, q⟩) _ w
theorem hM_importText : yX3_importText.cls = RX3 ∧ yX3_importText.cls ≠ "java/lang/invoke/MethodHandle" ∧ yX3_importText.cls ≠ "java/lang/invoke/VarHandle" ∧ (parseMethodDescriptor yX3_importText.desc).map (fun d => d.parameters.length) = some 0 := by decide +kernel
/-! errorCode()I -/
def fM_errorCode (Q : Int → jj_MS → Prop) (ms : jj_MS) : Prop :=
  ∀ ms1, ms1 = jj_mI ms 7 0 →
  Q (ms1.1 40) ms1

theorem sM_errorCode {X : jj_X} {h0 : jj_H} {m0 k : Nat} {N : Option jj_AV → jj_H → Prop} {XN : String → Nat → jj_H → Prop} (F : jj_F X RX3 cX3_errorCode 1) (M : jj_M X (some (.int)) 0 0 N XN) (S : jj_GS X.1 X.2.2.1) (hs : jj_hs X.1 h0 m0) {Q : Int → jj_MS → Prop} (hQ : ∀ r ms, Q r ms → N (some (.inl r)) (jj_mh h0 m0 ms)) : ∀ (ms : jj_MS), fM_errorCode Q ms → jj_J X 1 0 [(0, .inr (.inr (.inl (some m0))))] [] (jj_mh h0 m0 ms) k := by
  intro  ms w
  unfold fM_errorCode at w
  refine jr_aload_n (pc := 0) F (j := 0) dX3_errorCode_0 rfl ?_
  refine jr_iconst (pc := 1) F dX3_errorCode_1 ?_
  have w := w _ rfl
  refine jm_put (pc := 2) (f := 7) F (Nat.le_of_ble_eq_true rfl) q3137 rfl rfl rfl rfl rfl rfl dX3_errorCode_2 ?_
  refine jr_aload_n (pc := 5) F (j := 0) dX3_errorCode_5 rfl ?_
  refine jm_get (pc := 6) (f := 40) (v := .inl _) F (Nat.le_of_ble_eq_true rfl) q3170 rfl rfl dX3_errorCode_6 ?_
  exact jr_iret (pc := 9) F M dX3_errorCode_9 (hQ _ _ w)

theorem cM_errorCode {G : jj_G} {l : Launch} (S : jj_GS G l) {h0 : jj_H} {m0 : Nat} (hs : jj_hs G h0 m0) {ms : jj_MS} {Q : Int → jj_MS → Prop} (w : fM_errorCode Q ms) : jj_Ct G l yX3_errorCode (ws_ yX3_errorCode cX3_errorCode 1 (some (.int))) 0 0 [.inr (.inr (.inl (some m0)))] (jj_mh h0 m0 ms) 0 (jm_Ni h0 m0 Q) jj_F0 := by
  refine jj_Ct.of S.1 (by decide +kernel) (Nat.le_of_ble_eq_true rfl) rfl (fun X hG hl F M O hnm => ?_)
  subst hG; subst hl
  exact sM_errorCode F M S hs (fun r ms q => ⟨r, ms, rfl, rfl, q⟩) _ w
theorem hM_errorCode : yX3_errorCode.cls = RX3 ∧ yX3_errorCode.cls ≠ "java/lang/invoke/MethodHandle" ∧ yX3_errorCode.cls ≠ "java/lang/invoke/VarHandle" ∧ (parseMethodDescriptor yX3_errorCode.desc).map (fun d => d.parameters.length) = some 0 := by decide +kernel
/-! errorPosition()I -/
def fM_errorPosition (Q : Int → jj_MS → Prop) (ms : jj_MS) : Prop :=
  ∀ ms1, ms1 = jj_mI ms 7 0 →
  Q (ms1.1 41) ms1

theorem sM_errorPosition {X : jj_X} {h0 : jj_H} {m0 k : Nat} {N : Option jj_AV → jj_H → Prop} {XN : String → Nat → jj_H → Prop} (F : jj_F X RX3 cX3_errorPosition 1) (M : jj_M X (some (.int)) 0 0 N XN) (S : jj_GS X.1 X.2.2.1) (hs : jj_hs X.1 h0 m0) {Q : Int → jj_MS → Prop} (hQ : ∀ r ms, Q r ms → N (some (.inl r)) (jj_mh h0 m0 ms)) : ∀ (ms : jj_MS), fM_errorPosition Q ms → jj_J X 1 0 [(0, .inr (.inr (.inl (some m0))))] [] (jj_mh h0 m0 ms) k := by
  intro  ms w
  unfold fM_errorPosition at w
  refine jr_aload_n (pc := 0) F (j := 0) dX3_errorPosition_0 rfl ?_
  refine jr_iconst (pc := 1) F dX3_errorPosition_1 ?_
  have w := w _ rfl
  refine jm_put (pc := 2) (f := 7) F (Nat.le_of_ble_eq_true rfl) q3137 rfl rfl rfl rfl rfl rfl dX3_errorPosition_2 ?_
  refine jr_aload_n (pc := 5) F (j := 0) dX3_errorPosition_5 rfl ?_
  refine jm_get (pc := 6) (f := 41) (v := .inl _) F (Nat.le_of_ble_eq_true rfl) q3171 rfl rfl dX3_errorPosition_6 ?_
  exact jr_iret (pc := 9) F M dX3_errorPosition_9 (hQ _ _ w)

theorem cM_errorPosition {G : jj_G} {l : Launch} (S : jj_GS G l) {h0 : jj_H} {m0 : Nat} (hs : jj_hs G h0 m0) {ms : jj_MS} {Q : Int → jj_MS → Prop} (w : fM_errorPosition Q ms) : jj_Ct G l yX3_errorPosition (ws_ yX3_errorPosition cX3_errorPosition 1 (some (.int))) 0 0 [.inr (.inr (.inl (some m0)))] (jj_mh h0 m0 ms) 0 (jm_Ni h0 m0 Q) jj_F0 := by
  refine jj_Ct.of S.1 (by decide +kernel) (Nat.le_of_ble_eq_true rfl) rfl (fun X hG hl F M O hnm => ?_)
  subst hG; subst hl
  exact sM_errorPosition F M S hs (fun r ms q => ⟨r, ms, rfl, rfl, q⟩) _ w
theorem hM_errorPosition : yX3_errorPosition.cls = RX3 ∧ yX3_errorPosition.cls ≠ "java/lang/invoke/MethodHandle" ∧ yX3_errorPosition.cls ≠ "java/lang/invoke/VarHandle" ∧ (parseMethodDescriptor yX3_errorPosition.desc).map (fun d => d.parameters.length) = some 0 := by decide +kernel
/-! save(I)V -/
def fM_save_j15 (x1 : Int) (y1 : Int) (Q : jj_MS → Prop) (ms : jj_MS) : Prop :=
  ∀ ms1, ms1 = jj_mI ms 7 y1 →
  jj_r (ms1.1 7) ∧ (¬ (ms1.1 7) = 0 → (
    Q ms1)) ∧
  ((ms1.1 7) = 0 → (
    fM_copy 0 0 2 (614 * x1) (fun ms2 =>
    fM_copyWords 3 0 5 (606 * x1) (fun ms4 =>
    0 ≤ x1 ∧ x1 < 2 ∧
    ∀ ms6, ms6 = jj_mA ms4 6 x1 1 →
    Q ms6) ms2) ms1))

def fM_save (x1 : Int) (Q : jj_MS → Prop) (ms : jj_MS) : Prop :=
  fM_isBetween x1 0 1 (fun r8 ms7 =>
  jj_r r8 ∧ (r8 = 0 → (
    fM_save_j15 x1 1 Q ms7)) ∧
  (¬ r8 = 0 → (
    fM_save_j15 x1 0 Q ms7))) ms

theorem sM_save_j15 {X : jj_X} {h0 : jj_H} {m0 k : Nat} {N : Option jj_AV → jj_H → Prop} {XN : String → Nat → jj_H → Prop} (F : jj_F X RX3 cX3_save 2) (M : jj_M X (none) 1 24 N XN) (S : jj_GS X.1 X.2.2.1) (hs : jj_hs X.1 h0 m0) {Q : jj_MS → Prop} (hQ : ∀ ms, Q ms → N none (jj_mh h0 m0 ms)) : ∀ (x1 : Int) (y1 : Int) (ms : jj_MS), fM_save_j15 x1 y1 Q ms → jj_J X 2 15 [(0, .inr (.inr (.inl (some m0)))), (1, .inl x1)] [.inl y1, .inr (.inr (.inl (some m0)))] (jj_mh h0 m0 ms) k := by
  intro x1 y1 ms w
  unfold fM_save_j15 at w
  have w := w _ rfl
  refine jm_put (pc := 15) (f := 7) F (Nat.le_of_ble_eq_true rfl) q3137 rfl rfl rfl rfl rfl rfl dX3_save_15 ?_
  refine jr_aload_n (pc := 18) F (j := 0) dX3_save_18 rfl ?_
  refine jm_get (pc := 19) (f := 7) (v := .inl _) F (Nat.le_of_ble_eq_true rfl) q3137 rfl rfl dX3_save_19 ?_
  obtain ⟨hx9, w1, w2⟩ := w
  refine jr_if_ne (pc := 22) (tgt := 66) F hx9 dX3_save_22 rfl (fun c9 => ?_) (fun c9 => ?_)
  · have w := w1 c9
    exact jr_vret (pc := 66) F M dX3_save_66 (hQ _ w)
  · have w := w2 c9
    refine jr_aload_n (pc := 25) F (j := 0) dX3_save_25 rfl ?_
    refine jm_get (pc := 26) (f := 0) (v := .inr (.inr (.inl (some (m0 + 1 + 0))))) F (Nat.le_of_ble_eq_true rfl) q3130 rfl rfl dX3_save_26 ?_
    refine jr_iconst (pc := 29) F dX3_save_29 ?_
    refine jr_aload_n (pc := 30) F (j := 0) dX3_save_30 rfl ?_
    refine jm_get (pc := 31) (f := 2) (v := .inr (.inr (.inl (some (m0 + 1 + 2))))) F (Nat.le_of_ble_eq_true rfl) q3132 rfl rfl dX3_save_31 ?_
    refine jr_sipush (pc := 34) F dX3_save_34 (by decide +kernel) ?_
    refine jr_iload_n (pc := 37) F (j := 1) dX3_save_37 rfl ?_
    refine jr_imul (pc := 38) F dX3_save_38 ?_
    refine jr_callS (pc := 39) (As := [_, _, _, _]) F M (lw_S q3661 q3662 q143 q3663) dX3_save_39 hM_copy.2 rfl (Nat.le_of_ble_eq_true rfl) (Nat.le_of_ble_eq_true rfl) (Nat.le_of_ble_eq_true rfl) (Nat.zero_le _) (cM_copy S hs (f0 := 0) ⟨by decide, rfl, by decide⟩ (f2 := 2) ⟨by decide, rfl, by decide⟩ w) (fun v9 h9 q9 => ?_) (fun _ _ _ q9 => q9.elim)
    obtain ⟨ms2, rfl, rfl, w⟩ := q9
    refine jr_aload_n (pc := 42) F (j := 0) dX3_save_42 rfl ?_
    refine jm_get (pc := 43) (f := 3) (v := .inr (.inr (.inl (some (m0 + 1 + 3))))) F (Nat.le_of_ble_eq_true rfl) q3133 rfl rfl dX3_save_43 ?_
    refine jr_iconst (pc := 46) F dX3_save_46 ?_
    refine jr_aload_n (pc := 47) F (j := 0) dX3_save_47 rfl ?_
    refine jm_get (pc := 48) (f := 5) (v := .inr (.inr (.inl (some (m0 + 1 + 5))))) F (Nat.le_of_ble_eq_true rfl) q3135 rfl rfl dX3_save_48 ?_
    refine jr_sipush (pc := 51) F dX3_save_51 (by decide +kernel) ?_
    refine jr_iload_n (pc := 54) F (j := 1) dX3_save_54 rfl ?_
    refine jr_imul (pc := 55) F dX3_save_55 ?_
    refine jr_callS (pc := 56) (As := [_, _, _, _]) F M (lw_S q3664 q3665 q143 q3666) dX3_save_56 hM_copyWords.2 rfl (Nat.le_of_ble_eq_true rfl) (Nat.le_of_ble_eq_true rfl) (Nat.le_of_ble_eq_true rfl) (Nat.zero_le _) (cM_copyWords S hs (f0 := 3) ⟨by decide, rfl, by decide⟩ (f2 := 5) ⟨by decide, rfl, by decide⟩ w) (fun v9 h9 q9 => ?_) (fun _ _ _ q9 => q9.elim)
    obtain ⟨ms4, rfl, rfl, w⟩ := q9
    refine jr_aload_n (pc := 59) F (j := 0) dX3_save_59 rfl ?_
    refine jm_get (pc := 60) (f := 6) (v := .inr (.inr (.inl (some (m0 + 1 + 6))))) F (Nat.le_of_ble_eq_true rfl) q3136 rfl rfl dX3_save_60 ?_
    refine jr_iload_n (pc := 63) F (j := 1) dX3_save_63 rfl ?_
    refine jr_iconst (pc := 64) F dX3_save_64 ?_
    obtain ⟨hi1, hi2, w⟩ := w
    have w := w _ rfl
    refine jm_zast (pc := 65) (f := 6) (o := 6) F (Nat.le_of_ble_eq_true rfl) rfl (by decide) hi1 hi2 (by decide) dX3_save_65 ?_
    exact jr_vret (pc := 66) F M dX3_save_66 (hQ _ w)

theorem sM_save {X : jj_X} {h0 : jj_H} {m0 k : Nat} {N : Option jj_AV → jj_H → Prop} {XN : String → Nat → jj_H → Prop} (F : jj_F X RX3 cX3_save 2) (M : jj_M X (none) 1 24 N XN) (S : jj_GS X.1 X.2.2.1) (hs : jj_hs X.1 h0 m0) {Q : jj_MS → Prop} (hQ : ∀ ms, Q ms → N none (jj_mh h0 m0 ms)) : ∀ (x1 : Int) (ms : jj_MS), fM_save x1 Q ms → jj_J X 2 0 [(0, .inr (.inr (.inl (some m0)))), (1, .inl x1)] [] (jj_mh h0 m0 ms) k := by
  intro x1 ms w
  unfold fM_save at w
  refine jr_aload_n (pc := 0) F (j := 0) dX3_save_0 rfl ?_
  refine jr_iload_n (pc := 1) F (j := 1) dX3_save_1 rfl ?_
  refine jr_iconst (pc := 2) F dX3_save_2 ?_
  refine jr_iconst (pc := 3) F dX3_save_3 ?_
  refine jr_callS (pc := 4) (As := [_, _, _]) F M (lw_S q3284 q3285 q143 q3286) dX3_save_4 hM_isBetween.2 rfl (Nat.le_of_ble_eq_true rfl) (Nat.le_of_ble_eq_true rfl) (Nat.le_of_ble_eq_true rfl) (Nat.zero_le _) (cM_isBetween S hs w) (fun v9 h9 q9 => ?_) (fun _ _ _ q9 => q9.elim)
  obtain ⟨r8, ms7, rfl, rfl, w⟩ := q9
  obtain ⟨hx9, w1, w2⟩ := w
  refine jr_if_eq (pc := 7) (tgt := 14) F hx9 dX3_save_7 rfl (fun c9 => ?_) (fun c9 => ?_)
  · have w := w1 c9
    refine jr_iconst (pc := 14) F dX3_save_14 ?_
    exact sM_save_j15 F M S hs hQ _ _ _ w
  · have w := w2 c9
    refine jr_iconst (pc := 10) F dX3_save_10 ?_
    refine jr_goto (pc := 11) (tgt := 15) F dX3_save_11 rfl ?_
    exact sM_save_j15 F M S hs hQ _ _ _ w

theorem cM_save {G : jj_G} {l : Launch} (S : jj_GS G l) {h0 : jj_H} {m0 : Nat} (hs : jj_hs G h0 m0) {x1 : Int} {ms : jj_MS} {Q : jj_MS → Prop} (w : fM_save x1 Q ms) : jj_Ct G l yX3_save (ws_ yX3_save cX3_save 2 (none)) 1 24 [.inr (.inr (.inl (some m0))), .inl x1] (jj_mh h0 m0 ms) 0 (jm_Nv h0 m0 Q) jj_F0 := by
  refine jj_Ct.of S.1 (by decide +kernel) (Nat.le_of_ble_eq_true rfl) rfl (fun X hG hl F M O hnm => ?_)
  subst hG; subst hl
  exact sM_save F M S hs (fun ms q => ⟨ms, rfl, rfl, q⟩) _ _ w
theorem hM_save : yX3_save.cls = RX3 ∧ yX3_save.cls ≠ "java/lang/invoke/MethodHandle" ∧ yX3_save.cls ≠ "java/lang/invoke/VarHandle" ∧ (parseMethodDescriptor yX3_save.desc).map (fun d => d.parameters.length) = some 1 := by decide +kernel
/-! restore(I)V -/
def fM_restore_j28 (x1 : Int) (y1 : Int) (Q : jj_MS → Prop) (ms : jj_MS) : Prop :=
  ∀ ms1, ms1 = jj_mI ms 7 y1 →
  jj_r (ms1.1 7) ∧ (¬ (ms1.1 7) = 0 → (
    Q ms1)) ∧
  ((ms1.1 7) = 0 → (
    fM_copy 2 (614 * x1) 0 0 (fun ms2 =>
    fM_copyWords 5 (606 * x1) 3 0 (fun ms4 =>
    Q ms4) ms2) ms1))

def fM_restore (x1 : Int) (Q : jj_MS → Prop) (ms : jj_MS) : Prop :=
  fM_isBetween x1 0 1 (fun r7 ms6 =>
  jj_r r7 ∧ (¬ r7 = 0 → (
    0 ≤ x1 ∧ x1 < 2 ∧
    jj_r (ms6.2 6 x1) ∧ (¬ (ms6.2 6 x1) = 0 → (
      fM_restore_j28 x1 0 Q ms6)) ∧
    ((ms6.2 6 x1) = 0 → (
      fM_restore_j28 x1 2 Q ms6)))) ∧
  (r7 = 0 → (
    fM_restore_j28 x1 1 Q ms6))) ms

theorem sM_restore_j28 {X : jj_X} {h0 : jj_H} {m0 k : Nat} {N : Option jj_AV → jj_H → Prop} {XN : String → Nat → jj_H → Prop} (F : jj_F X RX3 cX3_restore 2) (M : jj_M X (none) 1 24 N XN) (S : jj_GS X.1 X.2.2.1) (hs : jj_hs X.1 h0 m0) {Q : jj_MS → Prop} (hQ : ∀ ms, Q ms → N none (jj_mh h0 m0 ms)) : ∀ (x1 : Int) (y1 : Int) (ms : jj_MS), fM_restore_j28 x1 y1 Q ms → jj_J X 2 28 [(0, .inr (.inr (.inl (some m0)))), (1, .inl x1)] [.inl y1, .inr (.inr (.inl (some m0)))] (jj_mh h0 m0 ms) k := by
  intro x1 y1 ms w
  unfold fM_restore_j28 at w
  have w := w _ rfl
  refine jm_put (pc := 28) (f := 7) F (Nat.le_of_ble_eq_true rfl) q3137 rfl rfl rfl rfl rfl rfl dX3_restore_28 ?_
  refine jr_aload_n (pc := 31) F (j := 0) dX3_restore_31 rfl ?_
  refine jm_get (pc := 32) (f := 7) (v := .inl _) F (Nat.le_of_ble_eq_true rfl) q3137 rfl rfl dX3_restore_32 ?_
  obtain ⟨hx9, w1, w2⟩ := w
  refine jr_if_ne (pc := 35) (tgt := 72) F hx9 dX3_restore_35 rfl (fun c9 => ?_) (fun c9 => ?_)
  · have w := w1 c9
    exact jr_vret (pc := 72) F M dX3_restore_72 (hQ _ w)
  · have w := w2 c9
    refine jr_aload_n (pc := 38) F (j := 0) dX3_restore_38 rfl ?_
    refine jm_get (pc := 39) (f := 2) (v := .inr (.inr (.inl (some (m0 + 1 + 2))))) F (Nat.le_of_ble_eq_true rfl) q3132 rfl rfl dX3_restore_39 ?_
    refine jr_sipush (pc := 42) F dX3_restore_42 (by decide +kernel) ?_
    refine jr_iload_n (pc := 45) F (j := 1) dX3_restore_45 rfl ?_
    refine jr_imul (pc := 46) F dX3_restore_46 ?_
    refine jr_aload_n (pc := 47) F (j := 0) dX3_restore_47 rfl ?_
    refine jm_get (pc := 48) (f := 0) (v := .inr (.inr (.inl (some (m0 + 1 + 0))))) F (Nat.le_of_ble_eq_true rfl) q3130 rfl rfl dX3_restore_48 ?_
    refine jr_iconst (pc := 51) F dX3_restore_51 ?_
    refine jr_callS (pc := 52) (As := [_, _, _, _]) F M (lw_S q3661 q3662 q143 q3663) dX3_restore_52 hM_copy.2 rfl (Nat.le_of_ble_eq_true rfl) (Nat.le_of_ble_eq_true rfl) (Nat.le_of_ble_eq_true rfl) (Nat.zero_le _) (cM_copy S hs (f0 := 2) ⟨by decide, rfl, by decide⟩ (f2 := 0) ⟨by decide, rfl, by decide⟩ w) (fun v9 h9 q9 => ?_) (fun _ _ _ q9 => q9.elim)
    obtain ⟨ms2, rfl, rfl, w⟩ := q9
    refine jr_aload_n (pc := 55) F (j := 0) dX3_restore_55 rfl ?_
    refine jm_get (pc := 56) (f := 5) (v := .inr (.inr (.inl (some (m0 + 1 + 5))))) F (Nat.le_of_ble_eq_true rfl) q3135 rfl rfl dX3_restore_56 ?_
    refine jr_sipush (pc := 59) F dX3_restore_59 (by decide +kernel) ?_
    refine jr_iload_n (pc := 62) F (j := 1) dX3_restore_62 rfl ?_
    refine jr_imul (pc := 63) F dX3_restore_63 ?_
    refine jr_aload_n (pc := 64) F (j := 0) dX3_restore_64 rfl ?_
    refine jm_get (pc := 65) (f := 3) (v := .inr (.inr (.inl (some (m0 + 1 + 3))))) F (Nat.le_of_ble_eq_true rfl) q3133 rfl rfl dX3_restore_65 ?_
    refine jr_iconst (pc := 68) F dX3_restore_68 ?_
    refine jr_callS (pc := 69) (As := [_, _, _, _]) F M (lw_S q3664 q3665 q143 q3666) dX3_restore_69 hM_copyWords.2 rfl (Nat.le_of_ble_eq_true rfl) (Nat.le_of_ble_eq_true rfl) (Nat.le_of_ble_eq_true rfl) (Nat.zero_le _) (cM_copyWords S hs (f0 := 5) ⟨by decide, rfl, by decide⟩ (f2 := 3) ⟨by decide, rfl, by decide⟩ w) (fun v9 h9 q9 => ?_) (fun _ _ _ q9 => q9.elim)
    obtain ⟨ms4, rfl, rfl, w⟩ := q9
    exact jr_vret (pc := 72) F M dX3_restore_72 (hQ _ w)

theorem sM_restore {X : jj_X} {h0 : jj_H} {m0 k : Nat} {N : Option jj_AV → jj_H → Prop} {XN : String → Nat → jj_H → Prop} (F : jj_F X RX3 cX3_restore 2) (M : jj_M X (none) 1 24 N XN) (S : jj_GS X.1 X.2.2.1) (hs : jj_hs X.1 h0 m0) {Q : jj_MS → Prop} (hQ : ∀ ms, Q ms → N none (jj_mh h0 m0 ms)) : ∀ (x1 : Int) (ms : jj_MS), fM_restore x1 Q ms → jj_J X 2 0 [(0, .inr (.inr (.inl (some m0)))), (1, .inl x1)] [] (jj_mh h0 m0 ms) k := by
  intro x1 ms w
  unfold fM_restore at w
  refine jr_aload_n (pc := 0) F (j := 0) dX3_restore_0 rfl ?_
  refine jr_iload_n (pc := 1) F (j := 1) dX3_restore_1 rfl ?_
  refine jr_iconst (pc := 2) F dX3_restore_2 ?_
  refine jr_iconst (pc := 3) F dX3_restore_3 ?_
  refine jr_callS (pc := 4) (As := [_, _, _]) F M (lw_S q3284 q3285 q143 q3286) dX3_restore_4 hM_isBetween.2 rfl (Nat.le_of_ble_eq_true rfl) (Nat.le_of_ble_eq_true rfl) (Nat.le_of_ble_eq_true rfl) (Nat.zero_le _) (cM_isBetween S hs w) (fun v9 h9 q9 => ?_) (fun _ _ _ q9 => q9.elim)
  obtain ⟨r7, ms6, rfl, rfl, w⟩ := q9
  obtain ⟨hx9, w1, w2⟩ := w
  refine jr_if_ne (pc := 7) (tgt := 14) F hx9 dX3_restore_7 rfl (fun c9 => ?_) (fun c9 => ?_)
  · have w := w1 c9
    refine jr_aload_n (pc := 14) F (j := 0) dX3_restore_14 rfl ?_
    refine jm_get (pc := 15) (f := 6) (v := .inr (.inr (.inl (some (m0 + 1 + 6))))) F (Nat.le_of_ble_eq_true rfl) q3136 rfl rfl dX3_restore_15 ?_
    refine jr_iload_n (pc := 18) F (j := 1) dX3_restore_18 rfl ?_
    obtain ⟨hi1, hi2, w⟩ := w
    refine jm_zald (pc := 19) (f := 6) (o := 6) F rfl (by decide) hi1 hi2 dX3_restore_19 ?_
    obtain ⟨hx9, w1, w2⟩ := w
    refine jr_if_ne (pc := 20) (tgt := 27) F hx9 dX3_restore_20 rfl (fun c9 => ?_) (fun c9 => ?_)
    · have w := w1 c9
      refine jr_iconst (pc := 27) F dX3_restore_27 ?_
      exact sM_restore_j28 F M S hs hQ _ _ _ w
    · have w := w2 c9
      refine jr_iconst (pc := 23) F dX3_restore_23 ?_
      refine jr_goto (pc := 24) (tgt := 28) F dX3_restore_24 rfl ?_
      exact sM_restore_j28 F M S hs hQ _ _ _ w
  · have w := w2 c9
    refine jr_iconst (pc := 10) F dX3_restore_10 ?_
    refine jr_goto (pc := 11) (tgt := 28) F dX3_restore_11 rfl ?_
    exact sM_restore_j28 F M S hs hQ _ _ _ w

theorem cM_restore {G : jj_G} {l : Launch} (S : jj_GS G l) {h0 : jj_H} {m0 : Nat} (hs : jj_hs G h0 m0) {x1 : Int} {ms : jj_MS} {Q : jj_MS → Prop} (w : fM_restore x1 Q ms) : jj_Ct G l yX3_restore (ws_ yX3_restore cX3_restore 2 (none)) 1 24 [.inr (.inr (.inl (some m0))), .inl x1] (jj_mh h0 m0 ms) 0 (jm_Nv h0 m0 Q) jj_F0 := by
  refine jj_Ct.of S.1 (by decide +kernel) (Nat.le_of_ble_eq_true rfl) rfl (fun X hG hl F M O hnm => ?_)
  subst hG; subst hl
  exact sM_restore F M S hs (fun ms q => ⟨ms, rfl, rfl, q⟩) _ _ w
theorem hM_restore : yX3_restore.cls = RX3 ∧ yX3_restore.cls ≠ "java/lang/invoke/MethodHandle" ∧ yX3_restore.cls ≠ "java/lang/invoke/VarHandle" ∧ (parseMethodDescriptor yX3_restore.desc).map (fun d => d.parameters.length) = some 1 := by decide +kernel
