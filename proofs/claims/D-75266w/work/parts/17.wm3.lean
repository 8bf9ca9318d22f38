set_option maxRecDepth 100000
/-! heat(I)I -/
def fM_heat (x1 : Int) (Q : Int → jj_MS → Prop) (ms : jj_MS) : Prop :=
  ∀ ms1, ms1 = jj_mI ms 7 0 →
  fM_isTargetWord x1 (fun r3 ms2 =>
  jj_r r3 ∧ (¬ r3 = 0 → (
    fM_layAnchors (fun ms4 =>
    fM_heatOf x1 (fun r7 ms6 =>
    Q r7 ms6) ms4) ms2)) ∧
  (r3 = 0 → (
    fM_fail 1 (fun r9 ms8 =>
    Q r9 ms8) ms2))) ms1

theorem sM_heat {X : jj_X} {h0 : jj_H} {m0 k : Nat} {N : Option jj_AV → jj_H → Prop} {XN : String → Nat → jj_H → Prop} (F : jj_F X RX3 cX3_heat 2) (M : jj_M X (some (.int)) 5 121 N XN) (S : jj_GS X.1 X.2.2.1) (hs : jj_hs X.1 h0 m0) {Q : Int → jj_MS → Prop} (hQ : ∀ r ms, Q r ms → N (some (.inl r)) (jj_mh h0 m0 ms)) : ∀ (x1 : Int) (ms : jj_MS), fM_heat x1 Q ms → jj_J X 2 0 [(0, .inr (.inr (.inl (some m0)))), (1, .inl x1)] [] (jj_mh h0 m0 ms) k := by
  intro x1 ms w
  unfold fM_heat at w
  refine jr_aload_n (pc := 0) F (j := 0) dX3_heat_0 rfl ?_
  refine jr_iconst (pc := 1) F dX3_heat_1 ?_
  have w := w _ rfl
  refine jm_put (pc := 2) (f := 7) F (Nat.le_of_ble_eq_true rfl) q3137 rfl rfl rfl rfl rfl rfl dX3_heat_2 ?_
  refine jr_aload_n (pc := 5) F (j := 0) dX3_heat_5 rfl ?_
  refine jr_iload_n (pc := 6) F (j := 1) dX3_heat_6 rfl ?_
  refine jr_callV (pc := 7) (As := [_]) F M (lw_V q3579 q3581 qs89 q143 q3582) dX3_heat_7 hM_isTargetWord rfl (Nat.le_of_ble_eq_true rfl) (Nat.le_of_ble_eq_true rfl) (Nat.le_of_ble_eq_true rfl) (jj_set_self _ _ _) rfl rfl (Nat.zero_le _) (cM_isTargetWord S hs w) (fun v9 h9 q9 => ?_) (fun _ _ _ q9 => q9.elim)
  obtain ⟨r3, ms2, rfl, rfl, w⟩ := q9
  obtain ⟨hx9, w1, w2⟩ := w
  refine jr_if_ne (pc := 10) (tgt := 19) F hx9 dX3_heat_10 rfl (fun c9 => ?_) (fun c9 => ?_)
  · have w := w1 c9
    refine jr_aload_n (pc := 19) F (j := 0) dX3_heat_19 rfl ?_
    refine jr_callV (pc := 20) (As := []) F M (lw_V q3295 q3297 qs48 q143 q3298) dX3_heat_20 hM_layAnchors rfl (Nat.le_of_ble_eq_true rfl) (Nat.le_of_ble_eq_true rfl) (Nat.le_of_ble_eq_true rfl) (jj_set_self _ _ _) rfl rfl (Nat.zero_le _) (cM_layAnchors S hs w) (fun v9 h9 q9 => ?_) (fun _ _ _ q9 => q9.elim)
    obtain ⟨ms4, rfl, rfl, w⟩ := q9
    refine jr_aload_n (pc := 23) F (j := 0) dX3_heat_23 rfl ?_
    refine jr_iload_n (pc := 24) F (j := 1) dX3_heat_24 rfl ?_
    refine jr_callV (pc := 25) (As := [_]) F M (lw_V q3583 q3585 qs90 q143 q3586) dX3_heat_25 hM_heatOf rfl (Nat.le_of_ble_eq_true rfl) (Nat.le_of_ble_eq_true rfl) (Nat.le_of_ble_eq_true rfl) (jj_set_self _ _ _) rfl rfl (Nat.zero_le _) (cM_heatOf S hs w) (fun v9 h9 q9 => ?_) (fun _ _ _ q9 => q9.elim)
    obtain ⟨r7, ms6, rfl, rfl, w⟩ := q9
    exact jr_iret (pc := 28) F M dX3_heat_28 (hQ _ _ w)
  · have w := w2 c9
    refine jr_aload_n (pc := 13) F (j := 0) dX3_heat_13 rfl ?_
    refine jr_iconst (pc := 14) F dX3_heat_14 ?_
    refine jr_callV (pc := 15) (As := [_]) F M (lw_V q3276 q3278 qs46 q143 q3279) dX3_heat_15 hM_fail rfl (Nat.le_of_ble_eq_true rfl) (Nat.le_of_ble_eq_true rfl) (Nat.le_of_ble_eq_true rfl) (jj_set_self _ _ _) rfl rfl (Nat.zero_le _) (cM_fail S hs w) (fun v9 h9 q9 => ?_) (fun _ _ _ q9 => q9.elim)
    obtain ⟨r9, ms8, rfl, rfl, w⟩ := q9
    exact jr_iret (pc := 18) F M dX3_heat_18 (hQ _ _ w)

theorem cM_heat {G : jj_G} {l : Launch} (S : jj_GS G l) {h0 : jj_H} {m0 : Nat} (hs : jj_hs G h0 m0) {x1 : Int} {ms : jj_MS} {Q : Int → jj_MS → Prop} (w : fM_heat x1 Q ms) : jj_Ct G l yX3_heat (ws_ yX3_heat cX3_heat 2 (some (.int))) 5 121 [.inr (.inr (.inl (some m0))), .inl x1] (jj_mh h0 m0 ms) 0 (jm_Ni h0 m0 Q) jj_F0 := by
  refine jj_Ct.of S.1 (by decide +kernel) (Nat.le_of_ble_eq_true rfl) rfl (fun X hG hl F M O hnm => ?_)
  subst hG; subst hl
  exact sM_heat F M S hs (fun r ms q => ⟨r, ms, rfl, rfl, q⟩) _ _ w
theorem hM_heat : yX3_heat.cls = RX3 ∧ yX3_heat.cls ≠ "java/lang/invoke/MethodHandle" ∧ yX3_heat.cls ≠ "java/lang/invoke/VarHandle" ∧ (parseMethodDescriptor yX3_heat.desc).map (fun d => d.parameters.length) = some 1 := by decide +kernel
/-! targetPageOf(I)I -/
def fM_targetPageOf (x1 : Int) (Q : Int → jj_MS → Prop) (ms : jj_MS) : Prop :=
  0 ≤ x1 ∧ x1 < 120 ∧
  fM_target (fun r2 ms1 =>
  fM_ofEdition r2 2 (fun r4 ms3 =>
  (jj_r r4 ∧ r4 ≠ 0) ∧
  Q (jj_div (ms.2 12 x1) r4) ms3) ms1) ms

theorem sM_targetPageOf {X : jj_X} {h0 : jj_H} {m0 k : Nat} {N : Option jj_AV → jj_H → Prop} {XN : String → Nat → jj_H → Prop} (F : jj_F X RX3 cX3_targetPageOf 2) (M : jj_M X (some (.int)) 1 22 N XN) (S : jj_GS X.1 X.2.2.1) (hs : jj_hs X.1 h0 m0) {Q : Int → jj_MS → Prop} (hQ : ∀ r ms, Q r ms → N (some (.inl r)) (jj_mh h0 m0 ms)) : ∀ (x1 : Int) (ms : jj_MS), fM_targetPageOf x1 Q ms → jj_J X 2 0 [(0, .inr (.inr (.inl (some m0)))), (1, .inl x1)] [] (jj_mh h0 m0 ms) k := by
  intro x1 ms w
  unfold fM_targetPageOf at w
  refine jr_aload_n (pc := 0) F (j := 0) dX3_targetPageOf_0 rfl ?_
  refine jm_get (pc := 1) (f := 12) (v := .inr (.inr (.inl (some (m0 + 1 + 9))))) F (Nat.le_of_ble_eq_true rfl) q3142 rfl rfl dX3_targetPageOf_1 ?_
  refine jr_iload_n (pc := 4) F (j := 1) dX3_targetPageOf_4 rfl ?_
  obtain ⟨hi1, hi2, w⟩ := w
  refine jm_iald (pc := 5) (f := 12) (o := 9) F rfl (by decide) hi1 hi2 dX3_targetPageOf_5 ?_
  refine jr_aload_n (pc := 6) F (j := 0) dX3_targetPageOf_6 rfl ?_
  refine jr_aload_n (pc := 7) F (j := 0) dX3_targetPageOf_7 rfl ?_
  refine jr_callV (pc := 8) (As := []) F M (lw_V q3315 q3317 qs53 q143 q3318) dX3_targetPageOf_8 hM_target rfl (Nat.le_of_ble_eq_true rfl) (Nat.le_of_ble_eq_true rfl) (Nat.le_of_ble_eq_true rfl) (jj_set_self _ _ _) rfl rfl (Nat.zero_le _) (cM_target S hs w) (fun v9 h9 q9 => ?_) (fun _ _ _ q9 => q9.elim)
  obtain ⟨r2, ms1, rfl, rfl, w⟩ := q9
  refine jr_iconst (pc := 11) F dX3_targetPageOf_11 ?_
  refine jr_callV (pc := 12) (As := [_, _]) F M (lw_V q3311 q3313 qs52 q143 q3314) dX3_targetPageOf_12 hM_ofEdition rfl (Nat.le_of_ble_eq_true rfl) (Nat.le_of_ble_eq_true rfl) (Nat.le_of_ble_eq_true rfl) (jj_set_self _ _ _) rfl rfl (Nat.zero_le _) (cM_ofEdition S hs w) (fun v9 h9 q9 => ?_) (fun _ _ _ q9 => q9.elim)
  obtain ⟨r4, ms3, rfl, rfl, w⟩ := q9
  obtain ⟨hd9, w⟩ := w
  refine jr_idiv (pc := 15) F dX3_targetPageOf_15 hd9 ?_
  exact jr_iret (pc := 16) F M dX3_targetPageOf_16 (hQ _ _ w)

theorem cM_targetPageOf {G : jj_G} {l : Launch} (S : jj_GS G l) {h0 : jj_H} {m0 : Nat} (hs : jj_hs G h0 m0) {x1 : Int} {ms : jj_MS} {Q : Int → jj_MS → Prop} (w : fM_targetPageOf x1 Q ms) : jj_Ct G l yX3_targetPageOf (ws_ yX3_targetPageOf cX3_targetPageOf 2 (some (.int))) 1 22 [.inr (.inr (.inl (some m0))), .inl x1] (jj_mh h0 m0 ms) 0 (jm_Ni h0 m0 Q) jj_F0 := by
  refine jj_Ct.of S.1 (by decide +kernel) (Nat.le_of_ble_eq_true rfl) rfl (fun X hG hl F M O hnm => ?_)
  subst hG; subst hl
  exact sM_targetPageOf F M S hs (fun r ms q => ⟨r, ms, rfl, rfl, q⟩) _ _ w
theorem hM_targetPageOf : yX3_targetPageOf.cls = RX3 ∧ yX3_targetPageOf.cls ≠ "java/lang/invoke/MethodHandle" ∧ yX3_targetPageOf.cls ≠ "java/lang/invoke/VarHandle" ∧ (parseMethodDescriptor yX3_targetPageOf.desc).map (fun d => d.parameters.length) = some 1 := by decide +kernel
/-! hottestPage()I -/
def fM_hottestPage_j75 (K35 : Int → Int → Int → Int → jj_MS → Prop) (x1 : Int) (x2 : Int) (x4 : Int) (y0 : Int) (Q : Int → jj_MS → Prop) (ms : jj_MS) : Prop :=
  fM_heatOf x4 (fun r2 ms1 =>
  ∀ v3, v3 = y0 + r2 →
  jj_r v3 ∧ jj_r x2 ∧ (v3 ≤ x2 → (
    ∀ v4, v4 = x4 + 1 →
    K35 x1 x2 v3 v4 ms1)) ∧
  (¬ v3 ≤ x2 → (
    fM_targetPageOf x4 (fun r6 ms5 =>
    ∀ v7, v7 = x4 + 1 →
    K35 r6 v3 v3 v7 ms5) ms1))) ms

def fM_hottestPage_j74 (K35 : Int → Int → Int → Int → jj_MS → Prop) (x1 : Int) (x2 : Int) (x3 : Int) (x4 : Int) (Q : Int → jj_MS → Prop) (ms : jj_MS) : Prop :=
  fM_hottestPage_j75 K35 x1 x2 x4 x3 Q ms

def fM_hottestPage_l35 (Q : Int → jj_MS → Prop) : Nat → Int → Int → Int → Int → jj_MS → Prop
  | 0, _, _, _, _, _ => False
  | n + 1, x1, x2, x3, x4, ms =>
  fM_target (fun r9 ms8 =>
  fM_sizeOf r9 (fun r11 ms10 =>
  jj_r x4 ∧ jj_r r11 ∧ (r11 ≤ x4 → (
    Q x1 ms10)) ∧
  (¬ r11 ≤ x4 → (
    jj_r x4 ∧ (x4 ≤ 0 → (
      fM_hottestPage_j74 (fM_hottestPage_l35 Q n) x1 x2 x3 x4 Q ms10)) ∧
    (¬ x4 ≤ 0 → (
      fM_targetPageOf x4 (fun r13 ms12 =>
      fM_targetPageOf (x4 - 1) (fun r15 ms14 =>
      jj_r r13 ∧ jj_r r15 ∧ (r13 = r15 → (
        fM_hottestPage_j74 (fM_hottestPage_l35 Q n) x1 x2 x3 x4 Q ms14)) ∧
      (¬ r13 = r15 → (
        fM_hottestPage_j75 (fM_hottestPage_l35 Q n) x1 x2 x4 0 Q ms14))) ms12) ms10))))) ms8) ms

def fM_hottestPage (Q : Int → jj_MS → Prop) (ms : jj_MS) : Prop :=
  ∀ ms16, ms16 = jj_mI ms 7 0 →
  fM_editions (fun r18 ms17 =>
  jj_r r18 ∧ (¬ r18 = 0 → (
    fM_layAnchors (fun ms19 =>
    fM_target (fun r22 ms21 =>
    fM_layOut r22 (fun ms23 =>
    ∃ n9, fM_hottestPage_l35 Q n9 0 0 0 0 ms23) ms21) ms19) ms17)) ∧
  (r18 = 0 → (
    Q ((-1)) ms17))) ms16

theorem sM_hottestPage_j75 {X : jj_X} {h0 : jj_H} {m0 k : Nat} {N : Option jj_AV → jj_H → Prop} {XN : String → Nat → jj_H → Prop} (F : jj_F X RX3 cX3_hottestPage 5) (M : jj_M X (some (.int)) 5 121 N XN) (S : jj_GS X.1 X.2.2.1) (hs : jj_hs X.1 h0 m0) {Q : Int → jj_MS → Prop} (hQ : ∀ r ms, Q r ms → N (some (.inl r)) (jj_mh h0 m0 ms)) {K35 : Int → Int → Int → Int → jj_MS → Prop} (hK35 : ∀ (z1 : Int) (z2 : Int) (z3 : Int) (z4 : Int) (ms : jj_MS), K35 z1 z2 z3 z4 ms → jj_J X 5 35 [(0, .inr (.inr (.inl (some m0)))), (1, .inl z1), (2, .inl z2), (3, .inl z3), (4, .inl z4)] [] (jj_mh h0 m0 ms) k) : ∀ (x1 : Int) (x2 : Int) (x4 : Int) (y0 : Int) (ms : jj_MS), fM_hottestPage_j75 K35 x1 x2 x4 y0 Q ms → jj_J X 5 75 [(0, .inr (.inr (.inl (some m0)))), (1, .inl x1), (2, .inl x2), (4, .inl x4)] [.inl y0] (jj_mh h0 m0 ms) k := by
  intro x1 x2 x4 y0 ms w
  unfold fM_hottestPage_j75 at w
  refine jr_istore_n (pc := 75) F (vs' := [(3, .inl _), (0, .inr (.inr (.inl _))), (1, .inl _), (2, .inl _), (4, .inl _)]) dX3_hottestPage_75 (Nat.le_of_ble_eq_true rfl) rfl ?_
  refine jr_iload_n (pc := 76) F (j := 0) dX3_hottestPage_76 rfl ?_
  refine jr_aload_n (pc := 77) F (j := 1) dX3_hottestPage_77 rfl ?_
  refine jr_iload (pc := 78) F (j := 4) dX3_hottestPage_78 rfl ?_
  refine jr_callV (pc := 80) (As := [_]) F M (lw_V q3583 q3585 qs90 q143 q3586) dX3_hottestPage_80 hM_heatOf rfl (Nat.le_of_ble_eq_true rfl) (Nat.le_of_ble_eq_true rfl) (Nat.le_of_ble_eq_true rfl) (jj_set_self _ _ _) rfl rfl (Nat.zero_le _) (cM_heatOf S hs w) (fun v9 h9 q9 => ?_) (fun _ _ _ q9 => q9.elim)
  obtain ⟨r2, ms1, rfl, rfl, w⟩ := q9
  refine jr_iadd (pc := 83) F dX3_hottestPage_83 ?_
  have w := w _ rfl
  refine jr_istore_n (pc := 84) F (vs' := [(3, .inl _), (0, .inr (.inr (.inl _))), (1, .inl _), (2, .inl _), (4, .inl _)]) dX3_hottestPage_84 (Nat.le_of_ble_eq_true rfl) rfl ?_
  refine jr_iload_n (pc := 85) F (j := 0) dX3_hottestPage_85 rfl ?_
  refine jr_iload_n (pc := 86) F (j := 3) dX3_hottestPage_86 rfl ?_
  obtain ⟨hx9, hy9, w1, w2⟩ := w
  refine jr_icmp_le (pc := 87) (tgt := 99) F hx9 hy9 dX3_hottestPage_87 rfl (fun c9 => ?_) (fun c9 => ?_)
  · have w := w1 c9
    have w := w _ rfl
    refine jr_iinc (pc := 99) F (j := 4) (vs' := [(4, .inl _), (3, .inl _), (0, .inr (.inr (.inl _))), (1, .inl _), (2, .inl _)]) dX3_hottestPage_99 rfl rfl (Nat.le_of_ble_eq_true rfl) rfl ?_
    refine jr_goto (pc := 102) (tgt := 35) F dX3_hottestPage_102 rfl ?_
    refine jj_J.sub [2, 3, 4, 1, 0] rfl ?_
    exact hK35 _ _ _ _ _ w
  · have w := w2 c9
    refine jr_iload_n (pc := 90) F (j := 0) dX3_hottestPage_90 rfl ?_
    refine jr_istore_n (pc := 91) F (vs' := [(2, .inl _), (3, .inl _), (0, .inr (.inr (.inl _))), (1, .inl _), (4, .inl _)]) dX3_hottestPage_91 (Nat.le_of_ble_eq_true rfl) rfl ?_
    refine jr_aload_n (pc := 92) F (j := 2) dX3_hottestPage_92 rfl ?_
    refine jr_iload (pc := 93) F (j := 4) dX3_hottestPage_93 rfl ?_
    refine jr_callV (pc := 95) (As := [_]) F M (lw_V q3591 q3593 qs91 q143 q3594) dX3_hottestPage_95 hM_targetPageOf rfl (Nat.le_of_ble_eq_true rfl) (Nat.le_of_ble_eq_true rfl) (Nat.le_of_ble_eq_true rfl) (jj_set_self _ _ _) rfl rfl (Nat.zero_le _) (cM_targetPageOf S hs w) (fun v9 h9 q9 => ?_) (fun _ _ _ q9 => q9.elim)
    obtain ⟨r6, ms5, rfl, rfl, w⟩ := q9
    refine jr_istore_n (pc := 98) F (vs' := [(1, .inl _), (2, .inl _), (3, .inl _), (0, .inr (.inr (.inl _))), (4, .inl _)]) dX3_hottestPage_98 (Nat.le_of_ble_eq_true rfl) rfl ?_
    have w := w _ rfl
    refine jr_iinc (pc := 99) F (j := 4) (vs' := [(4, .inl _), (1, .inl _), (2, .inl _), (3, .inl _), (0, .inr (.inr (.inl _)))]) dX3_hottestPage_99 rfl rfl (Nat.le_of_ble_eq_true rfl) rfl ?_
    refine jr_goto (pc := 102) (tgt := 35) F dX3_hottestPage_102 rfl ?_
    refine jj_J.sub [4, 1, 2, 3, 0] rfl ?_
    exact hK35 _ _ _ _ _ w

theorem sM_hottestPage_j74 {X : jj_X} {h0 : jj_H} {m0 k : Nat} {N : Option jj_AV → jj_H → Prop} {XN : String → Nat → jj_H → Prop} (F : jj_F X RX3 cX3_hottestPage 5) (M : jj_M X (some (.int)) 5 121 N XN) (S : jj_GS X.1 X.2.2.1) (hs : jj_hs X.1 h0 m0) {Q : Int → jj_MS → Prop} (hQ : ∀ r ms, Q r ms → N (some (.inl r)) (jj_mh h0 m0 ms)) {K35 : Int → Int → Int → Int → jj_MS → Prop} (hK35 : ∀ (z1 : Int) (z2 : Int) (z3 : Int) (z4 : Int) (ms : jj_MS), K35 z1 z2 z3 z4 ms → jj_J X 5 35 [(0, .inr (.inr (.inl (some m0)))), (1, .inl z1), (2, .inl z2), (3, .inl z3), (4, .inl z4)] [] (jj_mh h0 m0 ms) k) : ∀ (x1 : Int) (x2 : Int) (x3 : Int) (x4 : Int) (ms : jj_MS), fM_hottestPage_j74 K35 x1 x2 x3 x4 Q ms → jj_J X 5 74 [(0, .inr (.inr (.inl (some m0)))), (1, .inl x1), (2, .inl x2), (3, .inl x3), (4, .inl x4)] [] (jj_mh h0 m0 ms) k := by
  intro x1 x2 x3 x4 ms w
  unfold fM_hottestPage_j74 at w
  refine jr_iload_n (pc := 74) F (j := 3) dX3_hottestPage_74 rfl ?_
  refine jj_J.sub [0, 1, 2, 4] rfl ?_
  exact sM_hottestPage_j75 F M S hs hQ hK35 _ _ _ _ _ w

theorem sM_hottestPage_l35 {X : jj_X} {h0 : jj_H} {m0 k : Nat} {N : Option jj_AV → jj_H → Prop} {XN : String → Nat → jj_H → Prop} (F : jj_F X RX3 cX3_hottestPage 5) (M : jj_M X (some (.int)) 5 121 N XN) (S : jj_GS X.1 X.2.2.1) (hs : jj_hs X.1 h0 m0) {Q : Int → jj_MS → Prop} (hQ : ∀ r ms, Q r ms → N (some (.inl r)) (jj_mh h0 m0 ms)) : ∀ (n : Nat) (x1 : Int) (x2 : Int) (x3 : Int) (x4 : Int) (ms : jj_MS), fM_hottestPage_l35 Q n x1 x2 x3 x4 ms → jj_J X 5 35 [(0, .inr (.inr (.inl (some m0)))), (1, .inl x1), (2, .inl x2), (3, .inl x3), (4, .inl x4)] [] (jj_mh h0 m0 ms) k := by
  intro n
  induction n with
  | zero =>
    intro x1 x2 x3 x4 ms w
    exact (show False from w).elim
  | succ n ih =>
    intro x1 x2 x3 x4 ms w
    rw [fM_hottestPage_l35] at w
    refine jr_iload (pc := 35) F (j := 4) dX3_hottestPage_35 rfl ?_
    refine jr_aload_n (pc := 37) F (j := 0) dX3_hottestPage_37 rfl ?_
    refine jr_aload_n (pc := 38) F (j := 0) dX3_hottestPage_38 rfl ?_
    refine jr_callV (pc := 39) (As := []) F M (lw_V q3315 q3317 qs53 q143 q3318) dX3_hottestPage_39 hM_target rfl (Nat.le_of_ble_eq_true rfl) (Nat.le_of_ble_eq_true rfl) (Nat.le_of_ble_eq_true rfl) (jj_set_self _ _ _) rfl rfl (Nat.zero_le _) (cM_target S hs w) (fun v9 h9 q9 => ?_) (fun _ _ _ q9 => q9.elim)
    obtain ⟨r9, ms8, rfl, rfl, w⟩ := q9
    refine jr_callV (pc := 42) (As := [_]) F M (lw_V q3307 q3309 qs51 q143 q3310) dX3_hottestPage_42 hM_sizeOf rfl (Nat.le_of_ble_eq_true rfl) (Nat.le_of_ble_eq_true rfl) (Nat.le_of_ble_eq_true rfl) (jj_set_self _ _ _) rfl rfl (Nat.zero_le _) (cM_sizeOf S hs w) (fun v9 h9 q9 => ?_) (fun _ _ _ q9 => q9.elim)
    obtain ⟨r11, ms10, rfl, rfl, w⟩ := q9
    obtain ⟨hx9, hy9, w1, w2⟩ := w
    refine jr_icmp_ge (pc := 45) (tgt := 105) F hx9 hy9 dX3_hottestPage_45 rfl (fun c9 => ?_) (fun c9 => ?_)
    · have w := w1 c9
      refine jr_iload_n (pc := 105) F (j := 1) dX3_hottestPage_105 rfl ?_
      exact jr_iret (pc := 106) F M dX3_hottestPage_106 (hQ _ _ w)
    · have w := w2 c9
      refine jr_iload (pc := 48) F (j := 4) dX3_hottestPage_48 rfl ?_
      obtain ⟨hx9, w1, w2⟩ := w
      refine jr_if_le (pc := 50) (tgt := 74) F hx9 dX3_hottestPage_50 rfl (fun c9 => ?_) (fun c9 => ?_)
      · have w := w1 c9
        exact sM_hottestPage_j74 F M S hs hQ ih _ _ _ _ _ w
      · have w := w2 c9
        refine jr_aload_n (pc := 53) F (j := 0) dX3_hottestPage_53 rfl ?_
        refine jr_iload (pc := 54) F (j := 4) dX3_hottestPage_54 rfl ?_
        refine jr_callV (pc := 56) (As := [_]) F M (lw_V q3591 q3593 qs91 q143 q3594) dX3_hottestPage_56 hM_targetPageOf rfl (Nat.le_of_ble_eq_true rfl) (Nat.le_of_ble_eq_true rfl) (Nat.le_of_ble_eq_true rfl) (jj_set_self _ _ _) rfl rfl (Nat.zero_le _) (cM_targetPageOf S hs w) (fun v9 h9 q9 => ?_) (fun _ _ _ q9 => q9.elim)
        obtain ⟨r13, ms12, rfl, rfl, w⟩ := q9
        refine jr_aload_n (pc := 59) F (j := 0) dX3_hottestPage_59 rfl ?_
        refine jr_iload (pc := 60) F (j := 4) dX3_hottestPage_60 rfl ?_
        refine jr_iconst (pc := 62) F dX3_hottestPage_62 ?_
        refine jr_isub (pc := 63) F dX3_hottestPage_63 ?_
        refine jr_callV (pc := 64) (As := [_]) F M (lw_V q3591 q3593 qs91 q143 q3594) dX3_hottestPage_64 hM_targetPageOf rfl (Nat.le_of_ble_eq_true rfl) (Nat.le_of_ble_eq_true rfl) (Nat.le_of_ble_eq_true rfl) (jj_set_self _ _ _) rfl rfl (Nat.zero_le _) (cM_targetPageOf S hs w) (fun v9 h9 q9 => ?_) (fun _ _ _ q9 => q9.elim)
        obtain ⟨r15, ms14, rfl, rfl, w⟩ := q9
        obtain ⟨hx9, hy9, w1, w2⟩ := w
        refine jr_icmp_eq (pc := 67) (tgt := 74) F hx9 hy9 dX3_hottestPage_67 rfl (fun c9 => ?_) (fun c9 => ?_)
        · have w := w1 c9
          exact sM_hottestPage_j74 F M S hs hQ ih _ _ _ _ _ w
        · have w := w2 c9
          refine jr_iconst (pc := 70) F dX3_hottestPage_70 ?_
          refine jr_goto (pc := 71) (tgt := 75) F dX3_hottestPage_71 rfl ?_
          refine jj_J.sub [0, 1, 2, 4] rfl ?_
          exact sM_hottestPage_j75 F M S hs hQ ih _ _ _ _ _ w

theorem sM_hottestPage {X : jj_X} {h0 : jj_H} {m0 k : Nat} {N : Option jj_AV → jj_H → Prop} {XN : String → Nat → jj_H → Prop} (F : jj_F X RX3 cX3_hottestPage 5) (M : jj_M X (some (.int)) 5 121 N XN) (S : jj_GS X.1 X.2.2.1) (hs : jj_hs X.1 h0 m0) {Q : Int → jj_MS → Prop} (hQ : ∀ r ms, Q r ms → N (some (.inl r)) (jj_mh h0 m0 ms)) : ∀ (ms : jj_MS), fM_hottestPage Q ms → jj_J X 5 0 [(0, .inr (.inr (.inl (some m0))))] [] (jj_mh h0 m0 ms) k := by
  intro  ms w
  unfold fM_hottestPage at w
  refine jr_aload_n (pc := 0) F (j := 0) dX3_hottestPage_0 rfl ?_
  refine jr_iconst (pc := 1) F dX3_hottestPage_1 ?_
  have w := w _ rfl
  refine jm_put (pc := 2) (f := 7) F (Nat.le_of_ble_eq_true rfl) q3137 rfl rfl rfl rfl rfl rfl dX3_hottestPage_2 ?_
  refine jr_aload_n (pc := 5) F (j := 0) dX3_hottestPage_5 rfl ?_
  refine jr_callV (pc := 6) (As := []) F M (lw_V q3299 q3301 qs49 q143 q3302) dX3_hottestPage_6 hM_editions rfl (Nat.le_of_ble_eq_true rfl) (Nat.le_of_ble_eq_true rfl) (Nat.le_of_ble_eq_true rfl) (jj_set_self _ _ _) rfl rfl (Nat.zero_le _) (cM_editions S hs w) (fun v9 h9 q9 => ?_) (fun _ _ _ q9 => q9.elim)
  obtain ⟨r18, ms17, rfl, rfl, w⟩ := q9
  obtain ⟨hx9, w1, w2⟩ := w
  refine jr_if_ne (pc := 9) (tgt := 14) F hx9 dX3_hottestPage_9 rfl (fun c9 => ?_) (fun c9 => ?_)
  · have w := w1 c9
    refine jr_aload_n (pc := 14) F (j := 0) dX3_hottestPage_14 rfl ?_
    refine jr_callV (pc := 15) (As := []) F M (lw_V q3295 q3297 qs48 q143 q3298) dX3_hottestPage_15 hM_layAnchors rfl (Nat.le_of_ble_eq_true rfl) (Nat.le_of_ble_eq_true rfl) (Nat.le_of_ble_eq_true rfl) (jj_set_self _ _ _) rfl rfl (Nat.zero_le _) (cM_layAnchors S hs w) (fun v9 h9 q9 => ?_) (fun _ _ _ q9 => q9.elim)
    obtain ⟨ms19, rfl, rfl, w⟩ := q9
    refine jr_aload_n (pc := 18) F (j := 0) dX3_hottestPage_18 rfl ?_
    refine jr_aload_n (pc := 19) F (j := 0) dX3_hottestPage_19 rfl ?_
    refine jr_callV (pc := 20) (As := []) F M (lw_V q3315 q3317 qs53 q143 q3318) dX3_hottestPage_20 hM_target rfl (Nat.le_of_ble_eq_true rfl) (Nat.le_of_ble_eq_true rfl) (Nat.le_of_ble_eq_true rfl) (jj_set_self _ _ _) rfl rfl (Nat.zero_le _) (cM_target S hs w) (fun v9 h9 q9 => ?_) (fun _ _ _ q9 => q9.elim)
    obtain ⟨r22, ms21, rfl, rfl, w⟩ := q9
    refine jr_callV (pc := 23) (As := [_]) F M (lw_V q3422 q3424 qs73 q143 q3425) dX3_hottestPage_23 hM_layOut rfl (Nat.le_of_ble_eq_true rfl) (Nat.le_of_ble_eq_true rfl) (Nat.le_of_ble_eq_true rfl) (jj_set_self _ _ _) rfl rfl (Nat.zero_le _) (cM_layOut S hs w) (fun v9 h9 q9 => ?_) (fun _ _ _ q9 => q9.elim)
    obtain ⟨ms23, rfl, rfl, w⟩ := q9
    refine jr_iconst (pc := 26) F dX3_hottestPage_26 ?_
    refine jr_istore_n (pc := 27) F (vs' := [(1, .inl _), (0, .inr (.inr (.inl _)))]) dX3_hottestPage_27 (Nat.le_of_ble_eq_true rfl) rfl ?_
    refine jr_iconst (pc := 28) F dX3_hottestPage_28 ?_
    refine jr_istore_n (pc := 29) F (vs' := [(2, .inl _), (1, .inl _), (0, .inr (.inr (.inl _)))]) dX3_hottestPage_29 (Nat.le_of_ble_eq_true rfl) rfl ?_
    refine jr_iconst (pc := 30) F dX3_hottestPage_30 ?_
    refine jr_istore_n (pc := 31) F (vs' := [(3, .inl _), (2, .inl _), (1, .inl _), (0, .inr (.inr (.inl _)))]) dX3_hottestPage_31 (Nat.le_of_ble_eq_true rfl) rfl ?_
    refine jr_iconst (pc := 32) F dX3_hottestPage_32 ?_
    refine jr_istore (pc := 33) F (vs' := [(4, .inl _), (3, .inl _), (2, .inl _), (1, .inl _), (0, .inr (.inr (.inl _)))]) dX3_hottestPage_33 (Nat.le_of_ble_eq_true rfl) rfl ?_
    refine jj_J.sub [4, 3, 2, 1, 0] rfl ?_
    obtain ⟨n9, w⟩ := w
    exact sM_hottestPage_l35 F M S hs hQ n9 _ _ _ _ _ w
  · have w := w2 c9
    refine jr_iconst (pc := 12) F dX3_hottestPage_12 ?_
    exact jr_iret (pc := 13) F M dX3_hottestPage_13 (hQ _ _ w)

theorem cM_hottestPage {G : jj_G} {l : Launch} (S : jj_GS G l) {h0 : jj_H} {m0 : Nat} (hs : jj_hs G h0 m0) {ms : jj_MS} {Q : Int → jj_MS → Prop} (w : fM_hottestPage Q ms) : jj_Ct G l yX3_hottestPage (ws_ yX3_hottestPage cX3_hottestPage 5 (some (.int))) 5 121 [.inr (.inr (.inl (some m0)))] (jj_mh h0 m0 ms) 0 (jm_Ni h0 m0 Q) jj_F0 := by
  refine jj_Ct.of S.1 (by decide +kernel) (Nat.le_of_ble_eq_true rfl) rfl (fun X hG hl F M O hnm => ?_)
  subst hG; subst hl
  exact sM_hottestPage F M S hs (fun r ms q => ⟨r, ms, rfl, rfl, q⟩) _ w
theorem hM_hottestPage : yX3_hottestPage.cls = RX3 ∧ yX3_hottestPage.cls ≠ "java/lang/invoke/MethodHandle" ∧ yX3_hottestPage.cls ≠ "java/lang/invoke/VarHandle" ∧ (parseMethodDescriptor yX3_hottestPage.desc).map (fun d => d.parameters.length) = some 0 := by decide +kernel
/-! isTargetPage(I)Z -/
def fM_isTargetPage (x1 : Int) (Q : Int → jj_MS → Prop) (ms : jj_MS) : Prop :=
  fM_target (fun r2 ms1 =>
  fM_pagesOf r2 (fun r4 ms3 =>
  fM_isBetween x1 0 (r4 - 1) (fun r6 ms5 =>
  (r6 = 0 ∨ r6 = 1) ∧ Q r6 ms5) ms3) ms1) ms

theorem sM_isTargetPage {X : jj_X} {h0 : jj_H} {m0 k : Nat} {N : Option jj_AV → jj_H → Prop} {XN : String → Nat → jj_H → Prop} (F : jj_F X RX3 cX3_isTargetPage 2) (M : jj_M X (some (.boolean)) 4 85 N XN) (S : jj_GS X.1 X.2.2.1) (hs : jj_hs X.1 h0 m0) {Q : Int → jj_MS → Prop} (hQ : ∀ r ms, Q r ms → N (some (.inl r)) (jj_mh h0 m0 ms)) : ∀ (x1 : Int) (ms : jj_MS), fM_isTargetPage x1 Q ms → jj_J X 2 0 [(0, .inr (.inr (.inl (some m0)))), (1, .inl x1)] [] (jj_mh h0 m0 ms) k := by
  intro x1 ms w
  unfold fM_isTargetPage at w
  refine jr_iload_n (pc := 0) F (j := 1) dX3_isTargetPage_0 rfl ?_
  refine jr_iconst (pc := 1) F dX3_isTargetPage_1 ?_
  refine jr_aload_n (pc := 2) F (j := 0) dX3_isTargetPage_2 rfl ?_
  refine jr_aload_n (pc := 3) F (j := 0) dX3_isTargetPage_3 rfl ?_
  refine jr_callV (pc := 4) (As := []) F M (lw_V q3315 q3317 qs53 q143 q3318) dX3_isTargetPage_4 hM_target rfl (Nat.le_of_ble_eq_true rfl) (Nat.le_of_ble_eq_true rfl) (Nat.le_of_ble_eq_true rfl) (jj_set_self _ _ _) rfl rfl (Nat.zero_le _) (cM_target S hs w) (fun v9 h9 q9 => ?_) (fun _ _ _ q9 => q9.elim)
  obtain ⟨r2, ms1, rfl, rfl, w⟩ := q9
  refine jr_callV (pc := 7) (As := [_]) F M (lw_V q3433 q3435 qs75 q143 q3436) dX3_isTargetPage_7 hM_pagesOf rfl (Nat.le_of_ble_eq_true rfl) (Nat.le_of_ble_eq_true rfl) (Nat.le_of_ble_eq_true rfl) (jj_set_self _ _ _) rfl rfl (Nat.zero_le _) (cM_pagesOf S hs w) (fun v9 h9 q9 => ?_) (fun _ _ _ q9 => q9.elim)
  obtain ⟨r4, ms3, rfl, rfl, w⟩ := q9
  refine jr_iconst (pc := 10) F dX3_isTargetPage_10 ?_
  refine jr_isub (pc := 11) F dX3_isTargetPage_11 ?_
  refine jr_callS (pc := 12) (As := [_, _, _]) F M (lw_S q3284 q3285 q143 q3286) dX3_isTargetPage_12 hM_isBetween.2 rfl (Nat.le_of_ble_eq_true rfl) (Nat.le_of_ble_eq_true rfl) (Nat.le_of_ble_eq_true rfl) (Nat.zero_le _) (cM_isBetween S hs w) (fun v9 h9 q9 => ?_) (fun _ _ _ q9 => q9.elim)
  obtain ⟨r6, ms5, rfl, rfl, w⟩ := q9
  exact jr_zret (pc := 15) F M dX3_isTargetPage_15 w.1 (hQ _ _ w.2)

theorem cM_isTargetPage {G : jj_G} {l : Launch} (S : jj_GS G l) {h0 : jj_H} {m0 : Nat} (hs : jj_hs G h0 m0) {x1 : Int} {ms : jj_MS} {Q : Int → jj_MS → Prop} (w : fM_isTargetPage x1 Q ms) : jj_Ct G l yX3_isTargetPage (ws_ yX3_isTargetPage cX3_isTargetPage 2 (some (.boolean))) 4 85 [.inr (.inr (.inl (some m0))), .inl x1] (jj_mh h0 m0 ms) 0 (jm_Ni h0 m0 Q) jj_F0 := by
  refine jj_Ct.of S.1 (by decide +kernel) (Nat.le_of_ble_eq_true rfl) rfl (fun X hG hl F M O hnm => ?_)
  subst hG; subst hl
  exact sM_isTargetPage F M S hs (fun r ms q => ⟨r, ms, rfl, rfl, q⟩) _ _ w
theorem hM_isTargetPage : yX3_isTargetPage.cls = RX3 ∧ yX3_isTargetPage.cls ≠ "java/lang/invoke/MethodHandle" ∧ yX3_isTargetPage.cls ≠ "java/lang/invoke/VarHandle" ∧ (parseMethodDescriptor yX3_isTargetPage.desc).map (fun d => d.parameters.length) = some 1 := by decide +kernel
/-! isFree(II)Z -/
def fM_isFree_l24 (x1 : Int) (x2 : Int) (Q : Int → jj_MS → Prop) : Nat → Int → Int → jj_MS → Prop
  | 0, _, _, _ => False
  | n + 1, x3, x4, ms =>
  jj_r x4 ∧ jj_r (x1 + x2) ∧ ((x1 + x2) ≤ x4 → (
    (x3 = 0 ∨ x3 = 1) ∧ Q x3 ms)) ∧
  (¬ (x1 + x2) ≤ x4 → (
    jj_r x3 ∧ (x3 = 0 → (
      (x3 = 0 ∨ x3 = 1) ∧ Q x3 ms)) ∧
    (¬ x3 = 0 → (
      0 ≤ x4 ∧ x4 < 40 ∧
      jj_r (ms.2 30 x4) ∧ (¬ (ms.2 30 x4) = ((-1)) → (
        ∀ v1, v1 = x4 + 1 →
        fM_isFree_l24 x1 x2 Q n 0 v1 ms)) ∧
      ((ms.2 30 x4) = ((-1)) → (
        ∀ v2, v2 = x4 + 1 →
        fM_isFree_l24 x1 x2 Q n 1 v2 ms))))))

def fM_isFree (x1 : Int) (x2 : Int) (Q : Int → jj_MS → Prop) (ms : jj_MS) : Prop :=
  fM_target (fun r4 ms3 =>
  fM_ofEdition r4 2 (fun r6 ms5 =>
  jj_r (x1 + x2) ∧ jj_r r6 ∧ (r6 < (x1 + x2) → (
    ∃ n9, fM_isFree_l24 x1 x2 Q n9 0 x1 ms5)) ∧
  (¬ r6 < (x1 + x2) → (
    ∃ n9, fM_isFree_l24 x1 x2 Q n9 1 x1 ms5))) ms3) ms

theorem sM_isFree_l24 {X : jj_X} {h0 : jj_H} {m0 k : Nat} {N : Option jj_AV → jj_H → Prop} {XN : String → Nat → jj_H → Prop} (F : jj_F X RX3 cX3_isFree 5) (M : jj_M X (some (.boolean)) 1 22 N XN) (S : jj_GS X.1 X.2.2.1) (hs : jj_hs X.1 h0 m0) {Q : Int → jj_MS → Prop} (hQ : ∀ r ms, Q r ms → N (some (.inl r)) (jj_mh h0 m0 ms)) (x1 : Int) (x2 : Int) : ∀ (n : Nat) (x3 : Int) (x4 : Int) (ms : jj_MS), fM_isFree_l24 x1 x2 Q n x3 x4 ms → jj_J X 5 24 [(0, .inr (.inr (.inl (some m0)))), (1, .inl x1), (2, .inl x2), (3, .inl x3), (4, .inl x4)] [] (jj_mh h0 m0 ms) k := by
  intro n
  induction n with
  | zero =>
    intro x3 x4 ms w
    exact (show False from w).elim
  | succ n ih =>
    intro x3 x4 ms w
    rw [fM_isFree_l24] at w
    refine jr_iload (pc := 24) F (j := 4) dX3_isFree_24 rfl ?_
    refine jr_iload_n (pc := 26) F (j := 1) dX3_isFree_26 rfl ?_
    refine jr_iload_n (pc := 27) F (j := 2) dX3_isFree_27 rfl ?_
    refine jr_iadd (pc := 28) F dX3_isFree_28 ?_
    obtain ⟨hx9, hy9, w1, w2⟩ := w
    refine jr_icmp_ge (pc := 29) (tgt := 59) F hx9 hy9 dX3_isFree_29 rfl (fun c9 => ?_) (fun c9 => ?_)
    · have w := w1 c9
      refine jr_iload_n (pc := 59) F (j := 3) dX3_isFree_59 rfl ?_
      exact jr_zret (pc := 60) F M dX3_isFree_60 w.1 (hQ _ _ w.2)
    · have w := w2 c9
      refine jr_iload_n (pc := 32) F (j := 3) dX3_isFree_32 rfl ?_
      obtain ⟨hx9, w1, w2⟩ := w
      refine jr_if_eq (pc := 33) (tgt := 59) F hx9 dX3_isFree_33 rfl (fun c9 => ?_) (fun c9 => ?_)
      · have w := w1 c9
        refine jr_iload_n (pc := 59) F (j := 3) dX3_isFree_59 rfl ?_
        exact jr_zret (pc := 60) F M dX3_isFree_60 w.1 (hQ _ _ w.2)
      · have w := w2 c9
        refine jr_aload_n (pc := 36) F (j := 0) dX3_isFree_36 rfl ?_
        refine jm_get (pc := 37) (f := 30) (v := .inr (.inr (.inl (some (m0 + 1 + 26))))) F (Nat.le_of_ble_eq_true rfl) q3160 rfl rfl dX3_isFree_37 ?_
        refine jr_iload (pc := 40) F (j := 4) dX3_isFree_40 rfl ?_
        obtain ⟨hi1, hi2, w⟩ := w
        refine jm_iald (pc := 42) (f := 30) (o := 26) F rfl (by decide) hi1 hi2 dX3_isFree_42 ?_
        refine jr_iconst (pc := 43) F dX3_isFree_43 ?_
        obtain ⟨hx9, w1, w2⟩ := w
        refine jr_icmp_ne (pc := 44) (tgt := 51) F hx9 ⟨by decide, by decide⟩ dX3_isFree_44 rfl (fun c9 => ?_) (fun c9 => ?_)
        · have w := w1 c9
          refine jr_iconst (pc := 51) F dX3_isFree_51 ?_
          refine jr_istore_n (pc := 52) F (vs' := [(3, .inl _), (0, .inr (.inr (.inl _))), (1, .inl _), (2, .inl _), (4, .inl _)]) dX3_isFree_52 (Nat.le_of_ble_eq_true rfl) rfl ?_
          have w := w _ rfl
          refine jr_iinc (pc := 53) F (j := 4) (vs' := [(4, .inl _), (3, .inl _), (0, .inr (.inr (.inl _))), (1, .inl _), (2, .inl _)]) dX3_isFree_53 rfl rfl (Nat.le_of_ble_eq_true rfl) rfl ?_
          refine jr_goto (pc := 56) (tgt := 24) F dX3_isFree_56 rfl ?_
          refine jj_J.sub [2, 3, 4, 1, 0] rfl ?_
          exact ih _ _ _ w
        · have w := w2 c9
          refine jr_iconst (pc := 47) F dX3_isFree_47 ?_
          refine jr_goto (pc := 48) (tgt := 52) F dX3_isFree_48 rfl ?_
          refine jr_istore_n (pc := 52) F (vs' := [(3, .inl _), (0, .inr (.inr (.inl _))), (1, .inl _), (2, .inl _), (4, .inl _)]) dX3_isFree_52 (Nat.le_of_ble_eq_true rfl) rfl ?_
          have w := w _ rfl
          refine jr_iinc (pc := 53) F (j := 4) (vs' := [(4, .inl _), (3, .inl _), (0, .inr (.inr (.inl _))), (1, .inl _), (2, .inl _)]) dX3_isFree_53 rfl rfl (Nat.le_of_ble_eq_true rfl) rfl ?_
          refine jr_goto (pc := 56) (tgt := 24) F dX3_isFree_56 rfl ?_
          refine jj_J.sub [2, 3, 4, 1, 0] rfl ?_
          exact ih _ _ _ w

theorem sM_isFree {X : jj_X} {h0 : jj_H} {m0 k : Nat} {N : Option jj_AV → jj_H → Prop} {XN : String → Nat → jj_H → Prop} (F : jj_F X RX3 cX3_isFree 5) (M : jj_M X (some (.boolean)) 1 22 N XN) (S : jj_GS X.1 X.2.2.1) (hs : jj_hs X.1 h0 m0) {Q : Int → jj_MS → Prop} (hQ : ∀ r ms, Q r ms → N (some (.inl r)) (jj_mh h0 m0 ms)) : ∀ (x1 : Int) (x2 : Int) (ms : jj_MS), fM_isFree x1 x2 Q ms → jj_J X 5 0 [(0, .inr (.inr (.inl (some m0)))), (1, .inl x1), (2, .inl x2)] [] (jj_mh h0 m0 ms) k := by
  intro x1 x2 ms w
  unfold fM_isFree at w
  refine jr_iload_n (pc := 0) F (j := 1) dX3_isFree_0 rfl ?_
  refine jr_iload_n (pc := 1) F (j := 2) dX3_isFree_1 rfl ?_
  refine jr_iadd (pc := 2) F dX3_isFree_2 ?_
  refine jr_aload_n (pc := 3) F (j := 0) dX3_isFree_3 rfl ?_
  refine jr_aload_n (pc := 4) F (j := 0) dX3_isFree_4 rfl ?_
  refine jr_callV (pc := 5) (As := []) F M (lw_V q3315 q3317 qs53 q143 q3318) dX3_isFree_5 hM_target rfl (Nat.le_of_ble_eq_true rfl) (Nat.le_of_ble_eq_true rfl) (Nat.le_of_ble_eq_true rfl) (jj_set_self _ _ _) rfl rfl (Nat.zero_le _) (cM_target S hs w) (fun v9 h9 q9 => ?_) (fun _ _ _ q9 => q9.elim)
  obtain ⟨r4, ms3, rfl, rfl, w⟩ := q9
  refine jr_iconst (pc := 8) F dX3_isFree_8 ?_
  refine jr_callV (pc := 9) (As := [_, _]) F M (lw_V q3311 q3313 qs52 q143 q3314) dX3_isFree_9 hM_ofEdition rfl (Nat.le_of_ble_eq_true rfl) (Nat.le_of_ble_eq_true rfl) (Nat.le_of_ble_eq_true rfl) (jj_set_self _ _ _) rfl rfl (Nat.zero_le _) (cM_ofEdition S hs w) (fun v9 h9 q9 => ?_) (fun _ _ _ q9 => q9.elim)
  obtain ⟨r6, ms5, rfl, rfl, w⟩ := q9
  obtain ⟨hx9, hy9, w1, w2⟩ := w
  refine jr_icmp_gt (pc := 12) (tgt := 19) F hx9 hy9 dX3_isFree_12 rfl (fun c9 => ?_) (fun c9 => ?_)
  · have w := w1 c9
    refine jr_iconst (pc := 19) F dX3_isFree_19 ?_
    refine jr_istore_n (pc := 20) F (vs' := [(3, .inl _), (0, .inr (.inr (.inl _))), (1, .inl _), (2, .inl _)]) dX3_isFree_20 (Nat.le_of_ble_eq_true rfl) rfl ?_
    refine jr_iload_n (pc := 21) F (j := 2) dX3_isFree_21 rfl ?_
    refine jr_istore (pc := 22) F (vs' := [(4, .inl _), (3, .inl _), (0, .inr (.inr (.inl _))), (1, .inl _), (2, .inl _)]) dX3_isFree_22 (Nat.le_of_ble_eq_true rfl) rfl ?_
    refine jj_J.sub [2, 3, 4, 1, 0] rfl ?_
    obtain ⟨n9, w⟩ := w
    exact sM_isFree_l24 F M S hs hQ _ _ n9 _ _ _ w
  · have w := w2 c9
    refine jr_iconst (pc := 15) F dX3_isFree_15 ?_
    refine jr_goto (pc := 16) (tgt := 20) F dX3_isFree_16 rfl ?_
    refine jr_istore_n (pc := 20) F (vs' := [(3, .inl _), (0, .inr (.inr (.inl _))), (1, .inl _), (2, .inl _)]) dX3_isFree_20 (Nat.le_of_ble_eq_true rfl) rfl ?_
    refine jr_iload_n (pc := 21) F (j := 2) dX3_isFree_21 rfl ?_
    refine jr_istore (pc := 22) F (vs' := [(4, .inl _), (3, .inl _), (0, .inr (.inr (.inl _))), (1, .inl _), (2, .inl _)]) dX3_isFree_22 (Nat.le_of_ble_eq_true rfl) rfl ?_
    refine jj_J.sub [2, 3, 4, 1, 0] rfl ?_
    obtain ⟨n9, w⟩ := w
    exact sM_isFree_l24 F M S hs hQ _ _ n9 _ _ _ w

theorem cM_isFree {G : jj_G} {l : Launch} (S : jj_GS G l) {h0 : jj_H} {m0 : Nat} (hs : jj_hs G h0 m0) {x1 : Int} {x2 : Int} {ms : jj_MS} {Q : Int → jj_MS → Prop} (w : fM_isFree x1 x2 Q ms) : jj_Ct G l yX3_isFree (ws_ yX3_isFree cX3_isFree 5 (some (.boolean))) 1 22 [.inr (.inr (.inl (some m0))), .inl x1, .inl x2] (jj_mh h0 m0 ms) 0 (jm_Ni h0 m0 Q) jj_F0 := by
  refine jj_Ct.of S.1 (by decide +kernel) (Nat.le_of_ble_eq_true rfl) rfl (fun X hG hl F M O hnm => ?_)
  subst hG; subst hl
  exact sM_isFree F M S hs (fun r ms q => ⟨r, ms, rfl, rfl, q⟩) _ _ _ w
theorem hM_isFree : yX3_isFree.cls = RX3 ∧ yX3_isFree.cls ≠ "java/lang/invoke/MethodHandle" ∧ yX3_isFree.cls ≠ "java/lang/invoke/VarHandle" ∧ (parseMethodDescriptor yX3_isFree.desc).map (fun d => d.parameters.length) = some 2 := by decide +kernel
/-! setGroup(II)V -/
def fM_setGroup_l93 (x1 : Int) (x3 : Int) (x4 : Int) (Q : jj_MS → Prop) : Nat → Int → jj_MS → Prop
  | 0, _, _ => False
  | n + 1, x5, ms =>
  jj_r x5 ∧ jj_r (x4 + x3) ∧ ((x4 + x3) ≤ x5 → (
    Q ms)) ∧
  (¬ (x4 + x3) ≤ x5 → (
    0 ≤ x5 ∧ x5 < 40 ∧
    ∀ ms1, ms1 = jj_mA ms 30 x5 x1 →
    ∀ v2, v2 = x5 + 1 →
    fM_setGroup_l93 x1 x3 x4 Q n v2 ms1))

def fM_setGroup_j54 (x1 : Int) (x3 : Int) (x4 : Int) (Q : jj_MS → Prop) (ms : jj_MS) : Prop :=
  fM_target (fun r4 ms3 =>
  fM_ofEdition r4 2 (fun r6 ms5 =>
  jj_r x4 ∧ jj_r r6 ∧ (¬ x4 = r6 → (
    ∀ ms7, ms7 = jj_mI ms5 31 ((ms5.1 31) + 1) →
    ∃ n9, fM_setGroup_l93 x1 x3 x4 Q n9 x4 ms7)) ∧
  (x4 = r6 → (
    ∀ ms8, ms8 = jj_mI ms5 32 ((ms5.1 32) + 1) →
    Q ms8))) ms3) ms

def fM_setGroup_l24 (x1 : Int) (x3 : Int) (Q : jj_MS → Prop) : Nat → Int → jj_MS → Prop
  | 0, _, _ => False
  | n + 1, x4, ms =>
  fM_target (fun r10 ms9 =>
  fM_ofEdition r10 2 (fun r12 ms11 =>
  jj_r x4 ∧ jj_r r12 ∧ (r12 ≤ x4 → (
    fM_setGroup_j54 x1 x3 x4 Q ms11)) ∧
  (¬ r12 ≤ x4 → (
    fM_isFree x4 x3 (fun r14 ms13 =>
    jj_r r14 ∧ (¬ r14 = 0 → (
      fM_setGroup_j54 x1 x3 x4 Q ms13)) ∧
    (r14 = 0 → (
      ∀ v15, v15 = x4 + 1 →
      fM_setGroup_l24 x1 x3 Q n v15 ms13))) ms11))) ms9) ms

def fM_setGroup (x1 : Int) (x2 : Int) (Q : jj_MS → Prop) (ms : jj_MS) : Prop :=
  0 ≤ x1 ∧ x1 < 40 ∧
  fM_ofNote (ms.2 24 x1) 5 (fun r17 ms16 =>
  jj_r r17 ∧ (r17 ≤ 3 → (
    ∃ n9, fM_setGroup_l24 x1 1 Q n9 x2 ms16)) ∧
  (¬ r17 ≤ 3 → (
    ∃ n9, fM_setGroup_l24 x1 2 Q n9 x2 ms16))) ms

theorem sM_setGroup_l93 {X : jj_X} {h0 : jj_H} {m0 k : Nat} {N : Option jj_AV → jj_H → Prop} {XN : String → Nat → jj_H → Prop} (F : jj_F X RX3 cX3_setGroup 6) (M : jj_M X (none) 2 46 N XN) (S : jj_GS X.1 X.2.2.1) (hs : jj_hs X.1 h0 m0) {Q : jj_MS → Prop} (hQ : ∀ ms, Q ms → N none (jj_mh h0 m0 ms)) (x1 : Int) (x3 : Int) (x4 : Int) : ∀ (n : Nat) (x5 : Int) (ms : jj_MS), fM_setGroup_l93 x1 x3 x4 Q n x5 ms → jj_J X 6 93 [(0, .inr (.inr (.inl (some m0)))), (1, .inl x1), (3, .inl x3), (4, .inl x4), (5, .inl x5)] [] (jj_mh h0 m0 ms) k := by
  intro n
  induction n with
  | zero =>
    intro x5 ms w
    exact (show False from w).elim
  | succ n ih =>
    intro x5 ms w
    rw [fM_setGroup_l93] at w
    refine jr_iload (pc := 93) F (j := 4) dX3_setGroup_93 rfl ?_
    refine jr_iload (pc := 95) F (j := 3) dX3_setGroup_95 rfl ?_
    refine jr_iload_n (pc := 97) F (j := 2) dX3_setGroup_97 rfl ?_
    refine jr_iadd (pc := 98) F dX3_setGroup_98 ?_
    obtain ⟨hx9, hy9, w1, w2⟩ := w
    refine jr_icmp_ge (pc := 99) (tgt := 116) F hx9 hy9 dX3_setGroup_99 rfl (fun c9 => ?_) (fun c9 => ?_)
    · have w := w1 c9
      exact jr_vret (pc := 116) F M dX3_setGroup_116 (hQ _ w)
    · have w := w2 c9
      refine jr_aload_n (pc := 102) F (j := 0) dX3_setGroup_102 rfl ?_
      refine jm_get (pc := 103) (f := 30) (v := .inr (.inr (.inl (some (m0 + 1 + 26))))) F (Nat.le_of_ble_eq_true rfl) q3160 rfl rfl dX3_setGroup_103 ?_
      refine jr_iload (pc := 106) F (j := 4) dX3_setGroup_106 rfl ?_
      refine jr_iload_n (pc := 108) F (j := 1) dX3_setGroup_108 rfl ?_
      obtain ⟨hi1, hi2, w⟩ := w
      have w := w _ rfl
      refine jm_iast (pc := 109) (f := 30) (o := 26) F (Nat.le_of_ble_eq_true rfl) rfl (by decide) hi1 hi2 dX3_setGroup_109 ?_
      have w := w _ rfl
      refine jr_iinc (pc := 110) F (j := 4) (vs' := [(5, .inl _), (0, .inr (.inr (.inl _))), (1, .inl _), (3, .inl _), (4, .inl _)]) dX3_setGroup_110 rfl rfl (Nat.le_of_ble_eq_true rfl) rfl ?_
      refine jr_goto (pc := 113) (tgt := 93) F dX3_setGroup_113 rfl ?_
      refine jj_J.sub [1, 2, 3, 4, 0] rfl ?_
      exact ih _ _ w

theorem sM_setGroup_j54 {X : jj_X} {h0 : jj_H} {m0 k : Nat} {N : Option jj_AV → jj_H → Prop} {XN : String → Nat → jj_H → Prop} (F : jj_F X RX3 cX3_setGroup 6) (M : jj_M X (none) 2 46 N XN) (S : jj_GS X.1 X.2.2.1) (hs : jj_hs X.1 h0 m0) {Q : jj_MS → Prop} (hQ : ∀ ms, Q ms → N none (jj_mh h0 m0 ms)) : ∀ (x1 : Int) (x3 : Int) (x4 : Int) (ms : jj_MS), fM_setGroup_j54 x1 x3 x4 Q ms → jj_J X 6 54 [(0, .inr (.inr (.inl (some m0)))), (1, .inl x1), (3, .inl x3), (4, .inl x4)] [] (jj_mh h0 m0 ms) k := by
  intro x1 x3 x4 ms w
  unfold fM_setGroup_j54 at w
  refine jr_iload (pc := 54) F (j := 3) dX3_setGroup_54 rfl ?_
  refine jr_aload_n (pc := 56) F (j := 0) dX3_setGroup_56 rfl ?_
  refine jr_aload_n (pc := 57) F (j := 0) dX3_setGroup_57 rfl ?_
  refine jr_callV (pc := 58) (As := []) F M (lw_V q3315 q3317 qs53 q143 q3318) dX3_setGroup_58 hM_target rfl (Nat.le_of_ble_eq_true rfl) (Nat.le_of_ble_eq_true rfl) (Nat.le_of_ble_eq_true rfl) (jj_set_self _ _ _) rfl rfl (Nat.zero_le _) (cM_target S hs w) (fun v9 h9 q9 => ?_) (fun _ _ _ q9 => q9.elim)
  obtain ⟨r4, ms3, rfl, rfl, w⟩ := q9
  refine jr_iconst (pc := 61) F dX3_setGroup_61 ?_
  refine jr_callV (pc := 62) (As := [_, _]) F M (lw_V q3311 q3313 qs52 q143 q3314) dX3_setGroup_62 hM_ofEdition rfl (Nat.le_of_ble_eq_true rfl) (Nat.le_of_ble_eq_true rfl) (Nat.le_of_ble_eq_true rfl) (jj_set_self _ _ _) rfl rfl (Nat.zero_le _) (cM_ofEdition S hs w) (fun v9 h9 q9 => ?_) (fun _ _ _ q9 => q9.elim)
  obtain ⟨r6, ms5, rfl, rfl, w⟩ := q9
  obtain ⟨hx9, hy9, w1, w2⟩ := w
  refine jr_icmp_ne (pc := 65) (tgt := 79) F hx9 hy9 dX3_setGroup_65 rfl (fun c9 => ?_) (fun c9 => ?_)
  · have w := w1 c9
    refine jr_aload_n (pc := 79) F (j := 0) dX3_setGroup_79 rfl ?_
    refine jr_dup (pc := 80) F dX3_setGroup_80 rfl ?_
    refine jm_get (pc := 81) (f := 31) (v := .inl _) F (Nat.le_of_ble_eq_true rfl) q3161 rfl rfl dX3_setGroup_81 ?_
    refine jr_iconst (pc := 84) F dX3_setGroup_84 ?_
    refine jr_iadd (pc := 85) F dX3_setGroup_85 ?_
    have w := w _ rfl
    refine jm_put (pc := 86) (f := 31) F (Nat.le_of_ble_eq_true rfl) q3161 rfl rfl rfl rfl rfl rfl dX3_setGroup_86 ?_
    refine jr_iload (pc := 89) F (j := 3) dX3_setGroup_89 rfl ?_
    refine jr_istore (pc := 91) F (vs' := [(5, .inl _), (0, .inr (.inr (.inl _))), (1, .inl _), (3, .inl _), (4, .inl _)]) dX3_setGroup_91 (Nat.le_of_ble_eq_true rfl) rfl ?_
    refine jj_J.sub [1, 2, 3, 4, 0] rfl ?_
    obtain ⟨n9, w⟩ := w
    exact sM_setGroup_l93 F M S hs hQ _ _ _ n9 _ _ w
  · have w := w2 c9
    refine jr_aload_n (pc := 68) F (j := 0) dX3_setGroup_68 rfl ?_
    refine jr_dup (pc := 69) F dX3_setGroup_69 rfl ?_
    refine jm_get (pc := 70) (f := 32) (v := .inl _) F (Nat.le_of_ble_eq_true rfl) q3162 rfl rfl dX3_setGroup_70 ?_
    refine jr_iconst (pc := 73) F dX3_setGroup_73 ?_
    refine jr_iadd (pc := 74) F dX3_setGroup_74 ?_
    have w := w _ rfl
    refine jm_put (pc := 75) (f := 32) F (Nat.le_of_ble_eq_true rfl) q3162 rfl rfl rfl rfl rfl rfl dX3_setGroup_75 ?_
    exact jr_vret (pc := 78) F M dX3_setGroup_78 (hQ _ w)

theorem sM_setGroup_l24 {X : jj_X} {h0 : jj_H} {m0 k : Nat} {N : Option jj_AV → jj_H → Prop} {XN : String → Nat → jj_H → Prop} (F : jj_F X RX3 cX3_setGroup 6) (M : jj_M X (none) 2 46 N XN) (S : jj_GS X.1 X.2.2.1) (hs : jj_hs X.1 h0 m0) {Q : jj_MS → Prop} (hQ : ∀ ms, Q ms → N none (jj_mh h0 m0 ms)) (x1 : Int) (x3 : Int) : ∀ (n : Nat) (x4 : Int) (ms : jj_MS), fM_setGroup_l24 x1 x3 Q n x4 ms → jj_J X 6 24 [(0, .inr (.inr (.inl (some m0)))), (1, .inl x1), (3, .inl x3), (4, .inl x4)] [] (jj_mh h0 m0 ms) k := by
  intro n
  induction n with
  | zero =>
    intro x4 ms w
    exact (show False from w).elim
  | succ n ih =>
    intro x4 ms w
    rw [fM_setGroup_l24] at w
    refine jr_iload (pc := 24) F (j := 3) dX3_setGroup_24 rfl ?_
    refine jr_aload_n (pc := 26) F (j := 0) dX3_setGroup_26 rfl ?_
    refine jr_aload_n (pc := 27) F (j := 0) dX3_setGroup_27 rfl ?_
    refine jr_callV (pc := 28) (As := []) F M (lw_V q3315 q3317 qs53 q143 q3318) dX3_setGroup_28 hM_target rfl (Nat.le_of_ble_eq_true rfl) (Nat.le_of_ble_eq_true rfl) (Nat.le_of_ble_eq_true rfl) (jj_set_self _ _ _) rfl rfl (Nat.zero_le _) (cM_target S hs w) (fun v9 h9 q9 => ?_) (fun _ _ _ q9 => q9.elim)
    obtain ⟨r10, ms9, rfl, rfl, w⟩ := q9
    refine jr_iconst (pc := 31) F dX3_setGroup_31 ?_
    refine jr_callV (pc := 32) (As := [_, _]) F M (lw_V q3311 q3313 qs52 q143 q3314) dX3_setGroup_32 hM_ofEdition rfl (Nat.le_of_ble_eq_true rfl) (Nat.le_of_ble_eq_true rfl) (Nat.le_of_ble_eq_true rfl) (jj_set_self _ _ _) rfl rfl (Nat.zero_le _) (cM_ofEdition S hs w) (fun v9 h9 q9 => ?_) (fun _ _ _ q9 => q9.elim)
    obtain ⟨r12, ms11, rfl, rfl, w⟩ := q9
    obtain ⟨hx9, hy9, w1, w2⟩ := w
    refine jr_icmp_ge (pc := 35) (tgt := 54) F hx9 hy9 dX3_setGroup_35 rfl (fun c9 => ?_) (fun c9 => ?_)
    · have w := w1 c9
      exact sM_setGroup_j54 F M S hs hQ _ _ _ _ w
    · have w := w2 c9
      refine jr_aload_n (pc := 38) F (j := 0) dX3_setGroup_38 rfl ?_
      refine jr_iload (pc := 39) F (j := 3) dX3_setGroup_39 rfl ?_
      refine jr_iload_n (pc := 41) F (j := 2) dX3_setGroup_41 rfl ?_
      refine jr_callV (pc := 42) (As := [_, _]) F M (lw_V q3615 q3617 qs96 q143 q3618) dX3_setGroup_42 hM_isFree rfl (Nat.le_of_ble_eq_true rfl) (Nat.le_of_ble_eq_true rfl) (Nat.le_of_ble_eq_true rfl) (jj_set_self _ _ _) rfl rfl (Nat.zero_le _) (cM_isFree S hs w) (fun v9 h9 q9 => ?_) (fun _ _ _ q9 => q9.elim)
      obtain ⟨r14, ms13, rfl, rfl, w⟩ := q9
      obtain ⟨hx9, w1, w2⟩ := w
      refine jr_if_ne (pc := 45) (tgt := 54) F hx9 dX3_setGroup_45 rfl (fun c9 => ?_) (fun c9 => ?_)
      · have w := w1 c9
        exact sM_setGroup_j54 F M S hs hQ _ _ _ _ w
      · have w := w2 c9
        have w := w _ rfl
        refine jr_iinc (pc := 48) F (j := 3) (vs' := [(4, .inl _), (0, .inr (.inr (.inl _))), (1, .inl _), (3, .inl _)]) dX3_setGroup_48 rfl rfl (Nat.le_of_ble_eq_true rfl) rfl ?_
        refine jr_goto (pc := 51) (tgt := 24) F dX3_setGroup_51 rfl ?_
        refine jj_J.sub [1, 2, 3, 0] rfl ?_
        exact ih _ _ w

theorem sM_setGroup {X : jj_X} {h0 : jj_H} {m0 k : Nat} {N : Option jj_AV → jj_H → Prop} {XN : String → Nat → jj_H → Prop} (F : jj_F X RX3 cX3_setGroup 6) (M : jj_M X (none) 2 46 N XN) (S : jj_GS X.1 X.2.2.1) (hs : jj_hs X.1 h0 m0) {Q : jj_MS → Prop} (hQ : ∀ ms, Q ms → N none (jj_mh h0 m0 ms)) : ∀ (x1 : Int) (x2 : Int) (ms : jj_MS), fM_setGroup x1 x2 Q ms → jj_J X 6 0 [(0, .inr (.inr (.inl (some m0)))), (1, .inl x1), (2, .inl x2)] [] (jj_mh h0 m0 ms) k := by
  intro x1 x2 ms w
  unfold fM_setGroup at w
  refine jr_aload_n (pc := 0) F (j := 0) dX3_setGroup_0 rfl ?_
  refine jr_aload_n (pc := 1) F (j := 0) dX3_setGroup_1 rfl ?_
  refine jm_get (pc := 2) (f := 24) (v := .inr (.inr (.inl (some (m0 + 1 + 21))))) F (Nat.le_of_ble_eq_true rfl) q3154 rfl rfl dX3_setGroup_2 ?_
  refine jr_iload_n (pc := 5) F (j := 1) dX3_setGroup_5 rfl ?_
  obtain ⟨hi1, hi2, w⟩ := w
  refine jm_iald (pc := 6) (f := 24) (o := 21) F rfl (by decide) hi1 hi2 dX3_setGroup_6 ?_
  refine jr_iconst (pc := 7) F dX3_setGroup_7 ?_
  refine jr_callV (pc := 8) (As := [_, _]) F M (lw_V q3338 q3340 qs57 q143 q3341) dX3_setGroup_8 hM_ofNote rfl (Nat.le_of_ble_eq_true rfl) (Nat.le_of_ble_eq_true rfl) (Nat.le_of_ble_eq_true rfl) (jj_set_self _ _ _) rfl rfl (Nat.zero_le _) (cM_ofNote S hs w) (fun v9 h9 q9 => ?_) (fun _ _ _ q9 => q9.elim)
  obtain ⟨r17, ms16, rfl, rfl, w⟩ := q9
  refine jr_iconst (pc := 11) F dX3_setGroup_11 ?_
  obtain ⟨hx9, w1, w2⟩ := w
  refine jr_icmp_le (pc := 12) (tgt := 19) F hx9 ⟨by decide, by decide⟩ dX3_setGroup_12 rfl (fun c9 => ?_) (fun c9 => ?_)
  · have w := w1 c9
    refine jr_iconst (pc := 19) F dX3_setGroup_19 ?_
    refine jr_istore_n (pc := 20) F (vs' := [(3, .inl _), (0, .inr (.inr (.inl _))), (1, .inl _), (2, .inl _)]) dX3_setGroup_20 (Nat.le_of_ble_eq_true rfl) rfl ?_
    refine jr_iload_n (pc := 21) F (j := 3) dX3_setGroup_21 rfl ?_
    refine jr_istore (pc := 22) F (vs' := [(4, .inl _), (3, .inl _), (0, .inr (.inr (.inl _))), (1, .inl _), (2, .inl _)]) dX3_setGroup_22 (Nat.le_of_ble_eq_true rfl) rfl ?_
    refine jj_J.sub [2, 3, 1, 0] rfl ?_
    obtain ⟨n9, w⟩ := w
    exact sM_setGroup_l24 F M S hs hQ _ _ n9 _ _ w
  · have w := w2 c9
    refine jr_iconst (pc := 15) F dX3_setGroup_15 ?_
    refine jr_goto (pc := 16) (tgt := 20) F dX3_setGroup_16 rfl ?_
    refine jr_istore_n (pc := 20) F (vs' := [(3, .inl _), (0, .inr (.inr (.inl _))), (1, .inl _), (2, .inl _)]) dX3_setGroup_20 (Nat.le_of_ble_eq_true rfl) rfl ?_
    refine jr_iload_n (pc := 21) F (j := 3) dX3_setGroup_21 rfl ?_
    refine jr_istore (pc := 22) F (vs' := [(4, .inl _), (3, .inl _), (0, .inr (.inr (.inl _))), (1, .inl _), (2, .inl _)]) dX3_setGroup_22 (Nat.le_of_ble_eq_true rfl) rfl ?_
    refine jj_J.sub [2, 3, 1, 0] rfl ?_
    obtain ⟨n9, w⟩ := w
    exact sM_setGroup_l24 F M S hs hQ _ _ n9 _ _ w

theorem cM_setGroup {G : jj_G} {l : Launch} (S : jj_GS G l) {h0 : jj_H} {m0 : Nat} (hs : jj_hs G h0 m0) {x1 : Int} {x2 : Int} {ms : jj_MS} {Q : jj_MS → Prop} (w : fM_setGroup x1 x2 Q ms) : jj_Ct G l yX3_setGroup (ws_ yX3_setGroup cX3_setGroup 6 (none)) 2 46 [.inr (.inr (.inl (some m0))), .inl x1, .inl x2] (jj_mh h0 m0 ms) 0 (jm_Nv h0 m0 Q) jj_F0 := by
  refine jj_Ct.of S.1 (by decide +kernel) (Nat.le_of_ble_eq_true rfl) rfl (fun X hG hl F M O hnm => ?_)
  subst hG; subst hl
  exact sM_setGroup F M S hs (fun ms q => ⟨ms, rfl, rfl, q⟩) _ _ _ w
theorem hM_setGroup : yX3_setGroup.cls = RX3 ∧ yX3_setGroup.cls ≠ "java/lang/invoke/MethodHandle" ∧ yX3_setGroup.cls ≠ "java/lang/invoke/VarHandle" ∧ (parseMethodDescriptor yX3_setGroup.desc).map (fun d => d.parameters.length) = some 2 := by decide +kernel
/-! layMargin(I)V -/
def fM_layMargin_l48 (x1 : Int) (x2 : Int) (K33 : Int → jj_MS → Prop) (Q : jj_MS → Prop) : Nat → Int → jj_MS → Prop
  | 0, _, _ => False
  | n + 1, x3, ms =>
  jj_r x3 ∧ jj_r (ms.1 28) ∧ ((ms.1 28) ≤ x3 → (
    ∀ v1, v1 = x2 + 1 →
    K33 v1 ms)) ∧
  (¬ (ms.1 28) ≤ x3 → (
    0 ≤ x3 ∧ x3 < 40 ∧
    ∀ v2, v2 = ms.2 22 x3 →
    jj_r v2 ∧ (v2 = ((-1)) → (
      ∀ v3, v3 = x3 + 1 →
      fM_layMargin_l48 x1 x2 K33 Q n v3 ms)) ∧
    (¬ v2 = ((-1)) → (
      0 ≤ v2 ∧ v2 < 120 ∧
      fM_target (fun r5 ms4 =>
      fM_ofEdition r5 2 (fun r7 ms6 =>
      jj_r (ms.2 12 v2) ∧ jj_r ((r7 * x1) + x2) ∧ (¬ (ms.2 12 v2) = ((r7 * x1) + x2) → (
        ∀ v8, v8 = x3 + 1 →
        fM_layMargin_l48 x1 x2 K33 Q n v8 ms6)) ∧
      ((ms.2 12 v2) = ((r7 * x1) + x2) → (
        fM_setGroup x3 x2 (fun ms9 =>
        ∀ v11, v11 = x3 + 1 →
        fM_layMargin_l48 x1 x2 K33 Q n v11 ms9) ms6))) ms4) ms))))

def fM_layMargin_l33 (x1 : Int) (Q : jj_MS → Prop) : Nat → Int → jj_MS → Prop
  | 0, _, _ => False
  | n + 1, x2, ms =>
  fM_target (fun r13 ms12 =>
  fM_ofEdition r13 2 (fun r15 ms14 =>
  jj_r x2 ∧ jj_r r15 ∧ (r15 ≤ x2 → (
    Q ms14)) ∧
  (¬ r15 ≤ x2 → (
    ∃ n9, fM_layMargin_l48 x1 x2 (fM_layMargin_l33 x1 Q n) Q n9 0 ms14))) ms12) ms

def fM_layMargin_l2 (x1 : Int) (Q : jj_MS → Prop) : Nat → Int → jj_MS → Prop
  | 0, _, _ => False
  | n + 1, x2, ms =>
  jj_r x2 ∧ (40 ≤ x2 → (
    ∀ ms16, ms16 = jj_mI ms 31 0 →
    ∀ ms17, ms17 = jj_mI ms16 32 0 →
    ∃ n9, fM_layMargin_l33 x1 Q n9 0 ms17)) ∧
  (¬ 40 ≤ x2 → (
    0 ≤ x2 ∧ x2 < 40 ∧
    ∀ ms18, ms18 = jj_mA ms 30 x2 ((-1)) →
    ∀ v19, v19 = x2 + 1 →
    fM_layMargin_l2 x1 Q n v19 ms18))

def fM_layMargin (x1 : Int) (Q : jj_MS → Prop) (ms : jj_MS) : Prop :=
  ∃ n9, fM_layMargin_l2 x1 Q n9 0 ms

theorem sM_layMargin_l48 {X : jj_X} {h0 : jj_H} {m0 k : Nat} {N : Option jj_AV → jj_H → Prop} {XN : String → Nat → jj_H → Prop} (F : jj_F X RX3 cX3_layMargin 5) (M : jj_M X (none) 3 71 N XN) (S : jj_GS X.1 X.2.2.1) (hs : jj_hs X.1 h0 m0) {Q : jj_MS → Prop} (hQ : ∀ ms, Q ms → N none (jj_mh h0 m0 ms)) (x1 : Int) (x2 : Int) {K33 : Int → jj_MS → Prop} (hK33 : ∀ (z2 : Int) (ms : jj_MS), K33 z2 ms → jj_J X 5 33 [(0, .inr (.inr (.inl (some m0)))), (1, .inl x1), (2, .inl z2)] [] (jj_mh h0 m0 ms) k) : ∀ (n : Nat) (x3 : Int) (ms : jj_MS), fM_layMargin_l48 x1 x2 K33 Q n x3 ms → jj_J X 5 48 [(0, .inr (.inr (.inl (some m0)))), (1, .inl x1), (2, .inl x2), (3, .inl x3)] [] (jj_mh h0 m0 ms) k := by
  intro n
  induction n with
  | zero =>
    intro x3 ms w
    exact (show False from w).elim
  | succ n ih =>
    intro x3 ms w
    rw [fM_layMargin_l48] at w
    refine jr_iload_n (pc := 48) F (j := 3) dX3_layMargin_48 rfl ?_
    refine jr_aload_n (pc := 49) F (j := 0) dX3_layMargin_49 rfl ?_
    refine jm_get (pc := 50) (f := 28) (v := .inl _) F (Nat.le_of_ble_eq_true rfl) q3158 rfl rfl dX3_layMargin_50 ?_
    obtain ⟨hx9, hy9, w1, w2⟩ := w
    refine jr_icmp_ge (pc := 53) (tgt := 105) F hx9 hy9 dX3_layMargin_53 rfl (fun c9 => ?_) (fun c9 => ?_)
    · have w := w1 c9
      have w := w _ rfl
      refine jr_iinc (pc := 105) F (j := 2) (vs' := [(2, .inl _), (0, .inr (.inr (.inl _))), (1, .inl _), (3, .inl _)]) dX3_layMargin_105 rfl rfl (Nat.le_of_ble_eq_true rfl) rfl ?_
      refine jr_goto (pc := 108) (tgt := 33) F dX3_layMargin_108 rfl ?_
      refine jj_J.sub [1, 2, 0] rfl ?_
      exact hK33 _ _ w
    · have w := w2 c9
      refine jr_aload_n (pc := 56) F (j := 0) dX3_layMargin_56 rfl ?_
      refine jm_get (pc := 57) (f := 22) (v := .inr (.inr (.inl (some (m0 + 1 + 19))))) F (Nat.le_of_ble_eq_true rfl) q3152 rfl rfl dX3_layMargin_57 ?_
      refine jr_iload_n (pc := 60) F (j := 3) dX3_layMargin_60 rfl ?_
      obtain ⟨hi1, hi2, w⟩ := w
      refine jm_iald (pc := 61) (f := 22) (o := 19) F rfl (by decide) hi1 hi2 dX3_layMargin_61 ?_
      have w := w _ rfl
      refine jr_istore (pc := 62) F (vs' := [(4, .inl _), (0, .inr (.inr (.inl _))), (1, .inl _), (2, .inl _), (3, .inl _)]) dX3_layMargin_62 (Nat.le_of_ble_eq_true rfl) rfl ?_
      refine jr_iload (pc := 64) F (j := 0) dX3_layMargin_64 rfl ?_
      refine jr_iconst (pc := 66) F dX3_layMargin_66 ?_
      obtain ⟨hx9, w1, w2⟩ := w
      refine jr_icmp_eq (pc := 67) (tgt := 99) F hx9 ⟨by decide, by decide⟩ dX3_layMargin_67 rfl (fun c9 => ?_) (fun c9 => ?_)
      · have w := w1 c9
        have w := w _ rfl
        refine jr_iinc (pc := 99) F (j := 4) (vs' := [(3, .inl _), (4, .inl _), (0, .inr (.inr (.inl _))), (1, .inl _), (2, .inl _)]) dX3_layMargin_99 rfl rfl (Nat.le_of_ble_eq_true rfl) rfl ?_
        refine jr_goto (pc := 102) (tgt := 48) F dX3_layMargin_102 rfl ?_
        refine jj_J.sub [2, 3, 4, 0] rfl ?_
        exact ih _ _ w
      · have w := w2 c9
        refine jr_aload_n (pc := 70) F (j := 1) dX3_layMargin_70 rfl ?_
        refine jm_get (pc := 71) (f := 12) (v := .inr (.inr (.inl (some (m0 + 1 + 9))))) F (Nat.le_of_ble_eq_true rfl) q3142 rfl rfl dX3_layMargin_71 ?_
        refine jr_iload (pc := 74) F (j := 0) dX3_layMargin_74 rfl ?_
        obtain ⟨hi1, hi2, w⟩ := w
        refine jm_iald (pc := 76) (f := 12) (o := 9) F rfl (by decide) hi1 hi2 dX3_layMargin_76 ?_
        refine jr_aload_n (pc := 77) F (j := 1) dX3_layMargin_77 rfl ?_
        refine jr_aload_n (pc := 78) F (j := 1) dX3_layMargin_78 rfl ?_
        refine jr_callV (pc := 79) (As := []) F M (lw_V q3315 q3317 qs53 q143 q3318) dX3_layMargin_79 hM_target rfl (Nat.le_of_ble_eq_true rfl) (Nat.le_of_ble_eq_true rfl) (Nat.le_of_ble_eq_true rfl) (jj_set_self _ _ _) rfl rfl (Nat.zero_le _) (cM_target S hs w) (fun v9 h9 q9 => ?_) (fun _ _ _ q9 => q9.elim)
        obtain ⟨r5, ms4, rfl, rfl, w⟩ := q9
        refine jr_iconst (pc := 82) F dX3_layMargin_82 ?_
        refine jr_callV (pc := 83) (As := [_, _]) F M (lw_V q3311 q3313 qs52 q143 q3314) dX3_layMargin_83 hM_ofEdition rfl (Nat.le_of_ble_eq_true rfl) (Nat.le_of_ble_eq_true rfl) (Nat.le_of_ble_eq_true rfl) (jj_set_self _ _ _) rfl rfl (Nat.zero_le _) (cM_ofEdition S hs w) (fun v9 h9 q9 => ?_) (fun _ _ _ q9 => q9.elim)
        obtain ⟨r7, ms6, rfl, rfl, w⟩ := q9
        refine jr_iload_n (pc := 86) F (j := 2) dX3_layMargin_86 rfl ?_
        refine jr_imul (pc := 87) F dX3_layMargin_87 ?_
        refine jr_iload_n (pc := 88) F (j := 3) dX3_layMargin_88 rfl ?_
        refine jr_iadd (pc := 89) F dX3_layMargin_89 ?_
        obtain ⟨hx9, hy9, w1, w2⟩ := w
        refine jr_icmp_ne (pc := 90) (tgt := 99) F hx9 hy9 dX3_layMargin_90 rfl (fun c9 => ?_) (fun c9 => ?_)
        · have w := w1 c9
          have w := w _ rfl
          refine jr_iinc (pc := 99) F (j := 4) (vs' := [(3, .inl _), (4, .inl _), (0, .inr (.inr (.inl _))), (1, .inl _), (2, .inl _)]) dX3_layMargin_99 rfl rfl (Nat.le_of_ble_eq_true rfl) rfl ?_
          refine jr_goto (pc := 102) (tgt := 48) F dX3_layMargin_102 rfl ?_
          refine jj_J.sub [2, 3, 4, 0] rfl ?_
          exact ih _ _ w
        · have w := w2 c9
          refine jr_aload_n (pc := 93) F (j := 1) dX3_layMargin_93 rfl ?_
          refine jr_iload_n (pc := 94) F (j := 4) dX3_layMargin_94 rfl ?_
          refine jr_iload_n (pc := 95) F (j := 3) dX3_layMargin_95 rfl ?_
          refine jr_callV (pc := 96) (As := [_, _]) F M (lw_V q3611 q3613 qs95 q143 q3614) dX3_layMargin_96 hM_setGroup rfl (Nat.le_of_ble_eq_true rfl) (Nat.le_of_ble_eq_true rfl) (Nat.le_of_ble_eq_true rfl) (jj_set_self _ _ _) rfl rfl (Nat.zero_le _) (cM_setGroup S hs w) (fun v9 h9 q9 => ?_) (fun _ _ _ q9 => q9.elim)
          obtain ⟨ms9, rfl, rfl, w⟩ := q9
          have w := w _ rfl
          refine jr_iinc (pc := 99) F (j := 4) (vs' := [(3, .inl _), (4, .inl _), (0, .inr (.inr (.inl _))), (1, .inl _), (2, .inl _)]) dX3_layMargin_99 rfl rfl (Nat.le_of_ble_eq_true rfl) rfl ?_
          refine jr_goto (pc := 102) (tgt := 48) F dX3_layMargin_102 rfl ?_
          refine jj_J.sub [2, 3, 4, 0] rfl ?_
          exact ih _ _ w

theorem sM_layMargin_l33 {X : jj_X} {h0 : jj_H} {m0 k : Nat} {N : Option jj_AV → jj_H → Prop} {XN : String → Nat → jj_H → Prop} (F : jj_F X RX3 cX3_layMargin 5) (M : jj_M X (none) 3 71 N XN) (S : jj_GS X.1 X.2.2.1) (hs : jj_hs X.1 h0 m0) {Q : jj_MS → Prop} (hQ : ∀ ms, Q ms → N none (jj_mh h0 m0 ms)) (x1 : Int) : ∀ (n : Nat) (x2 : Int) (ms : jj_MS), fM_layMargin_l33 x1 Q n x2 ms → jj_J X 5 33 [(0, .inr (.inr (.inl (some m0)))), (1, .inl x1), (2, .inl x2)] [] (jj_mh h0 m0 ms) k := by
  intro n
  induction n with
  | zero =>
    intro x2 ms w
    exact (show False from w).elim
  | succ n ih =>
    intro x2 ms w
    rw [fM_layMargin_l33] at w
    refine jr_iload_n (pc := 33) F (j := 2) dX3_layMargin_33 rfl ?_
    refine jr_aload_n (pc := 34) F (j := 0) dX3_layMargin_34 rfl ?_
    refine jr_aload_n (pc := 35) F (j := 0) dX3_layMargin_35 rfl ?_
    refine jr_callV (pc := 36) (As := []) F M (lw_V q3315 q3317 qs53 q143 q3318) dX3_layMargin_36 hM_target rfl (Nat.le_of_ble_eq_true rfl) (Nat.le_of_ble_eq_true rfl) (Nat.le_of_ble_eq_true rfl) (jj_set_self _ _ _) rfl rfl (Nat.zero_le _) (cM_target S hs w) (fun v9 h9 q9 => ?_) (fun _ _ _ q9 => q9.elim)
    obtain ⟨r13, ms12, rfl, rfl, w⟩ := q9
    refine jr_iconst (pc := 39) F dX3_layMargin_39 ?_
    refine jr_callV (pc := 40) (As := [_, _]) F M (lw_V q3311 q3313 qs52 q143 q3314) dX3_layMargin_40 hM_ofEdition rfl (Nat.le_of_ble_eq_true rfl) (Nat.le_of_ble_eq_true rfl) (Nat.le_of_ble_eq_true rfl) (jj_set_self _ _ _) rfl rfl (Nat.zero_le _) (cM_ofEdition S hs w) (fun v9 h9 q9 => ?_) (fun _ _ _ q9 => q9.elim)
    obtain ⟨r15, ms14, rfl, rfl, w⟩ := q9
    obtain ⟨hx9, hy9, w1, w2⟩ := w
    refine jr_icmp_ge (pc := 43) (tgt := 111) F hx9 hy9 dX3_layMargin_43 rfl (fun c9 => ?_) (fun c9 => ?_)
    · have w := w1 c9
      exact jr_vret (pc := 111) F M dX3_layMargin_111 (hQ _ w)
    · have w := w2 c9
      refine jr_iconst (pc := 46) F dX3_layMargin_46 ?_
      refine jr_istore_n (pc := 47) F (vs' := [(3, .inl _), (0, .inr (.inr (.inl _))), (1, .inl _), (2, .inl _)]) dX3_layMargin_47 (Nat.le_of_ble_eq_true rfl) rfl ?_
      refine jj_J.sub [1, 2, 3, 0] rfl ?_
      obtain ⟨n9, w⟩ := w
      exact sM_layMargin_l48 F M S hs hQ _ _ ih n9 _ _ w

theorem sM_layMargin_l2 {X : jj_X} {h0 : jj_H} {m0 k : Nat} {N : Option jj_AV → jj_H → Prop} {XN : String → Nat → jj_H → Prop} (F : jj_F X RX3 cX3_layMargin 5) (M : jj_M X (none) 3 71 N XN) (S : jj_GS X.1 X.2.2.1) (hs : jj_hs X.1 h0 m0) {Q : jj_MS → Prop} (hQ : ∀ ms, Q ms → N none (jj_mh h0 m0 ms)) (x1 : Int) : ∀ (n : Nat) (x2 : Int) (ms : jj_MS), fM_layMargin_l2 x1 Q n x2 ms → jj_J X 5 2 [(0, .inr (.inr (.inl (some m0)))), (1, .inl x1), (2, .inl x2)] [] (jj_mh h0 m0 ms) k := by
  intro n
  induction n with
  | zero =>
    intro x2 ms w
    exact (show False from w).elim
  | succ n ih =>
    intro x2 ms w
    rw [fM_layMargin_l2] at w
    refine jr_iload_n (pc := 2) F (j := 2) dX3_layMargin_2 rfl ?_
    refine jr_bipush (pc := 3) F dX3_layMargin_3 (by decide +kernel) ?_
    obtain ⟨hx9, w1, w2⟩ := w
    refine jr_icmp_ge (pc := 5) (tgt := 21) F hx9 ⟨by decide, by decide⟩ dX3_layMargin_5 rfl (fun c9 => ?_) (fun c9 => ?_)
    · have w := w1 c9
      refine jr_aload_n (pc := 21) F (j := 0) dX3_layMargin_21 rfl ?_
      refine jr_iconst (pc := 22) F dX3_layMargin_22 ?_
      have w := w _ rfl
      refine jm_put (pc := 23) (f := 31) F (Nat.le_of_ble_eq_true rfl) q3161 rfl rfl rfl rfl rfl rfl dX3_layMargin_23 ?_
      refine jr_aload_n (pc := 26) F (j := 0) dX3_layMargin_26 rfl ?_
      refine jr_iconst (pc := 27) F dX3_layMargin_27 ?_
      have w := w _ rfl
      refine jm_put (pc := 28) (f := 32) F (Nat.le_of_ble_eq_true rfl) q3162 rfl rfl rfl rfl rfl rfl dX3_layMargin_28 ?_
      refine jr_iconst (pc := 31) F dX3_layMargin_31 ?_
      refine jr_istore_n (pc := 32) F (vs' := [(2, .inl _), (0, .inr (.inr (.inl _))), (1, .inl _)]) dX3_layMargin_32 (Nat.le_of_ble_eq_true rfl) rfl ?_
      refine jj_J.sub [1, 2, 0] rfl ?_
      obtain ⟨n9, w⟩ := w
      exact sM_layMargin_l33 F M S hs hQ _ n9 _ _ w
    · have w := w2 c9
      refine jr_aload_n (pc := 8) F (j := 0) dX3_layMargin_8 rfl ?_
      refine jm_get (pc := 9) (f := 30) (v := .inr (.inr (.inl (some (m0 + 1 + 26))))) F (Nat.le_of_ble_eq_true rfl) q3160 rfl rfl dX3_layMargin_9 ?_
      refine jr_iload_n (pc := 12) F (j := 2) dX3_layMargin_12 rfl ?_
      refine jr_iconst (pc := 13) F dX3_layMargin_13 ?_
      obtain ⟨hi1, hi2, w⟩ := w
      have w := w _ rfl
      refine jm_iast (pc := 14) (f := 30) (o := 26) F (Nat.le_of_ble_eq_true rfl) rfl (by decide) hi1 hi2 dX3_layMargin_14 ?_
      have w := w _ rfl
      refine jr_iinc (pc := 15) F (j := 2) (vs' := [(2, .inl _), (0, .inr (.inr (.inl _))), (1, .inl _)]) dX3_layMargin_15 rfl rfl (Nat.le_of_ble_eq_true rfl) rfl ?_
      refine jr_goto (pc := 18) (tgt := 2) F dX3_layMargin_18 rfl ?_
      refine jj_J.sub [1, 2, 0] rfl ?_
      exact ih _ _ w

theorem sM_layMargin {X : jj_X} {h0 : jj_H} {m0 k : Nat} {N : Option jj_AV → jj_H → Prop} {XN : String → Nat → jj_H → Prop} (F : jj_F X RX3 cX3_layMargin 5) (M : jj_M X (none) 3 71 N XN) (S : jj_GS X.1 X.2.2.1) (hs : jj_hs X.1 h0 m0) {Q : jj_MS → Prop} (hQ : ∀ ms, Q ms → N none (jj_mh h0 m0 ms)) : ∀ (x1 : Int) (ms : jj_MS), fM_layMargin x1 Q ms → jj_J X 5 0 [(0, .inr (.inr (.inl (some m0)))), (1, .inl x1)] [] (jj_mh h0 m0 ms) k := by
  intro x1 ms w
  unfold fM_layMargin at w
  refine jr_iconst (pc := 0) F dX3_layMargin_0 ?_
  refine jr_istore_n (pc := 1) F (vs' := [(2, .inl _), (0, .inr (.inr (.inl _))), (1, .inl _)]) dX3_layMargin_1 (Nat.le_of_ble_eq_true rfl) rfl ?_
  refine jj_J.sub [1, 2, 0] rfl ?_
  obtain ⟨n9, w⟩ := w
  exact sM_layMargin_l2 F M S hs hQ _ n9 _ _ w

theorem cM_layMargin {G : jj_G} {l : Launch} (S : jj_GS G l) {h0 : jj_H} {m0 : Nat} (hs : jj_hs G h0 m0) {x1 : Int} {ms : jj_MS} {Q : jj_MS → Prop} (w : fM_layMargin x1 Q ms) : jj_Ct G l yX3_layMargin (ws_ yX3_layMargin cX3_layMargin 5 (none)) 3 71 [.inr (.inr (.inl (some m0))), .inl x1] (jj_mh h0 m0 ms) 0 (jm_Nv h0 m0 Q) jj_F0 := by
  refine jj_Ct.of S.1 (by decide +kernel) (Nat.le_of_ble_eq_true rfl) rfl (fun X hG hl F M O hnm => ?_)
  subst hG; subst hl
  exact sM_layMargin F M S hs (fun ms q => ⟨ms, rfl, rfl, q⟩) _ _ w
theorem hM_layMargin : yX3_layMargin.cls = RX3 ∧ yX3_layMargin.cls ≠ "java/lang/invoke/MethodHandle" ∧ yX3_layMargin.cls ≠ "java/lang/invoke/VarHandle" ∧ (parseMethodDescriptor yX3_layMargin.desc).map (fun d => d.parameters.length) = some 1 := by decide +kernel
/-! layMargins()V -/
def fM_layMargins (Q : jj_MS → Prop) (ms : jj_MS) : Prop :=
  fM_layGroups (fun ms1 =>
  fM_target (fun r4 ms3 =>
  fM_layOut r4 (fun ms5 =>
  Q ms5) ms3) ms1) ms

theorem sM_layMargins {X : jj_X} {h0 : jj_H} {m0 k : Nat} {N : Option jj_AV → jj_H → Prop} {XN : String → Nat → jj_H → Prop} (F : jj_F X RX3 cX3_layMargins 1) (M : jj_M X (none) 7 170 N XN) (S : jj_GS X.1 X.2.2.1) (hs : jj_hs X.1 h0 m0) {Q : jj_MS → Prop} (hQ : ∀ ms, Q ms → N none (jj_mh h0 m0 ms)) : ∀ (ms : jj_MS), fM_layMargins Q ms → jj_J X 1 0 [(0, .inr (.inr (.inl (some m0))))] [] (jj_mh h0 m0 ms) k := by
  intro  ms w
  unfold fM_layMargins at w
  refine jr_aload_n (pc := 0) F (j := 0) dX3_layMargins_0 rfl ?_
  refine jr_callV (pc := 1) (As := []) F M (lw_V q3291 q3293 qs47 q143 q3294) dX3_layMargins_1 hM_layGroups rfl (Nat.le_of_ble_eq_true rfl) (Nat.le_of_ble_eq_true rfl) (Nat.le_of_ble_eq_true rfl) (jj_set_self _ _ _) rfl rfl (Nat.zero_le _) (cM_layGroups S hs w) (fun v9 h9 q9 => ?_) (fun _ _ _ q9 => q9.elim)
  obtain ⟨ms1, rfl, rfl, w⟩ := q9
  refine jr_aload_n (pc := 4) F (j := 0) dX3_layMargins_4 rfl ?_
  refine jr_aload_n (pc := 5) F (j := 0) dX3_layMargins_5 rfl ?_
  refine jr_callV (pc := 6) (As := []) F M (lw_V q3315 q3317 qs53 q143 q3318) dX3_layMargins_6 hM_target rfl (Nat.le_of_ble_eq_true rfl) (Nat.le_of_ble_eq_true rfl) (Nat.le_of_ble_eq_true rfl) (jj_set_self _ _ _) rfl rfl (Nat.zero_le _) (cM_target S hs w) (fun v9 h9 q9 => ?_) (fun _ _ _ q9 => q9.elim)
  obtain ⟨r4, ms3, rfl, rfl, w⟩ := q9
  refine jr_callV (pc := 9) (As := [_]) F M (lw_V q3422 q3424 qs73 q143 q3425) dX3_layMargins_9 hM_layOut rfl (Nat.le_of_ble_eq_true rfl) (Nat.le_of_ble_eq_true rfl) (Nat.le_of_ble_eq_true rfl) (jj_set_self _ _ _) rfl rfl (Nat.zero_le _) (cM_layOut S hs w) (fun v9 h9 q9 => ?_) (fun _ _ _ q9 => q9.elim)
  obtain ⟨ms5, rfl, rfl, w⟩ := q9
  exact jr_vret (pc := 12) F M dX3_layMargins_12 (hQ _ w)

theorem cM_layMargins {G : jj_G} {l : Launch} (S : jj_GS G l) {h0 : jj_H} {m0 : Nat} (hs : jj_hs G h0 m0) {ms : jj_MS} {Q : jj_MS → Prop} (w : fM_layMargins Q ms) : jj_Ct G l yX3_layMargins (ws_ yX3_layMargins cX3_layMargins 1 (none)) 7 170 [.inr (.inr (.inl (some m0)))] (jj_mh h0 m0 ms) 0 (jm_Nv h0 m0 Q) jj_F0 := by
  refine jj_Ct.of S.1 (by decide +kernel) (Nat.le_of_ble_eq_true rfl) rfl (fun X hG hl F M O hnm => ?_)
  subst hG; subst hl
  exact sM_layMargins F M S hs (fun ms q => ⟨ms, rfl, rfl, q⟩) _ w
theorem hM_layMargins : yX3_layMargins.cls = RX3 ∧ yX3_layMargins.cls ≠ "java/lang/invoke/MethodHandle" ∧ yX3_layMargins.cls ≠ "java/lang/invoke/VarHandle" ∧ (parseMethodDescriptor yX3_layMargins.desc).map (fun d => d.parameters.length) = some 0 := by decide +kernel
/-! marginGroups(I)I -/
def fM_marginGroups (x1 : Int) (Q : Int → jj_MS → Prop) (ms : jj_MS) : Prop :=
  ∀ ms1, ms1 = jj_mI ms 7 0 →
  fM_editions (fun r3 ms2 =>
  jj_r r3 ∧ (¬ r3 = 0 → (
    fM_layMargins (fun ms4 =>
    fM_isTargetPage x1 (fun r7 ms6 =>
    jj_r r7 ∧ (¬ r7 = 0 → (
      fM_layMargin x1 (fun ms8 =>
      Q (ms8.1 31) ms8) ms6)) ∧
    (r7 = 0 → (
      fM_fail 1 (fun r11 ms10 =>
      Q r11 ms10) ms6))) ms4) ms2)) ∧
  (r3 = 0 → (
    fM_fail 1 (fun r13 ms12 =>
    Q r13 ms12) ms2))) ms1

theorem sM_marginGroups {X : jj_X} {h0 : jj_H} {m0 k : Nat} {N : Option jj_AV → jj_H → Prop} {XN : String → Nat → jj_H → Prop} (F : jj_F X RX3 cX3_marginGroups 2) (M : jj_M X (some (.int)) 8 190 N XN) (S : jj_GS X.1 X.2.2.1) (hs : jj_hs X.1 h0 m0) {Q : Int → jj_MS → Prop} (hQ : ∀ r ms, Q r ms → N (some (.inl r)) (jj_mh h0 m0 ms)) : ∀ (x1 : Int) (ms : jj_MS), fM_marginGroups x1 Q ms → jj_J X 2 0 [(0, .inr (.inr (.inl (some m0)))), (1, .inl x1)] [] (jj_mh h0 m0 ms) k := by
  intro x1 ms w
  unfold fM_marginGroups at w
  refine jr_aload_n (pc := 0) F (j := 0) dX3_marginGroups_0 rfl ?_
  refine jr_iconst (pc := 1) F dX3_marginGroups_1 ?_
  have w := w _ rfl
  refine jm_put (pc := 2) (f := 7) F (Nat.le_of_ble_eq_true rfl) q3137 rfl rfl rfl rfl rfl rfl dX3_marginGroups_2 ?_
  refine jr_aload_n (pc := 5) F (j := 0) dX3_marginGroups_5 rfl ?_
  refine jr_callV (pc := 6) (As := []) F M (lw_V q3299 q3301 qs49 q143 q3302) dX3_marginGroups_6 hM_editions rfl (Nat.le_of_ble_eq_true rfl) (Nat.le_of_ble_eq_true rfl) (Nat.le_of_ble_eq_true rfl) (jj_set_self _ _ _) rfl rfl (Nat.zero_le _) (cM_editions S hs w) (fun v9 h9 q9 => ?_) (fun _ _ _ q9 => q9.elim)
  obtain ⟨r3, ms2, rfl, rfl, w⟩ := q9
  obtain ⟨hx9, w1, w2⟩ := w
  refine jr_if_ne (pc := 9) (tgt := 18) F hx9 dX3_marginGroups_9 rfl (fun c9 => ?_) (fun c9 => ?_)
  · have w := w1 c9
    refine jr_aload_n (pc := 18) F (j := 0) dX3_marginGroups_18 rfl ?_
    refine jr_callV (pc := 19) (As := []) F M (lw_V q3599 q3601 qs92 q143 q3602) dX3_marginGroups_19 hM_layMargins rfl (Nat.le_of_ble_eq_true rfl) (Nat.le_of_ble_eq_true rfl) (Nat.le_of_ble_eq_true rfl) (jj_set_self _ _ _) rfl rfl (Nat.zero_le _) (cM_layMargins S hs w) (fun v9 h9 q9 => ?_) (fun _ _ _ q9 => q9.elim)
    obtain ⟨ms4, rfl, rfl, w⟩ := q9
    refine jr_aload_n (pc := 22) F (j := 0) dX3_marginGroups_22 rfl ?_
    refine jr_iload_n (pc := 23) F (j := 1) dX3_marginGroups_23 rfl ?_
    refine jr_callV (pc := 24) (As := [_]) F M (lw_V q3603 q3605 qs93 q143 q3606) dX3_marginGroups_24 hM_isTargetPage rfl (Nat.le_of_ble_eq_true rfl) (Nat.le_of_ble_eq_true rfl) (Nat.le_of_ble_eq_true rfl) (jj_set_self _ _ _) rfl rfl (Nat.zero_le _) (cM_isTargetPage S hs w) (fun v9 h9 q9 => ?_) (fun _ _ _ q9 => q9.elim)
    obtain ⟨r7, ms6, rfl, rfl, w⟩ := q9
    obtain ⟨hx9, w1, w2⟩ := w
    refine jr_if_ne (pc := 27) (tgt := 36) F hx9 dX3_marginGroups_27 rfl (fun c9 => ?_) (fun c9 => ?_)
    · have w := w1 c9
      refine jr_aload_n (pc := 36) F (j := 0) dX3_marginGroups_36 rfl ?_
      refine jr_iload_n (pc := 37) F (j := 1) dX3_marginGroups_37 rfl ?_
      refine jr_callV (pc := 38) (As := [_]) F M (lw_V q3607 q3609 qs94 q143 q3610) dX3_marginGroups_38 hM_layMargin rfl (Nat.le_of_ble_eq_true rfl) (Nat.le_of_ble_eq_true rfl) (Nat.le_of_ble_eq_true rfl) (jj_set_self _ _ _) rfl rfl (Nat.zero_le _) (cM_layMargin S hs w) (fun v9 h9 q9 => ?_) (fun _ _ _ q9 => q9.elim)
      obtain ⟨ms8, rfl, rfl, w⟩ := q9
      refine jr_aload_n (pc := 41) F (j := 0) dX3_marginGroups_41 rfl ?_
      refine jm_get (pc := 42) (f := 31) (v := .inl _) F (Nat.le_of_ble_eq_true rfl) q3161 rfl rfl dX3_marginGroups_42 ?_
      exact jr_iret (pc := 45) F M dX3_marginGroups_45 (hQ _ _ w)
    · have w := w2 c9
      refine jr_aload_n (pc := 30) F (j := 0) dX3_marginGroups_30 rfl ?_
      refine jr_iconst (pc := 31) F dX3_marginGroups_31 ?_
      refine jr_callV (pc := 32) (As := [_]) F M (lw_V q3276 q3278 qs46 q143 q3279) dX3_marginGroups_32 hM_fail rfl (Nat.le_of_ble_eq_true rfl) (Nat.le_of_ble_eq_true rfl) (Nat.le_of_ble_eq_true rfl) (jj_set_self _ _ _) rfl rfl (Nat.zero_le _) (cM_fail S hs w) (fun v9 h9 q9 => ?_) (fun _ _ _ q9 => q9.elim)
      obtain ⟨r11, ms10, rfl, rfl, w⟩ := q9
      exact jr_iret (pc := 35) F M dX3_marginGroups_35 (hQ _ _ w)
  · have w := w2 c9
    refine jr_aload_n (pc := 12) F (j := 0) dX3_marginGroups_12 rfl ?_
    refine jr_iconst (pc := 13) F dX3_marginGroups_13 ?_
    refine jr_callV (pc := 14) (As := [_]) F M (lw_V q3276 q3278 qs46 q143 q3279) dX3_marginGroups_14 hM_fail rfl (Nat.le_of_ble_eq_true rfl) (Nat.le_of_ble_eq_true rfl) (Nat.le_of_ble_eq_true rfl) (jj_set_self _ _ _) rfl rfl (Nat.zero_le _) (cM_fail S hs w) (fun v9 h9 q9 => ?_) (fun _ _ _ q9 => q9.elim)
    obtain ⟨r13, ms12, rfl, rfl, w⟩ := q9
    exact jr_iret (pc := 17) F M dX3_marginGroups_17 (hQ _ _ w)

theorem cM_marginGroups {G : jj_G} {l : Launch} (S : jj_GS G l) {h0 : jj_H} {m0 : Nat} (hs : jj_hs G h0 m0) {x1 : Int} {ms : jj_MS} {Q : Int → jj_MS → Prop} (w : fM_marginGroups x1 Q ms) : jj_Ct G l yX3_marginGroups (ws_ yX3_marginGroups cX3_marginGroups 2 (some (.int))) 8 190 [.inr (.inr (.inl (some m0))), .inl x1] (jj_mh h0 m0 ms) 0 (jm_Ni h0 m0 Q) jj_F0 := by
  refine jj_Ct.of S.1 (by decide +kernel) (Nat.le_of_ble_eq_true rfl) rfl (fun X hG hl F M O hnm => ?_)
  subst hG; subst hl
  exact sM_marginGroups F M S hs (fun r ms q => ⟨r, ms, rfl, rfl, q⟩) _ _ w
theorem hM_marginGroups : yX3_marginGroups.cls = RX3 ∧ yX3_marginGroups.cls ≠ "java/lang/invoke/MethodHandle" ∧ yX3_marginGroups.cls ≠ "java/lang/invoke/VarHandle" ∧ (parseMethodDescriptor yX3_marginGroups.desc).map (fun d => d.parameters.length) = some 1 := by decide +kernel
/-! marginRow(II)I -/
def fM_marginRow_j49 (Q : Int → jj_MS → Prop) (ms : jj_MS) : Prop :=
  fM_fail 1 (fun r2 ms1 =>
  Q r2 ms1) ms

def fM_marginRow (x1 : Int) (x2 : Int) (Q : Int → jj_MS → Prop) (ms : jj_MS) : Prop :=
  ∀ ms3, ms3 = jj_mI ms 7 0 →
  fM_editions (fun r5 ms4 =>
  jj_r r5 ∧ (¬ r5 = 0 → (
    fM_layMargins (fun ms6 =>
    fM_isTargetPage x1 (fun r9 ms8 =>
    jj_r r9 ∧ (r9 = 0 → (
      fM_marginRow_j49 Q ms8)) ∧
    (¬ r9 = 0 → (
      fM_target (fun r11 ms10 =>
      fM_ofEdition r11 2 (fun r13 ms12 =>
      fM_isBetween x2 0 (r13 - 1) (fun r15 ms14 =>
      jj_r r15 ∧ (¬ r15 = 0 → (
        fM_layMargin x1 (fun ms16 =>
        0 ≤ x2 ∧ x2 < 40 ∧
        Q (ms16.2 30 x2) ms16) ms14)) ∧
      (r15 = 0 → (
        fM_marginRow_j49 Q ms14))) ms12) ms10) ms8))) ms6) ms4)) ∧
  (r5 = 0 → (
    fM_fail 1 (fun r19 ms18 =>
    Q r19 ms18) ms4))) ms3

theorem sM_marginRow_j49 {X : jj_X} {h0 : jj_H} {m0 k : Nat} {N : Option jj_AV → jj_H → Prop} {XN : String → Nat → jj_H → Prop} (F : jj_F X RX3 cX3_marginRow 3) (M : jj_M X (some (.int)) 8 190 N XN) (S : jj_GS X.1 X.2.2.1) (hs : jj_hs X.1 h0 m0) {Q : Int → jj_MS → Prop} (hQ : ∀ r ms, Q r ms → N (some (.inl r)) (jj_mh h0 m0 ms)) : ∀ (ms : jj_MS), fM_marginRow_j49 Q ms → jj_J X 3 49 [(0, .inr (.inr (.inl (some m0))))] [] (jj_mh h0 m0 ms) k := by
  intro  ms w
  unfold fM_marginRow_j49 at w
  refine jr_aload_n (pc := 49) F (j := 0) dX3_marginRow_49 rfl ?_
  refine jr_iconst (pc := 50) F dX3_marginRow_50 ?_
  refine jr_callV (pc := 51) (As := [_]) F M (lw_V q3276 q3278 qs46 q143 q3279) dX3_marginRow_51 hM_fail rfl (Nat.le_of_ble_eq_true rfl) (Nat.le_of_ble_eq_true rfl) (Nat.le_of_ble_eq_true rfl) (jj_set_self _ _ _) rfl rfl (Nat.zero_le _) (cM_fail S hs w) (fun v9 h9 q9 => ?_) (fun _ _ _ q9 => q9.elim)
  obtain ⟨r2, ms1, rfl, rfl, w⟩ := q9
  exact jr_iret (pc := 54) F M dX3_marginRow_54 (hQ _ _ w)

theorem sM_marginRow {X : jj_X} {h0 : jj_H} {m0 k : Nat} {N : Option jj_AV → jj_H → Prop} {XN : String → Nat → jj_H → Prop} (F : jj_F X RX3 cX3_marginRow 3) (M : jj_M X (some (.int)) 8 190 N XN) (S : jj_GS X.1 X.2.2.1) (hs : jj_hs X.1 h0 m0) {Q : Int → jj_MS → Prop} (hQ : ∀ r ms, Q r ms → N (some (.inl r)) (jj_mh h0 m0 ms)) : ∀ (x1 : Int) (x2 : Int) (ms : jj_MS), fM_marginRow x1 x2 Q ms → jj_J X 3 0 [(0, .inr (.inr (.inl (some m0)))), (1, .inl x1), (2, .inl x2)] [] (jj_mh h0 m0 ms) k := by
  intro x1 x2 ms w
  unfold fM_marginRow at w
  refine jr_aload_n (pc := 0) F (j := 0) dX3_marginRow_0 rfl ?_
  refine jr_iconst (pc := 1) F dX3_marginRow_1 ?_
  have w := w _ rfl
  refine jm_put (pc := 2) (f := 7) F (Nat.le_of_ble_eq_true rfl) q3137 rfl rfl rfl rfl rfl rfl dX3_marginRow_2 ?_
  refine jr_aload_n (pc := 5) F (j := 0) dX3_marginRow_5 rfl ?_
  refine jr_callV (pc := 6) (As := []) F M (lw_V q3299 q3301 qs49 q143 q3302) dX3_marginRow_6 hM_editions rfl (Nat.le_of_ble_eq_true rfl) (Nat.le_of_ble_eq_true rfl) (Nat.le_of_ble_eq_true rfl) (jj_set_self _ _ _) rfl rfl (Nat.zero_le _) (cM_editions S hs w) (fun v9 h9 q9 => ?_) (fun _ _ _ q9 => q9.elim)
  obtain ⟨r5, ms4, rfl, rfl, w⟩ := q9
  obtain ⟨hx9, w1, w2⟩ := w
  refine jr_if_ne (pc := 9) (tgt := 18) F hx9 dX3_marginRow_9 rfl (fun c9 => ?_) (fun c9 => ?_)
  · have w := w1 c9
    refine jr_aload_n (pc := 18) F (j := 0) dX3_marginRow_18 rfl ?_
    refine jr_callV (pc := 19) (As := []) F M (lw_V q3599 q3601 qs92 q143 q3602) dX3_marginRow_19 hM_layMargins rfl (Nat.le_of_ble_eq_true rfl) (Nat.le_of_ble_eq_true rfl) (Nat.le_of_ble_eq_true rfl) (jj_set_self _ _ _) rfl rfl (Nat.zero_le _) (cM_layMargins S hs w) (fun v9 h9 q9 => ?_) (fun _ _ _ q9 => q9.elim)
    obtain ⟨ms6, rfl, rfl, w⟩ := q9
    refine jr_aload_n (pc := 22) F (j := 0) dX3_marginRow_22 rfl ?_
    refine jr_iload_n (pc := 23) F (j := 1) dX3_marginRow_23 rfl ?_
    refine jr_callV (pc := 24) (As := [_]) F M (lw_V q3603 q3605 qs93 q143 q3606) dX3_marginRow_24 hM_isTargetPage rfl (Nat.le_of_ble_eq_true rfl) (Nat.le_of_ble_eq_true rfl) (Nat.le_of_ble_eq_true rfl) (jj_set_self _ _ _) rfl rfl (Nat.zero_le _) (cM_isTargetPage S hs w) (fun v9 h9 q9 => ?_) (fun _ _ _ q9 => q9.elim)
    obtain ⟨r9, ms8, rfl, rfl, w⟩ := q9
    obtain ⟨hx9, w1, w2⟩ := w
    refine jr_if_eq (pc := 27) (tgt := 49) F hx9 dX3_marginRow_27 rfl (fun c9 => ?_) (fun c9 => ?_)
    · have w := w1 c9
      refine jj_J.sub [0] rfl ?_
      exact sM_marginRow_j49 F M S hs hQ _ w
    · have w := w2 c9
      refine jr_iload_n (pc := 30) F (j := 2) dX3_marginRow_30 rfl ?_
      refine jr_iconst (pc := 31) F dX3_marginRow_31 ?_
      refine jr_aload_n (pc := 32) F (j := 0) dX3_marginRow_32 rfl ?_
      refine jr_aload_n (pc := 33) F (j := 0) dX3_marginRow_33 rfl ?_
      refine jr_callV (pc := 34) (As := []) F M (lw_V q3315 q3317 qs53 q143 q3318) dX3_marginRow_34 hM_target rfl (Nat.le_of_ble_eq_true rfl) (Nat.le_of_ble_eq_true rfl) (Nat.le_of_ble_eq_true rfl) (jj_set_self _ _ _) rfl rfl (Nat.zero_le _) (cM_target S hs w) (fun v9 h9 q9 => ?_) (fun _ _ _ q9 => q9.elim)
      obtain ⟨r11, ms10, rfl, rfl, w⟩ := q9
      refine jr_iconst (pc := 37) F dX3_marginRow_37 ?_
      refine jr_callV (pc := 38) (As := [_, _]) F M (lw_V q3311 q3313 qs52 q143 q3314) dX3_marginRow_38 hM_ofEdition rfl (Nat.le_of_ble_eq_true rfl) (Nat.le_of_ble_eq_true rfl) (Nat.le_of_ble_eq_true rfl) (jj_set_self _ _ _) rfl rfl (Nat.zero_le _) (cM_ofEdition S hs w) (fun v9 h9 q9 => ?_) (fun _ _ _ q9 => q9.elim)
      obtain ⟨r13, ms12, rfl, rfl, w⟩ := q9
      refine jr_iconst (pc := 41) F dX3_marginRow_41 ?_
      refine jr_isub (pc := 42) F dX3_marginRow_42 ?_
      refine jr_callS (pc := 43) (As := [_, _, _]) F M (lw_S q3284 q3285 q143 q3286) dX3_marginRow_43 hM_isBetween.2 rfl (Nat.le_of_ble_eq_true rfl) (Nat.le_of_ble_eq_true rfl) (Nat.le_of_ble_eq_true rfl) (Nat.zero_le _) (cM_isBetween S hs w) (fun v9 h9 q9 => ?_) (fun _ _ _ q9 => q9.elim)
      obtain ⟨r15, ms14, rfl, rfl, w⟩ := q9
      obtain ⟨hx9, w1, w2⟩ := w
      refine jr_if_ne (pc := 46) (tgt := 55) F hx9 dX3_marginRow_46 rfl (fun c9 => ?_) (fun c9 => ?_)
      · have w := w1 c9
        refine jr_aload_n (pc := 55) F (j := 0) dX3_marginRow_55 rfl ?_
        refine jr_iload_n (pc := 56) F (j := 1) dX3_marginRow_56 rfl ?_
        refine jr_callV (pc := 57) (As := [_]) F M (lw_V q3607 q3609 qs94 q143 q3610) dX3_marginRow_57 hM_layMargin rfl (Nat.le_of_ble_eq_true rfl) (Nat.le_of_ble_eq_true rfl) (Nat.le_of_ble_eq_true rfl) (jj_set_self _ _ _) rfl rfl (Nat.zero_le _) (cM_layMargin S hs w) (fun v9 h9 q9 => ?_) (fun _ _ _ q9 => q9.elim)
        obtain ⟨ms16, rfl, rfl, w⟩ := q9
        refine jr_aload_n (pc := 60) F (j := 0) dX3_marginRow_60 rfl ?_
        refine jm_get (pc := 61) (f := 30) (v := .inr (.inr (.inl (some (m0 + 1 + 26))))) F (Nat.le_of_ble_eq_true rfl) q3160 rfl rfl dX3_marginRow_61 ?_
        refine jr_iload_n (pc := 64) F (j := 2) dX3_marginRow_64 rfl ?_
        obtain ⟨hi1, hi2, w⟩ := w
        refine jm_iald (pc := 65) (f := 30) (o := 26) F rfl (by decide) hi1 hi2 dX3_marginRow_65 ?_
        exact jr_iret (pc := 66) F M dX3_marginRow_66 (hQ _ _ w)
      · have w := w2 c9
        refine jj_J.sub [0] rfl ?_
        exact sM_marginRow_j49 F M S hs hQ _ w
  · have w := w2 c9
    refine jr_aload_n (pc := 12) F (j := 0) dX3_marginRow_12 rfl ?_
    refine jr_iconst (pc := 13) F dX3_marginRow_13 ?_
    refine jr_callV (pc := 14) (As := [_]) F M (lw_V q3276 q3278 qs46 q143 q3279) dX3_marginRow_14 hM_fail rfl (Nat.le_of_ble_eq_true rfl) (Nat.le_of_ble_eq_true rfl) (Nat.le_of_ble_eq_true rfl) (jj_set_self _ _ _) rfl rfl (Nat.zero_le _) (cM_fail S hs w) (fun v9 h9 q9 => ?_) (fun _ _ _ q9 => q9.elim)
    obtain ⟨r19, ms18, rfl, rfl, w⟩ := q9
    exact jr_iret (pc := 17) F M dX3_marginRow_17 (hQ _ _ w)

theorem cM_marginRow {G : jj_G} {l : Launch} (S : jj_GS G l) {h0 : jj_H} {m0 : Nat} (hs : jj_hs G h0 m0) {x1 : Int} {x2 : Int} {ms : jj_MS} {Q : Int → jj_MS → Prop} (w : fM_marginRow x1 x2 Q ms) : jj_Ct G l yX3_marginRow (ws_ yX3_marginRow cX3_marginRow 3 (some (.int))) 8 190 [.inr (.inr (.inl (some m0))), .inl x1, .inl x2] (jj_mh h0 m0 ms) 0 (jm_Ni h0 m0 Q) jj_F0 := by
  refine jj_Ct.of S.1 (by decide +kernel) (Nat.le_of_ble_eq_true rfl) rfl (fun X hG hl F M O hnm => ?_)
  subst hG; subst hl
  exact sM_marginRow F M S hs (fun r ms q => ⟨r, ms, rfl, rfl, q⟩) _ _ _ w
theorem hM_marginRow : yX3_marginRow.cls = RX3 ∧ yX3_marginRow.cls ≠ "java/lang/invoke/MethodHandle" ∧ yX3_marginRow.cls ≠ "java/lang/invoke/VarHandle" ∧ (parseMethodDescriptor yX3_marginRow.desc).map (fun d => d.parameters.length) = some 2 := by decide +kernel
/-! overflows()I -/
def fM_overflows_l22 (Q : Int → jj_MS → Prop) : Nat → Int → Int → jj_MS → Prop
  | 0, _, _, _ => False
  | n + 1, x1, x2, ms =>
  fM_target (fun r2 ms1 =>
  fM_pagesOf r2 (fun r4 ms3 =>
  jj_r x2 ∧ jj_r r4 ∧ (r4 ≤ x2 → (
    Q x1 ms3)) ∧
  (¬ r4 ≤ x2 → (
    fM_layMargin x2 (fun ms5 =>
    ∀ v7, v7 = x1 + (ms5.1 32) →
    ∀ v8, v8 = x2 + 1 →
    fM_overflows_l22 Q n v7 v8 ms5) ms3))) ms1) ms

def fM_overflows (Q : Int → jj_MS → Prop) (ms : jj_MS) : Prop :=
  ∀ ms9, ms9 = jj_mI ms 7 0 →
  fM_editions (fun r11 ms10 =>
  jj_r r11 ∧ (¬ r11 = 0 → (
    fM_layMargins (fun ms12 =>
    ∃ n9, fM_overflows_l22 Q n9 0 0 ms12) ms10)) ∧
  (r11 = 0 → (
    Q 0 ms10))) ms9

theorem sM_overflows_l22 {X : jj_X} {h0 : jj_H} {m0 k : Nat} {N : Option jj_AV → jj_H → Prop} {XN : String → Nat → jj_H → Prop} (F : jj_F X RX3 cX3_overflows 3) (M : jj_M X (some (.int)) 8 190 N XN) (S : jj_GS X.1 X.2.2.1) (hs : jj_hs X.1 h0 m0) {Q : Int → jj_MS → Prop} (hQ : ∀ r ms, Q r ms → N (some (.inl r)) (jj_mh h0 m0 ms)) : ∀ (n : Nat) (x1 : Int) (x2 : Int) (ms : jj_MS), fM_overflows_l22 Q n x1 x2 ms → jj_J X 3 22 [(0, .inr (.inr (.inl (some m0)))), (1, .inl x1), (2, .inl x2)] [] (jj_mh h0 m0 ms) k := by
  intro n
  induction n with
  | zero =>
    intro x1 x2 ms w
    exact (show False from w).elim
  | succ n ih =>
    intro x1 x2 ms w
    rw [fM_overflows_l22] at w
    refine jr_iload_n (pc := 22) F (j := 2) dX3_overflows_22 rfl ?_
    refine jr_aload_n (pc := 23) F (j := 0) dX3_overflows_23 rfl ?_
    refine jr_aload_n (pc := 24) F (j := 0) dX3_overflows_24 rfl ?_
    refine jr_callV (pc := 25) (As := []) F M (lw_V q3315 q3317 qs53 q143 q3318) dX3_overflows_25 hM_target rfl (Nat.le_of_ble_eq_true rfl) (Nat.le_of_ble_eq_true rfl) (Nat.le_of_ble_eq_true rfl) (jj_set_self _ _ _) rfl rfl (Nat.zero_le _) (cM_target S hs w) (fun v9 h9 q9 => ?_) (fun _ _ _ q9 => q9.elim)
    obtain ⟨r2, ms1, rfl, rfl, w⟩ := q9
    refine jr_callV (pc := 28) (As := [_]) F M (lw_V q3433 q3435 qs75 q143 q3436) dX3_overflows_28 hM_pagesOf rfl (Nat.le_of_ble_eq_true rfl) (Nat.le_of_ble_eq_true rfl) (Nat.le_of_ble_eq_true rfl) (jj_set_self _ _ _) rfl rfl (Nat.zero_le _) (cM_pagesOf S hs w) (fun v9 h9 q9 => ?_) (fun _ _ _ q9 => q9.elim)
    obtain ⟨r4, ms3, rfl, rfl, w⟩ := q9
    obtain ⟨hx9, hy9, w1, w2⟩ := w
    refine jr_icmp_ge (pc := 31) (tgt := 52) F hx9 hy9 dX3_overflows_31 rfl (fun c9 => ?_) (fun c9 => ?_)
    · have w := w1 c9
      refine jr_iload_n (pc := 52) F (j := 1) dX3_overflows_52 rfl ?_
      exact jr_iret (pc := 53) F M dX3_overflows_53 (hQ _ _ w)
    · have w := w2 c9
      refine jr_aload_n (pc := 34) F (j := 0) dX3_overflows_34 rfl ?_
      refine jr_iload_n (pc := 35) F (j := 2) dX3_overflows_35 rfl ?_
      refine jr_callV (pc := 36) (As := [_]) F M (lw_V q3607 q3609 qs94 q143 q3610) dX3_overflows_36 hM_layMargin rfl (Nat.le_of_ble_eq_true rfl) (Nat.le_of_ble_eq_true rfl) (Nat.le_of_ble_eq_true rfl) (jj_set_self _ _ _) rfl rfl (Nat.zero_le _) (cM_layMargin S hs w) (fun v9 h9 q9 => ?_) (fun _ _ _ q9 => q9.elim)
      obtain ⟨ms5, rfl, rfl, w⟩ := q9
      refine jr_iload_n (pc := 39) F (j := 1) dX3_overflows_39 rfl ?_
      refine jr_aload_n (pc := 40) F (j := 0) dX3_overflows_40 rfl ?_
      refine jm_get (pc := 41) (f := 32) (v := .inl _) F (Nat.le_of_ble_eq_true rfl) q3162 rfl rfl dX3_overflows_41 ?_
      refine jr_iadd (pc := 44) F dX3_overflows_44 ?_
      have w := w _ rfl
      refine jr_istore_n (pc := 45) F (vs' := [(1, .inl _), (0, .inr (.inr (.inl _))), (2, .inl _)]) dX3_overflows_45 (Nat.le_of_ble_eq_true rfl) rfl ?_
      have w := w _ rfl
      refine jr_iinc (pc := 46) F (j := 2) (vs' := [(2, .inl _), (1, .inl _), (0, .inr (.inr (.inl _)))]) dX3_overflows_46 rfl rfl (Nat.le_of_ble_eq_true rfl) rfl ?_
      refine jr_goto (pc := 49) (tgt := 22) F dX3_overflows_49 rfl ?_
      refine jj_J.sub [2, 1, 0] rfl ?_
      exact ih _ _ _ w

theorem sM_overflows {X : jj_X} {h0 : jj_H} {m0 k : Nat} {N : Option jj_AV → jj_H → Prop} {XN : String → Nat → jj_H → Prop} (F : jj_F X RX3 cX3_overflows 3) (M : jj_M X (some (.int)) 8 190 N XN) (S : jj_GS X.1 X.2.2.1) (hs : jj_hs X.1 h0 m0) {Q : Int → jj_MS → Prop} (hQ : ∀ r ms, Q r ms → N (some (.inl r)) (jj_mh h0 m0 ms)) : ∀ (ms : jj_MS), fM_overflows Q ms → jj_J X 3 0 [(0, .inr (.inr (.inl (some m0))))] [] (jj_mh h0 m0 ms) k := by
  intro  ms w
  unfold fM_overflows at w
  refine jr_aload_n (pc := 0) F (j := 0) dX3_overflows_0 rfl ?_
  refine jr_iconst (pc := 1) F dX3_overflows_1 ?_
  have w := w _ rfl
  refine jm_put (pc := 2) (f := 7) F (Nat.le_of_ble_eq_true rfl) q3137 rfl rfl rfl rfl rfl rfl dX3_overflows_2 ?_
  refine jr_aload_n (pc := 5) F (j := 0) dX3_overflows_5 rfl ?_
  refine jr_callV (pc := 6) (As := []) F M (lw_V q3299 q3301 qs49 q143 q3302) dX3_overflows_6 hM_editions rfl (Nat.le_of_ble_eq_true rfl) (Nat.le_of_ble_eq_true rfl) (Nat.le_of_ble_eq_true rfl) (jj_set_self _ _ _) rfl rfl (Nat.zero_le _) (cM_editions S hs w) (fun v9 h9 q9 => ?_) (fun _ _ _ q9 => q9.elim)
  obtain ⟨r11, ms10, rfl, rfl, w⟩ := q9
  obtain ⟨hx9, w1, w2⟩ := w
  refine jr_if_ne (pc := 9) (tgt := 14) F hx9 dX3_overflows_9 rfl (fun c9 => ?_) (fun c9 => ?_)
  · have w := w1 c9
    refine jr_aload_n (pc := 14) F (j := 0) dX3_overflows_14 rfl ?_
    refine jr_callV (pc := 15) (As := []) F M (lw_V q3599 q3601 qs92 q143 q3602) dX3_overflows_15 hM_layMargins rfl (Nat.le_of_ble_eq_true rfl) (Nat.le_of_ble_eq_true rfl) (Nat.le_of_ble_eq_true rfl) (jj_set_self _ _ _) rfl rfl (Nat.zero_le _) (cM_layMargins S hs w) (fun v9 h9 q9 => ?_) (fun _ _ _ q9 => q9.elim)
    obtain ⟨ms12, rfl, rfl, w⟩ := q9
    refine jr_iconst (pc := 18) F dX3_overflows_18 ?_
    refine jr_istore_n (pc := 19) F (vs' := [(1, .inl _), (0, .inr (.inr (.inl _)))]) dX3_overflows_19 (Nat.le_of_ble_eq_true rfl) rfl ?_
    refine jr_iconst (pc := 20) F dX3_overflows_20 ?_
    refine jr_istore_n (pc := 21) F (vs' := [(2, .inl _), (1, .inl _), (0, .inr (.inr (.inl _)))]) dX3_overflows_21 (Nat.le_of_ble_eq_true rfl) rfl ?_
    refine jj_J.sub [2, 1, 0] rfl ?_
    obtain ⟨n9, w⟩ := w
    exact sM_overflows_l22 F M S hs hQ n9 _ _ _ w
  · have w := w2 c9
    refine jr_iconst (pc := 12) F dX3_overflows_12 ?_
    exact jr_iret (pc := 13) F M dX3_overflows_13 (hQ _ _ w)

theorem cM_overflows {G : jj_G} {l : Launch} (S : jj_GS G l) {h0 : jj_H} {m0 : Nat} (hs : jj_hs G h0 m0) {ms : jj_MS} {Q : Int → jj_MS → Prop} (w : fM_overflows Q ms) : jj_Ct G l yX3_overflows (ws_ yX3_overflows cX3_overflows 3 (some (.int))) 8 190 [.inr (.inr (.inl (some m0)))] (jj_mh h0 m0 ms) 0 (jm_Ni h0 m0 Q) jj_F0 := by
  refine jj_Ct.of S.1 (by decide +kernel) (Nat.le_of_ble_eq_true rfl) rfl (fun X hG hl F M O hnm => ?_)
  subst hG; subst hl
  exact sM_overflows F M S hs (fun r ms q => ⟨r, ms, rfl, rfl, q⟩) _ w
theorem hM_overflows : yX3_overflows.cls = RX3 ∧ yX3_overflows.cls ≠ "java/lang/invoke/MethodHandle" ∧ yX3_overflows.cls ≠ "java/lang/invoke/VarHandle" ∧ (parseMethodDescriptor yX3_overflows.desc).map (fun d => d.parameters.length) = some 0 := by decide +kernel
/-! put(I)V -/
def fM_put (x1 : Int) (Q : jj_MS → Prop) (ms : jj_MS) : Prop :=
  0 ≤ (ms.1 34) ∧ (ms.1 34) < 1600 ∧
  ∀ ms1, ms1 = jj_mA ms 33 (ms.1 34) x1 →
  ∀ ms2, ms2 = jj_mI ms1 34 ((ms1.1 34) + 1) →
  Q ms2

theorem sM_put {X : jj_X} {h0 : jj_H} {m0 k : Nat} {N : Option jj_AV → jj_H → Prop} {XN : String → Nat → jj_H → Prop} (F : jj_F X RX3 cX3_put 2) (M : jj_M X (none) 0 0 N XN) (S : jj_GS X.1 X.2.2.1) (hs : jj_hs X.1 h0 m0) {Q : jj_MS → Prop} (hQ : ∀ ms, Q ms → N none (jj_mh h0 m0 ms)) : ∀ (x1 : Int) (ms : jj_MS), fM_put x1 Q ms → jj_J X 2 0 [(0, .inr (.inr (.inl (some m0)))), (1, .inl x1)] [] (jj_mh h0 m0 ms) k := by
  intro x1 ms w
  unfold fM_put at w
  refine jr_aload_n (pc := 0) F (j := 0) dX3_put_0 rfl ?_
  refine jm_get (pc := 1) (f := 33) (v := .inr (.inr (.inl (some (m0 + 1 + 27))))) F (Nat.le_of_ble_eq_true rfl) q3163 rfl rfl dX3_put_1 ?_
  refine jr_aload_n (pc := 4) F (j := 0) dX3_put_4 rfl ?_
  refine jm_get (pc := 5) (f := 34) (v := .inl _) F (Nat.le_of_ble_eq_true rfl) q3164 rfl rfl dX3_put_5 ?_
  refine jr_iload_n (pc := 8) F (j := 1) dX3_put_8 rfl ?_
  obtain ⟨hi1, hi2, w⟩ := w
  have w := w _ rfl
  refine jm_iast (pc := 9) (f := 33) (o := 27) F (Nat.le_of_ble_eq_true rfl) rfl (by decide) hi1 hi2 dX3_put_9 ?_
  refine jr_aload_n (pc := 10) F (j := 0) dX3_put_10 rfl ?_
  refine jr_dup (pc := 11) F dX3_put_11 rfl ?_
  refine jm_get (pc := 12) (f := 34) (v := .inl _) F (Nat.le_of_ble_eq_true rfl) q3164 rfl rfl dX3_put_12 ?_
  refine jr_iconst (pc := 15) F dX3_put_15 ?_
  refine jr_iadd (pc := 16) F dX3_put_16 ?_
  have w := w _ rfl
  refine jm_put (pc := 17) (f := 34) F (Nat.le_of_ble_eq_true rfl) q3164 rfl rfl rfl rfl rfl rfl dX3_put_17 ?_
  exact jr_vret (pc := 20) F M dX3_put_20 (hQ _ w)

theorem cM_put {G : jj_G} {l : Launch} (S : jj_GS G l) {h0 : jj_H} {m0 : Nat} (hs : jj_hs G h0 m0) {x1 : Int} {ms : jj_MS} {Q : jj_MS → Prop} (w : fM_put x1 Q ms) : jj_Ct G l yX3_put (ws_ yX3_put cX3_put 2 (none)) 0 0 [.inr (.inr (.inl (some m0))), .inl x1] (jj_mh h0 m0 ms) 0 (jm_Nv h0 m0 Q) jj_F0 := by
  refine jj_Ct.of S.1 (by decide +kernel) (Nat.le_of_ble_eq_true rfl) rfl (fun X hG hl F M O hnm => ?_)
  subst hG; subst hl
  exact sM_put F M S hs (fun ms q => ⟨ms, rfl, rfl, q⟩) _ _ w
theorem hM_put : yX3_put.cls = RX3 ∧ yX3_put.cls ≠ "java/lang/invoke/MethodHandle" ∧ yX3_put.cls ≠ "java/lang/invoke/VarHandle" ∧ (parseMethodDescriptor yX3_put.desc).map (fun d => d.parameters.length) = some 1 := by decide +kernel
/-! putKind(I)V -/
def fM_putKind_l38 (s2 : List Int) (Q : jj_MS → Prop) : Nat → Int → jj_MS → Prop
  | 0, _, _ => False
  | n + 1, x3, ms =>
  jj_r x3 ∧ jj_r ((s2.length : Int)) ∧ (((s2.length : Int)) ≤ x3 → (
    Q ms)) ∧
  (¬ ((s2.length : Int)) ≤ x3 → (
    0 ≤ x3 ∧ x3 < (s2.length : Int) ∧
    fM_put (s2.getD (x3).toNat 0) (fun ms1 =>
    ∀ v3, v3 = x3 + 1 →
    fM_putKind_l38 s2 Q n v3 ms1) ms))

def fM_putKind (x1 : Int) (Q : jj_MS → Prop) (ms : jj_MS) : Prop :=
  jj_r x1 ∧ (¬ x1 = 0 → (
    jj_r x1 ∧ (¬ x1 = 1 → (
      jj_r x1 ∧ (¬ x1 = 2 → (
        ∃ n9, fM_putKind_l38 ((jj_sx 3)) Q n9 0 ms)) ∧
      (x1 = 2 → (
        ∃ n9, fM_putKind_l38 ((jj_sx 2)) Q n9 0 ms)))) ∧
    (x1 = 1 → (
      ∃ n9, fM_putKind_l38 ((jj_sx 1)) Q n9 0 ms)))) ∧
  (x1 = 0 → (
    ∃ n9, fM_putKind_l38 ((jj_sx 0)) Q n9 0 ms))

theorem sM_putKind_l38 {X : jj_X} {h0 : jj_H} {m0 k : Nat} {N : Option jj_AV → jj_H → Prop} {XN : String → Nat → jj_H → Prop} (F : jj_F X RX3 cX3_putKind 4) (M : jj_M X (none) 9 321 N XN) (S : jj_GS X.1 X.2.2.1) (hs : jj_hs X.1 h0 m0) {Q : jj_MS → Prop} (hQ : ∀ ms, Q ms → N none (jj_mh h0 m0 ms)) {s2 : List Int} {a2 : Nat} (ha2 : a2 ≠ m0 ∧ h0 a2 = some (jj_str s2)) : ∀ (n : Nat) (x3 : Int) (ms : jj_MS), fM_putKind_l38 s2 Q n x3 ms → jj_J X 4 38 [(0, .inr (.inr (.inl (some m0)))), (2, .inr (.inr (.inl (some a2)))), (3, .inl x3)] [] (jj_mh h0 m0 ms) k := by
  intro n
  induction n with
  | zero =>
    intro x3 ms w
    exact (show False from w).elim
  | succ n ih =>
    intro x3 ms w
    rw [fM_putKind_l38] at w
    refine jr_iload_n (pc := 38) F (j := 2) dX3_putKind_38 rfl ?_
    refine jr_aload_n (pc := 39) F (j := 1) dX3_putKind_39 rfl ?_
    refine jr_callV (n := 0) (pc := 40) (As := []) F M (lw_V q3651 q374 q375 q131 q376) dX3_putKind_40 ⟨rfl, by decide +kernel, by decide +kernel, by decide +kernel⟩ rfl (Nat.le_of_ble_eq_true rfl) (Nat.le_of_ble_eq_true rfl) (Nat.le_of_ble_eq_true rfl) (show jj_mh h0 m0 _ _ = _ from (jj_set_ne _ _ ha2.1).trans ha2.2) rfl rfl (Nat.zero_le _) (S.2.2.1 _ _ s2 (show jj_mh h0 m0 _ _ = _ from (jj_set_ne _ _ ha2.1).trans ha2.2)) (fun v9 h9 q9 => ?_) (fun _ _ _ q9 => q9.elim)
    obtain ⟨rfl, rfl⟩ := q9
    obtain ⟨hx9, hy9, w1, w2⟩ := w
    refine jr_icmp_ge (pc := 43) (tgt := 61) F hx9 hy9 dX3_putKind_43 rfl (fun c9 => ?_) (fun c9 => ?_)
    · have w := w1 c9
      exact jr_vret (pc := 61) F M dX3_putKind_61 (hQ _ w)
    · have w := w2 c9
      refine jr_aload_n (pc := 46) F (j := 0) dX3_putKind_46 rfl ?_
      refine jr_aload_n (pc := 47) F (j := 1) dX3_putKind_47 rfl ?_
      refine jr_iload_n (pc := 48) F (j := 2) dX3_putKind_48 rfl ?_
      obtain ⟨hi1, hi2, w⟩ := w
      refine jr_callV (n := 1) (pc := 49) (As := [_]) F M (lw_V q3652 q2833 q2834 q131 q2835) dX3_putKind_49 ⟨rfl, by decide +kernel, by decide +kernel, by decide +kernel⟩ rfl (Nat.le_of_ble_eq_true rfl) (Nat.le_of_ble_eq_true rfl) (Nat.le_of_ble_eq_true rfl) (show jj_mh h0 m0 _ _ = _ from (jj_set_ne _ _ ha2.1).trans ha2.2) rfl rfl (Nat.zero_le _) (S.2.2.2 _ _ s2 _ (show jj_mh h0 m0 _ _ = _ from (jj_set_ne _ _ ha2.1).trans ha2.2) hi1 hi2) (fun v9 h9 q9 => ?_) (fun _ _ _ q9 => q9.elim)
      obtain ⟨rfl, rfl⟩ := q9
      refine jr_callV (pc := 52) (As := [_]) F M (lw_V q3639 q3641 qs99 q143 q3642) dX3_putKind_52 hM_put rfl (Nat.le_of_ble_eq_true rfl) (Nat.le_of_ble_eq_true rfl) (Nat.le_of_ble_eq_true rfl) (jj_set_self _ _ _) rfl rfl (Nat.zero_le _) (cM_put S hs w) (fun v9 h9 q9 => ?_) (fun _ _ _ q9 => q9.elim)
      obtain ⟨ms1, rfl, rfl, w⟩ := q9
      have w := w _ rfl
      refine jr_iinc (pc := 55) F (j := 2) (vs' := [(3, .inl _), (0, .inr (.inr (.inl _))), (2, .inr (.inr (.inl _)))]) dX3_putKind_55 rfl rfl (Nat.le_of_ble_eq_true rfl) rfl ?_
      refine jr_goto (pc := 58) (tgt := 38) F dX3_putKind_58 rfl ?_
      refine jj_J.sub [1, 2, 0] rfl ?_
      exact ih _ _ w

theorem sM_putKind {X : jj_X} {h0 : jj_H} {m0 k : Nat} {N : Option jj_AV → jj_H → Prop} {XN : String → Nat → jj_H → Prop} (F : jj_F X RX3 cX3_putKind 4) (M : jj_M X (none) 9 321 N XN) (S : jj_GS X.1 X.2.2.1) (hs : jj_hs X.1 h0 m0) {Q : jj_MS → Prop} (hQ : ∀ ms, Q ms → N none (jj_mh h0 m0 ms)) : ∀ (x1 : Int) (ms : jj_MS), fM_putKind x1 Q ms → jj_J X 4 0 [(0, .inr (.inr (.inl (some m0)))), (1, .inl x1)] [] (jj_mh h0 m0 ms) k := by
  intro x1 ms w
  unfold fM_putKind at w
  refine jr_iload_n (pc := 0) F (j := 1) dX3_putKind_0 rfl ?_
  obtain ⟨hx9, w1, w2⟩ := w
  refine jr_if_ne (pc := 1) (tgt := 10) F hx9 dX3_putKind_1 rfl (fun c9 => ?_) (fun c9 => ?_)
  · have w := w1 c9
    refine jr_iload_n (pc := 10) F (j := 1) dX3_putKind_10 rfl ?_
    refine jr_iconst (pc := 11) F dX3_putKind_11 ?_
    obtain ⟨hx9, w1, w2⟩ := w
    refine jr_icmp_ne (pc := 12) (tgt := 21) F hx9 ⟨by decide, by decide⟩ dX3_putKind_12 rfl (fun c9 => ?_) (fun c9 => ?_)
    · have w := w1 c9
      refine jr_iload_n (pc := 21) F (j := 1) dX3_putKind_21 rfl ?_
      refine jr_iconst (pc := 22) F dX3_putKind_22 ?_
      obtain ⟨hx9, w1, w2⟩ := w
      refine jr_icmp_ne (pc := 23) (tgt := 32) F hx9 ⟨by decide, by decide⟩ dX3_putKind_23 rfl (fun c9 => ?_) (fun c9 => ?_)
      · have w := w1 c9
        refine jr_ldcwS (pc := 32) F S 3 rfl dX3_putKind_32 ?_
        refine jr_astore_n (pc := 35) F (vs' := [(2, .inr (.inr (.inl _))), (0, .inr (.inr (.inl _))), (1, .inl _)]) dX3_putKind_35 (Nat.le_of_ble_eq_true rfl) rfl ?_
        refine jr_iconst (pc := 36) F dX3_putKind_36 ?_
        refine jr_istore_n (pc := 37) F (vs' := [(3, .inl _), (2, .inr (.inr (.inl _))), (0, .inr (.inr (.inl _))), (1, .inl _)]) dX3_putKind_37 (Nat.le_of_ble_eq_true rfl) rfl ?_
        refine jj_J.sub [2, 1, 0] rfl ?_
        obtain ⟨n9, w⟩ := w
        exact sM_putKind_l38 F M S hs hQ (hs 3 (by decide)) n9 _ _ w
      · have w := w2 c9
        refine jr_ldcwS (pc := 26) F S 2 rfl dX3_putKind_26 ?_
        refine jr_goto (pc := 29) (tgt := 35) F dX3_putKind_29 rfl ?_
        refine jr_astore_n (pc := 35) F (vs' := [(2, .inr (.inr (.inl _))), (0, .inr (.inr (.inl _))), (1, .inl _)]) dX3_putKind_35 (Nat.le_of_ble_eq_true rfl) rfl ?_
        refine jr_iconst (pc := 36) F dX3_putKind_36 ?_
        refine jr_istore_n (pc := 37) F (vs' := [(3, .inl _), (2, .inr (.inr (.inl _))), (0, .inr (.inr (.inl _))), (1, .inl _)]) dX3_putKind_37 (Nat.le_of_ble_eq_true rfl) rfl ?_
        refine jj_J.sub [2, 1, 0] rfl ?_
        obtain ⟨n9, w⟩ := w
        exact sM_putKind_l38 F M S hs hQ (hs 2 (by decide)) n9 _ _ w
    · have w := w2 c9
      refine jr_ldcwS (pc := 15) F S 1 rfl dX3_putKind_15 ?_
      refine jr_goto (pc := 18) (tgt := 35) F dX3_putKind_18 rfl ?_
      refine jr_astore_n (pc := 35) F (vs' := [(2, .inr (.inr (.inl _))), (0, .inr (.inr (.inl _))), (1, .inl _)]) dX3_putKind_35 (Nat.le_of_ble_eq_true rfl) rfl ?_
      refine jr_iconst (pc := 36) F dX3_putKind_36 ?_
      refine jr_istore_n (pc := 37) F (vs' := [(3, .inl _), (2, .inr (.inr (.inl _))), (0, .inr (.inr (.inl _))), (1, .inl _)]) dX3_putKind_37 (Nat.le_of_ble_eq_true rfl) rfl ?_
      refine jj_J.sub [2, 1, 0] rfl ?_
      obtain ⟨n9, w⟩ := w
      exact sM_putKind_l38 F M S hs hQ (hs 1 (by decide)) n9 _ _ w
  · have w := w2 c9
    refine jr_ldcwS (pc := 4) F S 0 rfl dX3_putKind_4 ?_
    refine jr_goto (pc := 7) (tgt := 35) F dX3_putKind_7 rfl ?_
    refine jr_astore_n (pc := 35) F (vs' := [(2, .inr (.inr (.inl _))), (0, .inr (.inr (.inl _))), (1, .inl _)]) dX3_putKind_35 (Nat.le_of_ble_eq_true rfl) rfl ?_
    refine jr_iconst (pc := 36) F dX3_putKind_36 ?_
    refine jr_istore_n (pc := 37) F (vs' := [(3, .inl _), (2, .inr (.inr (.inl _))), (0, .inr (.inr (.inl _))), (1, .inl _)]) dX3_putKind_37 (Nat.le_of_ble_eq_true rfl) rfl ?_
    refine jj_J.sub [2, 1, 0] rfl ?_
    obtain ⟨n9, w⟩ := w
    exact sM_putKind_l38 F M S hs hQ (hs 0 (by decide)) n9 _ _ w

theorem cM_putKind {G : jj_G} {l : Launch} (S : jj_GS G l) {h0 : jj_H} {m0 : Nat} (hs : jj_hs G h0 m0) {x1 : Int} {ms : jj_MS} {Q : jj_MS → Prop} (w : fM_putKind x1 Q ms) : jj_Ct G l yX3_putKind (ws_ yX3_putKind cX3_putKind 4 (none)) 9 321 [.inr (.inr (.inl (some m0))), .inl x1] (jj_mh h0 m0 ms) 0 (jm_Nv h0 m0 Q) jj_F0 := by
  refine jj_Ct.of S.1 (by decide +kernel) (Nat.le_of_ble_eq_true rfl) rfl (fun X hG hl F M O hnm => ?_)
  subst hG; subst hl
  exact sM_putKind F M S hs (fun ms q => ⟨ms, rfl, rfl, q⟩) _ _ w
theorem hM_putKind : yX3_putKind.cls = RX3 ∧ yX3_putKind.cls ≠ "java/lang/invoke/MethodHandle" ∧ yX3_putKind.cls ≠ "java/lang/invoke/VarHandle" ∧ (parseMethodDescriptor yX3_putKind.desc).map (fun d => d.parameters.length) = some 1 := by decide +kernel
/-! putWord(J)V -/
def fM_putWord_l2 (x1 : Int) (Q : jj_MS → Prop) : Nat → Int → jj_MS → Prop
  | 0, _, _ => False
  | n + 1, x3, ms =>
  fM_lettersOf x1 (fun r2 ms1 =>
  jj_r x3 ∧ jj_r r2 ∧ (r2 ≤ x3 → (
    Q ms1)) ∧
  (¬ r2 ≤ x3 → (
    fM_letterOf x1 x3 (fun r4 ms3 =>
    fM_put r4 (fun ms5 =>
    ∀ v7, v7 = x3 + 1 →
    fM_putWord_l2 x1 Q n v7 ms5) ms3) ms1))) ms

def fM_putWord (x1 : Int) (Q : jj_MS → Prop) (ms : jj_MS) : Prop :=
  ∃ n9, fM_putWord_l2 x1 Q n9 0 ms

theorem sM_putWord_l2 {X : jj_X} {h0 : jj_H} {m0 k : Nat} {N : Option jj_AV → jj_H → Prop} {XN : String → Nat → jj_H → Prop} (F : jj_F X RX3 cX3_putWord 4) (M : jj_M X (none) 2 49 N XN) (S : jj_GS X.1 X.2.2.1) (hs : jj_hs X.1 h0 m0) {Q : jj_MS → Prop} (hQ : ∀ ms, Q ms → N none (jj_mh h0 m0 ms)) (x1 : Int) : ∀ (n : Nat) (x3 : Int) (ms : jj_MS), fM_putWord_l2 x1 Q n x3 ms → jj_J X 4 2 [(0, .inr (.inr (.inl (some m0)))), (1, .inr (.inl x1)), (3, .inl x3)] [] (jj_mh h0 m0 ms) k := by
  intro n
  induction n with
  | zero =>
    intro x3 ms w
    exact (show False from w).elim
  | succ n ih =>
    intro x3 ms w
    rw [fM_putWord_l2] at w
    refine jr_iload_n (pc := 2) F (j := 2) dX3_putWord_2 rfl ?_
    refine jr_lload_n (pc := 3) F (j := 1) dX3_putWord_3 rfl ?_
    refine jr_callS (pc := 4) (As := [_]) F M (lw_S q3426 q3427 q143 q3428) dX3_putWord_4 hM_lettersOf.2 rfl (Nat.le_of_ble_eq_true rfl) (Nat.le_of_ble_eq_true rfl) (Nat.le_of_ble_eq_true rfl) (Nat.zero_le _) (cM_lettersOf S hs w) (fun v9 h9 q9 => ?_) (fun _ _ _ q9 => q9.elim)
    obtain ⟨r2, ms1, rfl, rfl, w⟩ := q9
    obtain ⟨hx9, hy9, w1, w2⟩ := w
    refine jr_icmp_ge (pc := 7) (tgt := 25) F hx9 hy9 dX3_putWord_7 rfl (fun c9 => ?_) (fun c9 => ?_)
    · have w := w1 c9
      exact jr_vret (pc := 25) F M dX3_putWord_25 (hQ _ w)
    · have w := w2 c9
      refine jr_aload_n (pc := 10) F (j := 0) dX3_putWord_10 rfl ?_
      refine jr_lload_n (pc := 11) F (j := 1) dX3_putWord_11 rfl ?_
      refine jr_iload_n (pc := 12) F (j := 2) dX3_putWord_12 rfl ?_
      refine jr_callS (pc := 13) (As := [_, _]) F M (lw_S q3457 q3458 q143 q3459) dX3_putWord_13 hM_letterOf.2 rfl (Nat.le_of_ble_eq_true rfl) (Nat.le_of_ble_eq_true rfl) (Nat.le_of_ble_eq_true rfl) (Nat.zero_le _) (cM_letterOf S hs w) (fun v9 h9 q9 => ?_) (fun _ _ _ q9 => q9.elim)
      obtain ⟨r4, ms3, rfl, rfl, w⟩ := q9
      refine jr_callV (pc := 16) (As := [_]) F M (lw_V q3639 q3641 qs99 q143 q3642) dX3_putWord_16 hM_put rfl (Nat.le_of_ble_eq_true rfl) (Nat.le_of_ble_eq_true rfl) (Nat.le_of_ble_eq_true rfl) (jj_set_self _ _ _) rfl rfl (Nat.zero_le _) (cM_put S hs w) (fun v9 h9 q9 => ?_) (fun _ _ _ q9 => q9.elim)
      obtain ⟨ms5, rfl, rfl, w⟩ := q9
      have w := w _ rfl
      refine jr_iinc (pc := 19) F (j := 2) (vs' := [(3, .inl _), (0, .inr (.inr (.inl _))), (1, .inr (.inl _))]) dX3_putWord_19 rfl rfl (Nat.le_of_ble_eq_true rfl) rfl ?_
      refine jr_goto (pc := 22) (tgt := 2) F dX3_putWord_22 rfl ?_
      refine jj_J.sub [1, 2, 0] rfl ?_
      exact ih _ _ w

theorem sM_putWord {X : jj_X} {h0 : jj_H} {m0 k : Nat} {N : Option jj_AV → jj_H → Prop} {XN : String → Nat → jj_H → Prop} (F : jj_F X RX3 cX3_putWord 4) (M : jj_M X (none) 2 49 N XN) (S : jj_GS X.1 X.2.2.1) (hs : jj_hs X.1 h0 m0) {Q : jj_MS → Prop} (hQ : ∀ ms, Q ms → N none (jj_mh h0 m0 ms)) : ∀ (x1 : Int) (ms : jj_MS), fM_putWord x1 Q ms → jj_J X 4 0 [(0, .inr (.inr (.inl (some m0)))), (1, .inr (.inl x1))] [] (jj_mh h0 m0 ms) k := by
  intro x1 ms w
  unfold fM_putWord at w
  refine jr_iconst (pc := 0) F dX3_putWord_0 ?_
  refine jr_istore_n (pc := 1) F (vs' := [(3, .inl _), (0, .inr (.inr (.inl _))), (1, .inr (.inl _))]) dX3_putWord_1 (Nat.le_of_ble_eq_true rfl) rfl ?_
  refine jj_J.sub [1, 2, 0] rfl ?_
  obtain ⟨n9, w⟩ := w
  exact sM_putWord_l2 F M S hs hQ _ n9 _ _ w

theorem cM_putWord {G : jj_G} {l : Launch} (S : jj_GS G l) {h0 : jj_H} {m0 : Nat} (hs : jj_hs G h0 m0) {x1 : Int} {ms : jj_MS} {Q : jj_MS → Prop} (w : fM_putWord x1 Q ms) : jj_Ct G l yX3_putWord (ws_ yX3_putWord cX3_putWord 4 (none)) 2 49 [.inr (.inr (.inl (some m0))), .inr (.inl x1)] (jj_mh h0 m0 ms) 0 (jm_Nv h0 m0 Q) jj_F0 := by
  refine jj_Ct.of S.1 (by decide +kernel) (Nat.le_of_ble_eq_true rfl) rfl (fun X hG hl F M O hnm => ?_)
  subst hG; subst hl
  exact sM_putWord F M S hs (fun ms q => ⟨ms, rfl, rfl, q⟩) _ _ w
theorem hM_putWord : yX3_putWord.cls = RX3 ∧ yX3_putWord.cls ≠ "java/lang/invoke/MethodHandle" ∧ yX3_putWord.cls ≠ "java/lang/invoke/VarHandle" ∧ (parseMethodDescriptor yX3_putWord.desc).map (fun d => d.parameters.length) = some 1 := by decide +kernel
/-! putGroup(I)V -/
def fM_putGroup_l136 (x2 : Int) (Q : jj_MS → Prop) : Nat → Int → jj_MS → Prop
  | 0, _, _ => False
  | n + 1, x3, ms =>
  fM_ofNote x2 5 (fun r2 ms1 =>
  jj_r x3 ∧ jj_r r2 ∧ (r2 ≤ x3 → (
    Q ms1)) ∧
  (¬ r2 ≤ x3 → (
    fM_put 32 (fun ms3 =>
    fM_saidBy x2 x3 (fun r6 ms5 =>
    fM_putWord r6 (fun ms7 =>
    ∀ v9, v9 = x3 + 1 →
    fM_putGroup_l136 x2 Q n v9 ms7) ms5) ms3) ms1))) ms

def fM_putGroup_j112 (x1 : Int) (Q : jj_MS → Prop) (ms : jj_MS) : Prop :=
  0 ≤ x1 ∧ x1 < 40 ∧
  ∀ v10, v10 = ms.2 24 x1 →
  fM_ofNote v10 5 (fun r12 ms11 =>
  jj_r r12 ∧ (r12 ≤ 0 → (
    ∃ n9, fM_putGroup_l136 v10 Q n9 0 ms11)) ∧
  (¬ r12 ≤ 0 → (
    fM_put 58 (fun ms13 =>
    ∃ n9, fM_putGroup_l136 v10 Q n9 0 ms13) ms11))) ms

def fM_putGroup_l72 (x1 : Int) (Q : jj_MS → Prop) : Nat → Int → jj_MS → Prop
  | 0, _, _ => False
  | n + 1, x2, ms =>
  0 ≤ x1 ∧ x1 < 40 ∧
  jj_r x2 ∧ jj_r (ms.2 23 x1) ∧ ((ms.2 23 x1) < x2 → (
    fM_putGroup_j112 x1 Q ms)) ∧
  (¬ (ms.2 23 x1) < x2 → (
    jj_r x2 ∧ (x2 = ((-1)) → (
      fM_putGroup_j112 x1 Q ms)) ∧
    (¬ x2 = ((-1)) → (
      fM_put 32 (fun ms15 =>
      fM_target (fun r18 ms17 =>
      fM_wordOf r18 x2 (fun r20 ms19 =>
      fM_putWord r20 (fun ms21 =>
      ∀ v23, v23 = x2 + 1 →
      fM_putGroup_l72 x1 Q n v23 ms21) ms19) ms17) ms15) ms))))

def fM_putGroup_l2 (x1 : Int) (Q : jj_MS → Prop) : Nat → Int → jj_MS → Prop
  | 0, _, _ => False
  | n + 1, x2, ms =>
  fM_readers (fun r25 ms24 =>
  jj_r x2 ∧ jj_r r25 ∧ (r25 ≤ x2 → (
    0 ≤ x1 ∧ x1 < 40 ∧
    fM_ofNote (ms24.2 25 x1) 1 (fun r27 ms26 =>
    fM_putKind r27 (fun ms28 =>
    0 ≤ x1 ∧ x1 < 40 ∧
    ∀ v30, v30 = ms28.2 22 x1 →
    ∃ n9, fM_putGroup_l72 x1 Q n9 v30 ms28) ms26) ms24)) ∧
  (¬ r25 ≤ x2 → (
    0 ≤ x1 ∧ x1 < 40 ∧
    jj_r (jj_and (jj_shr (ms24.2 27 x1) x2) 1) ∧ (¬ (jj_and (jj_shr (ms24.2 27 x1) x2) 1) = 1 → (
      ∀ v31, v31 = x2 + 1 →
      fM_putGroup_l2 x1 Q n v31 ms24)) ∧
    ((jj_and (jj_shr (ms24.2 27 x1) x2) 1) = 1 → (
      0 ≤ (360 + x2) ∧ (360 + x2) < 606 ∧
      fM_putWord (ms24.2 3 (360 + x2)) (fun ms32 =>
      fM_put 32 (fun ms34 =>
      ∀ v36, v36 = x2 + 1 →
      fM_putGroup_l2 x1 Q n v36 ms34) ms32) ms24))))) ms

def fM_putGroup (x1 : Int) (Q : jj_MS → Prop) (ms : jj_MS) : Prop :=
  ∃ n9, fM_putGroup_l2 x1 Q n9 0 ms

theorem sM_putGroup_l136 {X : jj_X} {h0 : jj_H} {m0 k : Nat} {N : Option jj_AV → jj_H → Prop} {XN : String → Nat → jj_H → Prop} (F : jj_F X RX3 cX3_putGroup 4) (M : jj_M X (none) 10 344 N XN) (S : jj_GS X.1 X.2.2.1) (hs : jj_hs X.1 h0 m0) {Q : jj_MS → Prop} (hQ : ∀ ms, Q ms → N none (jj_mh h0 m0 ms)) (x2 : Int) : ∀ (n : Nat) (x3 : Int) (ms : jj_MS), fM_putGroup_l136 x2 Q n x3 ms → jj_J X 4 136 [(0, .inr (.inr (.inl (some m0)))), (2, .inl x2), (3, .inl x3)] [] (jj_mh h0 m0 ms) k := by
  intro n
  induction n with
  | zero =>
    intro x3 ms w
    exact (show False from w).elim
  | succ n ih =>
    intro x3 ms w
    rw [fM_putGroup_l136] at w
    refine jr_iload_n (pc := 136) F (j := 2) dX3_putGroup_136 rfl ?_
    refine jr_aload_n (pc := 137) F (j := 0) dX3_putGroup_137 rfl ?_
    refine jr_iload_n (pc := 138) F (j := 1) dX3_putGroup_138 rfl ?_
    refine jr_iconst (pc := 139) F dX3_putGroup_139 ?_
    refine jr_callV (pc := 140) (As := [_, _]) F M (lw_V q3338 q3340 qs57 q143 q3341) dX3_putGroup_140 hM_ofNote rfl (Nat.le_of_ble_eq_true rfl) (Nat.le_of_ble_eq_true rfl) (Nat.le_of_ble_eq_true rfl) (jj_set_self _ _ _) rfl rfl (Nat.zero_le _) (cM_ofNote S hs w) (fun v9 h9 q9 => ?_) (fun _ _ _ q9 => q9.elim)
    obtain ⟨r2, ms1, rfl, rfl, w⟩ := q9
    obtain ⟨hx9, hy9, w1, w2⟩ := w
    refine jr_icmp_ge (pc := 143) (tgt := 168) F hx9 hy9 dX3_putGroup_143 rfl (fun c9 => ?_) (fun c9 => ?_)
    · have w := w1 c9
      exact jr_vret (pc := 168) F M dX3_putGroup_168 (hQ _ w)
    · have w := w2 c9
      refine jr_aload_n (pc := 146) F (j := 0) dX3_putGroup_146 rfl ?_
      refine jr_bipush (pc := 147) F dX3_putGroup_147 (by decide +kernel) ?_
      refine jr_callV (pc := 149) (As := [_]) F M (lw_V q3639 q3641 qs99 q143 q3642) dX3_putGroup_149 hM_put rfl (Nat.le_of_ble_eq_true rfl) (Nat.le_of_ble_eq_true rfl) (Nat.le_of_ble_eq_true rfl) (jj_set_self _ _ _) rfl rfl (Nat.zero_le _) (cM_put S hs w) (fun v9 h9 q9 => ?_) (fun _ _ _ q9 => q9.elim)
      obtain ⟨ms3, rfl, rfl, w⟩ := q9
      refine jr_aload_n (pc := 152) F (j := 0) dX3_putGroup_152 rfl ?_
      refine jr_aload_n (pc := 153) F (j := 0) dX3_putGroup_153 rfl ?_
      refine jr_iload_n (pc := 154) F (j := 1) dX3_putGroup_154 rfl ?_
      refine jr_iload_n (pc := 155) F (j := 2) dX3_putGroup_155 rfl ?_
      refine jr_callV (pc := 156) (As := [_, _]) F M (lw_V q3371 q3373 qs65 q143 q3374) dX3_putGroup_156 hM_saidBy rfl (Nat.le_of_ble_eq_true rfl) (Nat.le_of_ble_eq_true rfl) (Nat.le_of_ble_eq_true rfl) (jj_set_self _ _ _) rfl rfl (Nat.zero_le _) (cM_saidBy S hs w) (fun v9 h9 q9 => ?_) (fun _ _ _ q9 => q9.elim)
      obtain ⟨r6, ms5, rfl, rfl, w⟩ := q9
      refine jr_callV (pc := 159) (As := [_]) F M (lw_V q3635 q3637 qs98 q143 q3638) dX3_putGroup_159 hM_putWord rfl (Nat.le_of_ble_eq_true rfl) (Nat.le_of_ble_eq_true rfl) (Nat.le_of_ble_eq_true rfl) (jj_set_self _ _ _) rfl rfl (Nat.zero_le _) (cM_putWord S hs w) (fun v9 h9 q9 => ?_) (fun _ _ _ q9 => q9.elim)
      obtain ⟨ms7, rfl, rfl, w⟩ := q9
      have w := w _ rfl
      refine jr_iinc (pc := 162) F (j := 2) (vs' := [(3, .inl _), (0, .inr (.inr (.inl _))), (2, .inl _)]) dX3_putGroup_162 rfl rfl (Nat.le_of_ble_eq_true rfl) rfl ?_
      refine jr_goto (pc := 165) (tgt := 136) F dX3_putGroup_165 rfl ?_
      refine jj_J.sub [1, 2, 0] rfl ?_
      exact ih _ _ w

theorem sM_putGroup_j112 {X : jj_X} {h0 : jj_H} {m0 k : Nat} {N : Option jj_AV → jj_H → Prop} {XN : String → Nat → jj_H → Prop} (F : jj_F X RX3 cX3_putGroup 4) (M : jj_M X (none) 10 344 N XN) (S : jj_GS X.1 X.2.2.1) (hs : jj_hs X.1 h0 m0) {Q : jj_MS → Prop} (hQ : ∀ ms, Q ms → N none (jj_mh h0 m0 ms)) : ∀ (x1 : Int) (ms : jj_MS), fM_putGroup_j112 x1 Q ms → jj_J X 4 112 [(0, .inr (.inr (.inl (some m0)))), (1, .inl x1)] [] (jj_mh h0 m0 ms) k := by
  intro x1 ms w
  unfold fM_putGroup_j112 at w
  refine jr_aload_n (pc := 112) F (j := 0) dX3_putGroup_112 rfl ?_
  refine jm_get (pc := 113) (f := 24) (v := .inr (.inr (.inl (some (m0 + 1 + 21))))) F (Nat.le_of_ble_eq_true rfl) q3154 rfl rfl dX3_putGroup_113 ?_
  refine jr_iload_n (pc := 116) F (j := 1) dX3_putGroup_116 rfl ?_
  obtain ⟨hi1, hi2, w⟩ := w
  refine jm_iald (pc := 117) (f := 24) (o := 21) F rfl (by decide) hi1 hi2 dX3_putGroup_117 ?_
  have w := w _ rfl
  refine jr_istore_n (pc := 118) F (vs' := [(2, .inl _), (0, .inr (.inr (.inl _))), (1, .inl _)]) dX3_putGroup_118 (Nat.le_of_ble_eq_true rfl) rfl ?_
  refine jr_aload_n (pc := 119) F (j := 1) dX3_putGroup_119 rfl ?_
  refine jr_iload_n (pc := 120) F (j := 0) dX3_putGroup_120 rfl ?_
  refine jr_iconst (pc := 121) F dX3_putGroup_121 ?_
  refine jr_callV (pc := 122) (As := [_, _]) F M (lw_V q3338 q3340 qs57 q143 q3341) dX3_putGroup_122 hM_ofNote rfl (Nat.le_of_ble_eq_true rfl) (Nat.le_of_ble_eq_true rfl) (Nat.le_of_ble_eq_true rfl) (jj_set_self _ _ _) rfl rfl (Nat.zero_le _) (cM_ofNote S hs w) (fun v9 h9 q9 => ?_) (fun _ _ _ q9 => q9.elim)
  obtain ⟨r12, ms11, rfl, rfl, w⟩ := q9
  obtain ⟨hx9, w1, w2⟩ := w
  refine jr_if_le (pc := 125) (tgt := 134) F hx9 dX3_putGroup_125 rfl (fun c9 => ?_) (fun c9 => ?_)
  · have w := w1 c9
    refine jr_iconst (pc := 134) F dX3_putGroup_134 ?_
    refine jr_istore_n (pc := 135) F (vs' := [(3, .inl _), (2, .inl _), (0, .inr (.inr (.inl _))), (1, .inl _)]) dX3_putGroup_135 (Nat.le_of_ble_eq_true rfl) rfl ?_
    refine jj_J.sub [2, 1, 0] rfl ?_
    obtain ⟨n9, w⟩ := w
    exact sM_putGroup_l136 F M S hs hQ _ n9 _ _ w
  · have w := w2 c9
    refine jr_aload_n (pc := 128) F (j := 1) dX3_putGroup_128 rfl ?_
    refine jr_bipush (pc := 129) F dX3_putGroup_129 (by decide +kernel) ?_
    refine jr_callV (pc := 131) (As := [_]) F M (lw_V q3639 q3641 qs99 q143 q3642) dX3_putGroup_131 hM_put rfl (Nat.le_of_ble_eq_true rfl) (Nat.le_of_ble_eq_true rfl) (Nat.le_of_ble_eq_true rfl) (jj_set_self _ _ _) rfl rfl (Nat.zero_le _) (cM_put S hs w) (fun v9 h9 q9 => ?_) (fun _ _ _ q9 => q9.elim)
    obtain ⟨ms13, rfl, rfl, w⟩ := q9
    refine jr_iconst (pc := 134) F dX3_putGroup_134 ?_
    refine jr_istore_n (pc := 135) F (vs' := [(3, .inl _), (2, .inl _), (0, .inr (.inr (.inl _))), (1, .inl _)]) dX3_putGroup_135 (Nat.le_of_ble_eq_true rfl) rfl ?_
    refine jj_J.sub [2, 1, 0] rfl ?_
    obtain ⟨n9, w⟩ := w
    exact sM_putGroup_l136 F M S hs hQ _ n9 _ _ w

theorem sM_putGroup_l72 {X : jj_X} {h0 : jj_H} {m0 k : Nat} {N : Option jj_AV → jj_H → Prop} {XN : String → Nat → jj_H → Prop} (F : jj_F X RX3 cX3_putGroup 4) (M : jj_M X (none) 10 344 N XN) (S : jj_GS X.1 X.2.2.1) (hs : jj_hs X.1 h0 m0) {Q : jj_MS → Prop} (hQ : ∀ ms, Q ms → N none (jj_mh h0 m0 ms)) (x1 : Int) : ∀ (n : Nat) (x2 : Int) (ms : jj_MS), fM_putGroup_l72 x1 Q n x2 ms → jj_J X 4 72 [(0, .inr (.inr (.inl (some m0)))), (1, .inl x1), (2, .inl x2)] [] (jj_mh h0 m0 ms) k := by
  intro n
  induction n with
  | zero =>
    intro x2 ms w
    exact (show False from w).elim
  | succ n ih =>
    intro x2 ms w
    rw [fM_putGroup_l72] at w
    refine jr_iload_n (pc := 72) F (j := 2) dX3_putGroup_72 rfl ?_
    refine jr_aload_n (pc := 73) F (j := 0) dX3_putGroup_73 rfl ?_
    refine jm_get (pc := 74) (f := 23) (v := .inr (.inr (.inl (some (m0 + 1 + 20))))) F (Nat.le_of_ble_eq_true rfl) q3153 rfl rfl dX3_putGroup_74 ?_
    refine jr_iload_n (pc := 77) F (j := 1) dX3_putGroup_77 rfl ?_
    obtain ⟨hi1, hi2, w⟩ := w
    refine jm_iald (pc := 78) (f := 23) (o := 20) F rfl (by decide) hi1 hi2 dX3_putGroup_78 ?_
    obtain ⟨hx9, hy9, w1, w2⟩ := w
    refine jr_icmp_gt (pc := 79) (tgt := 112) F hx9 hy9 dX3_putGroup_79 rfl (fun c9 => ?_) (fun c9 => ?_)
    · have w := w1 c9
      refine jj_J.sub [0, 1] rfl ?_
      exact sM_putGroup_j112 F M S hs hQ _ _ w
    · have w := w2 c9
      refine jr_iload_n (pc := 82) F (j := 2) dX3_putGroup_82 rfl ?_
      refine jr_iconst (pc := 83) F dX3_putGroup_83 ?_
      obtain ⟨hx9, w1, w2⟩ := w
      refine jr_icmp_eq (pc := 84) (tgt := 112) F hx9 ⟨by decide, by decide⟩ dX3_putGroup_84 rfl (fun c9 => ?_) (fun c9 => ?_)
      · have w := w1 c9
        refine jj_J.sub [0, 1] rfl ?_
        exact sM_putGroup_j112 F M S hs hQ _ _ w
      · have w := w2 c9
        refine jr_aload_n (pc := 87) F (j := 0) dX3_putGroup_87 rfl ?_
        refine jr_bipush (pc := 88) F dX3_putGroup_88 (by decide +kernel) ?_
        refine jr_callV (pc := 90) (As := [_]) F M (lw_V q3639 q3641 qs99 q143 q3642) dX3_putGroup_90 hM_put rfl (Nat.le_of_ble_eq_true rfl) (Nat.le_of_ble_eq_true rfl) (Nat.le_of_ble_eq_true rfl) (jj_set_self _ _ _) rfl rfl (Nat.zero_le _) (cM_put S hs w) (fun v9 h9 q9 => ?_) (fun _ _ _ q9 => q9.elim)
        obtain ⟨ms15, rfl, rfl, w⟩ := q9
        refine jr_aload_n (pc := 93) F (j := 0) dX3_putGroup_93 rfl ?_
        refine jr_aload_n (pc := 94) F (j := 0) dX3_putGroup_94 rfl ?_
        refine jr_aload_n (pc := 95) F (j := 0) dX3_putGroup_95 rfl ?_
        refine jr_callV (pc := 96) (As := []) F M (lw_V q3315 q3317 qs53 q143 q3318) dX3_putGroup_96 hM_target rfl (Nat.le_of_ble_eq_true rfl) (Nat.le_of_ble_eq_true rfl) (Nat.le_of_ble_eq_true rfl) (jj_set_self _ _ _) rfl rfl (Nat.zero_le _) (cM_target S hs w) (fun v9 h9 q9 => ?_) (fun _ _ _ q9 => q9.elim)
        obtain ⟨r18, ms17, rfl, rfl, w⟩ := q9
        refine jr_iload_n (pc := 99) F (j := 2) dX3_putGroup_99 rfl ?_
        refine jr_callV (pc := 100) (As := [_, _]) F M (lw_V q3323 q3325 qs55 q143 q3326) dX3_putGroup_100 hM_wordOf rfl (Nat.le_of_ble_eq_true rfl) (Nat.le_of_ble_eq_true rfl) (Nat.le_of_ble_eq_true rfl) (jj_set_self _ _ _) rfl rfl (Nat.zero_le _) (cM_wordOf S hs w) (fun v9 h9 q9 => ?_) (fun _ _ _ q9 => q9.elim)
        obtain ⟨r20, ms19, rfl, rfl, w⟩ := q9
        refine jr_callV (pc := 103) (As := [_]) F M (lw_V q3635 q3637 qs98 q143 q3638) dX3_putGroup_103 hM_putWord rfl (Nat.le_of_ble_eq_true rfl) (Nat.le_of_ble_eq_true rfl) (Nat.le_of_ble_eq_true rfl) (jj_set_self _ _ _) rfl rfl (Nat.zero_le _) (cM_putWord S hs w) (fun v9 h9 q9 => ?_) (fun _ _ _ q9 => q9.elim)
        obtain ⟨ms21, rfl, rfl, w⟩ := q9
        have w := w _ rfl
        refine jr_iinc (pc := 106) F (j := 2) (vs' := [(2, .inl _), (0, .inr (.inr (.inl _))), (1, .inl _)]) dX3_putGroup_106 rfl rfl (Nat.le_of_ble_eq_true rfl) rfl ?_
        refine jr_goto (pc := 109) (tgt := 72) F dX3_putGroup_109 rfl ?_
        refine jj_J.sub [1, 2, 0] rfl ?_
        exact ih _ _ w

theorem sM_putGroup_l2 {X : jj_X} {h0 : jj_H} {m0 k : Nat} {N : Option jj_AV → jj_H → Prop} {XN : String → Nat → jj_H → Prop} (F : jj_F X RX3 cX3_putGroup 4) (M : jj_M X (none) 10 344 N XN) (S : jj_GS X.1 X.2.2.1) (hs : jj_hs X.1 h0 m0) {Q : jj_MS → Prop} (hQ : ∀ ms, Q ms → N none (jj_mh h0 m0 ms)) (x1 : Int) : ∀ (n : Nat) (x2 : Int) (ms : jj_MS), fM_putGroup_l2 x1 Q n x2 ms → jj_J X 4 2 [(0, .inr (.inr (.inl (some m0)))), (1, .inl x1), (2, .inl x2)] [] (jj_mh h0 m0 ms) k := by
  intro n
  induction n with
  | zero =>
    intro x2 ms w
    exact (show False from w).elim
  | succ n ih =>
    intro x2 ms w
    rw [fM_putGroup_l2] at w
    refine jr_iload_n (pc := 2) F (j := 2) dX3_putGroup_2 rfl ?_
    refine jr_aload_n (pc := 3) F (j := 0) dX3_putGroup_3 rfl ?_
    refine jr_callV (pc := 4) (As := []) F M (lw_V q3496 q3498 qs82 q143 q3499) dX3_putGroup_4 hM_readers rfl (Nat.le_of_ble_eq_true rfl) (Nat.le_of_ble_eq_true rfl) (Nat.le_of_ble_eq_true rfl) (jj_set_self _ _ _) rfl rfl (Nat.zero_le _) (cM_readers S hs w) (fun v9 h9 q9 => ?_) (fun _ _ _ q9 => q9.elim)
    obtain ⟨r25, ms24, rfl, rfl, w⟩ := q9
    obtain ⟨hx9, hy9, w1, w2⟩ := w
    refine jr_icmp_ge (pc := 7) (tgt := 50) F hx9 hy9 dX3_putGroup_7 rfl (fun c9 => ?_) (fun c9 => ?_)
    · have w := w1 c9
      refine jr_aload_n (pc := 50) F (j := 0) dX3_putGroup_50 rfl ?_
      refine jr_aload_n (pc := 51) F (j := 0) dX3_putGroup_51 rfl ?_
      refine jr_aload_n (pc := 52) F (j := 0) dX3_putGroup_52 rfl ?_
      refine jm_get (pc := 53) (f := 25) (v := .inr (.inr (.inl (some (m0 + 1 + 22))))) F (Nat.le_of_ble_eq_true rfl) q3155 rfl rfl dX3_putGroup_53 ?_
      refine jr_iload_n (pc := 56) F (j := 1) dX3_putGroup_56 rfl ?_
      obtain ⟨hi1, hi2, w⟩ := w
      refine jm_iald (pc := 57) (f := 25) (o := 22) F rfl (by decide) hi1 hi2 dX3_putGroup_57 ?_
      refine jr_iconst (pc := 58) F dX3_putGroup_58 ?_
      refine jr_callV (pc := 59) (As := [_, _]) F M (lw_V q3338 q3340 qs57 q143 q3341) dX3_putGroup_59 hM_ofNote rfl (Nat.le_of_ble_eq_true rfl) (Nat.le_of_ble_eq_true rfl) (Nat.le_of_ble_eq_true rfl) (jj_set_self _ _ _) rfl rfl (Nat.zero_le _) (cM_ofNote S hs w) (fun v9 h9 q9 => ?_) (fun _ _ _ q9 => q9.elim)
      obtain ⟨r27, ms26, rfl, rfl, w⟩ := q9
      refine jr_callV (pc := 62) (As := [_]) F M (lw_V q3643 q3645 qs100 q143 q3646) dX3_putGroup_62 hM_putKind rfl (Nat.le_of_ble_eq_true rfl) (Nat.le_of_ble_eq_true rfl) (Nat.le_of_ble_eq_true rfl) (jj_set_self _ _ _) rfl rfl (Nat.zero_le _) (cM_putKind S hs w) (fun v9 h9 q9 => ?_) (fun _ _ _ q9 => q9.elim)
      obtain ⟨ms28, rfl, rfl, w⟩ := q9
      refine jr_aload_n (pc := 65) F (j := 0) dX3_putGroup_65 rfl ?_
      refine jm_get (pc := 66) (f := 22) (v := .inr (.inr (.inl (some (m0 + 1 + 19))))) F (Nat.le_of_ble_eq_true rfl) q3152 rfl rfl dX3_putGroup_66 ?_
      refine jr_iload_n (pc := 69) F (j := 1) dX3_putGroup_69 rfl ?_
      obtain ⟨hi1, hi2, w⟩ := w
      refine jm_iald (pc := 70) (f := 22) (o := 19) F rfl (by decide) hi1 hi2 dX3_putGroup_70 ?_
      have w := w _ rfl
      refine jr_istore_n (pc := 71) F (vs' := [(2, .inl _), (0, .inr (.inr (.inl _))), (1, .inl _)]) dX3_putGroup_71 (Nat.le_of_ble_eq_true rfl) rfl ?_
      refine jj_J.sub [1, 2, 0] rfl ?_
      obtain ⟨n9, w⟩ := w
      exact sM_putGroup_l72 F M S hs hQ _ n9 _ _ w
    · have w := w2 c9
      refine jr_aload_n (pc := 10) F (j := 0) dX3_putGroup_10 rfl ?_
      refine jm_get (pc := 11) (f := 27) (v := .inr (.inr (.inl (some (m0 + 1 + 24))))) F (Nat.le_of_ble_eq_true rfl) q3157 rfl rfl dX3_putGroup_11 ?_
      refine jr_iload_n (pc := 14) F (j := 1) dX3_putGroup_14 rfl ?_
      obtain ⟨hi1, hi2, w⟩ := w
      refine jm_iald (pc := 15) (f := 27) (o := 24) F rfl (by decide) hi1 hi2 dX3_putGroup_15 ?_
      refine jr_iload_n (pc := 16) F (j := 2) dX3_putGroup_16 rfl ?_
      refine jr_ishr (pc := 17) F dX3_putGroup_17 ?_
      refine jr_iconst (pc := 18) F dX3_putGroup_18 ?_
      refine jr_iand (pc := 19) F dX3_putGroup_19 ?_
      refine jr_iconst (pc := 20) F dX3_putGroup_20 ?_
      obtain ⟨hx9, w1, w2⟩ := w
      refine jr_icmp_ne (pc := 21) (tgt := 44) F hx9 ⟨by decide, by decide⟩ dX3_putGroup_21 rfl (fun c9 => ?_) (fun c9 => ?_)
      · have w := w1 c9
        have w := w _ rfl
        refine jr_iinc (pc := 44) F (j := 2) (vs' := [(2, .inl _), (0, .inr (.inr (.inl _))), (1, .inl _)]) dX3_putGroup_44 rfl rfl (Nat.le_of_ble_eq_true rfl) rfl ?_
        refine jr_goto (pc := 47) (tgt := 2) F dX3_putGroup_47 rfl ?_
        refine jj_J.sub [1, 2, 0] rfl ?_
        exact ih _ _ w
      · have w := w2 c9
        refine jr_aload_n (pc := 24) F (j := 0) dX3_putGroup_24 rfl ?_
        refine jr_aload_n (pc := 25) F (j := 0) dX3_putGroup_25 rfl ?_
        refine jm_get (pc := 26) (f := 3) (v := .inr (.inr (.inl (some (m0 + 1 + 3))))) F (Nat.le_of_ble_eq_true rfl) q3133 rfl rfl dX3_putGroup_26 ?_
        refine jr_sipush (pc := 29) F dX3_putGroup_29 (by decide +kernel) ?_
        refine jr_iload_n (pc := 32) F (j := 2) dX3_putGroup_32 rfl ?_
        refine jr_iadd (pc := 33) F dX3_putGroup_33 ?_
        obtain ⟨hi1, hi2, w⟩ := w
        refine jm_lald (pc := 34) (f := 3) (o := 3) F rfl (by decide) hi1 hi2 dX3_putGroup_34 ?_
        refine jr_callV (pc := 35) (As := [_]) F M (lw_V q3635 q3637 qs98 q143 q3638) dX3_putGroup_35 hM_putWord rfl (Nat.le_of_ble_eq_true rfl) (Nat.le_of_ble_eq_true rfl) (Nat.le_of_ble_eq_true rfl) (jj_set_self _ _ _) rfl rfl (Nat.zero_le _) (cM_putWord S hs w) (fun v9 h9 q9 => ?_) (fun _ _ _ q9 => q9.elim)
        obtain ⟨ms32, rfl, rfl, w⟩ := q9
        refine jr_aload_n (pc := 38) F (j := 0) dX3_putGroup_38 rfl ?_
        refine jr_bipush (pc := 39) F dX3_putGroup_39 (by decide +kernel) ?_
        refine jr_callV (pc := 41) (As := [_]) F M (lw_V q3639 q3641 qs99 q143 q3642) dX3_putGroup_41 hM_put rfl (Nat.le_of_ble_eq_true rfl) (Nat.le_of_ble_eq_true rfl) (Nat.le_of_ble_eq_true rfl) (jj_set_self _ _ _) rfl rfl (Nat.zero_le _) (cM_put S hs w) (fun v9 h9 q9 => ?_) (fun _ _ _ q9 => q9.elim)
        obtain ⟨ms34, rfl, rfl, w⟩ := q9
        have w := w _ rfl
        refine jr_iinc (pc := 44) F (j := 2) (vs' := [(2, .inl _), (0, .inr (.inr (.inl _))), (1, .inl _)]) dX3_putGroup_44 rfl rfl (Nat.le_of_ble_eq_true rfl) rfl ?_
        refine jr_goto (pc := 47) (tgt := 2) F dX3_putGroup_47 rfl ?_
        refine jj_J.sub [1, 2, 0] rfl ?_
        exact ih _ _ w

theorem sM_putGroup {X : jj_X} {h0 : jj_H} {m0 k : Nat} {N : Option jj_AV → jj_H → Prop} {XN : String → Nat → jj_H → Prop} (F : jj_F X RX3 cX3_putGroup 4) (M : jj_M X (none) 10 344 N XN) (S : jj_GS X.1 X.2.2.1) (hs : jj_hs X.1 h0 m0) {Q : jj_MS → Prop} (hQ : ∀ ms, Q ms → N none (jj_mh h0 m0 ms)) : ∀ (x1 : Int) (ms : jj_MS), fM_putGroup x1 Q ms → jj_J X 4 0 [(0, .inr (.inr (.inl (some m0)))), (1, .inl x1)] [] (jj_mh h0 m0 ms) k := by
  intro x1 ms w
  unfold fM_putGroup at w
  refine jr_iconst (pc := 0) F dX3_putGroup_0 ?_
  refine jr_istore_n (pc := 1) F (vs' := [(2, .inl _), (0, .inr (.inr (.inl _))), (1, .inl _)]) dX3_putGroup_1 (Nat.le_of_ble_eq_true rfl) rfl ?_
  refine jj_J.sub [1, 2, 0] rfl ?_
  obtain ⟨n9, w⟩ := w
  exact sM_putGroup_l2 F M S hs hQ _ n9 _ _ w

theorem cM_putGroup {G : jj_G} {l : Launch} (S : jj_GS G l) {h0 : jj_H} {m0 : Nat} (hs : jj_hs G h0 m0) {x1 : Int} {ms : jj_MS} {Q : jj_MS → Prop} (w : fM_putGroup x1 Q ms) : jj_Ct G l yX3_putGroup (ws_ yX3_putGroup cX3_putGroup 4 (none)) 10 344 [.inr (.inr (.inl (some m0))), .inl x1] (jj_mh h0 m0 ms) 0 (jm_Nv h0 m0 Q) jj_F0 := by
  refine jj_Ct.of S.1 (by decide +kernel) (Nat.le_of_ble_eq_true rfl) rfl (fun X hG hl F M O hnm => ?_)
  subst hG; subst hl
  exact sM_putGroup F M S hs (fun ms q => ⟨ms, rfl, rfl, q⟩) _ _ w
theorem hM_putGroup : yX3_putGroup.cls = RX3 ∧ yX3_putGroup.cls ≠ "java/lang/invoke/MethodHandle" ∧ yX3_putGroup.cls ≠ "java/lang/invoke/VarHandle" ∧ (parseMethodDescriptor yX3_putGroup.desc).map (fun d => d.parameters.length) = some 1 := by decide +kernel
/-! write(I)I -/
def fM_write (x1 : Int) (Q : Int → jj_MS → Prop) (ms : jj_MS) : Prop :=
  ∀ ms1, ms1 = jj_mI ms 7 0 →
  fM_layGroups (fun ms2 =>
  fM_isGroup x1 (fun r5 ms4 =>
  jj_r r5 ∧ (¬ r5 = 0 → (
    ∀ ms6, ms6 = jj_mI ms4 34 0 →
    fM_putGroup x1 (fun ms7 =>
    Q (ms7.1 34) ms7) ms6)) ∧
  (r5 = 0 → (
    fM_fail 1 (fun r10 ms9 =>
    Q r10 ms9) ms4))) ms2) ms1

theorem sM_write {X : jj_X} {h0 : jj_H} {m0 k : Nat} {N : Option jj_AV → jj_H → Prop} {XN : String → Nat → jj_H → Prop} (F : jj_F X RX3 cX3_write 2) (M : jj_M X (some (.int)) 11 367 N XN) (S : jj_GS X.1 X.2.2.1) (hs : jj_hs X.1 h0 m0) {Q : Int → jj_MS → Prop} (hQ : ∀ r ms, Q r ms → N (some (.inl r)) (jj_mh h0 m0 ms)) : ∀ (x1 : Int) (ms : jj_MS), fM_write x1 Q ms → jj_J X 2 0 [(0, .inr (.inr (.inl (some m0)))), (1, .inl x1)] [] (jj_mh h0 m0 ms) k := by
  intro x1 ms w
  unfold fM_write at w
  refine jr_aload_n (pc := 0) F (j := 0) dX3_write_0 rfl ?_
  refine jr_iconst (pc := 1) F dX3_write_1 ?_
  have w := w _ rfl
  refine jm_put (pc := 2) (f := 7) F (Nat.le_of_ble_eq_true rfl) q3137 rfl rfl rfl rfl rfl rfl dX3_write_2 ?_
  refine jr_aload_n (pc := 5) F (j := 0) dX3_write_5 rfl ?_
  refine jr_callV (pc := 6) (As := []) F M (lw_V q3291 q3293 qs47 q143 q3294) dX3_write_6 hM_layGroups rfl (Nat.le_of_ble_eq_true rfl) (Nat.le_of_ble_eq_true rfl) (Nat.le_of_ble_eq_true rfl) (jj_set_self _ _ _) rfl rfl (Nat.zero_le _) (cM_layGroups S hs w) (fun v9 h9 q9 => ?_) (fun _ _ _ q9 => q9.elim)
  obtain ⟨ms2, rfl, rfl, w⟩ := q9
  refine jr_aload_n (pc := 9) F (j := 0) dX3_write_9 rfl ?_
  refine jr_iload_n (pc := 10) F (j := 1) dX3_write_10 rfl ?_
  refine jr_callV (pc := 11) (As := [_]) F M (lw_V q3564 q3566 qs88 q143 q3567) dX3_write_11 hM_isGroup rfl (Nat.le_of_ble_eq_true rfl) (Nat.le_of_ble_eq_true rfl) (Nat.le_of_ble_eq_true rfl) (jj_set_self _ _ _) rfl rfl (Nat.zero_le _) (cM_isGroup S hs w) (fun v9 h9 q9 => ?_) (fun _ _ _ q9 => q9.elim)
  obtain ⟨r5, ms4, rfl, rfl, w⟩ := q9
  obtain ⟨hx9, w1, w2⟩ := w
  refine jr_if_ne (pc := 14) (tgt := 23) F hx9 dX3_write_14 rfl (fun c9 => ?_) (fun c9 => ?_)
  · have w := w1 c9
    refine jr_aload_n (pc := 23) F (j := 0) dX3_write_23 rfl ?_
    refine jr_iconst (pc := 24) F dX3_write_24 ?_
    have w := w _ rfl
    refine jm_put (pc := 25) (f := 34) F (Nat.le_of_ble_eq_true rfl) q3164 rfl rfl rfl rfl rfl rfl dX3_write_25 ?_
    refine jr_aload_n (pc := 28) F (j := 0) dX3_write_28 rfl ?_
    refine jr_iload_n (pc := 29) F (j := 1) dX3_write_29 rfl ?_
    refine jr_callV (pc := 30) (As := [_]) F M (lw_V q3631 q3633 qs97 q143 q3634) dX3_write_30 hM_putGroup rfl (Nat.le_of_ble_eq_true rfl) (Nat.le_of_ble_eq_true rfl) (Nat.le_of_ble_eq_true rfl) (jj_set_self _ _ _) rfl rfl (Nat.zero_le _) (cM_putGroup S hs w) (fun v9 h9 q9 => ?_) (fun _ _ _ q9 => q9.elim)
    obtain ⟨ms7, rfl, rfl, w⟩ := q9
    refine jr_aload_n (pc := 33) F (j := 0) dX3_write_33 rfl ?_
    refine jm_get (pc := 34) (f := 34) (v := .inl _) F (Nat.le_of_ble_eq_true rfl) q3164 rfl rfl dX3_write_34 ?_
    exact jr_iret (pc := 37) F M dX3_write_37 (hQ _ _ w)
  · have w := w2 c9
    refine jr_aload_n (pc := 17) F (j := 0) dX3_write_17 rfl ?_
    refine jr_iconst (pc := 18) F dX3_write_18 ?_
    refine jr_callV (pc := 19) (As := [_]) F M (lw_V q3276 q3278 qs46 q143 q3279) dX3_write_19 hM_fail rfl (Nat.le_of_ble_eq_true rfl) (Nat.le_of_ble_eq_true rfl) (Nat.le_of_ble_eq_true rfl) (jj_set_self _ _ _) rfl rfl (Nat.zero_le _) (cM_fail S hs w) (fun v9 h9 q9 => ?_) (fun _ _ _ q9 => q9.elim)
    obtain ⟨r10, ms9, rfl, rfl, w⟩ := q9
    exact jr_iret (pc := 22) F M dX3_write_22 (hQ _ _ w)

theorem cM_write {G : jj_G} {l : Launch} (S : jj_GS G l) {h0 : jj_H} {m0 : Nat} (hs : jj_hs G h0 m0) {x1 : Int} {ms : jj_MS} {Q : Int → jj_MS → Prop} (w : fM_write x1 Q ms) : jj_Ct G l yX3_write (ws_ yX3_write cX3_write 2 (some (.int))) 11 367 [.inr (.inr (.inl (some m0))), .inl x1] (jj_mh h0 m0 ms) 0 (jm_Ni h0 m0 Q) jj_F0 := by
  refine jj_Ct.of S.1 (by decide +kernel) (Nat.le_of_ble_eq_true rfl) rfl (fun X hG hl F M O hnm => ?_)
  subst hG; subst hl
  exact sM_write F M S hs (fun r ms q => ⟨r, ms, rfl, rfl, q⟩) _ _ w
theorem hM_write : yX3_write.cls = RX3 ∧ yX3_write.cls ≠ "java/lang/invoke/MethodHandle" ∧ yX3_write.cls ≠ "java/lang/invoke/VarHandle" ∧ (parseMethodDescriptor yX3_write.desc).map (fun d => d.parameters.length) = some 1 := by decide +kernel
/-! outputByte(I)I -/
def fM_outputByte (x1 : Int) (Q : Int → jj_MS → Prop) (ms : jj_MS) : Prop :=
  ∀ ms1, ms1 = jj_mI ms 7 0 →
  jj_r x1 ∧ (0 ≤ x1 → (
    jj_r x1 ∧ jj_r (ms1.1 34) ∧ ((ms1.1 34) ≤ x1 → (
      Q ((-1)) ms1)) ∧
    (¬ (ms1.1 34) ≤ x1 → (
      0 ≤ x1 ∧ x1 < 1600 ∧
      Q (ms1.2 33 x1) ms1)))) ∧
  (¬ 0 ≤ x1 → (
    fM_fail 1 (fun r3 ms2 =>
    Q r3 ms2) ms1))

theorem sM_outputByte {X : jj_X} {h0 : jj_H} {m0 k : Nat} {N : Option jj_AV → jj_H → Prop} {XN : String → Nat → jj_H → Prop} (F : jj_F X RX3 cX3_outputByte 2) (M : jj_M X (some (.int)) 1 21 N XN) (S : jj_GS X.1 X.2.2.1) (hs : jj_hs X.1 h0 m0) {Q : Int → jj_MS → Prop} (hQ : ∀ r ms, Q r ms → N (some (.inl r)) (jj_mh h0 m0 ms)) : ∀ (x1 : Int) (ms : jj_MS), fM_outputByte x1 Q ms → jj_J X 2 0 [(0, .inr (.inr (.inl (some m0)))), (1, .inl x1)] [] (jj_mh h0 m0 ms) k := by
  intro x1 ms w
  unfold fM_outputByte at w
  refine jr_aload_n (pc := 0) F (j := 0) dX3_outputByte_0 rfl ?_
  refine jr_iconst (pc := 1) F dX3_outputByte_1 ?_
  have w := w _ rfl
  refine jm_put (pc := 2) (f := 7) F (Nat.le_of_ble_eq_true rfl) q3137 rfl rfl rfl rfl rfl rfl dX3_outputByte_2 ?_
  refine jr_iload_n (pc := 5) F (j := 1) dX3_outputByte_5 rfl ?_
  obtain ⟨hx9, w1, w2⟩ := w
  refine jr_if_ge (pc := 6) (tgt := 15) F hx9 dX3_outputByte_6 rfl (fun c9 => ?_) (fun c9 => ?_)
  · have w := w1 c9
    refine jr_iload_n (pc := 15) F (j := 1) dX3_outputByte_15 rfl ?_
    refine jr_aload_n (pc := 16) F (j := 0) dX3_outputByte_16 rfl ?_
    refine jm_get (pc := 17) (f := 34) (v := .inl _) F (Nat.le_of_ble_eq_true rfl) q3164 rfl rfl dX3_outputByte_17 ?_
    obtain ⟨hx9, hy9, w1, w2⟩ := w
    refine jr_icmp_ge (pc := 20) (tgt := 32) F hx9 hy9 dX3_outputByte_20 rfl (fun c9 => ?_) (fun c9 => ?_)
    · have w := w1 c9
      refine jr_iconst (pc := 32) F dX3_outputByte_32 ?_
      exact jr_iret (pc := 33) F M dX3_outputByte_33 (hQ _ _ w)
    · have w := w2 c9
      refine jr_aload_n (pc := 23) F (j := 0) dX3_outputByte_23 rfl ?_
      refine jm_get (pc := 24) (f := 33) (v := .inr (.inr (.inl (some (m0 + 1 + 27))))) F (Nat.le_of_ble_eq_true rfl) q3163 rfl rfl dX3_outputByte_24 ?_
      refine jr_iload_n (pc := 27) F (j := 1) dX3_outputByte_27 rfl ?_
      obtain ⟨hi1, hi2, w⟩ := w
      refine jm_iald (pc := 28) (f := 33) (o := 27) F rfl (by decide) hi1 hi2 dX3_outputByte_28 ?_
      refine jr_goto (pc := 29) (tgt := 33) F dX3_outputByte_29 rfl ?_
      exact jr_iret (pc := 33) F M dX3_outputByte_33 (hQ _ _ w)
  · have w := w2 c9
    refine jr_aload_n (pc := 9) F (j := 0) dX3_outputByte_9 rfl ?_
    refine jr_iconst (pc := 10) F dX3_outputByte_10 ?_
    refine jr_callV (pc := 11) (As := [_]) F M (lw_V q3276 q3278 qs46 q143 q3279) dX3_outputByte_11 hM_fail rfl (Nat.le_of_ble_eq_true rfl) (Nat.le_of_ble_eq_true rfl) (Nat.le_of_ble_eq_true rfl) (jj_set_self _ _ _) rfl rfl (Nat.zero_le _) (cM_fail S hs w) (fun v9 h9 q9 => ?_) (fun _ _ _ q9 => q9.elim)
    obtain ⟨r3, ms2, rfl, rfl, w⟩ := q9
    exact jr_iret (pc := 14) F M dX3_outputByte_14 (hQ _ _ w)

theorem cM_outputByte {G : jj_G} {l : Launch} (S : jj_GS G l) {h0 : jj_H} {m0 : Nat} (hs : jj_hs G h0 m0) {x1 : Int} {ms : jj_MS} {Q : Int → jj_MS → Prop} (w : fM_outputByte x1 Q ms) : jj_Ct G l yX3_outputByte (ws_ yX3_outputByte cX3_outputByte 2 (some (.int))) 1 21 [.inr (.inr (.inl (some m0))), .inl x1] (jj_mh h0 m0 ms) 0 (jm_Ni h0 m0 Q) jj_F0 := by
  refine jj_Ct.of S.1 (by decide +kernel) (Nat.le_of_ble_eq_true rfl) rfl (fun X hG hl F M O hnm => ?_)
  subst hG; subst hl
  exact sM_outputByte F M S hs (fun r ms q => ⟨r, ms, rfl, rfl, q⟩) _ _ w
theorem hM_outputByte : yX3_outputByte.cls = RX3 ∧ yX3_outputByte.cls ≠ "java/lang/invoke/MethodHandle" ∧ yX3_outputByte.cls ≠ "java/lang/invoke/VarHandle" ∧ (parseMethodDescriptor yX3_outputByte.desc).map (fun d => d.parameters.length) = some 1 := by decide +kernel
/-! copy([II[II)V -/
def fM_copy_l3 (f0 : Nat) (x1 : Int) (f2 : Nat) (x3 : Int) (Q : jj_MS → Prop) : Nat → Int → jj_MS → Prop
  | 0, _, _ => False
  | n + 1, x4, ms =>
  jj_r x4 ∧ (614 ≤ x4 → (
    Q ms)) ∧
  (¬ 614 ≤ x4 → (
    0 ≤ (x1 + x4) ∧ (x1 + x4) < jj_mn f0 ∧
    0 ≤ (x3 + x4) ∧ (x3 + x4) < jj_mn f2 ∧
    ∀ ms1, ms1 = jj_mA ms f2 (x3 + x4) (ms.2 f0 (x1 + x4)) →
    ∀ v2, v2 = x4 + 1 →
    fM_copy_l3 f0 x1 f2 x3 Q n v2 ms1))

def fM_copy (f0 : Nat) (x1 : Int) (f2 : Nat) (x3 : Int) (Q : jj_MS → Prop) (ms : jj_MS) : Prop :=
  ∃ n9, fM_copy_l3 f0 x1 f2 x3 Q n9 0 ms

theorem sM_copy_l3 {X : jj_X} {h0 : jj_H} {m0 k : Nat} {N : Option jj_AV → jj_H → Prop} {XN : String → Nat → jj_H → Prop} (F : jj_F X RX3 cX3_copy 5) (M : jj_M X (none) 0 0 N XN) (S : jj_GS X.1 X.2.2.1) (hs : jj_hs X.1 h0 m0) {Q : jj_MS → Prop} (hQ : ∀ ms, Q ms → N none (jj_mh h0 m0 ms)) {f0 : Nat} {f2 : Nat} (hf0 : f0 < 45 ∧ jj_mt f0 = some (jj_mo f0, 0, jj_mn f0) ∧ jj_mn f0 < 2147483648) (hf2 : f2 < 45 ∧ jj_mt f2 = some (jj_mo f2, 0, jj_mn f2) ∧ jj_mn f2 < 2147483648) (x1 : Int) (x3 : Int) : ∀ (n : Nat) (x4 : Int) (ms : jj_MS), fM_copy_l3 f0 x1 f2 x3 Q n x4 ms → jj_J X 5 3 [(0, .inr (.inr (.inl (some (m0 + 1 + jj_mo f0))))), (1, .inl x1), (2, .inr (.inr (.inl (some (m0 + 1 + jj_mo f2))))), (3, .inl x3), (4, .inl x4)] [] (jj_mh h0 m0 ms) k := by
  intro n
  induction n with
  | zero =>
    intro x4 ms w
    exact (show False from w).elim
  | succ n ih =>
    intro x4 ms w
    rw [fM_copy_l3] at w
    refine jr_iload (pc := 3) F (j := 4) dX3_copy_3 rfl ?_
    refine jr_sipush (pc := 5) F dX3_copy_5 (by decide +kernel) ?_
    obtain ⟨hx9, w1, w2⟩ := w
    refine jr_icmp_ge (pc := 8) (tgt := 29) F hx9 ⟨by decide, by decide⟩ dX3_copy_8 rfl (fun c9 => ?_) (fun c9 => ?_)
    · have w := w1 c9
      exact jr_vret (pc := 29) F M dX3_copy_29 (hQ _ w)
    · have w := w2 c9
      refine jr_aload_n (pc := 11) F (j := 2) dX3_copy_11 rfl ?_
      refine jr_iload_n (pc := 12) F (j := 3) dX3_copy_12 rfl ?_
      refine jr_iload (pc := 13) F (j := 4) dX3_copy_13 rfl ?_
      refine jr_iadd (pc := 15) F dX3_copy_15 ?_
      refine jr_aload_n (pc := 16) F (j := 0) dX3_copy_16 rfl ?_
      refine jr_iload_n (pc := 17) F (j := 1) dX3_copy_17 rfl ?_
      refine jr_iload (pc := 18) F (j := 4) dX3_copy_18 rfl ?_
      refine jr_iadd (pc := 20) F dX3_copy_20 ?_
      obtain ⟨hi1, hi2, w⟩ := w
      refine jm_iald (pc := 21) (f := f0) (o := (jj_mo f0)) F hf0.2.1 hf0.2.2 hi1 hi2 dX3_copy_21 ?_
      obtain ⟨hi1, hi2, w⟩ := w
      have w := w _ rfl
      refine jm_iast (pc := 22) (f := f2) (o := (jj_mo f2)) F hf2.1 hf2.2.1 hf2.2.2 hi1 hi2 dX3_copy_22 ?_
      have w := w _ rfl
      refine jr_iinc (pc := 23) F (j := 4) (vs' := [(4, .inl _), (0, .inr (.inr (.inl _))), (1, .inl _), (2, .inr (.inr (.inl _))), (3, .inl _)]) dX3_copy_23 rfl rfl (Nat.le_of_ble_eq_true rfl) rfl ?_
      refine jr_goto (pc := 26) (tgt := 3) F dX3_copy_26 rfl ?_
      refine jj_J.sub [1, 2, 3, 4, 0] rfl ?_
      exact ih _ _ w

theorem sM_copy {X : jj_X} {h0 : jj_H} {m0 k : Nat} {N : Option jj_AV → jj_H → Prop} {XN : String → Nat → jj_H → Prop} (F : jj_F X RX3 cX3_copy 5) (M : jj_M X (none) 0 0 N XN) (S : jj_GS X.1 X.2.2.1) (hs : jj_hs X.1 h0 m0) {Q : jj_MS → Prop} (hQ : ∀ ms, Q ms → N none (jj_mh h0 m0 ms)) {f0 : Nat} (hf0 : f0 < 45 ∧ jj_mt f0 = some (jj_mo f0, 0, jj_mn f0) ∧ jj_mn f0 < 2147483648) {f2 : Nat} (hf2 : f2 < 45 ∧ jj_mt f2 = some (jj_mo f2, 0, jj_mn f2) ∧ jj_mn f2 < 2147483648) : ∀ (x1 : Int) (x3 : Int) (ms : jj_MS), fM_copy f0 x1 f2 x3 Q ms → jj_J X 5 0 [(0, .inr (.inr (.inl (some (m0 + 1 + jj_mo f0))))), (1, .inl x1), (2, .inr (.inr (.inl (some (m0 + 1 + jj_mo f2))))), (3, .inl x3)] [] (jj_mh h0 m0 ms) k := by
  intro x1 x3 ms w
  unfold fM_copy at w
  refine jr_iconst (pc := 0) F dX3_copy_0 ?_
  refine jr_istore (pc := 1) F (vs' := [(4, .inl _), (0, .inr (.inr (.inl _))), (1, .inl _), (2, .inr (.inr (.inl _))), (3, .inl _)]) dX3_copy_1 (Nat.le_of_ble_eq_true rfl) rfl ?_
  refine jj_J.sub [1, 2, 3, 4, 0] rfl ?_
  obtain ⟨n9, w⟩ := w
  exact sM_copy_l3 F M S hs hQ hf0 hf2 _ _ n9 _ _ w

theorem cM_copy {G : jj_G} {l : Launch} (S : jj_GS G l) {h0 : jj_H} {m0 : Nat} (hs : jj_hs G h0 m0) {f0 : Nat} (hf0 : f0 < 45 ∧ jj_mt f0 = some (jj_mo f0, 0, jj_mn f0) ∧ jj_mn f0 < 2147483648) {x1 : Int} {f2 : Nat} (hf2 : f2 < 45 ∧ jj_mt f2 = some (jj_mo f2, 0, jj_mn f2) ∧ jj_mn f2 < 2147483648) {x3 : Int} {ms : jj_MS} {Q : jj_MS → Prop} (w : fM_copy f0 x1 f2 x3 Q ms) : jj_Ct G l yX3_copy (ws_ yX3_copy cX3_copy 5 (none)) 0 0 [.inr (.inr (.inl (some (m0 + 1 + jj_mo f0)))), .inl x1, .inr (.inr (.inl (some (m0 + 1 + jj_mo f2)))), .inl x3] (jj_mh h0 m0 ms) 0 (jm_Nv h0 m0 Q) jj_F0 := by
  refine jj_Ct.of S.1 (by decide +kernel) (Nat.le_of_ble_eq_true rfl) rfl (fun X hG hl F M O hnm => ?_)
  subst hG; subst hl
  exact sM_copy F M S hs (fun ms q => ⟨ms, rfl, rfl, q⟩) hf0 hf2 _ _ _ w
theorem hM_copy : yX3_copy.cls = RX3 ∧ yX3_copy.cls ≠ "java/lang/invoke/MethodHandle" ∧ yX3_copy.cls ≠ "java/lang/invoke/VarHandle" ∧ (parseMethodDescriptor yX3_copy.desc).map (fun d => d.parameters.length) = some 4 := by decide +kernel
/-! copyWords([JI[JI)V -/
def fM_copyWords_l3 (f0 : Nat) (x1 : Int) (f2 : Nat) (x3 : Int) (Q : jj_MS → Prop) : Nat → Int → jj_MS → Prop
  | 0, _, _ => False
  | n + 1, x4, ms =>
  jj_r x4 ∧ (606 ≤ x4 → (
    Q ms)) ∧
  (¬ 606 ≤ x4 → (
    0 ≤ (x1 + x4) ∧ (x1 + x4) < jj_mn f0 ∧
    0 ≤ (x3 + x4) ∧ (x3 + x4) < jj_mn f2 ∧
    ∀ ms1, ms1 = jj_mA ms f2 (x3 + x4) (ms.2 f0 (x1 + x4)) →
    ∀ v2, v2 = x4 + 1 →
    fM_copyWords_l3 f0 x1 f2 x3 Q n v2 ms1))

def fM_copyWords (f0 : Nat) (x1 : Int) (f2 : Nat) (x3 : Int) (Q : jj_MS → Prop) (ms : jj_MS) : Prop :=
  ∃ n9, fM_copyWords_l3 f0 x1 f2 x3 Q n9 0 ms

theorem sM_copyWords_l3 {X : jj_X} {h0 : jj_H} {m0 k : Nat} {N : Option jj_AV → jj_H → Prop} {XN : String → Nat → jj_H → Prop} (F : jj_F X RX3 cX3_copyWords 5) (M : jj_M X (none) 0 0 N XN) (S : jj_GS X.1 X.2.2.1) (hs : jj_hs X.1 h0 m0) {Q : jj_MS → Prop} (hQ : ∀ ms, Q ms → N none (jj_mh h0 m0 ms)) {f0 : Nat} {f2 : Nat} (hf0 : f0 < 45 ∧ jj_mt f0 = some (jj_mo f0, 1, jj_mn f0) ∧ jj_mn f0 < 2147483648) (hf2 : f2 < 45 ∧ jj_mt f2 = some (jj_mo f2, 1, jj_mn f2) ∧ jj_mn f2 < 2147483648) (x1 : Int) (x3 : Int) : ∀ (n : Nat) (x4 : Int) (ms : jj_MS), fM_copyWords_l3 f0 x1 f2 x3 Q n x4 ms → jj_J X 5 3 [(0, .inr (.inr (.inl (some (m0 + 1 + jj_mo f0))))), (1, .inl x1), (2, .inr (.inr (.inl (some (m0 + 1 + jj_mo f2))))), (3, .inl x3), (4, .inl x4)] [] (jj_mh h0 m0 ms) k := by
  intro n
  induction n with
  | zero =>
    intro x4 ms w
    exact (show False from w).elim
  | succ n ih =>
    intro x4 ms w
    rw [fM_copyWords_l3] at w
    refine jr_iload (pc := 3) F (j := 4) dX3_copyWords_3 rfl ?_
    refine jr_sipush (pc := 5) F dX3_copyWords_5 (by decide +kernel) ?_
    obtain ⟨hx9, w1, w2⟩ := w
    refine jr_icmp_ge (pc := 8) (tgt := 29) F hx9 ⟨by decide, by decide⟩ dX3_copyWords_8 rfl (fun c9 => ?_) (fun c9 => ?_)
    · have w := w1 c9
      exact jr_vret (pc := 29) F M dX3_copyWords_29 (hQ _ w)
    · have w := w2 c9
      refine jr_aload_n (pc := 11) F (j := 2) dX3_copyWords_11 rfl ?_
      refine jr_iload_n (pc := 12) F (j := 3) dX3_copyWords_12 rfl ?_
      refine jr_iload (pc := 13) F (j := 4) dX3_copyWords_13 rfl ?_
      refine jr_iadd (pc := 15) F dX3_copyWords_15 ?_
      refine jr_aload_n (pc := 16) F (j := 0) dX3_copyWords_16 rfl ?_
      refine jr_iload_n (pc := 17) F (j := 1) dX3_copyWords_17 rfl ?_
      refine jr_iload (pc := 18) F (j := 4) dX3_copyWords_18 rfl ?_
      refine jr_iadd (pc := 20) F dX3_copyWords_20 ?_
      obtain ⟨hi1, hi2, w⟩ := w
      refine jm_lald (pc := 21) (f := f0) (o := (jj_mo f0)) F hf0.2.1 hf0.2.2 hi1 hi2 dX3_copyWords_21 ?_
      obtain ⟨hi1, hi2, w⟩ := w
      have w := w _ rfl
      refine jm_last (pc := 22) (f := f2) (o := (jj_mo f2)) F hf2.1 hf2.2.1 hf2.2.2 hi1 hi2 dX3_copyWords_22 ?_
      have w := w _ rfl
      refine jr_iinc (pc := 23) F (j := 4) (vs' := [(4, .inl _), (0, .inr (.inr (.inl _))), (1, .inl _), (2, .inr (.inr (.inl _))), (3, .inl _)]) dX3_copyWords_23 rfl rfl (Nat.le_of_ble_eq_true rfl) rfl ?_
      refine jr_goto (pc := 26) (tgt := 3) F dX3_copyWords_26 rfl ?_
      refine jj_J.sub [1, 2, 3, 4, 0] rfl ?_
      exact ih _ _ w

theorem sM_copyWords {X : jj_X} {h0 : jj_H} {m0 k : Nat} {N : Option jj_AV → jj_H → Prop} {XN : String → Nat → jj_H → Prop} (F : jj_F X RX3 cX3_copyWords 5) (M : jj_M X (none) 0 0 N XN) (S : jj_GS X.1 X.2.2.1) (hs : jj_hs X.1 h0 m0) {Q : jj_MS → Prop} (hQ : ∀ ms, Q ms → N none (jj_mh h0 m0 ms)) {f0 : Nat} (hf0 : f0 < 45 ∧ jj_mt f0 = some (jj_mo f0, 1, jj_mn f0) ∧ jj_mn f0 < 2147483648) {f2 : Nat} (hf2 : f2 < 45 ∧ jj_mt f2 = some (jj_mo f2, 1, jj_mn f2) ∧ jj_mn f2 < 2147483648) : ∀ (x1 : Int) (x3 : Int) (ms : jj_MS), fM_copyWords f0 x1 f2 x3 Q ms → jj_J X 5 0 [(0, .inr (.inr (.inl (some (m0 + 1 + jj_mo f0))))), (1, .inl x1), (2, .inr (.inr (.inl (some (m0 + 1 + jj_mo f2))))), (3, .inl x3)] [] (jj_mh h0 m0 ms) k := by
  intro x1 x3 ms w
  unfold fM_copyWords at w
  refine jr_iconst (pc := 0) F dX3_copyWords_0 ?_
  refine jr_istore (pc := 1) F (vs' := [(4, .inl _), (0, .inr (.inr (.inl _))), (1, .inl _), (2, .inr (.inr (.inl _))), (3, .inl _)]) dX3_copyWords_1 (Nat.le_of_ble_eq_true rfl) rfl ?_
  refine jj_J.sub [1, 2, 3, 4, 0] rfl ?_
  obtain ⟨n9, w⟩ := w
  exact sM_copyWords_l3 F M S hs hQ hf0 hf2 _ _ n9 _ _ w

theorem cM_copyWords {G : jj_G} {l : Launch} (S : jj_GS G l) {h0 : jj_H} {m0 : Nat} (hs : jj_hs G h0 m0) {f0 : Nat} (hf0 : f0 < 45 ∧ jj_mt f0 = some (jj_mo f0, 1, jj_mn f0) ∧ jj_mn f0 < 2147483648) {x1 : Int} {f2 : Nat} (hf2 : f2 < 45 ∧ jj_mt f2 = some (jj_mo f2, 1, jj_mn f2) ∧ jj_mn f2 < 2147483648) {x3 : Int} {ms : jj_MS} {Q : jj_MS → Prop} (w : fM_copyWords f0 x1 f2 x3 Q ms) : jj_Ct G l yX3_copyWords (ws_ yX3_copyWords cX3_copyWords 5 (none)) 0 0 [.inr (.inr (.inl (some (m0 + 1 + jj_mo f0)))), .inl x1, .inr (.inr (.inl (some (m0 + 1 + jj_mo f2)))), .inl x3] (jj_mh h0 m0 ms) 0 (jm_Nv h0 m0 Q) jj_F0 := by
  refine jj_Ct.of S.1 (by decide +kernel) (Nat.le_of_ble_eq_true rfl) rfl (fun X hG hl F M O hnm => ?_)
  subst hG; subst hl
  exact sM_copyWords F M S hs (fun ms q => ⟨ms, rfl, rfl, q⟩) hf0 hf2 _ _ _ w
theorem hM_copyWords : yX3_copyWords.cls = RX3 ∧ yX3_copyWords.cls ≠ "java/lang/invoke/MethodHandle" ∧ yX3_copyWords.cls ≠ "java/lang/invoke/VarHandle" ∧ (parseMethodDescriptor yX3_copyWords.desc).map (fun d => d.parameters.length) = some 4 := by decide +kernel
/-! isFine()Z -/
def fM_isFine (Q : Int → jj_MS → Prop) (ms : jj_MS) : Prop :=
  jj_r (ms.1 40) ∧ (¬ (ms.1 40) = 0 → (
    Q 0 ms)) ∧
  ((ms.1 40) = 0 → (
    Q 1 ms))

theorem sM_isFine {X : jj_X} {h0 : jj_H} {m0 k : Nat} {N : Option jj_AV → jj_H → Prop} {XN : String → Nat → jj_H → Prop} (F : jj_F X RX3 cX3_isFine 1) (M : jj_M X (some (.boolean)) 0 0 N XN) (S : jj_GS X.1 X.2.2.1) (hs : jj_hs X.1 h0 m0) {Q : Int → jj_MS → Prop} (hQ : ∀ r ms, Q r ms → N (some (.inl r)) (jj_mh h0 m0 ms)) : ∀ (ms : jj_MS), fM_isFine Q ms → jj_J X 1 0 [(0, .inr (.inr (.inl (some m0))))] [] (jj_mh h0 m0 ms) k := by
  intro  ms w
  unfold fM_isFine at w
  refine jr_aload_n (pc := 0) F (j := 0) dX3_isFine_0 rfl ?_
  refine jm_get (pc := 1) (f := 40) (v := .inl _) F (Nat.le_of_ble_eq_true rfl) q3170 rfl rfl dX3_isFine_1 ?_
  obtain ⟨hx9, w1, w2⟩ := w
  refine jr_if_ne (pc := 4) (tgt := 11) F hx9 dX3_isFine_4 rfl (fun c9 => ?_) (fun c9 => ?_)
  · have w := w1 c9
    refine jr_iconst (pc := 11) F dX3_isFine_11 ?_
    exact jr_zret (pc := 12) F M dX3_isFine_12 (by decide) (hQ _ _ w)
  · have w := w2 c9
    refine jr_iconst (pc := 7) F dX3_isFine_7 ?_
    refine jr_goto (pc := 8) (tgt := 12) F dX3_isFine_8 rfl ?_
    exact jr_zret (pc := 12) F M dX3_isFine_12 (by decide) (hQ _ _ w)

theorem cM_isFine {G : jj_G} {l : Launch} (S : jj_GS G l) {h0 : jj_H} {m0 : Nat} (hs : jj_hs G h0 m0) {ms : jj_MS} {Q : Int → jj_MS → Prop} (w : fM_isFine Q ms) : jj_Ct G l yX3_isFine (ws_ yX3_isFine cX3_isFine 1 (some (.boolean))) 0 0 [.inr (.inr (.inl (some m0)))] (jj_mh h0 m0 ms) 0 (jm_Ni h0 m0 Q) jj_F0 := by
  refine jj_Ct.of S.1 (by decide +kernel) (Nat.le_of_ble_eq_true rfl) rfl (fun X hG hl F M O hnm => ?_)
  subst hG; subst hl
  exact sM_isFine F M S hs (fun r ms q => ⟨r, ms, rfl, rfl, q⟩) _ w
theorem hM_isFine : yX3_isFine.cls = RX3 ∧ yX3_isFine.cls ≠ "java/lang/invoke/MethodHandle" ∧ yX3_isFine.cls ≠ "java/lang/invoke/VarHandle" ∧ (parseMethodDescriptor yX3_isFine.desc).map (fun d => d.parameters.length) = some 0 := by decide +kernel
/-! isDigit(I)Z -/
def fM_isDigit (x0 : Int) (Q : Int → jj_MS → Prop) (ms : jj_MS) : Prop :=
  fM_isBetween x0 48 57 (fun r2 ms1 =>
  (r2 = 0 ∨ r2 = 1) ∧ Q r2 ms1) ms

theorem sM_isDigit {X : jj_X} {h0 : jj_H} {m0 k : Nat} {N : Option jj_AV → jj_H → Prop} {XN : String → Nat → jj_H → Prop} (F : jj_F X RX3 cX3_isDigit 1) (M : jj_M X (some (.boolean)) 1 22 N XN) (S : jj_GS X.1 X.2.2.1) (hs : jj_hs X.1 h0 m0) {Q : Int → jj_MS → Prop} (hQ : ∀ r ms, Q r ms → N (some (.inl r)) (jj_mh h0 m0 ms)) : ∀ (x0 : Int) (ms : jj_MS), fM_isDigit x0 Q ms → jj_J X 1 0 [(0, .inl x0)] [] (jj_mh h0 m0 ms) k := by
  intro x0 ms w
  unfold fM_isDigit at w
  refine jr_iload_n (pc := 0) F (j := 0) dX3_isDigit_0 rfl ?_
  refine jr_bipush (pc := 1) F dX3_isDigit_1 (by decide +kernel) ?_
  refine jr_bipush (pc := 3) F dX3_isDigit_3 (by decide +kernel) ?_
  refine jr_callS (pc := 5) (As := [_, _, _]) F M (lw_S q3284 q3285 q143 q3286) dX3_isDigit_5 hM_isBetween.2 rfl (Nat.le_of_ble_eq_true rfl) (Nat.le_of_ble_eq_true rfl) (Nat.le_of_ble_eq_true rfl) (Nat.zero_le _) (cM_isBetween S hs w) (fun v9 h9 q9 => ?_) (fun _ _ _ q9 => q9.elim)
  obtain ⟨r2, ms1, rfl, rfl, w⟩ := q9
  exact jr_zret (pc := 8) F M dX3_isDigit_8 w.1 (hQ _ _ w.2)

theorem cM_isDigit {G : jj_G} {l : Launch} (S : jj_GS G l) {h0 : jj_H} {m0 : Nat} (hs : jj_hs G h0 m0) {x0 : Int} {ms : jj_MS} {Q : Int → jj_MS → Prop} (w : fM_isDigit x0 Q ms) : jj_Ct G l yX3_isDigit (ws_ yX3_isDigit cX3_isDigit 1 (some (.boolean))) 1 22 [.inl x0] (jj_mh h0 m0 ms) 0 (jm_Ni h0 m0 Q) jj_F0 := by
  refine jj_Ct.of S.1 (by decide +kernel) (Nat.le_of_ble_eq_true rfl) rfl (fun X hG hl F M O hnm => ?_)
  subst hG; subst hl
  exact sM_isDigit F M S hs (fun r ms q => ⟨r, ms, rfl, rfl, q⟩) _ _ w
theorem hM_isDigit : yX3_isDigit.cls = RX3 ∧ yX3_isDigit.cls ≠ "java/lang/invoke/MethodHandle" ∧ yX3_isDigit.cls ≠ "java/lang/invoke/VarHandle" ∧ (parseMethodDescriptor yX3_isDigit.desc).map (fun d => d.parameters.length) = some 1 := by decide +kernel
/-! nextToken()V -/
def fM_nextToken_j275 (y1 : Int) (Q : jj_MS → Prop) (ms : jj_MS) : Prop :=
  ∀ ms1, ms1 = jj_mI ms 37 y1 →
  ∀ ms2, ms2 = jj_mI ms1 35 ((ms1.1 35) + 1) →
  Q ms2

def fM_nextToken_j226 (K175 : jj_MS → Prop) (y1 : Int) (Q : jj_MS → Prop) (ms : jj_MS) : Prop :=
  ∀ ms3, ms3 = jj_mI ms 39 y1 →
  ∀ ms4, ms4 = jj_mI ms3 35 ((ms3.1 35) + 1) →
  K175 ms4

def fM_nextToken_l175 (Q : jj_MS → Prop) : Nat → jj_MS → Prop
  | 0, _ => False
  | n + 1, ms =>
  fM_byteAt (ms.1 35) (fun r6 ms5 =>
  fM_isDigit r6 (fun r8 ms7 =>
  jj_r r8 ∧ (r8 = 0 → (
    Q ms7)) ∧
  (¬ r8 = 0 → (
    jj_r (ms7.1 39) ∧ ((ms7.1 39) ≤ 100000 → (
      fM_byteAt (ms7.1 35) (fun r10 ms9 =>
      fM_nextToken_j226 (fM_nextToken_l175 Q n) (((10 * (ms7.1 39)) + r10) - 48) Q ms9) ms7)) ∧
    (¬ (ms7.1 39) ≤ 100000 → (
      fM_nextToken_j226 (fM_nextToken_l175 Q n) (ms7.1 39) Q ms7))))) ms5) ms

def fM_nextToken_j137 (K84 : jj_MS → Prop) (y1 : Int) (Q : jj_MS → Prop) (ms : jj_MS) : Prop :=
  ∀ ms11, ms11 = jj_mI ms 42 y1 →
  ∀ ms12, ms12 = jj_mI ms11 38 ((ms11.1 38) + 1) →
  ∀ ms13, ms13 = jj_mI ms12 35 ((ms12.1 35) + 1) →
  K84 ms13

def fM_nextToken_l84 (Q : jj_MS → Prop) : Nat → jj_MS → Prop
  | 0, _ => False
  | n + 1, ms =>
  fM_byteAt (ms.1 35) (fun r15 ms14 =>
  fM_isLetter r15 (fun r17 ms16 =>
  jj_r r17 ∧ (r17 = 0 → (
    Q ms16)) ∧
  (¬ r17 = 0 → (
    jj_r (ms16.1 38) ∧ (12 ≤ (ms16.1 38) → (
      fM_nextToken_j137 (fM_nextToken_l84 Q n) (ms16.1 42) Q ms16)) ∧
    (¬ 12 ≤ (ms16.1 38) → (
      fM_byteAt (ms16.1 35) (fun r19 ms18 =>
      fM_nextToken_j137 (fM_nextToken_l84 Q n) (((27 * (ms16.1 42)) + (jj_i2l r19)) - 96) Q ms18) ms16))))) ms14) ms

def fM_nextToken_l0 (Q : jj_MS → Prop) : Nat → jj_MS → Prop
  | 0, _ => False
  | n + 1, ms =>
  fM_byteAt (ms.1 35) (fun r21 ms20 =>
  fM_isBlank r21 (fun r23 ms22 =>
  jj_r r23 ∧ (r23 = 0 → (
    ∀ ms24, ms24 = jj_mI ms22 36 (ms22.1 35) →
    ∀ ms25, ms25 = jj_mI ms24 38 0 →
    ∀ ms26, ms26 = jj_mI ms25 42 0 →
    ∀ ms27, ms27 = jj_mI ms26 39 0 →
    fM_byteAt (ms27.1 35) (fun r29 ms28 =>
    jj_r r29 ∧ (¬ r29 = ((-1)) → (
      fM_isLetter r29 (fun r31 ms30 =>
      jj_r r31 ∧ (r31 = 0 → (
        fM_isDigit r29 (fun r33 ms32 =>
        jj_r r33 ∧ (r33 = 0 → (
          jj_r r29 ∧ (¬ r29 = 59 → (
            jj_r r29 ∧ (¬ r29 = 47 → (
              jj_r r29 ∧ (¬ r29 = 34 → (
                fM_nextToken_j275 1 Q ms32)) ∧
              (r29 = 34 → (
                fM_nextToken_j275 6 Q ms32)))) ∧
            (r29 = 47 → (
              fM_nextToken_j275 5 Q ms32)))) ∧
          (r29 = 59 → (
            fM_nextToken_j275 4 Q ms32)))) ∧
        (¬ r33 = 0 → (
          ∀ ms34, ms34 = jj_mI ms32 37 3 →
          ∃ n9, fM_nextToken_l175 Q n9 ms34))) ms30)) ∧
      (¬ r31 = 0 → (
        ∀ ms35, ms35 = jj_mI ms30 37 2 →
        ∃ n9, fM_nextToken_l84 Q n9 ms35))) ms28)) ∧
    (r29 = ((-1)) → (
      ∀ ms36, ms36 = jj_mI ms28 37 0 →
      Q ms36))) ms27)) ∧
  (¬ r23 = 0 → (
    ∀ ms37, ms37 = jj_mI ms22 35 ((ms22.1 35) + 1) →
    fM_nextToken_l0 Q n ms37))) ms20) ms

def fM_nextToken (Q : jj_MS → Prop) (ms : jj_MS) : Prop :=
  ∃ n9, fM_nextToken_l0 Q n9 ms

theorem sM_nextToken_j275 {X : jj_X} {h0 : jj_H} {m0 k : Nat} {N : Option jj_AV → jj_H → Prop} {XN : String → Nat → jj_H → Prop} (F : jj_F X RX3 cX3_nextToken 2) (M : jj_M X (none) 2 42 N XN) (S : jj_GS X.1 X.2.2.1) (hs : jj_hs X.1 h0 m0) {Q : jj_MS → Prop} (hQ : ∀ ms, Q ms → N none (jj_mh h0 m0 ms)) : ∀ (y1 : Int) (ms : jj_MS), fM_nextToken_j275 y1 Q ms → jj_J X 2 275 [(0, .inr (.inr (.inl (some m0))))] [.inl y1, .inr (.inr (.inl (some m0)))] (jj_mh h0 m0 ms) k := by
  intro y1 ms w
  unfold fM_nextToken_j275 at w
  have w := w _ rfl
  refine jm_put (pc := 275) (f := 37) F (Nat.le_of_ble_eq_true rfl) q3167 rfl rfl rfl rfl rfl rfl dX3_nextToken_275 ?_
  refine jr_aload_n (pc := 278) F (j := 0) dX3_nextToken_278 rfl ?_
  refine jr_dup (pc := 279) F dX3_nextToken_279 rfl ?_
  refine jm_get (pc := 280) (f := 35) (v := .inl _) F (Nat.le_of_ble_eq_true rfl) q3165 rfl rfl dX3_nextToken_280 ?_
  refine jr_iconst (pc := 283) F dX3_nextToken_283 ?_
  refine jr_iadd (pc := 284) F dX3_nextToken_284 ?_
  have w := w _ rfl
  refine jm_put (pc := 285) (f := 35) F (Nat.le_of_ble_eq_true rfl) q3165 rfl rfl rfl rfl rfl rfl dX3_nextToken_285 ?_
  exact jr_vret (pc := 288) F M dX3_nextToken_288 (hQ _ w)

theorem sM_nextToken_j226 {X : jj_X} {h0 : jj_H} {m0 k : Nat} {N : Option jj_AV → jj_H → Prop} {XN : String → Nat → jj_H → Prop} (F : jj_F X RX3 cX3_nextToken 2) (M : jj_M X (none) 2 42 N XN) (S : jj_GS X.1 X.2.2.1) (hs : jj_hs X.1 h0 m0) {Q : jj_MS → Prop} (hQ : ∀ ms, Q ms → N none (jj_mh h0 m0 ms)) {K175 : jj_MS → Prop} (hK175 : ∀ (ms : jj_MS), K175 ms → jj_J X 2 175 [(0, .inr (.inr (.inl (some m0))))] [] (jj_mh h0 m0 ms) k) : ∀ (y1 : Int) (ms : jj_MS), fM_nextToken_j226 K175 y1 Q ms → jj_J X 2 226 [(0, .inr (.inr (.inl (some m0))))] [.inl y1, .inr (.inr (.inl (some m0)))] (jj_mh h0 m0 ms) k := by
  intro y1 ms w
  unfold fM_nextToken_j226 at w
  have w := w _ rfl
  refine jm_put (pc := 226) (f := 39) F (Nat.le_of_ble_eq_true rfl) q3169 rfl rfl rfl rfl rfl rfl dX3_nextToken_226 ?_
  refine jr_aload_n (pc := 229) F (j := 0) dX3_nextToken_229 rfl ?_
  refine jr_dup (pc := 230) F dX3_nextToken_230 rfl ?_
  refine jm_get (pc := 231) (f := 35) (v := .inl _) F (Nat.le_of_ble_eq_true rfl) q3165 rfl rfl dX3_nextToken_231 ?_
  refine jr_iconst (pc := 234) F dX3_nextToken_234 ?_
  refine jr_iadd (pc := 235) F dX3_nextToken_235 ?_
  have w := w _ rfl
  refine jm_put (pc := 236) (f := 35) F (Nat.le_of_ble_eq_true rfl) q3165 rfl rfl rfl rfl rfl rfl dX3_nextToken_236 ?_
  refine jr_goto (pc := 239) (tgt := 175) F dX3_nextToken_239 rfl ?_
  exact hK175 _ w

theorem sM_nextToken_l175 {X : jj_X} {h0 : jj_H} {m0 k : Nat} {N : Option jj_AV → jj_H → Prop} {XN : String → Nat → jj_H → Prop} (F : jj_F X RX3 cX3_nextToken 2) (M : jj_M X (none) 2 42 N XN) (S : jj_GS X.1 X.2.2.1) (hs : jj_hs X.1 h0 m0) {Q : jj_MS → Prop} (hQ : ∀ ms, Q ms → N none (jj_mh h0 m0 ms)) : ∀ (n : Nat) (ms : jj_MS), fM_nextToken_l175 Q n ms → jj_J X 2 175 [(0, .inr (.inr (.inl (some m0))))] [] (jj_mh h0 m0 ms) k := by
  intro n
  induction n with
  | zero =>
    intro  ms w
    exact (show False from w).elim
  | succ n ih =>
    intro  ms w
    rw [fM_nextToken_l175] at w
    refine jr_aload_n (pc := 175) F (j := 0) dX3_nextToken_175 rfl ?_
    refine jr_aload_n (pc := 176) F (j := 0) dX3_nextToken_176 rfl ?_
    refine jm_get (pc := 177) (f := 35) (v := .inl _) F (Nat.le_of_ble_eq_true rfl) q3165 rfl rfl dX3_nextToken_177 ?_
    refine jr_callV (pc := 180) (As := [_]) F M (lw_V q3394 q3396 qs69 q143 q3397) dX3_nextToken_180 hM_byteAt rfl (Nat.le_of_ble_eq_true rfl) (Nat.le_of_ble_eq_true rfl) (Nat.le_of_ble_eq_true rfl) (jj_set_self _ _ _) rfl rfl (Nat.zero_le _) (cM_byteAt S hs w) (fun v9 h9 q9 => ?_) (fun _ _ _ q9 => q9.elim)
    obtain ⟨r6, ms5, rfl, rfl, w⟩ := q9
    refine jr_callS (pc := 183) (As := [_]) F M (lw_S q3671 q3672 q143 q3673) dX3_nextToken_183 hM_isDigit.2 rfl (Nat.le_of_ble_eq_true rfl) (Nat.le_of_ble_eq_true rfl) (Nat.le_of_ble_eq_true rfl) (Nat.zero_le _) (cM_isDigit S hs w) (fun v9 h9 q9 => ?_) (fun _ _ _ q9 => q9.elim)
    obtain ⟨r8, ms7, rfl, rfl, w⟩ := q9
    obtain ⟨hx9, w1, w2⟩ := w
    refine jr_if_eq (pc := 186) (tgt := 288) F hx9 dX3_nextToken_186 rfl (fun c9 => ?_) (fun c9 => ?_)
    · have w := w1 c9
      exact jr_vret (pc := 288) F M dX3_nextToken_288 (hQ _ w)
    · have w := w2 c9
      refine jr_aload_n (pc := 189) F (j := 0) dX3_nextToken_189 rfl ?_
      refine jr_aload_n (pc := 190) F (j := 0) dX3_nextToken_190 rfl ?_
      refine jm_get (pc := 191) (f := 39) (v := .inl _) F (Nat.le_of_ble_eq_true rfl) q3169 rfl rfl dX3_nextToken_191 ?_
      refine jr_ldcw (pc := 194) F (x := 100000) q3674 dX3_nextToken_194 (by decide +kernel) ?_
      obtain ⟨hx9, w1, w2⟩ := w
      refine jr_icmp_le (pc := 197) (tgt := 207) F hx9 ⟨by decide, by decide⟩ dX3_nextToken_197 rfl (fun c9 => ?_) (fun c9 => ?_)
      · have w := w1 c9
        refine jr_bipush (pc := 207) F dX3_nextToken_207 (by decide +kernel) ?_
        refine jr_aload_n (pc := 209) F (j := 0) dX3_nextToken_209 rfl ?_
        refine jm_get (pc := 210) (f := 39) (v := .inl _) F (Nat.le_of_ble_eq_true rfl) q3169 rfl rfl dX3_nextToken_210 ?_
        refine jr_imul (pc := 213) F dX3_nextToken_213 ?_
        refine jr_aload_n (pc := 214) F (j := 0) dX3_nextToken_214 rfl ?_
        refine jr_aload_n (pc := 215) F (j := 0) dX3_nextToken_215 rfl ?_
        refine jm_get (pc := 216) (f := 35) (v := .inl _) F (Nat.le_of_ble_eq_true rfl) q3165 rfl rfl dX3_nextToken_216 ?_
        refine jr_callV (pc := 219) (As := [_]) F M (lw_V q3394 q3396 qs69 q143 q3397) dX3_nextToken_219 hM_byteAt rfl (Nat.le_of_ble_eq_true rfl) (Nat.le_of_ble_eq_true rfl) (Nat.le_of_ble_eq_true rfl) (jj_set_self _ _ _) rfl rfl (Nat.zero_le _) (cM_byteAt S hs w) (fun v9 h9 q9 => ?_) (fun _ _ _ q9 => q9.elim)
        obtain ⟨r10, ms9, rfl, rfl, w⟩ := q9
        refine jr_iadd (pc := 222) F dX3_nextToken_222 ?_
        refine jr_bipush (pc := 223) F dX3_nextToken_223 (by decide +kernel) ?_
        refine jr_isub (pc := 225) F dX3_nextToken_225 ?_
        exact sM_nextToken_j226 F M S hs hQ ih _ _ w
      · have w := w2 c9
        refine jr_aload_n (pc := 200) F (j := 0) dX3_nextToken_200 rfl ?_
        refine jm_get (pc := 201) (f := 39) (v := .inl _) F (Nat.le_of_ble_eq_true rfl) q3169 rfl rfl dX3_nextToken_201 ?_
        refine jr_goto (pc := 204) (tgt := 226) F dX3_nextToken_204 rfl ?_
        exact sM_nextToken_j226 F M S hs hQ ih _ _ w

theorem sM_nextToken_j137 {X : jj_X} {h0 : jj_H} {m0 k : Nat} {N : Option jj_AV → jj_H → Prop} {XN : String → Nat → jj_H → Prop} (F : jj_F X RX3 cX3_nextToken 2) (M : jj_M X (none) 2 42 N XN) (S : jj_GS X.1 X.2.2.1) (hs : jj_hs X.1 h0 m0) {Q : jj_MS → Prop} (hQ : ∀ ms, Q ms → N none (jj_mh h0 m0 ms)) {K84 : jj_MS → Prop} (hK84 : ∀ (ms : jj_MS), K84 ms → jj_J X 2 84 [(0, .inr (.inr (.inl (some m0))))] [] (jj_mh h0 m0 ms) k) : ∀ (y1 : Int) (ms : jj_MS), fM_nextToken_j137 K84 y1 Q ms → jj_J X 2 137 [(0, .inr (.inr (.inl (some m0))))] [.inr (.inl y1), .inr (.inr (.inl (some m0)))] (jj_mh h0 m0 ms) k := by
  intro y1 ms w
  unfold fM_nextToken_j137 at w
  have w := w _ rfl
  refine jm_put (pc := 137) (f := 42) F (Nat.le_of_ble_eq_true rfl) q3172 rfl rfl rfl rfl rfl rfl dX3_nextToken_137 ?_
  refine jr_aload_n (pc := 140) F (j := 0) dX3_nextToken_140 rfl ?_
  refine jr_dup (pc := 141) F dX3_nextToken_141 rfl ?_
  refine jm_get (pc := 142) (f := 38) (v := .inl _) F (Nat.le_of_ble_eq_true rfl) q3168 rfl rfl dX3_nextToken_142 ?_
  refine jr_iconst (pc := 145) F dX3_nextToken_145 ?_
  refine jr_iadd (pc := 146) F dX3_nextToken_146 ?_
  have w := w _ rfl
  refine jm_put (pc := 147) (f := 38) F (Nat.le_of_ble_eq_true rfl) q3168 rfl rfl rfl rfl rfl rfl dX3_nextToken_147 ?_
  refine jr_aload_n (pc := 150) F (j := 0) dX3_nextToken_150 rfl ?_
  refine jr_dup (pc := 151) F dX3_nextToken_151 rfl ?_
  refine jm_get (pc := 152) (f := 35) (v := .inl _) F (Nat.le_of_ble_eq_true rfl) q3165 rfl rfl dX3_nextToken_152 ?_
  refine jr_iconst (pc := 155) F dX3_nextToken_155 ?_
  refine jr_iadd (pc := 156) F dX3_nextToken_156 ?_
  have w := w _ rfl
  refine jm_put (pc := 157) (f := 35) F (Nat.le_of_ble_eq_true rfl) q3165 rfl rfl rfl rfl rfl rfl dX3_nextToken_157 ?_
  refine jr_goto (pc := 160) (tgt := 84) F dX3_nextToken_160 rfl ?_
  exact hK84 _ w

theorem sM_nextToken_l84 {X : jj_X} {h0 : jj_H} {m0 k : Nat} {N : Option jj_AV → jj_H → Prop} {XN : String → Nat → jj_H → Prop} (F : jj_F X RX3 cX3_nextToken 2) (M : jj_M X (none) 2 42 N XN) (S : jj_GS X.1 X.2.2.1) (hs : jj_hs X.1 h0 m0) {Q : jj_MS → Prop} (hQ : ∀ ms, Q ms → N none (jj_mh h0 m0 ms)) : ∀ (n : Nat) (ms : jj_MS), fM_nextToken_l84 Q n ms → jj_J X 2 84 [(0, .inr (.inr (.inl (some m0))))] [] (jj_mh h0 m0 ms) k := by
  intro n
  induction n with
  | zero =>
    intro  ms w
    exact (show False from w).elim
  | succ n ih =>
    intro  ms w
    rw [fM_nextToken_l84] at w
    refine jr_aload_n (pc := 84) F (j := 0) dX3_nextToken_84 rfl ?_
    refine jr_aload_n (pc := 85) F (j := 0) dX3_nextToken_85 rfl ?_
    refine jm_get (pc := 86) (f := 35) (v := .inl _) F (Nat.le_of_ble_eq_true rfl) q3165 rfl rfl dX3_nextToken_86 ?_
    refine jr_callV (pc := 89) (As := [_]) F M (lw_V q3394 q3396 qs69 q143 q3397) dX3_nextToken_89 hM_byteAt rfl (Nat.le_of_ble_eq_true rfl) (Nat.le_of_ble_eq_true rfl) (Nat.le_of_ble_eq_true rfl) (jj_set_self _ _ _) rfl rfl (Nat.zero_le _) (cM_byteAt S hs w) (fun v9 h9 q9 => ?_) (fun _ _ _ q9 => q9.elim)
    obtain ⟨r15, ms14, rfl, rfl, w⟩ := q9
    refine jr_callS (pc := 92) (As := [_]) F M (lw_S q3398 q3399 q143 q3400) dX3_nextToken_92 hM_isLetter.2 rfl (Nat.le_of_ble_eq_true rfl) (Nat.le_of_ble_eq_true rfl) (Nat.le_of_ble_eq_true rfl) (Nat.zero_le _) (cM_isLetter S hs w) (fun v9 h9 q9 => ?_) (fun _ _ _ q9 => q9.elim)
    obtain ⟨r17, ms16, rfl, rfl, w⟩ := q9
    obtain ⟨hx9, w1, w2⟩ := w
    refine jr_if_eq (pc := 95) (tgt := 288) F hx9 dX3_nextToken_95 rfl (fun c9 => ?_) (fun c9 => ?_)
    · have w := w1 c9
      exact jr_vret (pc := 288) F M dX3_nextToken_288 (hQ _ w)
    · have w := w2 c9
      refine jr_aload_n (pc := 98) F (j := 0) dX3_nextToken_98 rfl ?_
      refine jr_aload_n (pc := 99) F (j := 0) dX3_nextToken_99 rfl ?_
      refine jm_get (pc := 100) (f := 38) (v := .inl _) F (Nat.le_of_ble_eq_true rfl) q3168 rfl rfl dX3_nextToken_100 ?_
      refine jr_bipush (pc := 103) F dX3_nextToken_103 (by decide +kernel) ?_
      obtain ⟨hx9, w1, w2⟩ := w
      refine jr_icmp_ge (pc := 105) (tgt := 133) F hx9 ⟨by decide, by decide⟩ dX3_nextToken_105 rfl (fun c9 => ?_) (fun c9 => ?_)
      · have w := w1 c9
        refine jr_aload_n (pc := 133) F (j := 0) dX3_nextToken_133 rfl ?_
        refine jm_get (pc := 134) (f := 42) (v := .inr (.inl _)) F (Nat.le_of_ble_eq_true rfl) q3172 rfl rfl dX3_nextToken_134 ?_
        exact sM_nextToken_j137 F M S hs hQ ih _ _ w
      · have w := w2 c9
        refine jr_ldc2 (pc := 108) F (x := 27) q3401 dX3_nextToken_108 (by decide +kernel) ?_
        refine jr_aload_n (pc := 111) F (j := 0) dX3_nextToken_111 rfl ?_
        refine jm_get (pc := 112) (f := 42) (v := .inr (.inl _)) F (Nat.le_of_ble_eq_true rfl) q3172 rfl rfl dX3_nextToken_112 ?_
        refine jr_lmul (pc := 115) F dX3_nextToken_115 ?_
        refine jr_aload_n (pc := 116) F (j := 0) dX3_nextToken_116 rfl ?_
        refine jr_aload_n (pc := 117) F (j := 0) dX3_nextToken_117 rfl ?_
        refine jm_get (pc := 118) (f := 35) (v := .inl _) F (Nat.le_of_ble_eq_true rfl) q3165 rfl rfl dX3_nextToken_118 ?_
        refine jr_callV (pc := 121) (As := [_]) F M (lw_V q3394 q3396 qs69 q143 q3397) dX3_nextToken_121 hM_byteAt rfl (Nat.le_of_ble_eq_true rfl) (Nat.le_of_ble_eq_true rfl) (Nat.le_of_ble_eq_true rfl) (jj_set_self _ _ _) rfl rfl (Nat.zero_le _) (cM_byteAt S hs w) (fun v9 h9 q9 => ?_) (fun _ _ _ q9 => q9.elim)
        obtain ⟨r19, ms18, rfl, rfl, w⟩ := q9
        refine jr_i2l (pc := 124) F dX3_nextToken_124 ?_
        refine jr_ladd (pc := 125) F dX3_nextToken_125 ?_
        refine jr_ldc2 (pc := 126) F (x := 96) q3402 dX3_nextToken_126 (by decide +kernel) ?_
        refine jr_lsub (pc := 129) F dX3_nextToken_129 ?_
        refine jr_goto (pc := 130) (tgt := 137) F dX3_nextToken_130 rfl ?_
        exact sM_nextToken_j137 F M S hs hQ ih _ _ w

theorem sM_nextToken_l0 {X : jj_X} {h0 : jj_H} {m0 k : Nat} {N : Option jj_AV → jj_H → Prop} {XN : String → Nat → jj_H → Prop} (F : jj_F X RX3 cX3_nextToken 2) (M : jj_M X (none) 2 42 N XN) (S : jj_GS X.1 X.2.2.1) (hs : jj_hs X.1 h0 m0) {Q : jj_MS → Prop} (hQ : ∀ ms, Q ms → N none (jj_mh h0 m0 ms)) : ∀ (n : Nat) (ms : jj_MS), fM_nextToken_l0 Q n ms → jj_J X 2 0 [(0, .inr (.inr (.inl (some m0))))] [] (jj_mh h0 m0 ms) k := by
  intro n
  induction n with
  | zero =>
    intro  ms w
    exact (show False from w).elim
  | succ n ih =>
    intro  ms w
    rw [fM_nextToken_l0] at w
    refine jr_aload_n (pc := 0) F (j := 0) dX3_nextToken_0 rfl ?_
    refine jr_aload_n (pc := 1) F (j := 0) dX3_nextToken_1 rfl ?_
    refine jm_get (pc := 2) (f := 35) (v := .inl _) F (Nat.le_of_ble_eq_true rfl) q3165 rfl rfl dX3_nextToken_2 ?_
    refine jr_callV (pc := 5) (As := [_]) F M (lw_V q3394 q3396 qs69 q143 q3397) dX3_nextToken_5 hM_byteAt rfl (Nat.le_of_ble_eq_true rfl) (Nat.le_of_ble_eq_true rfl) (Nat.le_of_ble_eq_true rfl) (jj_set_self _ _ _) rfl rfl (Nat.zero_le _) (cM_byteAt S hs w) (fun v9 h9 q9 => ?_) (fun _ _ _ q9 => q9.elim)
    obtain ⟨r21, ms20, rfl, rfl, w⟩ := q9
    refine jr_callS (pc := 8) (As := [_]) F M (lw_S q3403 q3404 q143 q3405) dX3_nextToken_8 hM_isBlank.2 rfl (Nat.le_of_ble_eq_true rfl) (Nat.le_of_ble_eq_true rfl) (Nat.le_of_ble_eq_true rfl) (Nat.zero_le _) (cM_isBlank S hs w) (fun v9 h9 q9 => ?_) (fun _ _ _ q9 => q9.elim)
    obtain ⟨r23, ms22, rfl, rfl, w⟩ := q9
    obtain ⟨hx9, w1, w2⟩ := w
    refine jr_if_eq (pc := 11) (tgt := 27) F hx9 dX3_nextToken_11 rfl (fun c9 => ?_) (fun c9 => ?_)
    · have w := w1 c9
      refine jr_aload_n (pc := 27) F (j := 0) dX3_nextToken_27 rfl ?_
      refine jr_aload_n (pc := 28) F (j := 0) dX3_nextToken_28 rfl ?_
      refine jm_get (pc := 29) (f := 35) (v := .inl _) F (Nat.le_of_ble_eq_true rfl) q3165 rfl rfl dX3_nextToken_29 ?_
      have w := w _ rfl
      refine jm_put (pc := 32) (f := 36) F (Nat.le_of_ble_eq_true rfl) q3166 rfl rfl rfl rfl rfl rfl dX3_nextToken_32 ?_
      refine jr_aload_n (pc := 35) F (j := 0) dX3_nextToken_35 rfl ?_
      refine jr_iconst (pc := 36) F dX3_nextToken_36 ?_
      have w := w _ rfl
      refine jm_put (pc := 37) (f := 38) F (Nat.le_of_ble_eq_true rfl) q3168 rfl rfl rfl rfl rfl rfl dX3_nextToken_37 ?_
      refine jr_aload_n (pc := 40) F (j := 0) dX3_nextToken_40 rfl ?_
      refine jr_lconst (pc := 41) F (x := 0) dX3_nextToken_41 (by decide +kernel) ?_
      have w := w _ rfl
      refine jm_put (pc := 42) (f := 42) F (Nat.le_of_ble_eq_true rfl) q3172 rfl rfl rfl rfl rfl rfl dX3_nextToken_42 ?_
      refine jr_aload_n (pc := 45) F (j := 0) dX3_nextToken_45 rfl ?_
      refine jr_iconst (pc := 46) F dX3_nextToken_46 ?_
      have w := w _ rfl
      refine jm_put (pc := 47) (f := 39) F (Nat.le_of_ble_eq_true rfl) q3169 rfl rfl rfl rfl rfl rfl dX3_nextToken_47 ?_
      refine jr_aload_n (pc := 50) F (j := 0) dX3_nextToken_50 rfl ?_
      refine jr_aload_n (pc := 51) F (j := 0) dX3_nextToken_51 rfl ?_
      refine jm_get (pc := 52) (f := 35) (v := .inl _) F (Nat.le_of_ble_eq_true rfl) q3165 rfl rfl dX3_nextToken_52 ?_
      refine jr_callV (pc := 55) (As := [_]) F M (lw_V q3394 q3396 qs69 q143 q3397) dX3_nextToken_55 hM_byteAt rfl (Nat.le_of_ble_eq_true rfl) (Nat.le_of_ble_eq_true rfl) (Nat.le_of_ble_eq_true rfl) (jj_set_self _ _ _) rfl rfl (Nat.zero_le _) (cM_byteAt S hs w) (fun v9 h9 q9 => ?_) (fun _ _ _ q9 => q9.elim)
      obtain ⟨r29, ms28, rfl, rfl, w⟩ := q9
      refine jr_istore_n (pc := 58) F (vs' := [(1, .inl _), (0, .inr (.inr (.inl _)))]) dX3_nextToken_58 (Nat.le_of_ble_eq_true rfl) rfl ?_
      refine jr_iload_n (pc := 59) F (j := 0) dX3_nextToken_59 rfl ?_
      refine jr_iconst (pc := 60) F dX3_nextToken_60 ?_
      obtain ⟨hx9, w1, w2⟩ := w
      refine jr_icmp_ne (pc := 61) (tgt := 72) F hx9 ⟨by decide, by decide⟩ dX3_nextToken_61 rfl (fun c9 => ?_) (fun c9 => ?_)
      · have w := w1 c9
        refine jr_iload_n (pc := 72) F (j := 0) dX3_nextToken_72 rfl ?_
        refine jr_callS (pc := 73) (As := [_]) F M (lw_S q3398 q3399 q143 q3400) dX3_nextToken_73 hM_isLetter.2 rfl (Nat.le_of_ble_eq_true rfl) (Nat.le_of_ble_eq_true rfl) (Nat.le_of_ble_eq_true rfl) (Nat.zero_le _) (cM_isLetter S hs w) (fun v9 h9 q9 => ?_) (fun _ _ _ q9 => q9.elim)
        obtain ⟨r31, ms30, rfl, rfl, w⟩ := q9
        obtain ⟨hx9, w1, w2⟩ := w
        refine jr_if_eq (pc := 76) (tgt := 163) F hx9 dX3_nextToken_76 rfl (fun c9 => ?_) (fun c9 => ?_)
        · have w := w1 c9
          refine jr_iload_n (pc := 163) F (j := 0) dX3_nextToken_163 rfl ?_
          refine jr_callS (pc := 164) (As := [_]) F M (lw_S q3671 q3672 q143 q3673) dX3_nextToken_164 hM_isDigit.2 rfl (Nat.le_of_ble_eq_true rfl) (Nat.le_of_ble_eq_true rfl) (Nat.le_of_ble_eq_true rfl) (Nat.zero_le _) (cM_isDigit S hs w) (fun v9 h9 q9 => ?_) (fun _ _ _ q9 => q9.elim)
          obtain ⟨r33, ms32, rfl, rfl, w⟩ := q9
          obtain ⟨hx9, w1, w2⟩ := w
          refine jr_if_eq (pc := 167) (tgt := 242) F hx9 dX3_nextToken_167 rfl (fun c9 => ?_) (fun c9 => ?_)
          · have w := w1 c9
            refine jr_aload_n (pc := 242) F (j := 1) dX3_nextToken_242 rfl ?_
            refine jr_iload_n (pc := 243) F (j := 0) dX3_nextToken_243 rfl ?_
            refine jr_bipush (pc := 244) F dX3_nextToken_244 (by decide +kernel) ?_
            obtain ⟨hx9, w1, w2⟩ := w
            refine jr_icmp_ne (pc := 246) (tgt := 253) F hx9 ⟨by decide, by decide⟩ dX3_nextToken_246 rfl (fun c9 => ?_) (fun c9 => ?_)
            · have w := w1 c9
              refine jr_iload_n (pc := 253) F (j := 0) dX3_nextToken_253 rfl ?_
              refine jr_bipush (pc := 254) F dX3_nextToken_254 (by decide +kernel) ?_
              obtain ⟨hx9, w1, w2⟩ := w
              refine jr_icmp_ne (pc := 256) (tgt := 263) F hx9 ⟨by decide, by decide⟩ dX3_nextToken_256 rfl (fun c9 => ?_) (fun c9 => ?_)
              · have w := w1 c9
                refine jr_iload_n (pc := 263) F (j := 0) dX3_nextToken_263 rfl ?_
                refine jr_bipush (pc := 264) F dX3_nextToken_264 (by decide +kernel) ?_
                obtain ⟨hx9, w1, w2⟩ := w
                refine jr_icmp_ne (pc := 266) (tgt := 274) F hx9 ⟨by decide, by decide⟩ dX3_nextToken_266 rfl (fun c9 => ?_) (fun c9 => ?_)
                · have w := w1 c9
                  refine jr_iconst (pc := 274) F dX3_nextToken_274 ?_
                  refine jj_J.sub [1] rfl ?_
                  exact sM_nextToken_j275 F M S hs hQ _ _ w
                · have w := w2 c9
                  refine jr_bipush (pc := 269) F dX3_nextToken_269 (by decide +kernel) ?_
                  refine jr_goto (pc := 271) (tgt := 275) F dX3_nextToken_271 rfl ?_
                  refine jj_J.sub [1] rfl ?_
                  exact sM_nextToken_j275 F M S hs hQ _ _ w
              · have w := w2 c9
                refine jr_iconst (pc := 259) F dX3_nextToken_259 ?_
                refine jr_goto (pc := 260) (tgt := 275) F dX3_nextToken_260 rfl ?_
                refine jj_J.sub [1] rfl ?_
                exact sM_nextToken_j275 F M S hs hQ _ _ w
            · have w := w2 c9
              refine jr_iconst (pc := 249) F dX3_nextToken_249 ?_
              refine jr_goto (pc := 250) (tgt := 275) F dX3_nextToken_250 rfl ?_
              refine jj_J.sub [1] rfl ?_
              exact sM_nextToken_j275 F M S hs hQ _ _ w
          · have w := w2 c9
            refine jr_aload_n (pc := 170) F (j := 1) dX3_nextToken_170 rfl ?_
            refine jr_iconst (pc := 171) F dX3_nextToken_171 ?_
            have w := w _ rfl
            refine jm_put (pc := 172) (f := 37) F (Nat.le_of_ble_eq_true rfl) q3167 rfl rfl rfl rfl rfl rfl dX3_nextToken_172 ?_
            refine jj_J.sub [1] rfl ?_
            obtain ⟨n9, w⟩ := w
            exact sM_nextToken_l175 F M S hs hQ n9 _ w
        · have w := w2 c9
          refine jr_aload_n (pc := 79) F (j := 1) dX3_nextToken_79 rfl ?_
          refine jr_iconst (pc := 80) F dX3_nextToken_80 ?_
          have w := w _ rfl
          refine jm_put (pc := 81) (f := 37) F (Nat.le_of_ble_eq_true rfl) q3167 rfl rfl rfl rfl rfl rfl dX3_nextToken_81 ?_
          refine jj_J.sub [1] rfl ?_
          obtain ⟨n9, w⟩ := w
          exact sM_nextToken_l84 F M S hs hQ n9 _ w
      · have w := w2 c9
        refine jr_aload_n (pc := 64) F (j := 1) dX3_nextToken_64 rfl ?_
        refine jr_iconst (pc := 65) F dX3_nextToken_65 ?_
        have w := w _ rfl
        refine jm_put (pc := 66) (f := 37) F (Nat.le_of_ble_eq_true rfl) q3167 rfl rfl rfl rfl rfl rfl dX3_nextToken_66 ?_
        refine jr_goto (pc := 69) (tgt := 288) F dX3_nextToken_69 rfl ?_
        exact jr_vret (pc := 288) F M dX3_nextToken_288 (hQ _ w)
    · have w := w2 c9
      refine jr_aload_n (pc := 14) F (j := 0) dX3_nextToken_14 rfl ?_
      refine jr_dup (pc := 15) F dX3_nextToken_15 rfl ?_
      refine jm_get (pc := 16) (f := 35) (v := .inl _) F (Nat.le_of_ble_eq_true rfl) q3165 rfl rfl dX3_nextToken_16 ?_
      refine jr_iconst (pc := 19) F dX3_nextToken_19 ?_
      refine jr_iadd (pc := 20) F dX3_nextToken_20 ?_
      have w := w _ rfl
      refine jm_put (pc := 21) (f := 35) F (Nat.le_of_ble_eq_true rfl) q3165 rfl rfl rfl rfl rfl rfl dX3_nextToken_21 ?_
      refine jr_goto (pc := 24) (tgt := 0) F dX3_nextToken_24 rfl ?_
      exact ih _ w

theorem sM_nextToken {X : jj_X} {h0 : jj_H} {m0 k : Nat} {N : Option jj_AV → jj_H → Prop} {XN : String → Nat → jj_H → Prop} (F : jj_F X RX3 cX3_nextToken 2) (M : jj_M X (none) 2 42 N XN) (S : jj_GS X.1 X.2.2.1) (hs : jj_hs X.1 h0 m0) {Q : jj_MS → Prop} (hQ : ∀ ms, Q ms → N none (jj_mh h0 m0 ms)) : ∀ (ms : jj_MS), fM_nextToken Q ms → jj_J X 2 0 [(0, .inr (.inr (.inl (some m0))))] [] (jj_mh h0 m0 ms) k := by
  intro  ms w
  unfold fM_nextToken at w
  obtain ⟨n9, w⟩ := w
  exact sM_nextToken_l0 F M S hs hQ n9 _ w

theorem cM_nextToken {G : jj_G} {l : Launch} (S : jj_GS G l) {h0 : jj_H} {m0 : Nat} (hs : jj_hs G h0 m0) {ms : jj_MS} {Q : jj_MS → Prop} (w : fM_nextToken Q ms) : jj_Ct G l yX3_nextToken (ws_ yX3_nextToken cX3_nextToken 2 (none)) 2 42 [.inr (.inr (.inl (some m0)))] (jj_mh h0 m0 ms) 0 (jm_Nv h0 m0 Q) jj_F0 := by
  refine jj_Ct.of S.1 (by decide +kernel) (Nat.le_of_ble_eq_true rfl) rfl (fun X hG hl F M O hnm => ?_)
  subst hG; subst hl
  exact sM_nextToken F M S hs (fun ms q => ⟨ms, rfl, rfl, q⟩) _ w
theorem hM_nextToken : yX3_nextToken.cls = RX3 ∧ yX3_nextToken.cls ≠ "java/lang/invoke/MethodHandle" ∧ yX3_nextToken.cls ≠ "java/lang/invoke/VarHandle" ∧ (parseMethodDescriptor yX3_nextToken.desc).map (fun d => d.parameters.length) = some 0 := by decide +kernel
/-! advance()V -/
def fM_advance (Q : jj_MS → Prop) (ms : jj_MS) : Prop :=
  fM_isFine (fun r2 ms1 =>
  jj_r r2 ∧ (r2 = 0 → (
    Q ms1)) ∧
  (¬ r2 = 0 → (
    fM_nextToken (fun ms3 =>
    Q ms3) ms1))) ms

theorem sM_advance {X : jj_X} {h0 : jj_H} {m0 k : Nat} {N : Option jj_AV → jj_H → Prop} {XN : String → Nat → jj_H → Prop} (F : jj_F X RX3 cX3_advance 1) (M : jj_M X (none) 3 63 N XN) (S : jj_GS X.1 X.2.2.1) (hs : jj_hs X.1 h0 m0) {Q : jj_MS → Prop} (hQ : ∀ ms, Q ms → N none (jj_mh h0 m0 ms)) : ∀ (ms : jj_MS), fM_advance Q ms → jj_J X 1 0 [(0, .inr (.inr (.inl (some m0))))] [] (jj_mh h0 m0 ms) k := by
  intro  ms w
  unfold fM_advance at w
  refine jr_aload_n (pc := 0) F (j := 0) dX3_advance_0 rfl ?_
  refine jr_callV (pc := 1) (As := []) F M (lw_V q3675 q3677 qs102 q143 q3678) dX3_advance_1 hM_isFine rfl (Nat.le_of_ble_eq_true rfl) (Nat.le_of_ble_eq_true rfl) (Nat.le_of_ble_eq_true rfl) (jj_set_self _ _ _) rfl rfl (Nat.zero_le _) (cM_isFine S hs w) (fun v9 h9 q9 => ?_) (fun _ _ _ q9 => q9.elim)
  obtain ⟨r2, ms1, rfl, rfl, w⟩ := q9
  obtain ⟨hx9, w1, w2⟩ := w
  refine jr_if_eq (pc := 4) (tgt := 11) F hx9 dX3_advance_4 rfl (fun c9 => ?_) (fun c9 => ?_)
  · have w := w1 c9
    exact jr_vret (pc := 11) F M dX3_advance_11 (hQ _ w)
  · have w := w2 c9
    refine jr_aload_n (pc := 7) F (j := 0) dX3_advance_7 rfl ?_
    refine jr_callV (pc := 8) (As := []) F M (lw_V q3667 q3669 qs101 q143 q3670) dX3_advance_8 hM_nextToken rfl (Nat.le_of_ble_eq_true rfl) (Nat.le_of_ble_eq_true rfl) (Nat.le_of_ble_eq_true rfl) (jj_set_self _ _ _) rfl rfl (Nat.zero_le _) (cM_nextToken S hs w) (fun v9 h9 q9 => ?_) (fun _ _ _ q9 => q9.elim)
    obtain ⟨ms3, rfl, rfl, w⟩ := q9
    exact jr_vret (pc := 11) F M dX3_advance_11 (hQ _ w)

theorem cM_advance {G : jj_G} {l : Launch} (S : jj_GS G l) {h0 : jj_H} {m0 : Nat} (hs : jj_hs G h0 m0) {ms : jj_MS} {Q : jj_MS → Prop} (w : fM_advance Q ms) : jj_Ct G l yX3_advance (ws_ yX3_advance cX3_advance 1 (none)) 3 63 [.inr (.inr (.inl (some m0)))] (jj_mh h0 m0 ms) 0 (jm_Nv h0 m0 Q) jj_F0 := by
  refine jj_Ct.of S.1 (by decide +kernel) (Nat.le_of_ble_eq_true rfl) rfl (fun X hG hl F M O hnm => ?_)
  subst hG; subst hl
  exact sM_advance F M S hs (fun ms q => ⟨ms, rfl, rfl, q⟩) _ w
theorem hM_advance : yX3_advance.cls = RX3 ∧ yX3_advance.cls ≠ "java/lang/invoke/MethodHandle" ∧ yX3_advance.cls ≠ "java/lang/invoke/VarHandle" ∧ (parseMethodDescriptor yX3_advance.desc).map (fun d => d.parameters.length) = some 0 := by decide +kernel
/-! isKey(Ljava/lang/String;)Z -/
def fM_isKey_l26 (s1 : List Int) (Q : Int → jj_MS → Prop) : Nat → Int → Int → jj_MS → Prop
  | 0, _, _, _ => False
  | n + 1, x2, x4, ms =>
  jj_r x4 ∧ jj_r ((s1.length : Int)) ∧ (((s1.length : Int)) ≤ x4 → (
    jj_rl (ms.1 42) ∧ jj_rl x2 ∧ (¬ (ms.1 42) = x2 → (
      Q 0 ms)) ∧
    ((ms.1 42) = x2 → (
      Q 1 ms)))) ∧
  (¬ ((s1.length : Int)) ≤ x4 → (
    0 ≤ x4 ∧ x4 < (s1.length : Int) ∧
    ∀ v1, v1 = ((27 * x2) + (jj_i2l (s1.getD (x4).toNat 0))) - 96 →
    ∀ v2, v2 = x4 + 1 →
    fM_isKey_l26 s1 Q n v1 v2 ms))

def fM_isKey (s1 : List Int) (Q : Int → jj_MS → Prop) (ms : jj_MS) : Prop :=
  jj_r (ms.1 37) ∧ (¬ (ms.1 37) = 2 → (
    Q 0 ms)) ∧
  ((ms.1 37) = 2 → (
    jj_r (ms.1 38) ∧ jj_r ((s1.length : Int)) ∧ ((ms.1 38) = ((s1.length : Int)) → (
      ∃ n9, fM_isKey_l26 s1 Q n9 0 0 ms)) ∧
    (¬ (ms.1 38) = ((s1.length : Int)) → (
      Q 0 ms))))

theorem sM_isKey_l26 {X : jj_X} {h0 : jj_H} {m0 k : Nat} {N : Option jj_AV → jj_H → Prop} {XN : String → Nat → jj_H → Prop} (F : jj_F X RX3 cX3_isKey 5) (M : jj_M X (some (.boolean)) 9 321 N XN) (S : jj_GS X.1 X.2.2.1) (hs : jj_hs X.1 h0 m0) {Q : Int → jj_MS → Prop} (hQ : ∀ r ms, Q r ms → N (some (.inl r)) (jj_mh h0 m0 ms)) {s1 : List Int} {a1 : Nat} (ha1 : a1 ≠ m0 ∧ h0 a1 = some (jj_str s1)) : ∀ (n : Nat) (x2 : Int) (x4 : Int) (ms : jj_MS), fM_isKey_l26 s1 Q n x2 x4 ms → jj_J X 5 26 [(0, .inr (.inr (.inl (some m0)))), (1, .inr (.inr (.inl (some a1)))), (2, .inr (.inl x2)), (4, .inl x4)] [] (jj_mh h0 m0 ms) k := by
  intro n
  induction n with
  | zero =>
    intro x2 x4 ms w
    exact (show False from w).elim
  | succ n ih =>
    intro x2 x4 ms w
    rw [fM_isKey_l26] at w
    refine jr_iload (pc := 26) F (j := 3) dX3_isKey_26 rfl ?_
    refine jr_aload_n (pc := 28) F (j := 1) dX3_isKey_28 rfl ?_
    refine jr_callV (n := 0) (pc := 29) (As := []) F M (lw_V q3651 q374 q375 q131 q376) dX3_isKey_29 ⟨rfl, by decide +kernel, by decide +kernel, by decide +kernel⟩ rfl (Nat.le_of_ble_eq_true rfl) (Nat.le_of_ble_eq_true rfl) (Nat.le_of_ble_eq_true rfl) (show jj_mh h0 m0 _ _ = _ from (jj_set_ne _ _ ha1.1).trans ha1.2) rfl rfl (Nat.zero_le _) (S.2.2.1 _ _ s1 (show jj_mh h0 m0 _ _ = _ from (jj_set_ne _ _ ha1.1).trans ha1.2)) (fun v9 h9 q9 => ?_) (fun _ _ _ q9 => q9.elim)
    obtain ⟨rfl, rfl⟩ := q9
    obtain ⟨hx9, hy9, w1, w2⟩ := w
    refine jr_icmp_ge (pc := 32) (tgt := 59) F hx9 hy9 dX3_isKey_32 rfl (fun c9 => ?_) (fun c9 => ?_)
    · have w := w1 c9
      refine jr_aload_n (pc := 59) F (j := 0) dX3_isKey_59 rfl ?_
      refine jm_get (pc := 60) (f := 42) (v := .inr (.inl _)) F (Nat.le_of_ble_eq_true rfl) q3172 rfl rfl dX3_isKey_60 ?_
      refine jr_lload_n (pc := 63) F (j := 2) dX3_isKey_63 rfl ?_
      obtain ⟨hx9, hy9, w1, w2⟩ := w
      refine jr_lc_ne (pc := 64) (tgt := 72) F hx9 hy9 dX3_isKey_64 dX3_isKey_65 rfl (fun c9 => ?_) (fun c9 => ?_)
      · have w := w1 c9
        refine jr_iconst (pc := 72) F dX3_isKey_72 ?_
        exact jr_zret (pc := 73) F M dX3_isKey_73 (by decide) (hQ _ _ w)
      · have w := w2 c9
        refine jr_iconst (pc := 68) F dX3_isKey_68 ?_
        refine jr_goto (pc := 69) (tgt := 73) F dX3_isKey_69 rfl ?_
        exact jr_zret (pc := 73) F M dX3_isKey_73 (by decide) (hQ _ _ w)
    · have w := w2 c9
      refine jr_ldc2 (pc := 35) F (x := 27) q3401 dX3_isKey_35 (by decide +kernel) ?_
      refine jr_lload_n (pc := 38) F (j := 2) dX3_isKey_38 rfl ?_
      refine jr_lmul (pc := 39) F dX3_isKey_39 ?_
      refine jr_aload_n (pc := 40) F (j := 1) dX3_isKey_40 rfl ?_
      refine jr_iload (pc := 41) F (j := 3) dX3_isKey_41 rfl ?_
      obtain ⟨hi1, hi2, w⟩ := w
      refine jr_callV (n := 1) (pc := 43) (As := [_]) F M (lw_V q3652 q2833 q2834 q131 q2835) dX3_isKey_43 ⟨rfl, by decide +kernel, by decide +kernel, by decide +kernel⟩ rfl (Nat.le_of_ble_eq_true rfl) (Nat.le_of_ble_eq_true rfl) (Nat.le_of_ble_eq_true rfl) (show jj_mh h0 m0 _ _ = _ from (jj_set_ne _ _ ha1.1).trans ha1.2) rfl rfl (Nat.zero_le _) (S.2.2.2 _ _ s1 _ (show jj_mh h0 m0 _ _ = _ from (jj_set_ne _ _ ha1.1).trans ha1.2) hi1 hi2) (fun v9 h9 q9 => ?_) (fun _ _ _ q9 => q9.elim)
      obtain ⟨rfl, rfl⟩ := q9
      refine jr_i2l (pc := 46) F dX3_isKey_46 ?_
      refine jr_ladd (pc := 47) F dX3_isKey_47 ?_
      refine jr_ldc2 (pc := 48) F (x := 96) q3402 dX3_isKey_48 (by decide +kernel) ?_
      refine jr_lsub (pc := 51) F dX3_isKey_51 ?_
      have w := w _ rfl
      refine jr_lstore_n (pc := 52) F (vs' := [(2, .inr (.inl _)), (0, .inr (.inr (.inl _))), (1, .inr (.inr (.inl _))), (4, .inl _)]) dX3_isKey_52 (Nat.le_of_ble_eq_true rfl) rfl ?_
      have w := w _ rfl
      refine jr_iinc (pc := 53) F (j := 3) (vs' := [(4, .inl _), (2, .inr (.inl _)), (0, .inr (.inr (.inl _))), (1, .inr (.inr (.inl _)))]) dX3_isKey_53 rfl rfl (Nat.le_of_ble_eq_true rfl) rfl ?_
      refine jr_goto (pc := 56) (tgt := 26) F dX3_isKey_56 rfl ?_
      refine jj_J.sub [2, 3, 1, 0] rfl ?_
      exact ih _ _ _ w

theorem sM_isKey {X : jj_X} {h0 : jj_H} {m0 k : Nat} {N : Option jj_AV → jj_H → Prop} {XN : String → Nat → jj_H → Prop} (F : jj_F X RX3 cX3_isKey 5) (M : jj_M X (some (.boolean)) 9 321 N XN) (S : jj_GS X.1 X.2.2.1) (hs : jj_hs X.1 h0 m0) {Q : Int → jj_MS → Prop} (hQ : ∀ r ms, Q r ms → N (some (.inl r)) (jj_mh h0 m0 ms)) {a1 : Nat} {s1 : List Int} (ha1 : a1 ≠ m0 ∧ h0 a1 = some (jj_str s1)) : ∀ (ms : jj_MS), fM_isKey s1 Q ms → jj_J X 5 0 [(0, .inr (.inr (.inl (some m0)))), (1, .inr (.inr (.inl (some a1))))] [] (jj_mh h0 m0 ms) k := by
  intro  ms w
  unfold fM_isKey at w
  refine jr_aload_n (pc := 0) F (j := 0) dX3_isKey_0 rfl ?_
  refine jm_get (pc := 1) (f := 37) (v := .inl _) F (Nat.le_of_ble_eq_true rfl) q3167 rfl rfl dX3_isKey_1 ?_
  refine jr_iconst (pc := 4) F dX3_isKey_4 ?_
  obtain ⟨hx9, w1, w2⟩ := w
  refine jr_icmp_ne (pc := 5) (tgt := 19) F hx9 ⟨by decide, by decide⟩ dX3_isKey_5 rfl (fun c9 => ?_) (fun c9 => ?_)
  · have w := w1 c9
    refine jr_iconst (pc := 19) F dX3_isKey_19 ?_
    exact jr_zret (pc := 20) F M dX3_isKey_20 (by decide) (hQ _ _ w)
  · have w := w2 c9
    refine jr_aload_n (pc := 8) F (j := 0) dX3_isKey_8 rfl ?_
    refine jm_get (pc := 9) (f := 38) (v := .inl _) F (Nat.le_of_ble_eq_true rfl) q3168 rfl rfl dX3_isKey_9 ?_
    refine jr_aload_n (pc := 12) F (j := 1) dX3_isKey_12 rfl ?_
    refine jr_callV (n := 0) (pc := 13) (As := []) F M (lw_V q3651 q374 q375 q131 q376) dX3_isKey_13 ⟨rfl, by decide +kernel, by decide +kernel, by decide +kernel⟩ rfl (Nat.le_of_ble_eq_true rfl) (Nat.le_of_ble_eq_true rfl) (Nat.le_of_ble_eq_true rfl) (show jj_mh h0 m0 _ _ = _ from (jj_set_ne _ _ ha1.1).trans ha1.2) rfl rfl (Nat.zero_le _) (S.2.2.1 _ _ s1 (show jj_mh h0 m0 _ _ = _ from (jj_set_ne _ _ ha1.1).trans ha1.2)) (fun v9 h9 q9 => ?_) (fun _ _ _ q9 => q9.elim)
    obtain ⟨rfl, rfl⟩ := q9
    obtain ⟨hx9, hy9, w1, w2⟩ := w
    refine jr_icmp_eq (pc := 16) (tgt := 21) F hx9 hy9 dX3_isKey_16 rfl (fun c9 => ?_) (fun c9 => ?_)
    · have w := w1 c9
      refine jr_lconst (pc := 21) F (x := 0) dX3_isKey_21 (by decide +kernel) ?_
      refine jr_lstore_n (pc := 22) F (vs' := [(2, .inr (.inl _)), (0, .inr (.inr (.inl _))), (1, .inr (.inr (.inl _)))]) dX3_isKey_22 (Nat.le_of_ble_eq_true rfl) rfl ?_
      refine jr_iconst (pc := 23) F dX3_isKey_23 ?_
      refine jr_istore (pc := 24) F (vs' := [(4, .inl _), (2, .inr (.inl _)), (0, .inr (.inr (.inl _))), (1, .inr (.inr (.inl _)))]) dX3_isKey_24 (Nat.le_of_ble_eq_true rfl) rfl ?_
      refine jj_J.sub [2, 3, 1, 0] rfl ?_
      obtain ⟨n9, w⟩ := w
      exact sM_isKey_l26 F M S hs hQ ha1 n9 _ _ _ w
    · have w := w2 c9
      refine jr_iconst (pc := 19) F dX3_isKey_19 ?_
      exact jr_zret (pc := 20) F M dX3_isKey_20 (by decide) (hQ _ _ w)

theorem cM_isKey {G : jj_G} {l : Launch} (S : jj_GS G l) {h0 : jj_H} {m0 : Nat} (hs : jj_hs G h0 m0) {s1 : List Int} {a1 : Nat} (ha1 : a1 ≠ m0 ∧ h0 a1 = some (jj_str s1)) {ms : jj_MS} {Q : Int → jj_MS → Prop} (w : fM_isKey s1 Q ms) : jj_Ct G l yX3_isKey (ws_ yX3_isKey cX3_isKey 5 (some (.boolean))) 9 321 [.inr (.inr (.inl (some m0))), .inr (.inr (.inl (some a1)))] (jj_mh h0 m0 ms) 0 (jm_Ni h0 m0 Q) jj_F0 := by
  refine jj_Ct.of S.1 (by decide +kernel) (Nat.le_of_ble_eq_true rfl) rfl (fun X hG hl F M O hnm => ?_)
  subst hG; subst hl
  exact sM_isKey F M S hs (fun r ms q => ⟨r, ms, rfl, rfl, q⟩) ha1 _ w
theorem hM_isKey : yX3_isKey.cls = RX3 ∧ yX3_isKey.cls ≠ "java/lang/invoke/MethodHandle" ∧ yX3_isKey.cls ≠ "java/lang/invoke/VarHandle" ∧ (parseMethodDescriptor yX3_isKey.desc).map (fun d => d.parameters.length) = some 1 := by decide +kernel
/-! require(ZI)V -/
def fM_require (x1 : Int) (x2 : Int) (Q : jj_MS → Prop) (ms : jj_MS) : Prop :=
  jj_r x1 ∧ (¬ x1 = 0 → (
    Q ms)) ∧
  (x1 = 0 → (
    jj_r (ms.1 40) ∧ (¬ (ms.1 40) = 0 → (
      Q ms)) ∧
    ((ms.1 40) = 0 → (
      ∀ ms1, ms1 = jj_mI ms 40 x2 →
      ∀ ms2, ms2 = jj_mI ms1 41 (ms1.1 36) →
      Q ms2))))

theorem sM_require {X : jj_X} {h0 : jj_H} {m0 k : Nat} {N : Option jj_AV → jj_H → Prop} {XN : String → Nat → jj_H → Prop} (F : jj_F X RX3 cX3_require 3) (M : jj_M X (none) 0 0 N XN) (S : jj_GS X.1 X.2.2.1) (hs : jj_hs X.1 h0 m0) {Q : jj_MS → Prop} (hQ : ∀ ms, Q ms → N none (jj_mh h0 m0 ms)) : ∀ (x1 : Int) (x2 : Int) (ms : jj_MS), fM_require x1 x2 Q ms → jj_J X 3 0 [(0, .inr (.inr (.inl (some m0)))), (1, .inl x1), (2, .inl x2)] [] (jj_mh h0 m0 ms) k := by
  intro x1 x2 ms w
  unfold fM_require at w
  refine jr_iload_n (pc := 0) F (j := 1) dX3_require_0 rfl ?_
  obtain ⟨hx9, w1, w2⟩ := w
  refine jr_if_ne (pc := 1) (tgt := 24) F hx9 dX3_require_1 rfl (fun c9 => ?_) (fun c9 => ?_)
  · have w := w1 c9
    exact jr_vret (pc := 24) F M dX3_require_24 (hQ _ w)
  · have w := w2 c9
    refine jr_aload_n (pc := 4) F (j := 0) dX3_require_4 rfl ?_
    refine jm_get (pc := 5) (f := 40) (v := .inl _) F (Nat.le_of_ble_eq_true rfl) q3170 rfl rfl dX3_require_5 ?_
    obtain ⟨hx9, w1, w2⟩ := w
    refine jr_if_ne (pc := 8) (tgt := 24) F hx9 dX3_require_8 rfl (fun c9 => ?_) (fun c9 => ?_)
    · have w := w1 c9
      exact jr_vret (pc := 24) F M dX3_require_24 (hQ _ w)
    · have w := w2 c9
      refine jr_aload_n (pc := 11) F (j := 0) dX3_require_11 rfl ?_
      refine jr_iload_n (pc := 12) F (j := 2) dX3_require_12 rfl ?_
      have w := w _ rfl
      refine jm_put (pc := 13) (f := 40) F (Nat.le_of_ble_eq_true rfl) q3170 rfl rfl rfl rfl rfl rfl dX3_require_13 ?_
      refine jr_aload_n (pc := 16) F (j := 0) dX3_require_16 rfl ?_
      refine jr_aload_n (pc := 17) F (j := 0) dX3_require_17 rfl ?_
      refine jm_get (pc := 18) (f := 36) (v := .inl _) F (Nat.le_of_ble_eq_true rfl) q3166 rfl rfl dX3_require_18 ?_
      have w := w _ rfl
      refine jm_put (pc := 21) (f := 41) F (Nat.le_of_ble_eq_true rfl) q3171 rfl rfl rfl rfl rfl rfl dX3_require_21 ?_
      exact jr_vret (pc := 24) F M dX3_require_24 (hQ _ w)

theorem cM_require {G : jj_G} {l : Launch} (S : jj_GS G l) {h0 : jj_H} {m0 : Nat} (hs : jj_hs G h0 m0) {x1 : Int} {x2 : Int} {ms : jj_MS} {Q : jj_MS → Prop} (w : fM_require x1 x2 Q ms) : jj_Ct G l yX3_require (ws_ yX3_require cX3_require 3 (none)) 0 0 [.inr (.inr (.inl (some m0))), .inl x1, .inl x2] (jj_mh h0 m0 ms) 0 (jm_Nv h0 m0 Q) jj_F0 := by
  refine jj_Ct.of S.1 (by decide +kernel) (Nat.le_of_ble_eq_true rfl) rfl (fun X hG hl F M O hnm => ?_)
  subst hG; subst hl
  exact sM_require F M S hs (fun ms q => ⟨ms, rfl, rfl, q⟩) _ _ _ w
theorem hM_require : yX3_require.cls = RX3 ∧ yX3_require.cls ≠ "java/lang/invoke/MethodHandle" ∧ yX3_require.cls ≠ "java/lang/invoke/VarHandle" ∧ (parseMethodDescriptor yX3_require.desc).map (fun d => d.parameters.length) = some 2 := by decide +kernel
