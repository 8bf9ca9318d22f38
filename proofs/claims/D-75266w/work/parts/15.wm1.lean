set_option maxRecDepth 100000
/-! thrown()I -/
def fM_thrown (Q : Int → jj_MS → Prop) (ms : jj_MS) : Prop :=
  Q (ms.1 7) ms

theorem sM_thrown {X : jj_X} {h0 : jj_H} {m0 k : Nat} {N : Option jj_AV → jj_H → Prop} {XN : String → Nat → jj_H → Prop} (F : jj_F X RX3 cX3_thrown 1) (M : jj_M X (some (.int)) 0 0 N XN) (S : jj_GS X.1 X.2.2.1) (hs : jj_hs X.1 h0 m0) {Q : Int → jj_MS → Prop} (hQ : ∀ r ms, Q r ms → N (some (.inl r)) (jj_mh h0 m0 ms)) : ∀ (ms : jj_MS), fM_thrown Q ms → jj_J X 1 0 [(0, .inr (.inr (.inl (some m0))))] [] (jj_mh h0 m0 ms) k := by
  intro  ms w
  unfold fM_thrown at w
  refine jr_aload_n (pc := 0) F (j := 0) dX3_thrown_0 rfl ?_
  refine jm_get (pc := 1) (f := 7) (v := .inl _) F (Nat.le_of_ble_eq_true rfl) q3137 rfl rfl dX3_thrown_1 ?_
  exact jr_iret (pc := 4) F M dX3_thrown_4 (hQ _ _ w)

theorem cM_thrown {G : jj_G} {l : Launch} (S : jj_GS G l) {h0 : jj_H} {m0 : Nat} (hs : jj_hs G h0 m0) {ms : jj_MS} {Q : Int → jj_MS → Prop} (w : fM_thrown Q ms) : jj_Ct G l yX3_thrown (ws_ yX3_thrown cX3_thrown 1 (some (.int))) 0 0 [.inr (.inr (.inl (some m0)))] (jj_mh h0 m0 ms) 0 (jm_Ni h0 m0 Q) jj_F0 := by
  refine jj_Ct.of S.1 (by decide +kernel) (Nat.le_of_ble_eq_true rfl) rfl (fun X hG hl F M O hnm => ?_)
  subst hG; subst hl
  exact sM_thrown F M S hs (fun r ms q => ⟨r, ms, rfl, rfl, q⟩) _ w
theorem hM_thrown : yX3_thrown.cls = RX3 ∧ yX3_thrown.cls ≠ "java/lang/invoke/MethodHandle" ∧ yX3_thrown.cls ≠ "java/lang/invoke/VarHandle" ∧ (parseMethodDescriptor yX3_thrown.desc).map (fun d => d.parameters.length) = some 0 := by decide +kernel
/-! fail(I)I -/
def fM_fail (x1 : Int) (Q : Int → jj_MS → Prop) (ms : jj_MS) : Prop :=
  ∀ ms1, ms1 = jj_mI ms 7 x1 →
  Q 0 ms1

theorem sM_fail {X : jj_X} {h0 : jj_H} {m0 k : Nat} {N : Option jj_AV → jj_H → Prop} {XN : String → Nat → jj_H → Prop} (F : jj_F X RX3 cX3_fail 2) (M : jj_M X (some (.int)) 0 0 N XN) (S : jj_GS X.1 X.2.2.1) (hs : jj_hs X.1 h0 m0) {Q : Int → jj_MS → Prop} (hQ : ∀ r ms, Q r ms → N (some (.inl r)) (jj_mh h0 m0 ms)) : ∀ (x1 : Int) (ms : jj_MS), fM_fail x1 Q ms → jj_J X 2 0 [(0, .inr (.inr (.inl (some m0)))), (1, .inl x1)] [] (jj_mh h0 m0 ms) k := by
  intro x1 ms w
  unfold fM_fail at w
  refine jr_aload_n (pc := 0) F (j := 0) dX3_fail_0 rfl ?_
  refine jr_iload_n (pc := 1) F (j := 1) dX3_fail_1 rfl ?_
  have w := w _ rfl
  refine jm_put (pc := 2) (f := 7) F (Nat.le_of_ble_eq_true rfl) q3137 rfl rfl rfl rfl rfl rfl dX3_fail_2 ?_
  refine jr_iconst (pc := 5) F dX3_fail_5 ?_
  exact jr_iret (pc := 6) F M dX3_fail_6 (hQ _ _ w)

theorem cM_fail {G : jj_G} {l : Launch} (S : jj_GS G l) {h0 : jj_H} {m0 : Nat} (hs : jj_hs G h0 m0) {x1 : Int} {ms : jj_MS} {Q : Int → jj_MS → Prop} (w : fM_fail x1 Q ms) : jj_Ct G l yX3_fail (ws_ yX3_fail cX3_fail 2 (some (.int))) 0 0 [.inr (.inr (.inl (some m0))), .inl x1] (jj_mh h0 m0 ms) 0 (jm_Ni h0 m0 Q) jj_F0 := by
  refine jj_Ct.of S.1 (by decide +kernel) (Nat.le_of_ble_eq_true rfl) rfl (fun X hG hl F M O hnm => ?_)
  subst hG; subst hl
  exact sM_fail F M S hs (fun r ms q => ⟨r, ms, rfl, rfl, q⟩) _ _ w
theorem hM_fail : yX3_fail.cls = RX3 ∧ yX3_fail.cls ≠ "java/lang/invoke/MethodHandle" ∧ yX3_fail.cls ≠ "java/lang/invoke/VarHandle" ∧ (parseMethodDescriptor yX3_fail.desc).map (fun d => d.parameters.length) = some 1 := by decide +kernel
/-! appendText(I)I -/
def fM_appendText_l26 (x1 : Int) (Q : Int → jj_MS → Prop) : Nat → Int → jj_MS → Prop
  | 0, _, _ => False
  | n + 1, x2, ms =>
  jj_r x2 ∧ (x2 < 0 → (
    Q (ms.1 9) ms)) ∧
  (¬ x2 < 0 → (
    0 ≤ (ms.1 9) ∧ (ms.1 9) < 900 ∧
    ∀ ms1, ms1 = jj_mA ms 8 (ms.1 9) (jj_and (jj_shr x1 x2) 255) →
    ∀ ms2, ms2 = jj_mI ms1 9 ((ms1.1 9) + 1) →
    ∀ v3, v3 = x2 + (-8) →
    fM_appendText_l26 x1 Q n v3 ms2))

def fM_appendText (x1 : Int) (Q : Int → jj_MS → Prop) (ms : jj_MS) : Prop :=
  ∀ ms4, ms4 = jj_mI ms 7 0 →
  jj_r ((ms4.1 9) + 4) ∧ (((ms4.1 9) + 4) ≤ 900 → (
    ∃ n9, fM_appendText_l26 x1 Q n9 24 ms4)) ∧
  (¬ ((ms4.1 9) + 4) ≤ 900 → (
    fM_fail 1 (fun r6 ms5 =>
    Q r6 ms5) ms4))

theorem sM_appendText_l26 {X : jj_X} {h0 : jj_H} {m0 k : Nat} {N : Option jj_AV → jj_H → Prop} {XN : String → Nat → jj_H → Prop} (F : jj_F X RX3 cX3_appendText 3) (M : jj_M X (some (.int)) 1 21 N XN) (S : jj_GS X.1 X.2.2.1) (hs : jj_hs X.1 h0 m0) {Q : Int → jj_MS → Prop} (hQ : ∀ r ms, Q r ms → N (some (.inl r)) (jj_mh h0 m0 ms)) (x1 : Int) : ∀ (n : Nat) (x2 : Int) (ms : jj_MS), fM_appendText_l26 x1 Q n x2 ms → jj_J X 3 26 [(0, .inr (.inr (.inl (some m0)))), (1, .inl x1), (2, .inl x2)] [] (jj_mh h0 m0 ms) k := by
  intro n
  induction n with
  | zero =>
    intro x2 ms w
    exact (show False from w).elim
  | succ n ih =>
    intro x2 ms w
    rw [fM_appendText_l26] at w
    refine jr_iload_n (pc := 26) F (j := 2) dX3_appendText_26 rfl ?_
    obtain ⟨hx9, w1, w2⟩ := w
    refine jr_if_lt (pc := 27) (tgt := 62) F hx9 dX3_appendText_27 rfl (fun c9 => ?_) (fun c9 => ?_)
    · have w := w1 c9
      refine jr_aload_n (pc := 62) F (j := 0) dX3_appendText_62 rfl ?_
      refine jm_get (pc := 63) (f := 9) (v := .inl _) F (Nat.le_of_ble_eq_true rfl) q3139 rfl rfl dX3_appendText_63 ?_
      exact jr_iret (pc := 66) F M dX3_appendText_66 (hQ _ _ w)
    · have w := w2 c9
      refine jr_aload_n (pc := 30) F (j := 0) dX3_appendText_30 rfl ?_
      refine jm_get (pc := 31) (f := 8) (v := .inr (.inr (.inl (some (m0 + 1 + 7))))) F (Nat.le_of_ble_eq_true rfl) q3138 rfl rfl dX3_appendText_31 ?_
      refine jr_aload_n (pc := 34) F (j := 0) dX3_appendText_34 rfl ?_
      refine jm_get (pc := 35) (f := 9) (v := .inl _) F (Nat.le_of_ble_eq_true rfl) q3139 rfl rfl dX3_appendText_35 ?_
      refine jr_iload_n (pc := 38) F (j := 1) dX3_appendText_38 rfl ?_
      refine jr_iload_n (pc := 39) F (j := 2) dX3_appendText_39 rfl ?_
      refine jr_ishr (pc := 40) F dX3_appendText_40 ?_
      refine jr_sipush (pc := 41) F dX3_appendText_41 (by decide +kernel) ?_
      refine jr_iand (pc := 44) F dX3_appendText_44 ?_
      obtain ⟨hi1, hi2, w⟩ := w
      have w := w _ rfl
      refine jm_iast (pc := 45) (f := 8) (o := 7) F (Nat.le_of_ble_eq_true rfl) rfl (by decide) hi1 hi2 dX3_appendText_45 ?_
      refine jr_aload_n (pc := 46) F (j := 0) dX3_appendText_46 rfl ?_
      refine jr_dup (pc := 47) F dX3_appendText_47 rfl ?_
      refine jm_get (pc := 48) (f := 9) (v := .inl _) F (Nat.le_of_ble_eq_true rfl) q3139 rfl rfl dX3_appendText_48 ?_
      refine jr_iconst (pc := 51) F dX3_appendText_51 ?_
      refine jr_iadd (pc := 52) F dX3_appendText_52 ?_
      have w := w _ rfl
      refine jm_put (pc := 53) (f := 9) F (Nat.le_of_ble_eq_true rfl) q3139 rfl rfl rfl rfl rfl rfl dX3_appendText_53 ?_
      have w := w _ rfl
      refine jr_iinc (pc := 56) F (j := 2) (vs' := [(2, .inl _), (0, .inr (.inr (.inl _))), (1, .inl _)]) dX3_appendText_56 rfl rfl (Nat.le_of_ble_eq_true rfl) rfl ?_
      refine jr_goto (pc := 59) (tgt := 26) F dX3_appendText_59 rfl ?_
      refine jj_J.sub [1, 2, 0] rfl ?_
      exact ih _ _ w

theorem sM_appendText {X : jj_X} {h0 : jj_H} {m0 k : Nat} {N : Option jj_AV → jj_H → Prop} {XN : String → Nat → jj_H → Prop} (F : jj_F X RX3 cX3_appendText 3) (M : jj_M X (some (.int)) 1 21 N XN) (S : jj_GS X.1 X.2.2.1) (hs : jj_hs X.1 h0 m0) {Q : Int → jj_MS → Prop} (hQ : ∀ r ms, Q r ms → N (some (.inl r)) (jj_mh h0 m0 ms)) : ∀ (x1 : Int) (ms : jj_MS), fM_appendText x1 Q ms → jj_J X 3 0 [(0, .inr (.inr (.inl (some m0)))), (1, .inl x1)] [] (jj_mh h0 m0 ms) k := by
  intro x1 ms w
  unfold fM_appendText at w
  refine jr_aload_n (pc := 0) F (j := 0) dX3_appendText_0 rfl ?_
  refine jr_iconst (pc := 1) F dX3_appendText_1 ?_
  have w := w _ rfl
  refine jm_put (pc := 2) (f := 7) F (Nat.le_of_ble_eq_true rfl) q3137 rfl rfl rfl rfl rfl rfl dX3_appendText_2 ?_
  refine jr_aload_n (pc := 5) F (j := 0) dX3_appendText_5 rfl ?_
  refine jm_get (pc := 6) (f := 9) (v := .inl _) F (Nat.le_of_ble_eq_true rfl) q3139 rfl rfl dX3_appendText_6 ?_
  refine jr_iconst (pc := 9) F dX3_appendText_9 ?_
  refine jr_iadd (pc := 10) F dX3_appendText_10 ?_
  refine jr_sipush (pc := 11) F dX3_appendText_11 (by decide +kernel) ?_
  obtain ⟨hx9, w1, w2⟩ := w
  refine jr_icmp_le (pc := 14) (tgt := 23) F hx9 ⟨by decide, by decide⟩ dX3_appendText_14 rfl (fun c9 => ?_) (fun c9 => ?_)
  · have w := w1 c9
    refine jr_bipush (pc := 23) F dX3_appendText_23 (by decide +kernel) ?_
    refine jr_istore_n (pc := 25) F (vs' := [(2, .inl _), (0, .inr (.inr (.inl _))), (1, .inl _)]) dX3_appendText_25 (Nat.le_of_ble_eq_true rfl) rfl ?_
    refine jj_J.sub [1, 2, 0] rfl ?_
    obtain ⟨n9, w⟩ := w
    exact sM_appendText_l26 F M S hs hQ _ n9 _ _ w
  · have w := w2 c9
    refine jr_aload_n (pc := 17) F (j := 0) dX3_appendText_17 rfl ?_
    refine jr_iconst (pc := 18) F dX3_appendText_18 ?_
    refine jr_callV (pc := 19) (As := [_]) F M (lw_V q3276 q3278 qs46 q143 q3279) dX3_appendText_19 hM_fail rfl (Nat.le_of_ble_eq_true rfl) (Nat.le_of_ble_eq_true rfl) (Nat.le_of_ble_eq_true rfl) (jj_set_self _ _ _) rfl rfl (Nat.zero_le _) (cM_fail S hs w) (fun v9 h9 q9 => ?_) (fun _ _ _ q9 => q9.elim)
    obtain ⟨r6, ms5, rfl, rfl, w⟩ := q9
    exact jr_iret (pc := 22) F M dX3_appendText_22 (hQ _ _ w)

theorem cM_appendText {G : jj_G} {l : Launch} (S : jj_GS G l) {h0 : jj_H} {m0 : Nat} (hs : jj_hs G h0 m0) {x1 : Int} {ms : jj_MS} {Q : Int → jj_MS → Prop} (w : fM_appendText x1 Q ms) : jj_Ct G l yX3_appendText (ws_ yX3_appendText cX3_appendText 3 (some (.int))) 1 21 [.inr (.inr (.inl (some m0))), .inl x1] (jj_mh h0 m0 ms) 0 (jm_Ni h0 m0 Q) jj_F0 := by
  refine jj_Ct.of S.1 (by decide +kernel) (Nat.le_of_ble_eq_true rfl) rfl (fun X hG hl F M O hnm => ?_)
  subst hG; subst hl
  exact sM_appendText F M S hs (fun r ms q => ⟨r, ms, rfl, rfl, q⟩) _ _ w
theorem hM_appendText : yX3_appendText.cls = RX3 ∧ yX3_appendText.cls ≠ "java/lang/invoke/MethodHandle" ∧ yX3_appendText.cls ≠ "java/lang/invoke/VarHandle" ∧ (parseMethodDescriptor yX3_appendText.desc).map (fun d => d.parameters.length) = some 1 := by decide +kernel
/-! isBetween(III)Z -/
def fM_isBetween (x0 : Int) (x1 : Int) (x2 : Int) (Q : Int → jj_MS → Prop) (ms : jj_MS) : Prop :=
  jj_r x0 ∧ jj_r x1 ∧ (x0 < x1 → (
    Q 0 ms)) ∧
  (¬ x0 < x1 → (
    jj_r x0 ∧ jj_r x2 ∧ (x2 < x0 → (
      Q 0 ms)) ∧
    (¬ x2 < x0 → (
      Q 1 ms))))

theorem sM_isBetween {X : jj_X} {h0 : jj_H} {m0 k : Nat} {N : Option jj_AV → jj_H → Prop} {XN : String → Nat → jj_H → Prop} (F : jj_F X RX3 cX3_isBetween 3) (M : jj_M X (some (.boolean)) 0 0 N XN) (S : jj_GS X.1 X.2.2.1) (hs : jj_hs X.1 h0 m0) {Q : Int → jj_MS → Prop} (hQ : ∀ r ms, Q r ms → N (some (.inl r)) (jj_mh h0 m0 ms)) : ∀ (x0 : Int) (x1 : Int) (x2 : Int) (ms : jj_MS), fM_isBetween x0 x1 x2 Q ms → jj_J X 3 0 [(0, .inl x0), (1, .inl x1), (2, .inl x2)] [] (jj_mh h0 m0 ms) k := by
  intro x0 x1 x2 ms w
  unfold fM_isBetween at w
  refine jr_iload_n (pc := 0) F (j := 0) dX3_isBetween_0 rfl ?_
  refine jr_iload_n (pc := 1) F (j := 1) dX3_isBetween_1 rfl ?_
  obtain ⟨hx9, hy9, w1, w2⟩ := w
  refine jr_icmp_lt (pc := 2) (tgt := 14) F hx9 hy9 dX3_isBetween_2 rfl (fun c9 => ?_) (fun c9 => ?_)
  · have w := w1 c9
    refine jr_iconst (pc := 14) F dX3_isBetween_14 ?_
    exact jr_zret (pc := 15) F M dX3_isBetween_15 (by decide) (hQ _ _ w)
  · have w := w2 c9
    refine jr_iload_n (pc := 5) F (j := 0) dX3_isBetween_5 rfl ?_
    refine jr_iload_n (pc := 6) F (j := 2) dX3_isBetween_6 rfl ?_
    obtain ⟨hx9, hy9, w1, w2⟩ := w
    refine jr_icmp_gt (pc := 7) (tgt := 14) F hx9 hy9 dX3_isBetween_7 rfl (fun c9 => ?_) (fun c9 => ?_)
    · have w := w1 c9
      refine jr_iconst (pc := 14) F dX3_isBetween_14 ?_
      exact jr_zret (pc := 15) F M dX3_isBetween_15 (by decide) (hQ _ _ w)
    · have w := w2 c9
      refine jr_iconst (pc := 10) F dX3_isBetween_10 ?_
      refine jr_goto (pc := 11) (tgt := 15) F dX3_isBetween_11 rfl ?_
      exact jr_zret (pc := 15) F M dX3_isBetween_15 (by decide) (hQ _ _ w)

theorem cM_isBetween {G : jj_G} {l : Launch} (S : jj_GS G l) {h0 : jj_H} {m0 : Nat} (hs : jj_hs G h0 m0) {x0 : Int} {x1 : Int} {x2 : Int} {ms : jj_MS} {Q : Int → jj_MS → Prop} (w : fM_isBetween x0 x1 x2 Q ms) : jj_Ct G l yX3_isBetween (ws_ yX3_isBetween cX3_isBetween 3 (some (.boolean))) 0 0 [.inl x0, .inl x1, .inl x2] (jj_mh h0 m0 ms) 0 (jm_Ni h0 m0 Q) jj_F0 := by
  refine jj_Ct.of S.1 (by decide +kernel) (Nat.le_of_ble_eq_true rfl) rfl (fun X hG hl F M O hnm => ?_)
  subst hG; subst hl
  exact sM_isBetween F M S hs (fun r ms q => ⟨r, ms, rfl, rfl, q⟩) _ _ _ _ w
theorem hM_isBetween : yX3_isBetween.cls = RX3 ∧ yX3_isBetween.cls ≠ "java/lang/invoke/MethodHandle" ∧ yX3_isBetween.cls ≠ "java/lang/invoke/VarHandle" ∧ (parseMethodDescriptor yX3_isBetween.desc).map (fun d => d.parameters.length) = some 3 := by decide +kernel
/-! truncateText(I)I -/
def fM_truncateText (x1 : Int) (Q : Int → jj_MS → Prop) (ms : jj_MS) : Prop :=
  ∀ ms1, ms1 = jj_mI ms 7 0 →
  fM_isBetween x1 0 (ms1.1 9) (fun r3 ms2 =>
  jj_r r3 ∧ (¬ r3 = 0 → (
    ∀ ms4, ms4 = jj_mI ms2 9 x1 →
    Q (ms4.1 9) ms4)) ∧
  (r3 = 0 → (
    fM_fail 1 (fun r6 ms5 =>
    Q r6 ms5) ms2))) ms1

theorem sM_truncateText {X : jj_X} {h0 : jj_H} {m0 k : Nat} {N : Option jj_AV → jj_H → Prop} {XN : String → Nat → jj_H → Prop} (F : jj_F X RX3 cX3_truncateText 2) (M : jj_M X (some (.int)) 1 22 N XN) (S : jj_GS X.1 X.2.2.1) (hs : jj_hs X.1 h0 m0) {Q : Int → jj_MS → Prop} (hQ : ∀ r ms, Q r ms → N (some (.inl r)) (jj_mh h0 m0 ms)) : ∀ (x1 : Int) (ms : jj_MS), fM_truncateText x1 Q ms → jj_J X 2 0 [(0, .inr (.inr (.inl (some m0)))), (1, .inl x1)] [] (jj_mh h0 m0 ms) k := by
  intro x1 ms w
  unfold fM_truncateText at w
  refine jr_aload_n (pc := 0) F (j := 0) dX3_truncateText_0 rfl ?_
  refine jr_iconst (pc := 1) F dX3_truncateText_1 ?_
  have w := w _ rfl
  refine jm_put (pc := 2) (f := 7) F (Nat.le_of_ble_eq_true rfl) q3137 rfl rfl rfl rfl rfl rfl dX3_truncateText_2 ?_
  refine jr_iload_n (pc := 5) F (j := 1) dX3_truncateText_5 rfl ?_
  refine jr_iconst (pc := 6) F dX3_truncateText_6 ?_
  refine jr_aload_n (pc := 7) F (j := 0) dX3_truncateText_7 rfl ?_
  refine jm_get (pc := 8) (f := 9) (v := .inl _) F (Nat.le_of_ble_eq_true rfl) q3139 rfl rfl dX3_truncateText_8 ?_
  refine jr_callS (pc := 11) (As := [_, _, _]) F M (lw_S q3284 q3285 q143 q3286) dX3_truncateText_11 hM_isBetween.2 rfl (Nat.le_of_ble_eq_true rfl) (Nat.le_of_ble_eq_true rfl) (Nat.le_of_ble_eq_true rfl) (Nat.zero_le _) (cM_isBetween S hs w) (fun v9 h9 q9 => ?_) (fun _ _ _ q9 => q9.elim)
  obtain ⟨r3, ms2, rfl, rfl, w⟩ := q9
  obtain ⟨hx9, w1, w2⟩ := w
  refine jr_if_ne (pc := 14) (tgt := 23) F hx9 dX3_truncateText_14 rfl (fun c9 => ?_) (fun c9 => ?_)
  · have w := w1 c9
    refine jr_aload_n (pc := 23) F (j := 0) dX3_truncateText_23 rfl ?_
    refine jr_iload_n (pc := 24) F (j := 1) dX3_truncateText_24 rfl ?_
    have w := w _ rfl
    refine jm_put (pc := 25) (f := 9) F (Nat.le_of_ble_eq_true rfl) q3139 rfl rfl rfl rfl rfl rfl dX3_truncateText_25 ?_
    refine jr_aload_n (pc := 28) F (j := 0) dX3_truncateText_28 rfl ?_
    refine jm_get (pc := 29) (f := 9) (v := .inl _) F (Nat.le_of_ble_eq_true rfl) q3139 rfl rfl dX3_truncateText_29 ?_
    exact jr_iret (pc := 32) F M dX3_truncateText_32 (hQ _ _ w)
  · have w := w2 c9
    refine jr_aload_n (pc := 17) F (j := 0) dX3_truncateText_17 rfl ?_
    refine jr_iconst (pc := 18) F dX3_truncateText_18 ?_
    refine jr_callV (pc := 19) (As := [_]) F M (lw_V q3276 q3278 qs46 q143 q3279) dX3_truncateText_19 hM_fail rfl (Nat.le_of_ble_eq_true rfl) (Nat.le_of_ble_eq_true rfl) (Nat.le_of_ble_eq_true rfl) (jj_set_self _ _ _) rfl rfl (Nat.zero_le _) (cM_fail S hs w) (fun v9 h9 q9 => ?_) (fun _ _ _ q9 => q9.elim)
    obtain ⟨r6, ms5, rfl, rfl, w⟩ := q9
    exact jr_iret (pc := 22) F M dX3_truncateText_22 (hQ _ _ w)

theorem cM_truncateText {G : jj_G} {l : Launch} (S : jj_GS G l) {h0 : jj_H} {m0 : Nat} (hs : jj_hs G h0 m0) {x1 : Int} {ms : jj_MS} {Q : Int → jj_MS → Prop} (w : fM_truncateText x1 Q ms) : jj_Ct G l yX3_truncateText (ws_ yX3_truncateText cX3_truncateText 2 (some (.int))) 1 22 [.inr (.inr (.inl (some m0))), .inl x1] (jj_mh h0 m0 ms) 0 (jm_Ni h0 m0 Q) jj_F0 := by
  refine jj_Ct.of S.1 (by decide +kernel) (Nat.le_of_ble_eq_true rfl) rfl (fun X hG hl F M O hnm => ?_)
  subst hG; subst hl
  exact sM_truncateText F M S hs (fun r ms q => ⟨r, ms, rfl, rfl, q⟩) _ _ w
theorem hM_truncateText : yX3_truncateText.cls = RX3 ∧ yX3_truncateText.cls ≠ "java/lang/invoke/MethodHandle" ∧ yX3_truncateText.cls ≠ "java/lang/invoke/VarHandle" ∧ (parseMethodDescriptor yX3_truncateText.desc).map (fun d => d.parameters.length) = some 1 := by decide +kernel
/-! editions()I -/
def fM_editions (Q : Int → jj_MS → Prop) (ms : jj_MS) : Prop :=
  Q (ms.2 0 0) ms

theorem sM_editions {X : jj_X} {h0 : jj_H} {m0 k : Nat} {N : Option jj_AV → jj_H → Prop} {XN : String → Nat → jj_H → Prop} (F : jj_F X RX3 cX3_editions 1) (M : jj_M X (some (.int)) 0 0 N XN) (S : jj_GS X.1 X.2.2.1) (hs : jj_hs X.1 h0 m0) {Q : Int → jj_MS → Prop} (hQ : ∀ r ms, Q r ms → N (some (.inl r)) (jj_mh h0 m0 ms)) : ∀ (ms : jj_MS), fM_editions Q ms → jj_J X 1 0 [(0, .inr (.inr (.inl (some m0))))] [] (jj_mh h0 m0 ms) k := by
  intro  ms w
  unfold fM_editions at w
  refine jr_aload_n (pc := 0) F (j := 0) dX3_editions_0 rfl ?_
  refine jm_get (pc := 1) (f := 0) (v := .inr (.inr (.inl (some (m0 + 1 + 0))))) F (Nat.le_of_ble_eq_true rfl) q3130 rfl rfl dX3_editions_1 ?_
  refine jr_iconst (pc := 4) F dX3_editions_4 ?_
  refine jm_iald (pc := 5) (f := 0) (o := 0) F rfl (by decide) (by decide) (by decide) dX3_editions_5 ?_
  exact jr_iret (pc := 6) F M dX3_editions_6 (hQ _ _ w)

theorem cM_editions {G : jj_G} {l : Launch} (S : jj_GS G l) {h0 : jj_H} {m0 : Nat} (hs : jj_hs G h0 m0) {ms : jj_MS} {Q : Int → jj_MS → Prop} (w : fM_editions Q ms) : jj_Ct G l yX3_editions (ws_ yX3_editions cX3_editions 1 (some (.int))) 0 0 [.inr (.inr (.inl (some m0)))] (jj_mh h0 m0 ms) 0 (jm_Ni h0 m0 Q) jj_F0 := by
  refine jj_Ct.of S.1 (by decide +kernel) (Nat.le_of_ble_eq_true rfl) rfl (fun X hG hl F M O hnm => ?_)
  subst hG; subst hl
  exact sM_editions F M S hs (fun r ms q => ⟨r, ms, rfl, rfl, q⟩) _ w
theorem hM_editions : yX3_editions.cls = RX3 ∧ yX3_editions.cls ≠ "java/lang/invoke/MethodHandle" ∧ yX3_editions.cls ≠ "java/lang/invoke/VarHandle" ∧ (parseMethodDescriptor yX3_editions.desc).map (fun d => d.parameters.length) = some 0 := by decide +kernel
/-! ofNote(II)I -/
def fM_ofNote (x1 : Int) (x2 : Int) (Q : Int → jj_MS → Prop) (ms : jj_MS) : Prop :=
  0 ≤ ((374 + (6 * x1)) + x2) ∧ ((374 + (6 * x1)) + x2) < 614 ∧
  Q (ms.2 0 ((374 + (6 * x1)) + x2)) ms

theorem sM_ofNote {X : jj_X} {h0 : jj_H} {m0 k : Nat} {N : Option jj_AV → jj_H → Prop} {XN : String → Nat → jj_H → Prop} (F : jj_F X RX3 cX3_ofNote 3) (M : jj_M X (some (.int)) 0 0 N XN) (S : jj_GS X.1 X.2.2.1) (hs : jj_hs X.1 h0 m0) {Q : Int → jj_MS → Prop} (hQ : ∀ r ms, Q r ms → N (some (.inl r)) (jj_mh h0 m0 ms)) : ∀ (x1 : Int) (x2 : Int) (ms : jj_MS), fM_ofNote x1 x2 Q ms → jj_J X 3 0 [(0, .inr (.inr (.inl (some m0)))), (1, .inl x1), (2, .inl x2)] [] (jj_mh h0 m0 ms) k := by
  intro x1 x2 ms w
  unfold fM_ofNote at w
  refine jr_aload_n (pc := 0) F (j := 0) dX3_ofNote_0 rfl ?_
  refine jm_get (pc := 1) (f := 0) (v := .inr (.inr (.inl (some (m0 + 1 + 0))))) F (Nat.le_of_ble_eq_true rfl) q3130 rfl rfl dX3_ofNote_1 ?_
  refine jr_sipush (pc := 4) F dX3_ofNote_4 (by decide +kernel) ?_
  refine jr_bipush (pc := 7) F dX3_ofNote_7 (by decide +kernel) ?_
  refine jr_iload_n (pc := 9) F (j := 1) dX3_ofNote_9 rfl ?_
  refine jr_imul (pc := 10) F dX3_ofNote_10 ?_
  refine jr_iadd (pc := 11) F dX3_ofNote_11 ?_
  refine jr_iload_n (pc := 12) F (j := 2) dX3_ofNote_12 rfl ?_
  refine jr_iadd (pc := 13) F dX3_ofNote_13 ?_
  obtain ⟨hi1, hi2, w⟩ := w
  refine jm_iald (pc := 14) (f := 0) (o := 0) F rfl (by decide) hi1 hi2 dX3_ofNote_14 ?_
  exact jr_iret (pc := 15) F M dX3_ofNote_15 (hQ _ _ w)

theorem cM_ofNote {G : jj_G} {l : Launch} (S : jj_GS G l) {h0 : jj_H} {m0 : Nat} (hs : jj_hs G h0 m0) {x1 : Int} {x2 : Int} {ms : jj_MS} {Q : Int → jj_MS → Prop} (w : fM_ofNote x1 x2 Q ms) : jj_Ct G l yX3_ofNote (ws_ yX3_ofNote cX3_ofNote 3 (some (.int))) 0 0 [.inr (.inr (.inl (some m0))), .inl x1, .inl x2] (jj_mh h0 m0 ms) 0 (jm_Ni h0 m0 Q) jj_F0 := by
  refine jj_Ct.of S.1 (by decide +kernel) (Nat.le_of_ble_eq_true rfl) rfl (fun X hG hl F M O hnm => ?_)
  subst hG; subst hl
  exact sM_ofNote F M S hs (fun r ms q => ⟨r, ms, rfl, rfl, q⟩) _ _ _ w
theorem hM_ofNote : yX3_ofNote.cls = RX3 ∧ yX3_ofNote.cls ≠ "java/lang/invoke/MethodHandle" ∧ yX3_ofNote.cls ≠ "java/lang/invoke/VarHandle" ∧ (parseMethodDescriptor yX3_ofNote.desc).map (fun d => d.parameters.length) = some 2 := by decide +kernel
/-! join(I)V -/
def fM_join_j103 (x1 : Int) (x2 : Int) (x3 : Int) (y1 : Int) (y2 : Int) (Q : jj_MS → Prop) (ms : jj_MS) : Prop :=
  0 ≤ y1 ∧ y1 < 40 ∧
  ∀ ms1, ms1 = jj_mA ms 22 y1 y2 →
  0 ≤ x2 ∧ x2 < 40 ∧
  0 ≤ x1 ∧ x1 < 40 ∧
  jj_r (ms1.2 23 x2) ∧ jj_r (ms1.2 19 x1) ∧
  0 ≤ x2 ∧ x2 < 40 ∧
  ∀ ms2, ms2 = jj_mA ms1 23 x2 (max (ms1.2 23 x2) (ms1.2 19 x1)) →
  jj_r x3 ∧ (¬ x3 = 0 → (
    0 ≤ x2 ∧ x2 < 40 ∧
    ∀ ms3, ms3 = jj_mA ms2 24 x2 x1 →
    Q ms3)) ∧
  (x3 = 0 → (
    fM_ofNote x1 5 (fun r5 ms4 =>
    0 ≤ x2 ∧ x2 < 40 ∧
    fM_ofNote (ms4.2 24 x2) 5 (fun r7 ms6 =>
    jj_r r5 ∧ jj_r r7 ∧ (r5 ≤ r7 → (
      Q ms6)) ∧
    (¬ r5 ≤ r7 → (
      0 ≤ x2 ∧ x2 < 40 ∧
      ∀ ms8, ms8 = jj_mA ms6 24 x2 x1 →
      Q ms8))) ms4) ms2))

def fM_join_j42 (x1 : Int) (x2 : Int) (x3 : Int) (y1 : Int) (y2 : Int) (Q : jj_MS → Prop) (ms : jj_MS) : Prop :=
  0 ≤ y1 ∧ y1 < 40 ∧
  ∀ ms9, ms9 = jj_mA ms 25 y1 y2 →
  0 ≤ x2 ∧ x2 < 40 ∧
  0 ≤ x2 ∧ x2 < 40 ∧
  ∀ ms10, ms10 = jj_mA ms9 26 x2 ((ms9.2 26 x2) + 1) →
  0 ≤ x2 ∧ x2 < 40 ∧
  fM_ofNote x1 0 (fun r12 ms11 =>
  0 ≤ x2 ∧ x2 < 40 ∧
  ∀ ms13, ms13 = jj_mA ms11 27 x2 (jj_or (ms10.2 27 x2) (jj_shl 1 r12)) →
  jj_r x3 ∧ (x3 = 0 → (
    0 ≤ x2 ∧ x2 < 40 ∧
    0 ≤ x1 ∧ x1 < 40 ∧
    jj_r (ms13.2 22 x2) ∧ jj_r (ms13.2 18 x1) ∧
    fM_join_j103 x1 x2 x3 x2 (min (ms13.2 22 x2) (ms13.2 18 x1)) Q ms13)) ∧
  (¬ x3 = 0 → (
    0 ≤ x1 ∧ x1 < 40 ∧
    fM_join_j103 x1 x2 x3 x2 (ms13.2 18 x1) Q ms13))) ms10

def fM_join_j22 (x1 : Int) (x2 : Int) (y0 : Int) (Q : jj_MS → Prop) (ms : jj_MS) : Prop :=
  jj_r y0 ∧ (y0 = 0 → (
    0 ≤ x2 ∧ x2 < 40 ∧
    fM_join_j42 x1 x2 y0 x2 (ms.2 25 x2) Q ms)) ∧
  (¬ y0 = 0 → (
    fM_join_j42 x1 x2 y0 x2 x1 Q ms))

def fM_join (x1 : Int) (Q : jj_MS → Prop) (ms : jj_MS) : Prop :=
  0 ≤ x1 ∧ x1 < 40 ∧
  ∀ v14, v14 = ms.2 21 x1 →
  0 ≤ v14 ∧ v14 < 40 ∧
  jj_r (ms.2 25 v14) ∧ (¬ (ms.2 25 v14) = ((-1)) → (
    fM_join_j22 x1 v14 0 Q ms)) ∧
  ((ms.2 25 v14) = ((-1)) → (
    fM_join_j22 x1 v14 1 Q ms))

theorem sM_join_j103 {X : jj_X} {h0 : jj_H} {m0 k : Nat} {N : Option jj_AV → jj_H → Prop} {XN : String → Nat → jj_H → Prop} (F : jj_F X RX3 cX3_join 4) (M : jj_M X (none) 1 22 N XN) (S : jj_GS X.1 X.2.2.1) (hs : jj_hs X.1 h0 m0) {Q : jj_MS → Prop} (hQ : ∀ ms, Q ms → N none (jj_mh h0 m0 ms)) : ∀ (x1 : Int) (x2 : Int) (x3 : Int) (y1 : Int) (y2 : Int) (ms : jj_MS), fM_join_j103 x1 x2 x3 y1 y2 Q ms → jj_J X 4 103 [(0, .inr (.inr (.inl (some m0)))), (1, .inl x1), (2, .inl x2), (3, .inl x3)] [.inl y2, .inl y1, .inr (.inr (.inl (some (m0 + 1 + 19))))] (jj_mh h0 m0 ms) k := by
  intro x1 x2 x3 y1 y2 ms w
  unfold fM_join_j103 at w
  obtain ⟨hi1, hi2, w⟩ := w
  have w := w _ rfl
  refine jm_iast (pc := 103) (f := 22) (o := 19) F (Nat.le_of_ble_eq_true rfl) rfl (by decide) hi1 hi2 dX3_join_103 ?_
  refine jr_aload_n (pc := 104) F (j := 0) dX3_join_104 rfl ?_
  refine jm_get (pc := 105) (f := 23) (v := .inr (.inr (.inl (some (m0 + 1 + 20))))) F (Nat.le_of_ble_eq_true rfl) q3153 rfl rfl dX3_join_105 ?_
  refine jr_iload_n (pc := 108) F (j := 2) dX3_join_108 rfl ?_
  refine jr_aload_n (pc := 109) F (j := 0) dX3_join_109 rfl ?_
  refine jm_get (pc := 110) (f := 23) (v := .inr (.inr (.inl (some (m0 + 1 + 20))))) F (Nat.le_of_ble_eq_true rfl) q3153 rfl rfl dX3_join_110 ?_
  refine jr_iload_n (pc := 113) F (j := 2) dX3_join_113 rfl ?_
  obtain ⟨hi1, hi2, w⟩ := w
  refine jm_iald (pc := 114) (f := 23) (o := 20) F rfl (by decide) hi1 hi2 dX3_join_114 ?_
  refine jr_aload_n (pc := 115) F (j := 0) dX3_join_115 rfl ?_
  refine jm_get (pc := 116) (f := 19) (v := .inr (.inr (.inl (some (m0 + 1 + 16))))) F (Nat.le_of_ble_eq_true rfl) q3149 rfl rfl dX3_join_116 ?_
  refine jr_iload_n (pc := 119) F (j := 1) dX3_join_119 rfl ?_
  obtain ⟨hi1, hi2, w⟩ := w
  refine jm_iald (pc := 120) (f := 19) (o := 16) F rfl (by decide) hi1 hi2 dX3_join_120 ?_
  obtain ⟨hx9, hy9, w⟩ := w
  refine jr_mmax (pc := 121) F M hx9 hy9 q3333 (Nat.le_of_ble_eq_true rfl) (Nat.le_of_ble_eq_true rfl) (Nat.le_of_ble_eq_true rfl) dX3_join_121 ?_
  obtain ⟨hi1, hi2, w⟩ := w
  have w := w _ rfl
  refine jm_iast (pc := 124) (f := 23) (o := 20) F (Nat.le_of_ble_eq_true rfl) rfl (by decide) hi1 hi2 dX3_join_124 ?_
  refine jr_iload_n (pc := 125) F (j := 3) dX3_join_125 rfl ?_
  obtain ⟨hx9, w1, w2⟩ := w
  refine jr_if_ne (pc := 126) (tgt := 149) F hx9 dX3_join_126 rfl (fun c9 => ?_) (fun c9 => ?_)
  · have w := w1 c9
    refine jr_aload_n (pc := 149) F (j := 0) dX3_join_149 rfl ?_
    refine jm_get (pc := 150) (f := 24) (v := .inr (.inr (.inl (some (m0 + 1 + 21))))) F (Nat.le_of_ble_eq_true rfl) q3154 rfl rfl dX3_join_150 ?_
    refine jr_iload_n (pc := 153) F (j := 2) dX3_join_153 rfl ?_
    refine jr_iload_n (pc := 154) F (j := 1) dX3_join_154 rfl ?_
    obtain ⟨hi1, hi2, w⟩ := w
    have w := w _ rfl
    refine jm_iast (pc := 155) (f := 24) (o := 21) F (Nat.le_of_ble_eq_true rfl) rfl (by decide) hi1 hi2 dX3_join_155 ?_
    exact jr_vret (pc := 156) F M dX3_join_156 (hQ _ w)
  · have w := w2 c9
    refine jr_aload_n (pc := 129) F (j := 0) dX3_join_129 rfl ?_
    refine jr_iload_n (pc := 130) F (j := 1) dX3_join_130 rfl ?_
    refine jr_iconst (pc := 131) F dX3_join_131 ?_
    refine jr_callV (pc := 132) (As := [_, _]) F M (lw_V q3338 q3340 qs57 q143 q3341) dX3_join_132 hM_ofNote rfl (Nat.le_of_ble_eq_true rfl) (Nat.le_of_ble_eq_true rfl) (Nat.le_of_ble_eq_true rfl) (jj_set_self _ _ _) rfl rfl (Nat.zero_le _) (cM_ofNote S hs w) (fun v9 h9 q9 => ?_) (fun _ _ _ q9 => q9.elim)
    obtain ⟨r5, ms4, rfl, rfl, w⟩ := q9
    refine jr_aload_n (pc := 135) F (j := 0) dX3_join_135 rfl ?_
    refine jr_aload_n (pc := 136) F (j := 0) dX3_join_136 rfl ?_
    refine jm_get (pc := 137) (f := 24) (v := .inr (.inr (.inl (some (m0 + 1 + 21))))) F (Nat.le_of_ble_eq_true rfl) q3154 rfl rfl dX3_join_137 ?_
    refine jr_iload_n (pc := 140) F (j := 2) dX3_join_140 rfl ?_
    obtain ⟨hi1, hi2, w⟩ := w
    refine jm_iald (pc := 141) (f := 24) (o := 21) F rfl (by decide) hi1 hi2 dX3_join_141 ?_
    refine jr_iconst (pc := 142) F dX3_join_142 ?_
    refine jr_callV (pc := 143) (As := [_, _]) F M (lw_V q3338 q3340 qs57 q143 q3341) dX3_join_143 hM_ofNote rfl (Nat.le_of_ble_eq_true rfl) (Nat.le_of_ble_eq_true rfl) (Nat.le_of_ble_eq_true rfl) (jj_set_self _ _ _) rfl rfl (Nat.zero_le _) (cM_ofNote S hs w) (fun v9 h9 q9 => ?_) (fun _ _ _ q9 => q9.elim)
    obtain ⟨r7, ms6, rfl, rfl, w⟩ := q9
    obtain ⟨hx9, hy9, w1, w2⟩ := w
    refine jr_icmp_le (pc := 146) (tgt := 156) F hx9 hy9 dX3_join_146 rfl (fun c9 => ?_) (fun c9 => ?_)
    · have w := w1 c9
      exact jr_vret (pc := 156) F M dX3_join_156 (hQ _ w)
    · have w := w2 c9
      refine jr_aload_n (pc := 149) F (j := 0) dX3_join_149 rfl ?_
      refine jm_get (pc := 150) (f := 24) (v := .inr (.inr (.inl (some (m0 + 1 + 21))))) F (Nat.le_of_ble_eq_true rfl) q3154 rfl rfl dX3_join_150 ?_
      refine jr_iload_n (pc := 153) F (j := 2) dX3_join_153 rfl ?_
      refine jr_iload_n (pc := 154) F (j := 1) dX3_join_154 rfl ?_
      obtain ⟨hi1, hi2, w⟩ := w
      have w := w _ rfl
      refine jm_iast (pc := 155) (f := 24) (o := 21) F (Nat.le_of_ble_eq_true rfl) rfl (by decide) hi1 hi2 dX3_join_155 ?_
      exact jr_vret (pc := 156) F M dX3_join_156 (hQ _ w)

theorem sM_join_j42 {X : jj_X} {h0 : jj_H} {m0 k : Nat} {N : Option jj_AV → jj_H → Prop} {XN : String → Nat → jj_H → Prop} (F : jj_F X RX3 cX3_join 4) (M : jj_M X (none) 1 22 N XN) (S : jj_GS X.1 X.2.2.1) (hs : jj_hs X.1 h0 m0) {Q : jj_MS → Prop} (hQ : ∀ ms, Q ms → N none (jj_mh h0 m0 ms)) : ∀ (x1 : Int) (x2 : Int) (x3 : Int) (y1 : Int) (y2 : Int) (ms : jj_MS), fM_join_j42 x1 x2 x3 y1 y2 Q ms → jj_J X 4 42 [(0, .inr (.inr (.inl (some m0)))), (1, .inl x1), (2, .inl x2), (3, .inl x3)] [.inl y2, .inl y1, .inr (.inr (.inl (some (m0 + 1 + 22))))] (jj_mh h0 m0 ms) k := by
  intro x1 x2 x3 y1 y2 ms w
  unfold fM_join_j42 at w
  obtain ⟨hi1, hi2, w⟩ := w
  have w := w _ rfl
  refine jm_iast (pc := 42) (f := 25) (o := 22) F (Nat.le_of_ble_eq_true rfl) rfl (by decide) hi1 hi2 dX3_join_42 ?_
  refine jr_aload_n (pc := 43) F (j := 0) dX3_join_43 rfl ?_
  refine jm_get (pc := 44) (f := 26) (v := .inr (.inr (.inl (some (m0 + 1 + 23))))) F (Nat.le_of_ble_eq_true rfl) q3156 rfl rfl dX3_join_44 ?_
  refine jr_iload_n (pc := 47) F (j := 2) dX3_join_47 rfl ?_
  refine jr_dup2 (pc := 48) F dX3_join_48 rfl rfl ?_
  obtain ⟨hi1, hi2, w⟩ := w
  refine jm_iald (pc := 49) (f := 26) (o := 23) F rfl (by decide) hi1 hi2 dX3_join_49 ?_
  refine jr_iconst (pc := 50) F dX3_join_50 ?_
  refine jr_iadd (pc := 51) F dX3_join_51 ?_
  obtain ⟨hi1, hi2, w⟩ := w
  have w := w _ rfl
  refine jm_iast (pc := 52) (f := 26) (o := 23) F (Nat.le_of_ble_eq_true rfl) rfl (by decide) hi1 hi2 dX3_join_52 ?_
  refine jr_aload_n (pc := 53) F (j := 0) dX3_join_53 rfl ?_
  refine jm_get (pc := 54) (f := 27) (v := .inr (.inr (.inl (some (m0 + 1 + 24))))) F (Nat.le_of_ble_eq_true rfl) q3157 rfl rfl dX3_join_54 ?_
  refine jr_iload_n (pc := 57) F (j := 2) dX3_join_57 rfl ?_
  refine jr_dup2 (pc := 58) F dX3_join_58 rfl rfl ?_
  obtain ⟨hi1, hi2, w⟩ := w
  refine jm_iald (pc := 59) (f := 27) (o := 24) F rfl (by decide) hi1 hi2 dX3_join_59 ?_
  refine jr_iconst (pc := 60) F dX3_join_60 ?_
  refine jr_aload_n (pc := 61) F (j := 0) dX3_join_61 rfl ?_
  refine jr_iload_n (pc := 62) F (j := 1) dX3_join_62 rfl ?_
  refine jr_iconst (pc := 63) F dX3_join_63 ?_
  refine jr_callV (pc := 64) (As := [_, _]) F M (lw_V q3338 q3340 qs57 q143 q3341) dX3_join_64 hM_ofNote rfl (Nat.le_of_ble_eq_true rfl) (Nat.le_of_ble_eq_true rfl) (Nat.le_of_ble_eq_true rfl) (jj_set_self _ _ _) rfl rfl (Nat.zero_le _) (cM_ofNote S hs w) (fun v9 h9 q9 => ?_) (fun _ _ _ q9 => q9.elim)
  obtain ⟨r12, ms11, rfl, rfl, w⟩ := q9
  refine jr_ishl (pc := 67) F dX3_join_67 ?_
  refine jr_ior (pc := 68) F dX3_join_68 ?_
  obtain ⟨hi1, hi2, w⟩ := w
  have w := w _ rfl
  refine jm_iast (pc := 69) (f := 27) (o := 24) F (Nat.le_of_ble_eq_true rfl) rfl (by decide) hi1 hi2 dX3_join_69 ?_
  refine jr_aload_n (pc := 70) F (j := 0) dX3_join_70 rfl ?_
  refine jm_get (pc := 71) (f := 22) (v := .inr (.inr (.inl (some (m0 + 1 + 19))))) F (Nat.le_of_ble_eq_true rfl) q3152 rfl rfl dX3_join_71 ?_
  refine jr_iload_n (pc := 74) F (j := 2) dX3_join_74 rfl ?_
  refine jr_iload_n (pc := 75) F (j := 3) dX3_join_75 rfl ?_
  obtain ⟨hx9, w1, w2⟩ := w
  refine jr_if_eq (pc := 76) (tgt := 88) F hx9 dX3_join_76 rfl (fun c9 => ?_) (fun c9 => ?_)
  · have w := w1 c9
    refine jr_aload_n (pc := 88) F (j := 0) dX3_join_88 rfl ?_
    refine jm_get (pc := 89) (f := 22) (v := .inr (.inr (.inl (some (m0 + 1 + 19))))) F (Nat.le_of_ble_eq_true rfl) q3152 rfl rfl dX3_join_89 ?_
    refine jr_iload_n (pc := 92) F (j := 2) dX3_join_92 rfl ?_
    obtain ⟨hi1, hi2, w⟩ := w
    refine jm_iald (pc := 93) (f := 22) (o := 19) F rfl (by decide) hi1 hi2 dX3_join_93 ?_
    refine jr_aload_n (pc := 94) F (j := 0) dX3_join_94 rfl ?_
    refine jm_get (pc := 95) (f := 18) (v := .inr (.inr (.inl (some (m0 + 1 + 15))))) F (Nat.le_of_ble_eq_true rfl) q3148 rfl rfl dX3_join_95 ?_
    refine jr_iload_n (pc := 98) F (j := 1) dX3_join_98 rfl ?_
    obtain ⟨hi1, hi2, w⟩ := w
    refine jm_iald (pc := 99) (f := 18) (o := 15) F rfl (by decide) hi1 hi2 dX3_join_99 ?_
    obtain ⟨hx9, hy9, w⟩ := w
    refine jr_mmin (pc := 100) F M hx9 hy9 q3358 (Nat.le_of_ble_eq_true rfl) (Nat.le_of_ble_eq_true rfl) (Nat.le_of_ble_eq_true rfl) dX3_join_100 ?_
    exact sM_join_j103 F M S hs hQ _ _ _ _ _ _ w
  · have w := w2 c9
    refine jr_aload_n (pc := 79) F (j := 0) dX3_join_79 rfl ?_
    refine jm_get (pc := 80) (f := 18) (v := .inr (.inr (.inl (some (m0 + 1 + 15))))) F (Nat.le_of_ble_eq_true rfl) q3148 rfl rfl dX3_join_80 ?_
    refine jr_iload_n (pc := 83) F (j := 1) dX3_join_83 rfl ?_
    obtain ⟨hi1, hi2, w⟩ := w
    refine jm_iald (pc := 84) (f := 18) (o := 15) F rfl (by decide) hi1 hi2 dX3_join_84 ?_
    refine jr_goto (pc := 85) (tgt := 103) F dX3_join_85 rfl ?_
    exact sM_join_j103 F M S hs hQ _ _ _ _ _ _ w

theorem sM_join_j22 {X : jj_X} {h0 : jj_H} {m0 k : Nat} {N : Option jj_AV → jj_H → Prop} {XN : String → Nat → jj_H → Prop} (F : jj_F X RX3 cX3_join 4) (M : jj_M X (none) 1 22 N XN) (S : jj_GS X.1 X.2.2.1) (hs : jj_hs X.1 h0 m0) {Q : jj_MS → Prop} (hQ : ∀ ms, Q ms → N none (jj_mh h0 m0 ms)) : ∀ (x1 : Int) (x2 : Int) (y0 : Int) (ms : jj_MS), fM_join_j22 x1 x2 y0 Q ms → jj_J X 4 22 [(0, .inr (.inr (.inl (some m0)))), (1, .inl x1), (2, .inl x2)] [.inl y0] (jj_mh h0 m0 ms) k := by
  intro x1 x2 y0 ms w
  unfold fM_join_j22 at w
  refine jr_istore_n (pc := 22) F (vs' := [(3, .inl _), (0, .inr (.inr (.inl _))), (1, .inl _), (2, .inl _)]) dX3_join_22 (Nat.le_of_ble_eq_true rfl) rfl ?_
  refine jr_aload_n (pc := 23) F (j := 1) dX3_join_23 rfl ?_
  refine jm_get (pc := 24) (f := 25) (v := .inr (.inr (.inl (some (m0 + 1 + 22))))) F (Nat.le_of_ble_eq_true rfl) q3155 rfl rfl dX3_join_24 ?_
  refine jr_iload_n (pc := 27) F (j := 3) dX3_join_27 rfl ?_
  refine jr_iload_n (pc := 28) F (j := 0) dX3_join_28 rfl ?_
  obtain ⟨hx9, w1, w2⟩ := w
  refine jr_if_eq (pc := 29) (tgt := 36) F hx9 dX3_join_29 rfl (fun c9 => ?_) (fun c9 => ?_)
  · have w := w1 c9
    refine jr_aload_n (pc := 36) F (j := 1) dX3_join_36 rfl ?_
    refine jm_get (pc := 37) (f := 25) (v := .inr (.inr (.inl (some (m0 + 1 + 22))))) F (Nat.le_of_ble_eq_true rfl) q3155 rfl rfl dX3_join_37 ?_
    refine jr_iload_n (pc := 40) F (j := 3) dX3_join_40 rfl ?_
    obtain ⟨hi1, hi2, w⟩ := w
    refine jm_iald (pc := 41) (f := 25) (o := 22) F rfl (by decide) hi1 hi2 dX3_join_41 ?_
    refine jj_J.sub [1, 2, 3, 0] rfl ?_
    exact sM_join_j42 F M S hs hQ _ _ _ _ _ _ w
  · have w := w2 c9
    refine jr_iload_n (pc := 32) F (j := 2) dX3_join_32 rfl ?_
    refine jr_goto (pc := 33) (tgt := 42) F dX3_join_33 rfl ?_
    refine jj_J.sub [1, 2, 3, 0] rfl ?_
    exact sM_join_j42 F M S hs hQ _ _ _ _ _ _ w

theorem sM_join {X : jj_X} {h0 : jj_H} {m0 k : Nat} {N : Option jj_AV → jj_H → Prop} {XN : String → Nat → jj_H → Prop} (F : jj_F X RX3 cX3_join 4) (M : jj_M X (none) 1 22 N XN) (S : jj_GS X.1 X.2.2.1) (hs : jj_hs X.1 h0 m0) {Q : jj_MS → Prop} (hQ : ∀ ms, Q ms → N none (jj_mh h0 m0 ms)) : ∀ (x1 : Int) (ms : jj_MS), fM_join x1 Q ms → jj_J X 4 0 [(0, .inr (.inr (.inl (some m0)))), (1, .inl x1)] [] (jj_mh h0 m0 ms) k := by
  intro x1 ms w
  unfold fM_join at w
  refine jr_aload_n (pc := 0) F (j := 0) dX3_join_0 rfl ?_
  refine jm_get (pc := 1) (f := 21) (v := .inr (.inr (.inl (some (m0 + 1 + 18))))) F (Nat.le_of_ble_eq_true rfl) q3151 rfl rfl dX3_join_1 ?_
  refine jr_iload_n (pc := 4) F (j := 1) dX3_join_4 rfl ?_
  obtain ⟨hi1, hi2, w⟩ := w
  refine jm_iald (pc := 5) (f := 21) (o := 18) F rfl (by decide) hi1 hi2 dX3_join_5 ?_
  have w := w _ rfl
  refine jr_istore_n (pc := 6) F (vs' := [(2, .inl _), (0, .inr (.inr (.inl _))), (1, .inl _)]) dX3_join_6 (Nat.le_of_ble_eq_true rfl) rfl ?_
  refine jr_aload_n (pc := 7) F (j := 1) dX3_join_7 rfl ?_
  refine jm_get (pc := 8) (f := 25) (v := .inr (.inr (.inl (some (m0 + 1 + 22))))) F (Nat.le_of_ble_eq_true rfl) q3155 rfl rfl dX3_join_8 ?_
  refine jr_iload_n (pc := 11) F (j := 0) dX3_join_11 rfl ?_
  obtain ⟨hi1, hi2, w⟩ := w
  refine jm_iald (pc := 12) (f := 25) (o := 22) F rfl (by decide) hi1 hi2 dX3_join_12 ?_
  refine jr_iconst (pc := 13) F dX3_join_13 ?_
  obtain ⟨hx9, w1, w2⟩ := w
  refine jr_icmp_ne (pc := 14) (tgt := 21) F hx9 ⟨by decide, by decide⟩ dX3_join_14 rfl (fun c9 => ?_) (fun c9 => ?_)
  · have w := w1 c9
    refine jr_iconst (pc := 21) F dX3_join_21 ?_
    refine jj_J.sub [1, 2, 0] rfl ?_
    exact sM_join_j22 F M S hs hQ _ _ _ _ w
  · have w := w2 c9
    refine jr_iconst (pc := 17) F dX3_join_17 ?_
    refine jr_goto (pc := 18) (tgt := 22) F dX3_join_18 rfl ?_
    refine jj_J.sub [1, 2, 0] rfl ?_
    exact sM_join_j22 F M S hs hQ _ _ _ _ w

theorem cM_join {G : jj_G} {l : Launch} (S : jj_GS G l) {h0 : jj_H} {m0 : Nat} (hs : jj_hs G h0 m0) {x1 : Int} {ms : jj_MS} {Q : jj_MS → Prop} (w : fM_join x1 Q ms) : jj_Ct G l yX3_join (ws_ yX3_join cX3_join 4 (none)) 1 22 [.inr (.inr (.inl (some m0))), .inl x1] (jj_mh h0 m0 ms) 0 (jm_Nv h0 m0 Q) jj_F0 := by
  refine jj_Ct.of S.1 (by decide +kernel) (Nat.le_of_ble_eq_true rfl) rfl (fun X hG hl F M O hnm => ?_)
  subst hG; subst hl
  exact sM_join F M S hs (fun ms q => ⟨ms, rfl, rfl, q⟩) _ _ w
theorem hM_join : yX3_join.cls = RX3 ∧ yX3_join.cls ≠ "java/lang/invoke/MethodHandle" ∧ yX3_join.cls ≠ "java/lang/invoke/VarHandle" ∧ (parseMethodDescriptor yX3_join.desc).map (fun d => d.parameters.length) = some 1 := by decide +kernel
/-! commonPlace(II)I -/
def fM_commonPlace (x0 : Int) (x1 : Int) (Q : Int → jj_MS → Prop) (ms : jj_MS) : Prop :=
  Q ((121 * x0) + x1) ms

theorem sM_commonPlace {X : jj_X} {h0 : jj_H} {m0 k : Nat} {N : Option jj_AV → jj_H → Prop} {XN : String → Nat → jj_H → Prop} (F : jj_F X RX3 cX3_commonPlace 2) (M : jj_M X (some (.int)) 0 0 N XN) (S : jj_GS X.1 X.2.2.1) (hs : jj_hs X.1 h0 m0) {Q : Int → jj_MS → Prop} (hQ : ∀ r ms, Q r ms → N (some (.inl r)) (jj_mh h0 m0 ms)) : ∀ (x0 : Int) (x1 : Int) (ms : jj_MS), fM_commonPlace x0 x1 Q ms → jj_J X 2 0 [(0, .inl x0), (1, .inl x1)] [] (jj_mh h0 m0 ms) k := by
  intro x0 x1 ms w
  unfold fM_commonPlace at w
  refine jr_bipush (pc := 0) F dX3_commonPlace_0 (by decide +kernel) ?_
  refine jr_iload_n (pc := 2) F (j := 0) dX3_commonPlace_2 rfl ?_
  refine jr_imul (pc := 3) F dX3_commonPlace_3 ?_
  refine jr_iload_n (pc := 4) F (j := 1) dX3_commonPlace_4 rfl ?_
  refine jr_iadd (pc := 5) F dX3_commonPlace_5 ?_
  exact jr_iret (pc := 6) F M dX3_commonPlace_6 (hQ _ _ w)

theorem cM_commonPlace {G : jj_G} {l : Launch} (S : jj_GS G l) {h0 : jj_H} {m0 : Nat} (hs : jj_hs G h0 m0) {x0 : Int} {x1 : Int} {ms : jj_MS} {Q : Int → jj_MS → Prop} (w : fM_commonPlace x0 x1 Q ms) : jj_Ct G l yX3_commonPlace (ws_ yX3_commonPlace cX3_commonPlace 2 (some (.int))) 0 0 [.inl x0, .inl x1] (jj_mh h0 m0 ms) 0 (jm_Ni h0 m0 Q) jj_F0 := by
  refine jj_Ct.of S.1 (by decide +kernel) (Nat.le_of_ble_eq_true rfl) rfl (fun X hG hl F M O hnm => ?_)
  subst hG; subst hl
  exact sM_commonPlace F M S hs (fun r ms q => ⟨r, ms, rfl, rfl, q⟩) _ _ _ w
theorem hM_commonPlace : yX3_commonPlace.cls = RX3 ∧ yX3_commonPlace.cls ≠ "java/lang/invoke/MethodHandle" ∧ yX3_commonPlace.cls ≠ "java/lang/invoke/VarHandle" ∧ (parseMethodDescriptor yX3_commonPlace.desc).map (fun d => d.parameters.length) = some 2 := by decide +kernel
/-! ofEdition(II)I -/
def fM_ofEdition (x1 : Int) (x2 : Int) (Q : Int → jj_MS → Prop) (ms : jj_MS) : Prop :=
  0 ≤ ((5 + (3 * x1)) + x2) ∧ ((5 + (3 * x1)) + x2) < 614 ∧
  Q (ms.2 0 ((5 + (3 * x1)) + x2)) ms

theorem sM_ofEdition {X : jj_X} {h0 : jj_H} {m0 k : Nat} {N : Option jj_AV → jj_H → Prop} {XN : String → Nat → jj_H → Prop} (F : jj_F X RX3 cX3_ofEdition 3) (M : jj_M X (some (.int)) 0 0 N XN) (S : jj_GS X.1 X.2.2.1) (hs : jj_hs X.1 h0 m0) {Q : Int → jj_MS → Prop} (hQ : ∀ r ms, Q r ms → N (some (.inl r)) (jj_mh h0 m0 ms)) : ∀ (x1 : Int) (x2 : Int) (ms : jj_MS), fM_ofEdition x1 x2 Q ms → jj_J X 3 0 [(0, .inr (.inr (.inl (some m0)))), (1, .inl x1), (2, .inl x2)] [] (jj_mh h0 m0 ms) k := by
  intro x1 x2 ms w
  unfold fM_ofEdition at w
  refine jr_aload_n (pc := 0) F (j := 0) dX3_ofEdition_0 rfl ?_
  refine jm_get (pc := 1) (f := 0) (v := .inr (.inr (.inl (some (m0 + 1 + 0))))) F (Nat.le_of_ble_eq_true rfl) q3130 rfl rfl dX3_ofEdition_1 ?_
  refine jr_iconst (pc := 4) F dX3_ofEdition_4 ?_
  refine jr_iconst (pc := 5) F dX3_ofEdition_5 ?_
  refine jr_iload_n (pc := 6) F (j := 1) dX3_ofEdition_6 rfl ?_
  refine jr_imul (pc := 7) F dX3_ofEdition_7 ?_
  refine jr_iadd (pc := 8) F dX3_ofEdition_8 ?_
  refine jr_iload_n (pc := 9) F (j := 2) dX3_ofEdition_9 rfl ?_
  refine jr_iadd (pc := 10) F dX3_ofEdition_10 ?_
  obtain ⟨hi1, hi2, w⟩ := w
  refine jm_iald (pc := 11) (f := 0) (o := 0) F rfl (by decide) hi1 hi2 dX3_ofEdition_11 ?_
  exact jr_iret (pc := 12) F M dX3_ofEdition_12 (hQ _ _ w)

theorem cM_ofEdition {G : jj_G} {l : Launch} (S : jj_GS G l) {h0 : jj_H} {m0 : Nat} (hs : jj_hs G h0 m0) {x1 : Int} {x2 : Int} {ms : jj_MS} {Q : Int → jj_MS → Prop} (w : fM_ofEdition x1 x2 Q ms) : jj_Ct G l yX3_ofEdition (ws_ yX3_ofEdition cX3_ofEdition 3 (some (.int))) 0 0 [.inr (.inr (.inl (some m0))), .inl x1, .inl x2] (jj_mh h0 m0 ms) 0 (jm_Ni h0 m0 Q) jj_F0 := by
  refine jj_Ct.of S.1 (by decide +kernel) (Nat.le_of_ble_eq_true rfl) rfl (fun X hG hl F M O hnm => ?_)
  subst hG; subst hl
  exact sM_ofEdition F M S hs (fun r ms q => ⟨r, ms, rfl, rfl, q⟩) _ _ _ w
theorem hM_ofEdition : yX3_ofEdition.cls = RX3 ∧ yX3_ofEdition.cls ≠ "java/lang/invoke/MethodHandle" ∧ yX3_ofEdition.cls ≠ "java/lang/invoke/VarHandle" ∧ (parseMethodDescriptor yX3_ofEdition.desc).map (fun d => d.parameters.length) = some 2 := by decide +kernel
/-! sizeOf(I)I -/
def fM_sizeOf (x1 : Int) (Q : Int → jj_MS → Prop) (ms : jj_MS) : Prop :=
  fM_ofEdition x1 0 (fun r2 ms1 =>
  Q r2 ms1) ms

theorem sM_sizeOf {X : jj_X} {h0 : jj_H} {m0 k : Nat} {N : Option jj_AV → jj_H → Prop} {XN : String → Nat → jj_H → Prop} (F : jj_F X RX3 cX3_sizeOf 2) (M : jj_M X (some (.int)) 1 22 N XN) (S : jj_GS X.1 X.2.2.1) (hs : jj_hs X.1 h0 m0) {Q : Int → jj_MS → Prop} (hQ : ∀ r ms, Q r ms → N (some (.inl r)) (jj_mh h0 m0 ms)) : ∀ (x1 : Int) (ms : jj_MS), fM_sizeOf x1 Q ms → jj_J X 2 0 [(0, .inr (.inr (.inl (some m0)))), (1, .inl x1)] [] (jj_mh h0 m0 ms) k := by
  intro x1 ms w
  unfold fM_sizeOf at w
  refine jr_aload_n (pc := 0) F (j := 0) dX3_sizeOf_0 rfl ?_
  refine jr_iload_n (pc := 1) F (j := 1) dX3_sizeOf_1 rfl ?_
  refine jr_iconst (pc := 2) F dX3_sizeOf_2 ?_
  refine jr_callV (pc := 3) (As := [_, _]) F M (lw_V q3311 q3313 qs52 q143 q3314) dX3_sizeOf_3 hM_ofEdition rfl (Nat.le_of_ble_eq_true rfl) (Nat.le_of_ble_eq_true rfl) (Nat.le_of_ble_eq_true rfl) (jj_set_self _ _ _) rfl rfl (Nat.zero_le _) (cM_ofEdition S hs w) (fun v9 h9 q9 => ?_) (fun _ _ _ q9 => q9.elim)
  obtain ⟨r2, ms1, rfl, rfl, w⟩ := q9
  exact jr_iret (pc := 6) F M dX3_sizeOf_6 (hQ _ _ w)

theorem cM_sizeOf {G : jj_G} {l : Launch} (S : jj_GS G l) {h0 : jj_H} {m0 : Nat} (hs : jj_hs G h0 m0) {x1 : Int} {ms : jj_MS} {Q : Int → jj_MS → Prop} (w : fM_sizeOf x1 Q ms) : jj_Ct G l yX3_sizeOf (ws_ yX3_sizeOf cX3_sizeOf 2 (some (.int))) 1 22 [.inr (.inr (.inl (some m0))), .inl x1] (jj_mh h0 m0 ms) 0 (jm_Ni h0 m0 Q) jj_F0 := by
  refine jj_Ct.of S.1 (by decide +kernel) (Nat.le_of_ble_eq_true rfl) rfl (fun X hG hl F M O hnm => ?_)
  subst hG; subst hl
  exact sM_sizeOf F M S hs (fun r ms q => ⟨r, ms, rfl, rfl, q⟩) _ _ w
theorem hM_sizeOf : yX3_sizeOf.cls = RX3 ∧ yX3_sizeOf.cls ≠ "java/lang/invoke/MethodHandle" ∧ yX3_sizeOf.cls ≠ "java/lang/invoke/VarHandle" ∧ (parseMethodDescriptor yX3_sizeOf.desc).map (fun d => d.parameters.length) = some 1 := by decide +kernel
/-! target()I -/
def fM_target (Q : Int → jj_MS → Prop) (ms : jj_MS) : Prop :=
  Q (ms.2 0 4) ms

theorem sM_target {X : jj_X} {h0 : jj_H} {m0 k : Nat} {N : Option jj_AV → jj_H → Prop} {XN : String → Nat → jj_H → Prop} (F : jj_F X RX3 cX3_target 1) (M : jj_M X (some (.int)) 0 0 N XN) (S : jj_GS X.1 X.2.2.1) (hs : jj_hs X.1 h0 m0) {Q : Int → jj_MS → Prop} (hQ : ∀ r ms, Q r ms → N (some (.inl r)) (jj_mh h0 m0 ms)) : ∀ (ms : jj_MS), fM_target Q ms → jj_J X 1 0 [(0, .inr (.inr (.inl (some m0))))] [] (jj_mh h0 m0 ms) k := by
  intro  ms w
  unfold fM_target at w
  refine jr_aload_n (pc := 0) F (j := 0) dX3_target_0 rfl ?_
  refine jm_get (pc := 1) (f := 0) (v := .inr (.inr (.inl (some (m0 + 1 + 0))))) F (Nat.le_of_ble_eq_true rfl) q3130 rfl rfl dX3_target_1 ?_
  refine jr_iconst (pc := 4) F dX3_target_4 ?_
  refine jm_iald (pc := 5) (f := 0) (o := 0) F rfl (by decide) (by decide) (by decide) dX3_target_5 ?_
  exact jr_iret (pc := 6) F M dX3_target_6 (hQ _ _ w)

theorem cM_target {G : jj_G} {l : Launch} (S : jj_GS G l) {h0 : jj_H} {m0 : Nat} (hs : jj_hs G h0 m0) {ms : jj_MS} {Q : Int → jj_MS → Prop} (w : fM_target Q ms) : jj_Ct G l yX3_target (ws_ yX3_target cX3_target 1 (some (.int))) 0 0 [.inr (.inr (.inl (some m0)))] (jj_mh h0 m0 ms) 0 (jm_Ni h0 m0 Q) jj_F0 := by
  refine jj_Ct.of S.1 (by decide +kernel) (Nat.le_of_ble_eq_true rfl) rfl (fun X hG hl F M O hnm => ?_)
  subst hG; subst hl
  exact sM_target F M S hs (fun r ms q => ⟨r, ms, rfl, rfl, q⟩) _ w
theorem hM_target : yX3_target.cls = RX3 ∧ yX3_target.cls ≠ "java/lang/invoke/MethodHandle" ∧ yX3_target.cls ≠ "java/lang/invoke/VarHandle" ∧ (parseMethodDescriptor yX3_target.desc).map (fun d => d.parameters.length) = some 0 := by decide +kernel
/-! wordPlace(II)I -/
def fM_wordPlace (x0 : Int) (x1 : Int) (Q : Int → jj_MS → Prop) (ms : jj_MS) : Prop :=
  Q ((120 * x0) + x1) ms

theorem sM_wordPlace {X : jj_X} {h0 : jj_H} {m0 k : Nat} {N : Option jj_AV → jj_H → Prop} {XN : String → Nat → jj_H → Prop} (F : jj_F X RX3 cX3_wordPlace 2) (M : jj_M X (some (.int)) 0 0 N XN) (S : jj_GS X.1 X.2.2.1) (hs : jj_hs X.1 h0 m0) {Q : Int → jj_MS → Prop} (hQ : ∀ r ms, Q r ms → N (some (.inl r)) (jj_mh h0 m0 ms)) : ∀ (x0 : Int) (x1 : Int) (ms : jj_MS), fM_wordPlace x0 x1 Q ms → jj_J X 2 0 [(0, .inl x0), (1, .inl x1)] [] (jj_mh h0 m0 ms) k := by
  intro x0 x1 ms w
  unfold fM_wordPlace at w
  refine jr_bipush (pc := 0) F dX3_wordPlace_0 (by decide +kernel) ?_
  refine jr_iload_n (pc := 2) F (j := 0) dX3_wordPlace_2 rfl ?_
  refine jr_imul (pc := 3) F dX3_wordPlace_3 ?_
  refine jr_iload_n (pc := 4) F (j := 1) dX3_wordPlace_4 rfl ?_
  refine jr_iadd (pc := 5) F dX3_wordPlace_5 ?_
  exact jr_iret (pc := 6) F M dX3_wordPlace_6 (hQ _ _ w)

theorem cM_wordPlace {G : jj_G} {l : Launch} (S : jj_GS G l) {h0 : jj_H} {m0 : Nat} (hs : jj_hs G h0 m0) {x0 : Int} {x1 : Int} {ms : jj_MS} {Q : Int → jj_MS → Prop} (w : fM_wordPlace x0 x1 Q ms) : jj_Ct G l yX3_wordPlace (ws_ yX3_wordPlace cX3_wordPlace 2 (some (.int))) 0 0 [.inl x0, .inl x1] (jj_mh h0 m0 ms) 0 (jm_Ni h0 m0 Q) jj_F0 := by
  refine jj_Ct.of S.1 (by decide +kernel) (Nat.le_of_ble_eq_true rfl) rfl (fun X hG hl F M O hnm => ?_)
  subst hG; subst hl
  exact sM_wordPlace F M S hs (fun r ms q => ⟨r, ms, rfl, rfl, q⟩) _ _ _ w
theorem hM_wordPlace : yX3_wordPlace.cls = RX3 ∧ yX3_wordPlace.cls ≠ "java/lang/invoke/MethodHandle" ∧ yX3_wordPlace.cls ≠ "java/lang/invoke/VarHandle" ∧ (parseMethodDescriptor yX3_wordPlace.desc).map (fun d => d.parameters.length) = some 2 := by decide +kernel
/-! wordOf(II)J -/
def fM_wordOf (x1 : Int) (x2 : Int) (Q : Int → jj_MS → Prop) (ms : jj_MS) : Prop :=
  fM_wordPlace x1 x2 (fun r2 ms1 =>
  0 ≤ r2 ∧ r2 < 606 ∧
  Q (ms1.2 3 r2) ms1) ms

theorem sM_wordOf {X : jj_X} {h0 : jj_H} {m0 k : Nat} {N : Option jj_AV → jj_H → Prop} {XN : String → Nat → jj_H → Prop} (F : jj_F X RX3 cX3_wordOf 3) (M : jj_M X (some (.long)) 1 21 N XN) (S : jj_GS X.1 X.2.2.1) (hs : jj_hs X.1 h0 m0) {Q : Int → jj_MS → Prop} (hQ : ∀ r ms, Q r ms → N (some (.inr (.inl r))) (jj_mh h0 m0 ms)) : ∀ (x1 : Int) (x2 : Int) (ms : jj_MS), fM_wordOf x1 x2 Q ms → jj_J X 3 0 [(0, .inr (.inr (.inl (some m0)))), (1, .inl x1), (2, .inl x2)] [] (jj_mh h0 m0 ms) k := by
  intro x1 x2 ms w
  unfold fM_wordOf at w
  refine jr_aload_n (pc := 0) F (j := 0) dX3_wordOf_0 rfl ?_
  refine jm_get (pc := 1) (f := 3) (v := .inr (.inr (.inl (some (m0 + 1 + 3))))) F (Nat.le_of_ble_eq_true rfl) q3133 rfl rfl dX3_wordOf_1 ?_
  refine jr_iload_n (pc := 4) F (j := 1) dX3_wordOf_4 rfl ?_
  refine jr_iload_n (pc := 5) F (j := 2) dX3_wordOf_5 rfl ?_
  refine jr_callS (pc := 6) (As := [_, _]) F M (lw_S q3327 q3328 q143 q3329) dX3_wordOf_6 hM_wordPlace.2 rfl (Nat.le_of_ble_eq_true rfl) (Nat.le_of_ble_eq_true rfl) (Nat.le_of_ble_eq_true rfl) (Nat.zero_le _) (cM_wordPlace S hs w) (fun v9 h9 q9 => ?_) (fun _ _ _ q9 => q9.elim)
  obtain ⟨r2, ms1, rfl, rfl, w⟩ := q9
  obtain ⟨hi1, hi2, w⟩ := w
  refine jm_lald (pc := 9) (f := 3) (o := 3) F rfl (by decide) hi1 hi2 dX3_wordOf_9 ?_
  exact jr_lret (pc := 10) F M dX3_wordOf_10 (hQ _ _ w)

theorem cM_wordOf {G : jj_G} {l : Launch} (S : jj_GS G l) {h0 : jj_H} {m0 : Nat} (hs : jj_hs G h0 m0) {x1 : Int} {x2 : Int} {ms : jj_MS} {Q : Int → jj_MS → Prop} (w : fM_wordOf x1 x2 Q ms) : jj_Ct G l yX3_wordOf (ws_ yX3_wordOf cX3_wordOf 3 (some (.long))) 1 21 [.inr (.inr (.inl (some m0))), .inl x1, .inl x2] (jj_mh h0 m0 ms) 0 (jm_Nl h0 m0 Q) jj_F0 := by
  refine jj_Ct.of S.1 (by decide +kernel) (Nat.le_of_ble_eq_true rfl) rfl (fun X hG hl F M O hnm => ?_)
  subst hG; subst hl
  exact sM_wordOf F M S hs (fun r ms q => ⟨r, ms, rfl, rfl, q⟩) _ _ _ w
theorem hM_wordOf : yX3_wordOf.cls = RX3 ∧ yX3_wordOf.cls ≠ "java/lang/invoke/MethodHandle" ∧ yX3_wordOf.cls ≠ "java/lang/invoke/VarHandle" ∧ (parseMethodDescriptor yX3_wordOf.desc).map (fun d => d.parameters.length) = some 2 := by decide +kernel
/-! layCommon(I)V -/
def fM_layCommon_j137 (K26 : Int → jj_MS → Prop) (x1 : Int) (x2 : Int) (x3 : Int) (x4 : Int) (x5 : Int) (x6 : Int) (Q : jj_MS → Prop) (ms : jj_MS) : Prop :=
  fM_commonPlace x4 x5 (fun r2 ms1 =>
  0 ≤ r2 ∧ r2 < 14641 ∧
  ∀ ms3, ms3 = jj_mA ms1 15 r2 x6 →
  ∀ v4, v4 = x5 + (-1) →
  K26 v4 ms3) ms

def fM_layCommon_j135 (K26 : Int → jj_MS → Prop) (x1 : Int) (x2 : Int) (x3 : Int) (x4 : Int) (x5 : Int) (y0 : Int) (Q : jj_MS → Prop) (ms : jj_MS) : Prop :=
  fM_layCommon_j137 K26 x1 x2 x3 x4 x5 y0 Q ms

def fM_layCommon_j72 (K26 : Int → jj_MS → Prop) (x1 : Int) (x2 : Int) (x3 : Int) (x4 : Int) (x5 : Int) (y0 : Int) (Q : jj_MS → Prop) (ms : jj_MS) : Prop :=
  fM_commonPlace (x4 + 1) x5 (fun r6 ms5 =>
  0 ≤ r6 ∧ r6 < 14641 ∧
  fM_commonPlace x4 (x5 + 1) (fun r8 ms7 =>
  0 ≤ r8 ∧ r8 < 14641 ∧
  jj_r (ms5.2 15 r6) ∧ jj_r (ms7.2 15 r8) ∧
  ∀ v9, v9 = max (ms5.2 15 r6) (ms7.2 15 r8) →
  jj_r y0 ∧ (y0 = 0 → (
    fM_layCommon_j135 K26 x1 x2 x3 x4 x5 v9 Q ms7)) ∧
  (¬ y0 = 0 → (
    fM_commonPlace (x4 + 1) (x5 + 1) (fun r11 ms10 =>
    0 ≤ r11 ∧ r11 < 14641 ∧
    fM_layCommon_j135 K26 x1 x2 x3 x4 x5 ((ms10.2 15 r11) + 1) Q ms10) ms7))) ms5) ms

def fM_layCommon_l26 (x1 : Int) (x2 : Int) (x3 : Int) (x4 : Int) (K18 : Int → jj_MS → Prop) (Q : jj_MS → Prop) : Nat → Int → jj_MS → Prop
  | 0, _, _ => False
  | n + 1, x5, ms =>
  jj_r x5 ∧ (x5 < 0 → (
    ∀ v12, v12 = x4 + (-1) →
    K18 v12 ms)) ∧
  (¬ x5 < 0 → (
    jj_r x4 ∧ jj_r x2 ∧ (x2 ≤ x4 → (
      fM_layCommon_j137 (fM_layCommon_l26 x1 x2 x3 x4 K18 Q n) x1 x2 x3 x4 x5 0 Q ms)) ∧
    (¬ x2 ≤ x4 → (
      jj_r x5 ∧ jj_r x3 ∧ (x3 ≤ x5 → (
        fM_layCommon_j137 (fM_layCommon_l26 x1 x2 x3 x4 K18 Q n) x1 x2 x3 x4 x5 0 Q ms)) ∧
      (¬ x3 ≤ x5 → (
        fM_wordOf x1 x4 (fun r14 ms13 =>
        fM_target (fun r16 ms15 =>
        fM_wordOf r16 x5 (fun r18 ms17 =>
        jj_rl r14 ∧ jj_rl r18 ∧ (¬ r14 = r18 → (
          fM_layCommon_j72 (fM_layCommon_l26 x1 x2 x3 x4 K18 Q n) x1 x2 x3 x4 x5 0 Q ms17)) ∧
        (r14 = r18 → (
          fM_layCommon_j72 (fM_layCommon_l26 x1 x2 x3 x4 K18 Q n) x1 x2 x3 x4 x5 1 Q ms17))) ms15) ms13) ms))))))

def fM_layCommon_l18 (x1 : Int) (x2 : Int) (x3 : Int) (Q : jj_MS → Prop) : Nat → Int → jj_MS → Prop
  | 0, _, _ => False
  | n + 1, x4, ms =>
  jj_r x4 ∧ (x4 < 0 → (
    Q ms)) ∧
  (¬ x4 < 0 → (
    ∃ n9, fM_layCommon_l26 x1 x2 x3 x4 (fM_layCommon_l18 x1 x2 x3 Q n) Q n9 x3 ms))

def fM_layCommon (x1 : Int) (Q : jj_MS → Prop) (ms : jj_MS) : Prop :=
  fM_sizeOf x1 (fun r20 ms19 =>
  fM_target (fun r22 ms21 =>
  fM_sizeOf r22 (fun r24 ms23 =>
  ∃ n9, fM_layCommon_l18 x1 r20 r24 Q n9 r20 ms23) ms21) ms19) ms

theorem sM_layCommon_j137 {X : jj_X} {h0 : jj_H} {m0 k : Nat} {N : Option jj_AV → jj_H → Prop} {XN : String → Nat → jj_H → Prop} (F : jj_F X RX3 cX3_layCommon 9) (M : jj_M X (none) 2 43 N XN) (S : jj_GS X.1 X.2.2.1) (hs : jj_hs X.1 h0 m0) {Q : jj_MS → Prop} (hQ : ∀ ms, Q ms → N none (jj_mh h0 m0 ms)) (x1 : Int) (x2 : Int) (x3 : Int) (x4 : Int) {K26 : Int → jj_MS → Prop} (hK26 : ∀ (z5 : Int) (ms : jj_MS), K26 z5 ms → jj_J X 9 26 [(0, .inr (.inr (.inl (some m0)))), (1, .inl x1), (2, .inl x2), (3, .inl x3), (4, .inl x4), (5, .inl z5)] [] (jj_mh h0 m0 ms) k) : ∀ (x5 : Int) (x6 : Int) (ms : jj_MS), fM_layCommon_j137 K26 x1 x2 x3 x4 x5 x6 Q ms → jj_J X 9 137 [(0, .inr (.inr (.inl (some m0)))), (1, .inl x1), (2, .inl x2), (3, .inl x3), (4, .inl x4), (5, .inl x5), (6, .inl x6)] [] (jj_mh h0 m0 ms) k := by
  intro x5 x6 ms w
  unfold fM_layCommon_j137 at w
  refine jr_aload_n (pc := 137) F (j := 0) dX3_layCommon_137 rfl ?_
  refine jm_get (pc := 138) (f := 15) (v := .inr (.inr (.inl (some (m0 + 1 + 12))))) F (Nat.le_of_ble_eq_true rfl) q3145 rfl rfl dX3_layCommon_138 ?_
  refine jr_iload (pc := 141) F (j := 4) dX3_layCommon_141 rfl ?_
  refine jr_iload (pc := 143) F (j := 5) dX3_layCommon_143 rfl ?_
  refine jr_callS (pc := 145) (As := [_, _]) F M (lw_S q3330 q3331 q143 q3332) dX3_layCommon_145 hM_commonPlace.2 rfl (Nat.le_of_ble_eq_true rfl) (Nat.le_of_ble_eq_true rfl) (Nat.le_of_ble_eq_true rfl) (Nat.zero_le _) (cM_commonPlace S hs w) (fun v9 h9 q9 => ?_) (fun _ _ _ q9 => q9.elim)
  obtain ⟨r2, ms1, rfl, rfl, w⟩ := q9
  refine jr_iload (pc := 148) F (j := 6) dX3_layCommon_148 rfl ?_
  obtain ⟨hi1, hi2, w⟩ := w
  have w := w _ rfl
  refine jm_iast (pc := 150) (f := 15) (o := 12) F (Nat.le_of_ble_eq_true rfl) rfl (by decide) hi1 hi2 dX3_layCommon_150 ?_
  have w := w _ rfl
  refine jr_iinc (pc := 151) F (j := 5) (vs' := [(5, .inl _), (0, .inr (.inr (.inl _))), (1, .inl _), (2, .inl _), (3, .inl _), (4, .inl _), (6, .inl _)]) dX3_layCommon_151 rfl rfl (Nat.le_of_ble_eq_true rfl) rfl ?_
  refine jr_goto (pc := 154) (tgt := 26) F dX3_layCommon_154 rfl ?_
  refine jj_J.sub [1, 2, 3, 4, 5, 0] rfl ?_
  exact hK26 _ _ w

theorem sM_layCommon_j135 {X : jj_X} {h0 : jj_H} {m0 k : Nat} {N : Option jj_AV → jj_H → Prop} {XN : String → Nat → jj_H → Prop} (F : jj_F X RX3 cX3_layCommon 9) (M : jj_M X (none) 2 43 N XN) (S : jj_GS X.1 X.2.2.1) (hs : jj_hs X.1 h0 m0) {Q : jj_MS → Prop} (hQ : ∀ ms, Q ms → N none (jj_mh h0 m0 ms)) (x1 : Int) (x2 : Int) (x3 : Int) (x4 : Int) {K26 : Int → jj_MS → Prop} (hK26 : ∀ (z5 : Int) (ms : jj_MS), K26 z5 ms → jj_J X 9 26 [(0, .inr (.inr (.inl (some m0)))), (1, .inl x1), (2, .inl x2), (3, .inl x3), (4, .inl x4), (5, .inl z5)] [] (jj_mh h0 m0 ms) k) : ∀ (x5 : Int) (y0 : Int) (ms : jj_MS), fM_layCommon_j135 K26 x1 x2 x3 x4 x5 y0 Q ms → jj_J X 9 135 [(0, .inr (.inr (.inl (some m0)))), (1, .inl x1), (2, .inl x2), (3, .inl x3), (4, .inl x4), (5, .inl x5)] [.inl y0] (jj_mh h0 m0 ms) k := by
  intro x5 y0 ms w
  unfold fM_layCommon_j135 at w
  refine jr_istore (pc := 135) F (vs' := [(6, .inl _), (0, .inr (.inr (.inl _))), (1, .inl _), (2, .inl _), (3, .inl _), (4, .inl _), (5, .inl _)]) dX3_layCommon_135 (Nat.le_of_ble_eq_true rfl) rfl ?_
  refine jj_J.sub [1, 2, 3, 4, 5, 6, 0] rfl ?_
  exact sM_layCommon_j137 F M S hs hQ _ _ _ _ hK26 _ _ _ w

theorem sM_layCommon_j72 {X : jj_X} {h0 : jj_H} {m0 k : Nat} {N : Option jj_AV → jj_H → Prop} {XN : String → Nat → jj_H → Prop} (F : jj_F X RX3 cX3_layCommon 9) (M : jj_M X (none) 2 43 N XN) (S : jj_GS X.1 X.2.2.1) (hs : jj_hs X.1 h0 m0) {Q : jj_MS → Prop} (hQ : ∀ ms, Q ms → N none (jj_mh h0 m0 ms)) (x1 : Int) (x2 : Int) (x3 : Int) (x4 : Int) {K26 : Int → jj_MS → Prop} (hK26 : ∀ (z5 : Int) (ms : jj_MS), K26 z5 ms → jj_J X 9 26 [(0, .inr (.inr (.inl (some m0)))), (1, .inl x1), (2, .inl x2), (3, .inl x3), (4, .inl x4), (5, .inl z5)] [] (jj_mh h0 m0 ms) k) : ∀ (x5 : Int) (y0 : Int) (ms : jj_MS), fM_layCommon_j72 K26 x1 x2 x3 x4 x5 y0 Q ms → jj_J X 9 72 [(0, .inr (.inr (.inl (some m0)))), (1, .inl x1), (2, .inl x2), (3, .inl x3), (4, .inl x4), (5, .inl x5)] [.inl y0] (jj_mh h0 m0 ms) k := by
  intro x5 y0 ms w
  unfold fM_layCommon_j72 at w
  refine jr_istore (pc := 72) F (vs' := [(7, .inl _), (0, .inr (.inr (.inl _))), (1, .inl _), (2, .inl _), (3, .inl _), (4, .inl _), (5, .inl _)]) dX3_layCommon_72 (Nat.le_of_ble_eq_true rfl) rfl ?_
  refine jr_aload_n (pc := 74) F (j := 1) dX3_layCommon_74 rfl ?_
  refine jm_get (pc := 75) (f := 15) (v := .inr (.inr (.inl (some (m0 + 1 + 12))))) F (Nat.le_of_ble_eq_true rfl) q3145 rfl rfl dX3_layCommon_75 ?_
  refine jr_iload (pc := 78) F (j := 5) dX3_layCommon_78 rfl ?_
  refine jr_iconst (pc := 80) F dX3_layCommon_80 ?_
  refine jr_iadd (pc := 81) F dX3_layCommon_81 ?_
  refine jr_iload (pc := 82) F (j := 6) dX3_layCommon_82 rfl ?_
  refine jr_callS (pc := 84) (As := [_, _]) F M (lw_S q3330 q3331 q143 q3332) dX3_layCommon_84 hM_commonPlace.2 rfl (Nat.le_of_ble_eq_true rfl) (Nat.le_of_ble_eq_true rfl) (Nat.le_of_ble_eq_true rfl) (Nat.zero_le _) (cM_commonPlace S hs w) (fun v9 h9 q9 => ?_) (fun _ _ _ q9 => q9.elim)
  obtain ⟨r6, ms5, rfl, rfl, w⟩ := q9
  obtain ⟨hi1, hi2, w⟩ := w
  refine jm_iald (pc := 87) (f := 15) (o := 12) F rfl (by decide) hi1 hi2 dX3_layCommon_87 ?_
  refine jr_aload_n (pc := 88) F (j := 1) dX3_layCommon_88 rfl ?_
  refine jm_get (pc := 89) (f := 15) (v := .inr (.inr (.inl (some (m0 + 1 + 12))))) F (Nat.le_of_ble_eq_true rfl) q3145 rfl rfl dX3_layCommon_89 ?_
  refine jr_iload (pc := 92) F (j := 5) dX3_layCommon_92 rfl ?_
  refine jr_iload (pc := 94) F (j := 6) dX3_layCommon_94 rfl ?_
  refine jr_iconst (pc := 96) F dX3_layCommon_96 ?_
  refine jr_iadd (pc := 97) F dX3_layCommon_97 ?_
  refine jr_callS (pc := 98) (As := [_, _]) F M (lw_S q3330 q3331 q143 q3332) dX3_layCommon_98 hM_commonPlace.2 rfl (Nat.le_of_ble_eq_true rfl) (Nat.le_of_ble_eq_true rfl) (Nat.le_of_ble_eq_true rfl) (Nat.zero_le _) (cM_commonPlace S hs w) (fun v9 h9 q9 => ?_) (fun _ _ _ q9 => q9.elim)
  obtain ⟨r8, ms7, rfl, rfl, w⟩ := q9
  obtain ⟨hi1, hi2, w⟩ := w
  refine jm_iald (pc := 101) (f := 15) (o := 12) F rfl (by decide) hi1 hi2 dX3_layCommon_101 ?_
  obtain ⟨hx9, hy9, w⟩ := w
  refine jr_mmax (pc := 102) F M hx9 hy9 q3333 (Nat.le_of_ble_eq_true rfl) (Nat.le_of_ble_eq_true rfl) (Nat.le_of_ble_eq_true rfl) dX3_layCommon_102 ?_
  have w := w _ rfl
  refine jr_istore (pc := 105) F (vs' := [(8, .inl _), (7, .inl _), (0, .inr (.inr (.inl _))), (1, .inl _), (2, .inl _), (3, .inl _), (4, .inl _), (5, .inl _)]) dX3_layCommon_105 (Nat.le_of_ble_eq_true rfl) rfl ?_
  refine jr_iload (pc := 107) F (j := 1) dX3_layCommon_107 rfl ?_
  obtain ⟨hx9, w1, w2⟩ := w
  refine jr_if_eq (pc := 109) (tgt := 133) F hx9 dX3_layCommon_109 rfl (fun c9 => ?_) (fun c9 => ?_)
  · have w := w1 c9
    refine jr_iload (pc := 133) F (j := 0) dX3_layCommon_133 rfl ?_
    refine jj_J.sub [2, 3, 4, 5, 6, 7] rfl ?_
    exact sM_layCommon_j135 F M S hs hQ _ _ _ _ hK26 _ _ _ w
  · have w := w2 c9
    refine jr_aload_n (pc := 112) F (j := 2) dX3_layCommon_112 rfl ?_
    refine jm_get (pc := 113) (f := 15) (v := .inr (.inr (.inl (some (m0 + 1 + 12))))) F (Nat.le_of_ble_eq_true rfl) q3145 rfl rfl dX3_layCommon_113 ?_
    refine jr_iload (pc := 116) F (j := 6) dX3_layCommon_116 rfl ?_
    refine jr_iconst (pc := 118) F dX3_layCommon_118 ?_
    refine jr_iadd (pc := 119) F dX3_layCommon_119 ?_
    refine jr_iload (pc := 120) F (j := 7) dX3_layCommon_120 rfl ?_
    refine jr_iconst (pc := 122) F dX3_layCommon_122 ?_
    refine jr_iadd (pc := 123) F dX3_layCommon_123 ?_
    refine jr_callS (pc := 124) (As := [_, _]) F M (lw_S q3330 q3331 q143 q3332) dX3_layCommon_124 hM_commonPlace.2 rfl (Nat.le_of_ble_eq_true rfl) (Nat.le_of_ble_eq_true rfl) (Nat.le_of_ble_eq_true rfl) (Nat.zero_le _) (cM_commonPlace S hs w) (fun v9 h9 q9 => ?_) (fun _ _ _ q9 => q9.elim)
    obtain ⟨r11, ms10, rfl, rfl, w⟩ := q9
    obtain ⟨hi1, hi2, w⟩ := w
    refine jm_iald (pc := 127) (f := 15) (o := 12) F rfl (by decide) hi1 hi2 dX3_layCommon_127 ?_
    refine jr_iconst (pc := 128) F dX3_layCommon_128 ?_
    refine jr_iadd (pc := 129) F dX3_layCommon_129 ?_
    refine jr_goto (pc := 130) (tgt := 135) F dX3_layCommon_130 rfl ?_
    refine jj_J.sub [2, 3, 4, 5, 6, 7] rfl ?_
    exact sM_layCommon_j135 F M S hs hQ _ _ _ _ hK26 _ _ _ w

theorem sM_layCommon_l26 {X : jj_X} {h0 : jj_H} {m0 k : Nat} {N : Option jj_AV → jj_H → Prop} {XN : String → Nat → jj_H → Prop} (F : jj_F X RX3 cX3_layCommon 9) (M : jj_M X (none) 2 43 N XN) (S : jj_GS X.1 X.2.2.1) (hs : jj_hs X.1 h0 m0) {Q : jj_MS → Prop} (hQ : ∀ ms, Q ms → N none (jj_mh h0 m0 ms)) (x1 : Int) (x2 : Int) (x3 : Int) (x4 : Int) {K18 : Int → jj_MS → Prop} (hK18 : ∀ (z4 : Int) (ms : jj_MS), K18 z4 ms → jj_J X 9 18 [(0, .inr (.inr (.inl (some m0)))), (1, .inl x1), (2, .inl x2), (3, .inl x3), (4, .inl z4)] [] (jj_mh h0 m0 ms) k) : ∀ (n : Nat) (x5 : Int) (ms : jj_MS), fM_layCommon_l26 x1 x2 x3 x4 K18 Q n x5 ms → jj_J X 9 26 [(0, .inr (.inr (.inl (some m0)))), (1, .inl x1), (2, .inl x2), (3, .inl x3), (4, .inl x4), (5, .inl x5)] [] (jj_mh h0 m0 ms) k := by
  intro n
  induction n with
  | zero =>
    intro x5 ms w
    exact (show False from w).elim
  | succ n ih =>
    intro x5 ms w
    rw [fM_layCommon_l26] at w
    refine jr_iload (pc := 26) F (j := 5) dX3_layCommon_26 rfl ?_
    obtain ⟨hx9, w1, w2⟩ := w
    refine jr_if_lt (pc := 28) (tgt := 157) F hx9 dX3_layCommon_28 rfl (fun c9 => ?_) (fun c9 => ?_)
    · have w := w1 c9
      have w := w _ rfl
      refine jr_iinc (pc := 157) F (j := 4) (vs' := [(4, .inl _), (0, .inr (.inr (.inl _))), (1, .inl _), (2, .inl _), (3, .inl _), (5, .inl _)]) dX3_layCommon_157 rfl rfl (Nat.le_of_ble_eq_true rfl) rfl ?_
      refine jr_goto (pc := 160) (tgt := 18) F dX3_layCommon_160 rfl ?_
      refine jj_J.sub [1, 2, 3, 4, 0] rfl ?_
      exact hK18 _ _ w
    · have w := w2 c9
      refine jr_iconst (pc := 31) F dX3_layCommon_31 ?_
      refine jr_istore (pc := 32) F (vs' := [(6, .inl _), (0, .inr (.inr (.inl _))), (1, .inl _), (2, .inl _), (3, .inl _), (4, .inl _), (5, .inl _)]) dX3_layCommon_32 (Nat.le_of_ble_eq_true rfl) rfl ?_
      refine jr_iload (pc := 34) F (j := 5) dX3_layCommon_34 rfl ?_
      refine jr_iload_n (pc := 36) F (j := 3) dX3_layCommon_36 rfl ?_
      obtain ⟨hx9, hy9, w1, w2⟩ := w
      refine jr_icmp_ge (pc := 37) (tgt := 137) F hx9 hy9 dX3_layCommon_37 rfl (fun c9 => ?_) (fun c9 => ?_)
      · have w := w1 c9
        refine jj_J.sub [1, 2, 3, 4, 5, 6, 0] rfl ?_
        exact sM_layCommon_j137 F M S hs hQ _ _ _ _ ih _ _ _ w
      · have w := w2 c9
        refine jr_iload (pc := 40) F (j := 6) dX3_layCommon_40 rfl ?_
        refine jr_iload_n (pc := 42) F (j := 4) dX3_layCommon_42 rfl ?_
        obtain ⟨hx9, hy9, w1, w2⟩ := w
        refine jr_icmp_ge (pc := 43) (tgt := 137) F hx9 hy9 dX3_layCommon_43 rfl (fun c9 => ?_) (fun c9 => ?_)
        · have w := w1 c9
          refine jj_J.sub [1, 2, 3, 4, 5, 6, 0] rfl ?_
          exact sM_layCommon_j137 F M S hs hQ _ _ _ _ ih _ _ _ w
        · have w := w2 c9
          refine jr_aload_n (pc := 46) F (j := 1) dX3_layCommon_46 rfl ?_
          refine jr_iload_n (pc := 47) F (j := 2) dX3_layCommon_47 rfl ?_
          refine jr_iload (pc := 48) F (j := 5) dX3_layCommon_48 rfl ?_
          refine jr_callV (pc := 50) (As := [_, _]) F M (lw_V q3323 q3325 qs55 q143 q3326) dX3_layCommon_50 hM_wordOf rfl (Nat.le_of_ble_eq_true rfl) (Nat.le_of_ble_eq_true rfl) (Nat.le_of_ble_eq_true rfl) (jj_set_self _ _ _) rfl rfl (Nat.zero_le _) (cM_wordOf S hs w) (fun v9 h9 q9 => ?_) (fun _ _ _ q9 => q9.elim)
          obtain ⟨r14, ms13, rfl, rfl, w⟩ := q9
          refine jr_aload_n (pc := 53) F (j := 1) dX3_layCommon_53 rfl ?_
          refine jr_aload_n (pc := 54) F (j := 1) dX3_layCommon_54 rfl ?_
          refine jr_callV (pc := 55) (As := []) F M (lw_V q3315 q3317 qs53 q143 q3318) dX3_layCommon_55 hM_target rfl (Nat.le_of_ble_eq_true rfl) (Nat.le_of_ble_eq_true rfl) (Nat.le_of_ble_eq_true rfl) (jj_set_self _ _ _) rfl rfl (Nat.zero_le _) (cM_target S hs w) (fun v9 h9 q9 => ?_) (fun _ _ _ q9 => q9.elim)
          obtain ⟨r16, ms15, rfl, rfl, w⟩ := q9
          refine jr_iload (pc := 58) F (j := 6) dX3_layCommon_58 rfl ?_
          refine jr_callV (pc := 60) (As := [_, _]) F M (lw_V q3323 q3325 qs55 q143 q3326) dX3_layCommon_60 hM_wordOf rfl (Nat.le_of_ble_eq_true rfl) (Nat.le_of_ble_eq_true rfl) (Nat.le_of_ble_eq_true rfl) (jj_set_self _ _ _) rfl rfl (Nat.zero_le _) (cM_wordOf S hs w) (fun v9 h9 q9 => ?_) (fun _ _ _ q9 => q9.elim)
          obtain ⟨r18, ms17, rfl, rfl, w⟩ := q9
          obtain ⟨hx9, hy9, w1, w2⟩ := w
          refine jr_lc_ne (pc := 63) (tgt := 71) F hx9 hy9 dX3_layCommon_63 dX3_layCommon_64 rfl (fun c9 => ?_) (fun c9 => ?_)
          · have w := w1 c9
            refine jr_iconst (pc := 71) F dX3_layCommon_71 ?_
            refine jj_J.sub [1, 2, 3, 4, 5, 6] rfl ?_
            exact sM_layCommon_j72 F M S hs hQ _ _ _ _ ih _ _ _ w
          · have w := w2 c9
            refine jr_iconst (pc := 67) F dX3_layCommon_67 ?_
            refine jr_goto (pc := 68) (tgt := 72) F dX3_layCommon_68 rfl ?_
            refine jj_J.sub [1, 2, 3, 4, 5, 6] rfl ?_
            exact sM_layCommon_j72 F M S hs hQ _ _ _ _ ih _ _ _ w

theorem sM_layCommon_l18 {X : jj_X} {h0 : jj_H} {m0 k : Nat} {N : Option jj_AV → jj_H → Prop} {XN : String → Nat → jj_H → Prop} (F : jj_F X RX3 cX3_layCommon 9) (M : jj_M X (none) 2 43 N XN) (S : jj_GS X.1 X.2.2.1) (hs : jj_hs X.1 h0 m0) {Q : jj_MS → Prop} (hQ : ∀ ms, Q ms → N none (jj_mh h0 m0 ms)) (x1 : Int) (x2 : Int) (x3 : Int) : ∀ (n : Nat) (x4 : Int) (ms : jj_MS), fM_layCommon_l18 x1 x2 x3 Q n x4 ms → jj_J X 9 18 [(0, .inr (.inr (.inl (some m0)))), (1, .inl x1), (2, .inl x2), (3, .inl x3), (4, .inl x4)] [] (jj_mh h0 m0 ms) k := by
  intro n
  induction n with
  | zero =>
    intro x4 ms w
    exact (show False from w).elim
  | succ n ih =>
    intro x4 ms w
    rw [fM_layCommon_l18] at w
    refine jr_iload (pc := 18) F (j := 4) dX3_layCommon_18 rfl ?_
    obtain ⟨hx9, w1, w2⟩ := w
    refine jr_if_lt (pc := 20) (tgt := 163) F hx9 dX3_layCommon_20 rfl (fun c9 => ?_) (fun c9 => ?_)
    · have w := w1 c9
      exact jr_vret (pc := 163) F M dX3_layCommon_163 (hQ _ w)
    · have w := w2 c9
      refine jr_iload_n (pc := 23) F (j := 3) dX3_layCommon_23 rfl ?_
      refine jr_istore (pc := 24) F (vs' := [(5, .inl _), (0, .inr (.inr (.inl _))), (1, .inl _), (2, .inl _), (3, .inl _), (4, .inl _)]) dX3_layCommon_24 (Nat.le_of_ble_eq_true rfl) rfl ?_
      refine jj_J.sub [1, 2, 3, 4, 5, 0] rfl ?_
      obtain ⟨n9, w⟩ := w
      exact sM_layCommon_l26 F M S hs hQ _ _ _ _ ih n9 _ _ w

theorem sM_layCommon {X : jj_X} {h0 : jj_H} {m0 k : Nat} {N : Option jj_AV → jj_H → Prop} {XN : String → Nat → jj_H → Prop} (F : jj_F X RX3 cX3_layCommon 9) (M : jj_M X (none) 2 43 N XN) (S : jj_GS X.1 X.2.2.1) (hs : jj_hs X.1 h0 m0) {Q : jj_MS → Prop} (hQ : ∀ ms, Q ms → N none (jj_mh h0 m0 ms)) : ∀ (x1 : Int) (ms : jj_MS), fM_layCommon x1 Q ms → jj_J X 9 0 [(0, .inr (.inr (.inl (some m0)))), (1, .inl x1)] [] (jj_mh h0 m0 ms) k := by
  intro x1 ms w
  unfold fM_layCommon at w
  refine jr_aload_n (pc := 0) F (j := 0) dX3_layCommon_0 rfl ?_
  refine jr_iload_n (pc := 1) F (j := 1) dX3_layCommon_1 rfl ?_
  refine jr_callV (pc := 2) (As := [_]) F M (lw_V q3307 q3309 qs51 q143 q3310) dX3_layCommon_2 hM_sizeOf rfl (Nat.le_of_ble_eq_true rfl) (Nat.le_of_ble_eq_true rfl) (Nat.le_of_ble_eq_true rfl) (jj_set_self _ _ _) rfl rfl (Nat.zero_le _) (cM_sizeOf S hs w) (fun v9 h9 q9 => ?_) (fun _ _ _ q9 => q9.elim)
  obtain ⟨r20, ms19, rfl, rfl, w⟩ := q9
  refine jr_istore_n (pc := 5) F (vs' := [(2, .inl _), (0, .inr (.inr (.inl _))), (1, .inl _)]) dX3_layCommon_5 (Nat.le_of_ble_eq_true rfl) rfl ?_
  refine jr_aload_n (pc := 6) F (j := 1) dX3_layCommon_6 rfl ?_
  refine jr_aload_n (pc := 7) F (j := 1) dX3_layCommon_7 rfl ?_
  refine jr_callV (pc := 8) (As := []) F M (lw_V q3315 q3317 qs53 q143 q3318) dX3_layCommon_8 hM_target rfl (Nat.le_of_ble_eq_true rfl) (Nat.le_of_ble_eq_true rfl) (Nat.le_of_ble_eq_true rfl) (jj_set_self _ _ _) rfl rfl (Nat.zero_le _) (cM_target S hs w) (fun v9 h9 q9 => ?_) (fun _ _ _ q9 => q9.elim)
  obtain ⟨r22, ms21, rfl, rfl, w⟩ := q9
  refine jr_callV (pc := 11) (As := [_]) F M (lw_V q3307 q3309 qs51 q143 q3310) dX3_layCommon_11 hM_sizeOf rfl (Nat.le_of_ble_eq_true rfl) (Nat.le_of_ble_eq_true rfl) (Nat.le_of_ble_eq_true rfl) (jj_set_self _ _ _) rfl rfl (Nat.zero_le _) (cM_sizeOf S hs w) (fun v9 h9 q9 => ?_) (fun _ _ _ q9 => q9.elim)
  obtain ⟨r24, ms23, rfl, rfl, w⟩ := q9
  refine jr_istore_n (pc := 14) F (vs' := [(3, .inl _), (2, .inl _), (0, .inr (.inr (.inl _))), (1, .inl _)]) dX3_layCommon_14 (Nat.le_of_ble_eq_true rfl) rfl ?_
  refine jr_iload_n (pc := 15) F (j := 1) dX3_layCommon_15 rfl ?_
  refine jr_istore (pc := 16) F (vs' := [(4, .inl _), (3, .inl _), (2, .inl _), (0, .inr (.inr (.inl _))), (1, .inl _)]) dX3_layCommon_16 (Nat.le_of_ble_eq_true rfl) rfl ?_
  refine jj_J.sub [3, 4, 2, 1, 0] rfl ?_
  obtain ⟨n9, w⟩ := w
  exact sM_layCommon_l18 F M S hs hQ _ _ _ n9 _ _ w

theorem cM_layCommon {G : jj_G} {l : Launch} (S : jj_GS G l) {h0 : jj_H} {m0 : Nat} (hs : jj_hs G h0 m0) {x1 : Int} {ms : jj_MS} {Q : jj_MS → Prop} (w : fM_layCommon x1 Q ms) : jj_Ct G l yX3_layCommon (ws_ yX3_layCommon cX3_layCommon 9 (none)) 2 43 [.inr (.inr (.inl (some m0))), .inl x1] (jj_mh h0 m0 ms) 0 (jm_Nv h0 m0 Q) jj_F0 := by
  refine jj_Ct.of S.1 (by decide +kernel) (Nat.le_of_ble_eq_true rfl) rfl (fun X hG hl F M O hnm => ?_)
  subst hG; subst hl
  exact sM_layCommon F M S hs (fun ms q => ⟨ms, rfl, rfl, q⟩) _ _ w
theorem hM_layCommon : yX3_layCommon.cls = RX3 ∧ yX3_layCommon.cls ≠ "java/lang/invoke/MethodHandle" ∧ yX3_layCommon.cls ≠ "java/lang/invoke/VarHandle" ∧ (parseMethodDescriptor yX3_layCommon.desc).map (fun d => d.parameters.length) = some 1 := by decide +kernel
/-! align(I)V -/
def fM_align_l54 (x1 : Int) (Q : jj_MS → Prop) : Nat → Int → Int → jj_MS → Prop
  | 0, _, _, _ => False
  | n + 1, x2, x3, ms =>
  fM_sizeOf x1 (fun r2 ms1 =>
  jj_r x2 ∧ jj_r r2 ∧ (r2 ≤ x2 → (
    Q ms1)) ∧
  (¬ r2 ≤ x2 → (
    fM_target (fun r4 ms3 =>
    fM_sizeOf r4 (fun r6 ms5 =>
    jj_r x3 ∧ jj_r r6 ∧ (r6 ≤ x3 → (
      Q ms5)) ∧
    (¬ r6 ≤ x3 → (
      fM_wordOf x1 x2 (fun r8 ms7 =>
      fM_target (fun r10 ms9 =>
      fM_wordOf r10 x3 (fun r12 ms11 =>
      jj_rl r8 ∧ jj_rl r12 ∧ (¬ r8 = r12 → (
        fM_commonPlace (x2 + 1) x3 (fun r14 ms13 =>
        0 ≤ r14 ∧ r14 < 14641 ∧
        fM_commonPlace x2 (x3 + 1) (fun r16 ms15 =>
        0 ≤ r16 ∧ r16 < 14641 ∧
        jj_r (ms13.2 15 r14) ∧ jj_r (ms15.2 15 r16) ∧ ((ms13.2 15 r14) < (ms15.2 15 r16) → (
          ∀ v17, v17 = x3 + 1 →
          fM_align_l54 x1 Q n x2 v17 ms15)) ∧
        (¬ (ms13.2 15 r14) < (ms15.2 15 r16) → (
          ∀ v18, v18 = x2 + 1 →
          fM_align_l54 x1 Q n v18 x3 ms15))) ms13) ms11)) ∧
      (r8 = r12 → (
        0 ≤ x2 ∧ x2 < 120 ∧
        ∀ ms19, ms19 = jj_mA ms11 16 x2 x3 →
        ∀ v20, v20 = x2 + 1 →
        ∀ v21, v21 = x3 + 1 →
        fM_align_l54 x1 Q n v20 v21 ms19))) ms9) ms7) ms5))) ms3) ms1))) ms

def fM_align_l2 (x1 : Int) (Q : jj_MS → Prop) : Nat → Int → jj_MS → Prop
  | 0, _, _ => False
  | n + 1, x2, ms =>
  fM_sizeOf x1 (fun r23 ms22 =>
  jj_r x2 ∧ jj_r r23 ∧ (r23 ≤ x2 → (
    fM_target (fun r25 ms24 =>
    jj_r x1 ∧ jj_r r25 ∧ (¬ x1 = r25 → (
      fM_layCommon x1 (fun ms26 =>
      ∃ n9, fM_align_l54 x1 Q n9 0 0 ms26) ms24)) ∧
    (x1 = r25 → (
      Q ms24))) ms22)) ∧
  (¬ r23 ≤ x2 → (
    fM_target (fun r29 ms28 =>
    jj_r x1 ∧ jj_r r29 ∧ (¬ x1 = r29 → (
      0 ≤ x2 ∧ x2 < 120 ∧
      ∀ ms30, ms30 = jj_mA ms28 16 x2 ((-1)) →
      ∀ v31, v31 = x2 + 1 →
      fM_align_l2 x1 Q n v31 ms30)) ∧
    (x1 = r29 → (
      0 ≤ x2 ∧ x2 < 120 ∧
      ∀ ms32, ms32 = jj_mA ms28 16 x2 x2 →
      ∀ v33, v33 = x2 + 1 →
      fM_align_l2 x1 Q n v33 ms32))) ms22))) ms

def fM_align (x1 : Int) (Q : jj_MS → Prop) (ms : jj_MS) : Prop :=
  ∃ n9, fM_align_l2 x1 Q n9 0 ms

theorem sM_align_l54 {X : jj_X} {h0 : jj_H} {m0 k : Nat} {N : Option jj_AV → jj_H → Prop} {XN : String → Nat → jj_H → Prop} (F : jj_F X RX3 cX3_align 4) (M : jj_M X (none) 3 71 N XN) (S : jj_GS X.1 X.2.2.1) (hs : jj_hs X.1 h0 m0) {Q : jj_MS → Prop} (hQ : ∀ ms, Q ms → N none (jj_mh h0 m0 ms)) (x1 : Int) : ∀ (n : Nat) (x2 : Int) (x3 : Int) (ms : jj_MS), fM_align_l54 x1 Q n x2 x3 ms → jj_J X 4 54 [(0, .inr (.inr (.inl (some m0)))), (1, .inl x1), (2, .inl x2), (3, .inl x3)] [] (jj_mh h0 m0 ms) k := by
  intro n
  induction n with
  | zero =>
    intro x2 x3 ms w
    exact (show False from w).elim
  | succ n ih =>
    intro x2 x3 ms w
    rw [fM_align_l54] at w
    refine jr_iload_n (pc := 54) F (j := 2) dX3_align_54 rfl ?_
    refine jr_aload_n (pc := 55) F (j := 0) dX3_align_55 rfl ?_
    refine jr_iload_n (pc := 56) F (j := 1) dX3_align_56 rfl ?_
    refine jr_callV (pc := 57) (As := [_]) F M (lw_V q3307 q3309 qs51 q143 q3310) dX3_align_57 hM_sizeOf rfl (Nat.le_of_ble_eq_true rfl) (Nat.le_of_ble_eq_true rfl) (Nat.le_of_ble_eq_true rfl) (jj_set_self _ _ _) rfl rfl (Nat.zero_le _) (cM_sizeOf S hs w) (fun v9 h9 q9 => ?_) (fun _ _ _ q9 => q9.elim)
    obtain ⟨r2, ms1, rfl, rfl, w⟩ := q9
    obtain ⟨hx9, hy9, w1, w2⟩ := w
    refine jr_icmp_ge (pc := 60) (tgt := 149) F hx9 hy9 dX3_align_60 rfl (fun c9 => ?_) (fun c9 => ?_)
    · have w := w1 c9
      exact jr_vret (pc := 149) F M dX3_align_149 (hQ _ w)
    · have w := w2 c9
      refine jr_iload_n (pc := 63) F (j := 3) dX3_align_63 rfl ?_
      refine jr_aload_n (pc := 64) F (j := 0) dX3_align_64 rfl ?_
      refine jr_aload_n (pc := 65) F (j := 0) dX3_align_65 rfl ?_
      refine jr_callV (pc := 66) (As := []) F M (lw_V q3315 q3317 qs53 q143 q3318) dX3_align_66 hM_target rfl (Nat.le_of_ble_eq_true rfl) (Nat.le_of_ble_eq_true rfl) (Nat.le_of_ble_eq_true rfl) (jj_set_self _ _ _) rfl rfl (Nat.zero_le _) (cM_target S hs w) (fun v9 h9 q9 => ?_) (fun _ _ _ q9 => q9.elim)
      obtain ⟨r4, ms3, rfl, rfl, w⟩ := q9
      refine jr_callV (pc := 69) (As := [_]) F M (lw_V q3307 q3309 qs51 q143 q3310) dX3_align_69 hM_sizeOf rfl (Nat.le_of_ble_eq_true rfl) (Nat.le_of_ble_eq_true rfl) (Nat.le_of_ble_eq_true rfl) (jj_set_self _ _ _) rfl rfl (Nat.zero_le _) (cM_sizeOf S hs w) (fun v9 h9 q9 => ?_) (fun _ _ _ q9 => q9.elim)
      obtain ⟨r6, ms5, rfl, rfl, w⟩ := q9
      obtain ⟨hx9, hy9, w1, w2⟩ := w
      refine jr_icmp_ge (pc := 72) (tgt := 149) F hx9 hy9 dX3_align_72 rfl (fun c9 => ?_) (fun c9 => ?_)
      · have w := w1 c9
        exact jr_vret (pc := 149) F M dX3_align_149 (hQ _ w)
      · have w := w2 c9
        refine jr_aload_n (pc := 75) F (j := 0) dX3_align_75 rfl ?_
        refine jr_iload_n (pc := 76) F (j := 1) dX3_align_76 rfl ?_
        refine jr_iload_n (pc := 77) F (j := 2) dX3_align_77 rfl ?_
        refine jr_callV (pc := 78) (As := [_, _]) F M (lw_V q3323 q3325 qs55 q143 q3326) dX3_align_78 hM_wordOf rfl (Nat.le_of_ble_eq_true rfl) (Nat.le_of_ble_eq_true rfl) (Nat.le_of_ble_eq_true rfl) (jj_set_self _ _ _) rfl rfl (Nat.zero_le _) (cM_wordOf S hs w) (fun v9 h9 q9 => ?_) (fun _ _ _ q9 => q9.elim)
        obtain ⟨r8, ms7, rfl, rfl, w⟩ := q9
        refine jr_aload_n (pc := 81) F (j := 0) dX3_align_81 rfl ?_
        refine jr_aload_n (pc := 82) F (j := 0) dX3_align_82 rfl ?_
        refine jr_callV (pc := 83) (As := []) F M (lw_V q3315 q3317 qs53 q143 q3318) dX3_align_83 hM_target rfl (Nat.le_of_ble_eq_true rfl) (Nat.le_of_ble_eq_true rfl) (Nat.le_of_ble_eq_true rfl) (jj_set_self _ _ _) rfl rfl (Nat.zero_le _) (cM_target S hs w) (fun v9 h9 q9 => ?_) (fun _ _ _ q9 => q9.elim)
        obtain ⟨r10, ms9, rfl, rfl, w⟩ := q9
        refine jr_iload_n (pc := 86) F (j := 3) dX3_align_86 rfl ?_
        refine jr_callV (pc := 87) (As := [_, _]) F M (lw_V q3323 q3325 qs55 q143 q3326) dX3_align_87 hM_wordOf rfl (Nat.le_of_ble_eq_true rfl) (Nat.le_of_ble_eq_true rfl) (Nat.le_of_ble_eq_true rfl) (jj_set_self _ _ _) rfl rfl (Nat.zero_le _) (cM_wordOf S hs w) (fun v9 h9 q9 => ?_) (fun _ _ _ q9 => q9.elim)
        obtain ⟨r12, ms11, rfl, rfl, w⟩ := q9
        obtain ⟨hx9, hy9, w1, w2⟩ := w
        refine jr_lc_ne (pc := 90) (tgt := 110) F hx9 hy9 dX3_align_90 dX3_align_91 rfl (fun c9 => ?_) (fun c9 => ?_)
        · have w := w1 c9
          refine jr_aload_n (pc := 110) F (j := 0) dX3_align_110 rfl ?_
          refine jm_get (pc := 111) (f := 15) (v := .inr (.inr (.inl (some (m0 + 1 + 12))))) F (Nat.le_of_ble_eq_true rfl) q3145 rfl rfl dX3_align_111 ?_
          refine jr_iload_n (pc := 114) F (j := 2) dX3_align_114 rfl ?_
          refine jr_iconst (pc := 115) F dX3_align_115 ?_
          refine jr_iadd (pc := 116) F dX3_align_116 ?_
          refine jr_iload_n (pc := 117) F (j := 3) dX3_align_117 rfl ?_
          refine jr_callS (pc := 118) (As := [_, _]) F M (lw_S q3330 q3331 q143 q3332) dX3_align_118 hM_commonPlace.2 rfl (Nat.le_of_ble_eq_true rfl) (Nat.le_of_ble_eq_true rfl) (Nat.le_of_ble_eq_true rfl) (Nat.zero_le _) (cM_commonPlace S hs w) (fun v9 h9 q9 => ?_) (fun _ _ _ q9 => q9.elim)
          obtain ⟨r14, ms13, rfl, rfl, w⟩ := q9
          obtain ⟨hi1, hi2, w⟩ := w
          refine jm_iald (pc := 121) (f := 15) (o := 12) F rfl (by decide) hi1 hi2 dX3_align_121 ?_
          refine jr_aload_n (pc := 122) F (j := 0) dX3_align_122 rfl ?_
          refine jm_get (pc := 123) (f := 15) (v := .inr (.inr (.inl (some (m0 + 1 + 12))))) F (Nat.le_of_ble_eq_true rfl) q3145 rfl rfl dX3_align_123 ?_
          refine jr_iload_n (pc := 126) F (j := 2) dX3_align_126 rfl ?_
          refine jr_iload_n (pc := 127) F (j := 3) dX3_align_127 rfl ?_
          refine jr_iconst (pc := 128) F dX3_align_128 ?_
          refine jr_iadd (pc := 129) F dX3_align_129 ?_
          refine jr_callS (pc := 130) (As := [_, _]) F M (lw_S q3330 q3331 q143 q3332) dX3_align_130 hM_commonPlace.2 rfl (Nat.le_of_ble_eq_true rfl) (Nat.le_of_ble_eq_true rfl) (Nat.le_of_ble_eq_true rfl) (Nat.zero_le _) (cM_commonPlace S hs w) (fun v9 h9 q9 => ?_) (fun _ _ _ q9 => q9.elim)
          obtain ⟨r16, ms15, rfl, rfl, w⟩ := q9
          obtain ⟨hi1, hi2, w⟩ := w
          refine jm_iald (pc := 133) (f := 15) (o := 12) F rfl (by decide) hi1 hi2 dX3_align_133 ?_
          obtain ⟨hx9, hy9, w1, w2⟩ := w
          refine jr_icmp_lt (pc := 134) (tgt := 143) F hx9 hy9 dX3_align_134 rfl (fun c9 => ?_) (fun c9 => ?_)
          · have w := w1 c9
            have w := w _ rfl
            refine jr_iinc (pc := 143) F (j := 3) (vs' := [(3, .inl _), (0, .inr (.inr (.inl _))), (1, .inl _), (2, .inl _)]) dX3_align_143 rfl rfl (Nat.le_of_ble_eq_true rfl) rfl ?_
            refine jr_goto (pc := 146) (tgt := 54) F dX3_align_146 rfl ?_
            refine jj_J.sub [1, 2, 3, 0] rfl ?_
            exact ih _ _ _ w
          · have w := w2 c9
            have w := w _ rfl
            refine jr_iinc (pc := 137) F (j := 2) (vs' := [(2, .inl _), (0, .inr (.inr (.inl _))), (1, .inl _), (3, .inl _)]) dX3_align_137 rfl rfl (Nat.le_of_ble_eq_true rfl) rfl ?_
            refine jr_goto (pc := 140) (tgt := 54) F dX3_align_140 rfl ?_
            refine jj_J.sub [1, 2, 0, 3] rfl ?_
            exact ih _ _ _ w
        · have w := w2 c9
          refine jr_aload_n (pc := 94) F (j := 0) dX3_align_94 rfl ?_
          refine jm_get (pc := 95) (f := 16) (v := .inr (.inr (.inl (some (m0 + 1 + 13))))) F (Nat.le_of_ble_eq_true rfl) q3146 rfl rfl dX3_align_95 ?_
          refine jr_iload_n (pc := 98) F (j := 2) dX3_align_98 rfl ?_
          refine jr_iload_n (pc := 99) F (j := 3) dX3_align_99 rfl ?_
          obtain ⟨hi1, hi2, w⟩ := w
          have w := w _ rfl
          refine jm_iast (pc := 100) (f := 16) (o := 13) F (Nat.le_of_ble_eq_true rfl) rfl (by decide) hi1 hi2 dX3_align_100 ?_
          have w := w _ rfl
          refine jr_iinc (pc := 101) F (j := 2) (vs' := [(2, .inl _), (0, .inr (.inr (.inl _))), (1, .inl _), (3, .inl _)]) dX3_align_101 rfl rfl (Nat.le_of_ble_eq_true rfl) rfl ?_
          have w := w _ rfl
          refine jr_iinc (pc := 104) F (j := 3) (vs' := [(3, .inl _), (2, .inl _), (0, .inr (.inr (.inl _))), (1, .inl _)]) dX3_align_104 rfl rfl (Nat.le_of_ble_eq_true rfl) rfl ?_
          refine jr_goto (pc := 107) (tgt := 54) F dX3_align_107 rfl ?_
          refine jj_J.sub [2, 3, 1, 0] rfl ?_
          exact ih _ _ _ w

theorem sM_align_l2 {X : jj_X} {h0 : jj_H} {m0 k : Nat} {N : Option jj_AV → jj_H → Prop} {XN : String → Nat → jj_H → Prop} (F : jj_F X RX3 cX3_align 4) (M : jj_M X (none) 3 71 N XN) (S : jj_GS X.1 X.2.2.1) (hs : jj_hs X.1 h0 m0) {Q : jj_MS → Prop} (hQ : ∀ ms, Q ms → N none (jj_mh h0 m0 ms)) (x1 : Int) : ∀ (n : Nat) (x2 : Int) (ms : jj_MS), fM_align_l2 x1 Q n x2 ms → jj_J X 4 2 [(0, .inr (.inr (.inl (some m0)))), (1, .inl x1), (2, .inl x2)] [] (jj_mh h0 m0 ms) k := by
  intro n
  induction n with
  | zero =>
    intro x2 ms w
    exact (show False from w).elim
  | succ n ih =>
    intro x2 ms w
    rw [fM_align_l2] at w
    refine jr_iload_n (pc := 2) F (j := 2) dX3_align_2 rfl ?_
    refine jr_aload_n (pc := 3) F (j := 0) dX3_align_3 rfl ?_
    refine jr_iload_n (pc := 4) F (j := 1) dX3_align_4 rfl ?_
    refine jr_callV (pc := 5) (As := [_]) F M (lw_V q3307 q3309 qs51 q143 q3310) dX3_align_5 hM_sizeOf rfl (Nat.le_of_ble_eq_true rfl) (Nat.le_of_ble_eq_true rfl) (Nat.le_of_ble_eq_true rfl) (jj_set_self _ _ _) rfl rfl (Nat.zero_le _) (cM_sizeOf S hs w) (fun v9 h9 q9 => ?_) (fun _ _ _ q9 => q9.elim)
    obtain ⟨r23, ms22, rfl, rfl, w⟩ := q9
    obtain ⟨hx9, hy9, w1, w2⟩ := w
    refine jr_icmp_ge (pc := 8) (tgt := 36) F hx9 hy9 dX3_align_8 rfl (fun c9 => ?_) (fun c9 => ?_)
    · have w := w1 c9
      refine jr_iload_n (pc := 36) F (j := 1) dX3_align_36 rfl ?_
      refine jr_aload_n (pc := 37) F (j := 0) dX3_align_37 rfl ?_
      refine jr_callV (pc := 38) (As := []) F M (lw_V q3315 q3317 qs53 q143 q3318) dX3_align_38 hM_target rfl (Nat.le_of_ble_eq_true rfl) (Nat.le_of_ble_eq_true rfl) (Nat.le_of_ble_eq_true rfl) (jj_set_self _ _ _) rfl rfl (Nat.zero_le _) (cM_target S hs w) (fun v9 h9 q9 => ?_) (fun _ _ _ q9 => q9.elim)
      obtain ⟨r25, ms24, rfl, rfl, w⟩ := q9
      obtain ⟨hx9, hy9, w1, w2⟩ := w
      refine jr_icmp_ne (pc := 41) (tgt := 45) F hx9 hy9 dX3_align_41 rfl (fun c9 => ?_) (fun c9 => ?_)
      · have w := w1 c9
        refine jr_aload_n (pc := 45) F (j := 0) dX3_align_45 rfl ?_
        refine jr_iload_n (pc := 46) F (j := 1) dX3_align_46 rfl ?_
        refine jr_callV (pc := 47) (As := [_]) F M (lw_V q3319 q3321 qs54 q143 q3322) dX3_align_47 hM_layCommon rfl (Nat.le_of_ble_eq_true rfl) (Nat.le_of_ble_eq_true rfl) (Nat.le_of_ble_eq_true rfl) (jj_set_self _ _ _) rfl rfl (Nat.zero_le _) (cM_layCommon S hs w) (fun v9 h9 q9 => ?_) (fun _ _ _ q9 => q9.elim)
        obtain ⟨ms26, rfl, rfl, w⟩ := q9
        refine jr_iconst (pc := 50) F dX3_align_50 ?_
        refine jr_istore_n (pc := 51) F (vs' := [(2, .inl _), (0, .inr (.inr (.inl _))), (1, .inl _)]) dX3_align_51 (Nat.le_of_ble_eq_true rfl) rfl ?_
        refine jr_iconst (pc := 52) F dX3_align_52 ?_
        refine jr_istore_n (pc := 53) F (vs' := [(3, .inl _), (2, .inl _), (0, .inr (.inr (.inl _))), (1, .inl _)]) dX3_align_53 (Nat.le_of_ble_eq_true rfl) rfl ?_
        refine jj_J.sub [2, 3, 1, 0] rfl ?_
        obtain ⟨n9, w⟩ := w
        exact sM_align_l54 F M S hs hQ _ n9 _ _ _ w
      · have w := w2 c9
        exact jr_vret (pc := 44) F M dX3_align_44 (hQ _ w)
    · have w := w2 c9
      refine jr_aload_n (pc := 11) F (j := 0) dX3_align_11 rfl ?_
      refine jm_get (pc := 12) (f := 16) (v := .inr (.inr (.inl (some (m0 + 1 + 13))))) F (Nat.le_of_ble_eq_true rfl) q3146 rfl rfl dX3_align_12 ?_
      refine jr_iload_n (pc := 15) F (j := 2) dX3_align_15 rfl ?_
      refine jr_iload_n (pc := 16) F (j := 1) dX3_align_16 rfl ?_
      refine jr_aload_n (pc := 17) F (j := 0) dX3_align_17 rfl ?_
      refine jr_callV (pc := 18) (As := []) F M (lw_V q3315 q3317 qs53 q143 q3318) dX3_align_18 hM_target rfl (Nat.le_of_ble_eq_true rfl) (Nat.le_of_ble_eq_true rfl) (Nat.le_of_ble_eq_true rfl) (jj_set_self _ _ _) rfl rfl (Nat.zero_le _) (cM_target S hs w) (fun v9 h9 q9 => ?_) (fun _ _ _ q9 => q9.elim)
      obtain ⟨r29, ms28, rfl, rfl, w⟩ := q9
      obtain ⟨hx9, hy9, w1, w2⟩ := w
      refine jr_icmp_ne (pc := 21) (tgt := 28) F hx9 hy9 dX3_align_21 rfl (fun c9 => ?_) (fun c9 => ?_)
      · have w := w1 c9
        refine jr_iconst (pc := 28) F dX3_align_28 ?_
        obtain ⟨hi1, hi2, w⟩ := w
        have w := w _ rfl
        refine jm_iast (pc := 29) (f := 16) (o := 13) F (Nat.le_of_ble_eq_true rfl) rfl (by decide) hi1 hi2 dX3_align_29 ?_
        have w := w _ rfl
        refine jr_iinc (pc := 30) F (j := 2) (vs' := [(2, .inl _), (0, .inr (.inr (.inl _))), (1, .inl _)]) dX3_align_30 rfl rfl (Nat.le_of_ble_eq_true rfl) rfl ?_
        refine jr_goto (pc := 33) (tgt := 2) F dX3_align_33 rfl ?_
        refine jj_J.sub [1, 2, 0] rfl ?_
        exact ih _ _ w
      · have w := w2 c9
        refine jr_iload_n (pc := 24) F (j := 2) dX3_align_24 rfl ?_
        refine jr_goto (pc := 25) (tgt := 29) F dX3_align_25 rfl ?_
        obtain ⟨hi1, hi2, w⟩ := w
        have w := w _ rfl
        refine jm_iast (pc := 29) (f := 16) (o := 13) F (Nat.le_of_ble_eq_true rfl) rfl (by decide) hi1 hi2 dX3_align_29 ?_
        have w := w _ rfl
        refine jr_iinc (pc := 30) F (j := 2) (vs' := [(2, .inl _), (0, .inr (.inr (.inl _))), (1, .inl _)]) dX3_align_30 rfl rfl (Nat.le_of_ble_eq_true rfl) rfl ?_
        refine jr_goto (pc := 33) (tgt := 2) F dX3_align_33 rfl ?_
        refine jj_J.sub [1, 2, 0] rfl ?_
        exact ih _ _ w

theorem sM_align {X : jj_X} {h0 : jj_H} {m0 k : Nat} {N : Option jj_AV → jj_H → Prop} {XN : String → Nat → jj_H → Prop} (F : jj_F X RX3 cX3_align 4) (M : jj_M X (none) 3 71 N XN) (S : jj_GS X.1 X.2.2.1) (hs : jj_hs X.1 h0 m0) {Q : jj_MS → Prop} (hQ : ∀ ms, Q ms → N none (jj_mh h0 m0 ms)) : ∀ (x1 : Int) (ms : jj_MS), fM_align x1 Q ms → jj_J X 4 0 [(0, .inr (.inr (.inl (some m0)))), (1, .inl x1)] [] (jj_mh h0 m0 ms) k := by
  intro x1 ms w
  unfold fM_align at w
  refine jr_iconst (pc := 0) F dX3_align_0 ?_
  refine jr_istore_n (pc := 1) F (vs' := [(2, .inl _), (0, .inr (.inr (.inl _))), (1, .inl _)]) dX3_align_1 (Nat.le_of_ble_eq_true rfl) rfl ?_
  refine jj_J.sub [1, 2, 0] rfl ?_
  obtain ⟨n9, w⟩ := w
  exact sM_align_l2 F M S hs hQ _ n9 _ _ w

theorem cM_align {G : jj_G} {l : Launch} (S : jj_GS G l) {h0 : jj_H} {m0 : Nat} (hs : jj_hs G h0 m0) {x1 : Int} {ms : jj_MS} {Q : jj_MS → Prop} (w : fM_align x1 Q ms) : jj_Ct G l yX3_align (ws_ yX3_align cX3_align 4 (none)) 3 71 [.inr (.inr (.inl (some m0))), .inl x1] (jj_mh h0 m0 ms) 0 (jm_Nv h0 m0 Q) jj_F0 := by
  refine jj_Ct.of S.1 (by decide +kernel) (Nat.le_of_ble_eq_true rfl) rfl (fun X hG hl F M O hnm => ?_)
  subst hG; subst hl
  exact sM_align F M S hs (fun ms q => ⟨ms, rfl, rfl, q⟩) _ _ w
theorem hM_align : yX3_align.cls = RX3 ∧ yX3_align.cls ≠ "java/lang/invoke/MethodHandle" ∧ yX3_align.cls ≠ "java/lang/invoke/VarHandle" ∧ (parseMethodDescriptor yX3_align.desc).map (fun d => d.parameters.length) = some 1 := by decide +kernel
/-! nearestWith(III)I -/
def fM_nearestWith_j72 (K9 : Int → Int → Int → jj_MS → Prop) (x1 : Int) (x2 : Int) (x3 : Int) (x6 : Int) (x7 : Int) (Q : Int → jj_MS → Prop) (ms : jj_MS) : Prop :=
  ∀ v1, v1 = x6 + 1 →
  K9 x6 x7 v1 ms

def fM_nearestWith_j46 (K9 : Int → Int → Int → jj_MS → Prop) (x1 : Int) (x2 : Int) (x3 : Int) (x4 : Int) (x5 : Int) (x6 : Int) (y0 : Int) (Q : Int → jj_MS → Prop) (ms : jj_MS) : Prop :=
  0 ≤ x6 ∧ x6 < 120 ∧
  jj_r (ms.2 16 x6) ∧ ((ms.2 16 x6) = ((-1)) → (
    ∀ v2, v2 = x6 + 1 →
    K9 x4 x5 v2 ms)) ∧
  (¬ (ms.2 16 x6) = ((-1)) → (
    jj_r x4 ∧ (x4 = ((-1)) → (
      fM_nearestWith_j72 K9 x1 x2 x3 x6 y0 Q ms)) ∧
    (¬ x4 = ((-1)) → (
      jj_r y0 ∧ jj_r x5 ∧ (x5 ≤ y0 → (
        ∀ v3, v3 = x6 + 1 →
        K9 x4 x5 v3 ms)) ∧
      (¬ x5 ≤ y0 → (
        fM_nearestWith_j72 K9 x1 x2 x3 x6 y0 Q ms))))))

def fM_nearestWith_l9 (x1 : Int) (x2 : Int) (x3 : Int) (Q : Int → jj_MS → Prop) : Nat → Int → Int → Int → jj_MS → Prop
  | 0, _, _, _, _ => False
  | n + 1, x4, x5, x6, ms =>
  fM_sizeOf x1 (fun r5 ms4 =>
  jj_r x6 ∧ jj_r r5 ∧ (r5 ≤ x6 → (
    Q x4 ms4)) ∧
  (¬ r5 ≤ x6 → (
    jj_r x6 ∧ jj_r x2 ∧ (x2 ≤ x6 → (
      jj_r x6 ∧ jj_r x3 ∧ (x6 ≤ x3 → (
        fM_nearestWith_j46 (fM_nearestWith_l9 x1 x2 x3 Q n) x1 x2 x3 x4 x5 x6 0 Q ms4)) ∧
      (¬ x6 ≤ x3 → (
        fM_nearestWith_j46 (fM_nearestWith_l9 x1 x2 x3 Q n) x1 x2 x3 x4 x5 x6 (x6 - x3) Q ms4)))) ∧
    (¬ x2 ≤ x6 → (
      fM_nearestWith_j46 (fM_nearestWith_l9 x1 x2 x3 Q n) x1 x2 x3 x4 x5 x6 (x2 - x6) Q ms4))))) ms

def fM_nearestWith (x1 : Int) (x2 : Int) (x3 : Int) (Q : Int → jj_MS → Prop) (ms : jj_MS) : Prop :=
  ∃ n9, fM_nearestWith_l9 x1 x2 x3 Q n9 ((-1)) 0 0 ms

theorem sM_nearestWith_j72 {X : jj_X} {h0 : jj_H} {m0 k : Nat} {N : Option jj_AV → jj_H → Prop} {XN : String → Nat → jj_H → Prop} (F : jj_F X RX3 cX3_nearestWith 8) (M : jj_M X (some (.int)) 2 43 N XN) (S : jj_GS X.1 X.2.2.1) (hs : jj_hs X.1 h0 m0) {Q : Int → jj_MS → Prop} (hQ : ∀ r ms, Q r ms → N (some (.inl r)) (jj_mh h0 m0 ms)) (x1 : Int) (x2 : Int) (x3 : Int) {K9 : Int → Int → Int → jj_MS → Prop} (hK9 : ∀ (z4 : Int) (z5 : Int) (z6 : Int) (ms : jj_MS), K9 z4 z5 z6 ms → jj_J X 8 9 [(0, .inr (.inr (.inl (some m0)))), (1, .inl x1), (2, .inl x2), (3, .inl x3), (4, .inl z4), (5, .inl z5), (6, .inl z6)] [] (jj_mh h0 m0 ms) k) : ∀ (x6 : Int) (x7 : Int) (ms : jj_MS), fM_nearestWith_j72 K9 x1 x2 x3 x6 x7 Q ms → jj_J X 8 72 [(0, .inr (.inr (.inl (some m0)))), (1, .inl x1), (2, .inl x2), (3, .inl x3), (6, .inl x6), (7, .inl x7)] [] (jj_mh h0 m0 ms) k := by
  intro x6 x7 ms w
  unfold fM_nearestWith_j72 at w
  refine jr_iload (pc := 72) F (j := 4) dX3_nearestWith_72 rfl ?_
  refine jr_istore (pc := 74) F (vs' := [(4, .inl _), (0, .inr (.inr (.inl _))), (1, .inl _), (2, .inl _), (3, .inl _), (6, .inl _), (7, .inl _)]) dX3_nearestWith_74 (Nat.le_of_ble_eq_true rfl) rfl ?_
  refine jr_iload (pc := 76) F (j := 6) dX3_nearestWith_76 rfl ?_
  refine jr_istore (pc := 78) F (vs' := [(5, .inl _), (4, .inl _), (0, .inr (.inr (.inl _))), (1, .inl _), (2, .inl _), (3, .inl _), (6, .inl _), (7, .inl _)]) dX3_nearestWith_78 (Nat.le_of_ble_eq_true rfl) rfl ?_
  have w := w _ rfl
  refine jr_iinc (pc := 80) F (j := 6) (vs' := [(6, .inl _), (5, .inl _), (4, .inl _), (0, .inr (.inr (.inl _))), (1, .inl _), (2, .inl _), (3, .inl _), (7, .inl _)]) dX3_nearestWith_80 rfl rfl (Nat.le_of_ble_eq_true rfl) rfl ?_
  refine jr_goto (pc := 83) (tgt := 9) F dX3_nearestWith_83 rfl ?_
  refine jj_J.sub [3, 4, 5, 6, 2, 1, 0] rfl ?_
  exact hK9 _ _ _ _ w

theorem sM_nearestWith_j46 {X : jj_X} {h0 : jj_H} {m0 k : Nat} {N : Option jj_AV → jj_H → Prop} {XN : String → Nat → jj_H → Prop} (F : jj_F X RX3 cX3_nearestWith 8) (M : jj_M X (some (.int)) 2 43 N XN) (S : jj_GS X.1 X.2.2.1) (hs : jj_hs X.1 h0 m0) {Q : Int → jj_MS → Prop} (hQ : ∀ r ms, Q r ms → N (some (.inl r)) (jj_mh h0 m0 ms)) (x1 : Int) (x2 : Int) (x3 : Int) {K9 : Int → Int → Int → jj_MS → Prop} (hK9 : ∀ (z4 : Int) (z5 : Int) (z6 : Int) (ms : jj_MS), K9 z4 z5 z6 ms → jj_J X 8 9 [(0, .inr (.inr (.inl (some m0)))), (1, .inl x1), (2, .inl x2), (3, .inl x3), (4, .inl z4), (5, .inl z5), (6, .inl z6)] [] (jj_mh h0 m0 ms) k) : ∀ (x4 : Int) (x5 : Int) (x6 : Int) (y0 : Int) (ms : jj_MS), fM_nearestWith_j46 K9 x1 x2 x3 x4 x5 x6 y0 Q ms → jj_J X 8 46 [(0, .inr (.inr (.inl (some m0)))), (1, .inl x1), (2, .inl x2), (3, .inl x3), (4, .inl x4), (5, .inl x5), (6, .inl x6)] [.inl y0] (jj_mh h0 m0 ms) k := by
  intro x4 x5 x6 y0 ms w
  unfold fM_nearestWith_j46 at w
  refine jr_istore (pc := 46) F (vs' := [(7, .inl _), (0, .inr (.inr (.inl _))), (1, .inl _), (2, .inl _), (3, .inl _), (4, .inl _), (5, .inl _), (6, .inl _)]) dX3_nearestWith_46 (Nat.le_of_ble_eq_true rfl) rfl ?_
  refine jr_aload_n (pc := 48) F (j := 1) dX3_nearestWith_48 rfl ?_
  refine jm_get (pc := 49) (f := 16) (v := .inr (.inr (.inl (some (m0 + 1 + 13))))) F (Nat.le_of_ble_eq_true rfl) q3146 rfl rfl dX3_nearestWith_49 ?_
  refine jr_iload (pc := 52) F (j := 7) dX3_nearestWith_52 rfl ?_
  obtain ⟨hi1, hi2, w⟩ := w
  refine jm_iald (pc := 54) (f := 16) (o := 13) F rfl (by decide) hi1 hi2 dX3_nearestWith_54 ?_
  refine jr_iconst (pc := 55) F dX3_nearestWith_55 ?_
  obtain ⟨hx9, w1, w2⟩ := w
  refine jr_icmp_eq (pc := 56) (tgt := 80) F hx9 ⟨by decide, by decide⟩ dX3_nearestWith_56 rfl (fun c9 => ?_) (fun c9 => ?_)
  · have w := w1 c9
    have w := w _ rfl
    refine jr_iinc (pc := 80) F (j := 7) (vs' := [(6, .inl _), (7, .inl _), (0, .inr (.inr (.inl _))), (1, .inl _), (2, .inl _), (3, .inl _), (4, .inl _), (5, .inl _)]) dX3_nearestWith_80 rfl rfl (Nat.le_of_ble_eq_true rfl) rfl ?_
    refine jr_goto (pc := 83) (tgt := 9) F dX3_nearestWith_83 rfl ?_
    refine jj_J.sub [2, 3, 4, 5, 6, 7, 0] rfl ?_
    exact hK9 _ _ _ _ w
  · have w := w2 c9
    refine jr_iload (pc := 59) F (j := 5) dX3_nearestWith_59 rfl ?_
    refine jr_iconst (pc := 61) F dX3_nearestWith_61 ?_
    obtain ⟨hx9, w1, w2⟩ := w
    refine jr_icmp_eq (pc := 62) (tgt := 72) F hx9 ⟨by decide, by decide⟩ dX3_nearestWith_62 rfl (fun c9 => ?_) (fun c9 => ?_)
    · have w := w1 c9
      refine jj_J.sub [1, 2, 3, 4, 7, 0] rfl ?_
      exact sM_nearestWith_j72 F M S hs hQ _ _ _ hK9 _ _ _ w
    · have w := w2 c9
      refine jr_iload (pc := 65) F (j := 0) dX3_nearestWith_65 rfl ?_
      refine jr_iload (pc := 67) F (j := 6) dX3_nearestWith_67 rfl ?_
      obtain ⟨hx9, hy9, w1, w2⟩ := w
      refine jr_icmp_ge (pc := 69) (tgt := 80) F hx9 hy9 dX3_nearestWith_69 rfl (fun c9 => ?_) (fun c9 => ?_)
      · have w := w1 c9
        have w := w _ rfl
        refine jr_iinc (pc := 80) F (j := 7) (vs' := [(6, .inl _), (7, .inl _), (0, .inr (.inr (.inl _))), (1, .inl _), (2, .inl _), (3, .inl _), (4, .inl _), (5, .inl _)]) dX3_nearestWith_80 rfl rfl (Nat.le_of_ble_eq_true rfl) rfl ?_
        refine jr_goto (pc := 83) (tgt := 9) F dX3_nearestWith_83 rfl ?_
        refine jj_J.sub [2, 3, 4, 5, 6, 7, 0] rfl ?_
        exact hK9 _ _ _ _ w
      · have w := w2 c9
        refine jj_J.sub [1, 2, 3, 4, 7, 0] rfl ?_
        exact sM_nearestWith_j72 F M S hs hQ _ _ _ hK9 _ _ _ w

theorem sM_nearestWith_l9 {X : jj_X} {h0 : jj_H} {m0 k : Nat} {N : Option jj_AV → jj_H → Prop} {XN : String → Nat → jj_H → Prop} (F : jj_F X RX3 cX3_nearestWith 8) (M : jj_M X (some (.int)) 2 43 N XN) (S : jj_GS X.1 X.2.2.1) (hs : jj_hs X.1 h0 m0) {Q : Int → jj_MS → Prop} (hQ : ∀ r ms, Q r ms → N (some (.inl r)) (jj_mh h0 m0 ms)) (x1 : Int) (x2 : Int) (x3 : Int) : ∀ (n : Nat) (x4 : Int) (x5 : Int) (x6 : Int) (ms : jj_MS), fM_nearestWith_l9 x1 x2 x3 Q n x4 x5 x6 ms → jj_J X 8 9 [(0, .inr (.inr (.inl (some m0)))), (1, .inl x1), (2, .inl x2), (3, .inl x3), (4, .inl x4), (5, .inl x5), (6, .inl x6)] [] (jj_mh h0 m0 ms) k := by
  intro n
  induction n with
  | zero =>
    intro x4 x5 x6 ms w
    exact (show False from w).elim
  | succ n ih =>
    intro x4 x5 x6 ms w
    rw [fM_nearestWith_l9] at w
    refine jr_iload (pc := 9) F (j := 6) dX3_nearestWith_9 rfl ?_
    refine jr_aload_n (pc := 11) F (j := 0) dX3_nearestWith_11 rfl ?_
    refine jr_iload_n (pc := 12) F (j := 1) dX3_nearestWith_12 rfl ?_
    refine jr_callV (pc := 13) (As := [_]) F M (lw_V q3307 q3309 qs51 q143 q3310) dX3_nearestWith_13 hM_sizeOf rfl (Nat.le_of_ble_eq_true rfl) (Nat.le_of_ble_eq_true rfl) (Nat.le_of_ble_eq_true rfl) (jj_set_self _ _ _) rfl rfl (Nat.zero_le _) (cM_sizeOf S hs w) (fun v9 h9 q9 => ?_) (fun _ _ _ q9 => q9.elim)
    obtain ⟨r5, ms4, rfl, rfl, w⟩ := q9
    obtain ⟨hx9, hy9, w1, w2⟩ := w
    refine jr_icmp_ge (pc := 16) (tgt := 86) F hx9 hy9 dX3_nearestWith_16 rfl (fun c9 => ?_) (fun c9 => ?_)
    · have w := w1 c9
      refine jr_iload (pc := 86) F (j := 4) dX3_nearestWith_86 rfl ?_
      exact jr_iret (pc := 88) F M dX3_nearestWith_88 (hQ _ _ w)
    · have w := w2 c9
      refine jr_iload (pc := 19) F (j := 6) dX3_nearestWith_19 rfl ?_
      refine jr_iload_n (pc := 21) F (j := 2) dX3_nearestWith_21 rfl ?_
      obtain ⟨hx9, hy9, w1, w2⟩ := w
      refine jr_icmp_ge (pc := 22) (tgt := 32) F hx9 hy9 dX3_nearestWith_22 rfl (fun c9 => ?_) (fun c9 => ?_)
      · have w := w1 c9
        refine jr_iload (pc := 32) F (j := 6) dX3_nearestWith_32 rfl ?_
        refine jr_iload_n (pc := 34) F (j := 3) dX3_nearestWith_34 rfl ?_
        obtain ⟨hx9, hy9, w1, w2⟩ := w
        refine jr_icmp_le (pc := 35) (tgt := 45) F hx9 hy9 dX3_nearestWith_35 rfl (fun c9 => ?_) (fun c9 => ?_)
        · have w := w1 c9
          refine jr_iconst (pc := 45) F dX3_nearestWith_45 ?_
          exact sM_nearestWith_j46 F M S hs hQ _ _ _ ih _ _ _ _ _ w
        · have w := w2 c9
          refine jr_iload (pc := 38) F (j := 6) dX3_nearestWith_38 rfl ?_
          refine jr_iload_n (pc := 40) F (j := 3) dX3_nearestWith_40 rfl ?_
          refine jr_isub (pc := 41) F dX3_nearestWith_41 ?_
          refine jr_goto (pc := 42) (tgt := 46) F dX3_nearestWith_42 rfl ?_
          exact sM_nearestWith_j46 F M S hs hQ _ _ _ ih _ _ _ _ _ w
      · have w := w2 c9
        refine jr_iload_n (pc := 25) F (j := 2) dX3_nearestWith_25 rfl ?_
        refine jr_iload (pc := 26) F (j := 6) dX3_nearestWith_26 rfl ?_
        refine jr_isub (pc := 28) F dX3_nearestWith_28 ?_
        refine jr_goto (pc := 29) (tgt := 46) F dX3_nearestWith_29 rfl ?_
        exact sM_nearestWith_j46 F M S hs hQ _ _ _ ih _ _ _ _ _ w

theorem sM_nearestWith {X : jj_X} {h0 : jj_H} {m0 k : Nat} {N : Option jj_AV → jj_H → Prop} {XN : String → Nat → jj_H → Prop} (F : jj_F X RX3 cX3_nearestWith 8) (M : jj_M X (some (.int)) 2 43 N XN) (S : jj_GS X.1 X.2.2.1) (hs : jj_hs X.1 h0 m0) {Q : Int → jj_MS → Prop} (hQ : ∀ r ms, Q r ms → N (some (.inl r)) (jj_mh h0 m0 ms)) : ∀ (x1 : Int) (x2 : Int) (x3 : Int) (ms : jj_MS), fM_nearestWith x1 x2 x3 Q ms → jj_J X 8 0 [(0, .inr (.inr (.inl (some m0)))), (1, .inl x1), (2, .inl x2), (3, .inl x3)] [] (jj_mh h0 m0 ms) k := by
  intro x1 x2 x3 ms w
  unfold fM_nearestWith at w
  refine jr_iconst (pc := 0) F dX3_nearestWith_0 ?_
  refine jr_istore (pc := 1) F (vs' := [(4, .inl _), (0, .inr (.inr (.inl _))), (1, .inl _), (2, .inl _), (3, .inl _)]) dX3_nearestWith_1 (Nat.le_of_ble_eq_true rfl) rfl ?_
  refine jr_iconst (pc := 3) F dX3_nearestWith_3 ?_
  refine jr_istore (pc := 4) F (vs' := [(5, .inl _), (4, .inl _), (0, .inr (.inr (.inl _))), (1, .inl _), (2, .inl _), (3, .inl _)]) dX3_nearestWith_4 (Nat.le_of_ble_eq_true rfl) rfl ?_
  refine jr_iconst (pc := 6) F dX3_nearestWith_6 ?_
  refine jr_istore (pc := 7) F (vs' := [(6, .inl _), (5, .inl _), (4, .inl _), (0, .inr (.inr (.inl _))), (1, .inl _), (2, .inl _), (3, .inl _)]) dX3_nearestWith_7 (Nat.le_of_ble_eq_true rfl) rfl ?_
  refine jj_J.sub [3, 4, 5, 6, 2, 1, 0] rfl ?_
  obtain ⟨n9, w⟩ := w
  exact sM_nearestWith_l9 F M S hs hQ _ _ _ n9 _ _ _ _ w

theorem cM_nearestWith {G : jj_G} {l : Launch} (S : jj_GS G l) {h0 : jj_H} {m0 : Nat} (hs : jj_hs G h0 m0) {x1 : Int} {x2 : Int} {x3 : Int} {ms : jj_MS} {Q : Int → jj_MS → Prop} (w : fM_nearestWith x1 x2 x3 Q ms) : jj_Ct G l yX3_nearestWith (ws_ yX3_nearestWith cX3_nearestWith 8 (some (.int))) 2 43 [.inr (.inr (.inl (some m0))), .inl x1, .inl x2, .inl x3] (jj_mh h0 m0 ms) 0 (jm_Ni h0 m0 Q) jj_F0 := by
  refine jj_Ct.of S.1 (by decide +kernel) (Nat.le_of_ble_eq_true rfl) rfl (fun X hG hl F M O hnm => ?_)
  subst hG; subst hl
  exact sM_nearestWith F M S hs (fun r ms q => ⟨r, ms, rfl, rfl, q⟩) _ _ _ _ w
theorem hM_nearestWith : yX3_nearestWith.cls = RX3 ∧ yX3_nearestWith.cls ≠ "java/lang/invoke/MethodHandle" ∧ yX3_nearestWith.cls ≠ "java/lang/invoke/VarHandle" ∧ (parseMethodDescriptor yX3_nearestWith.desc).map (fun d => d.parameters.length) = some 3 := by decide +kernel
/-! layAnchor(I)V -/
def fM_layAnchor_j209 (x1 : Int) (x5 : Int) (x6 : Int) (Q : jj_MS → Prop) (ms : jj_MS) : Prop :=
  0 ≤ x1 ∧ x1 < 40 ∧
  ∀ ms1, ms1 = jj_mA ms 18 x1 x5 →
  0 ≤ x1 ∧ x1 < 40 ∧
  ∀ ms2, ms2 = jj_mA ms1 19 x1 x6 →
  Q ms2

def fM_layAnchor_j203 (x1 : Int) (y0 : Int) (Q : jj_MS → Prop) (ms : jj_MS) : Prop :=
  fM_layAnchor_j209 x1 y0 y0 Q ms

def fM_layAnchor_j185 (x1 : Int) (x8 : Int) (y1 : Int) (y2 : Int) (Q : jj_MS → Prop) (ms : jj_MS) : Prop :=
  0 ≤ y1 ∧ y1 < 40 ∧
  ∀ ms3, ms3 = jj_mA ms 17 y1 y2 →
  jj_r x8 ∧ (¬ x8 = ((-1)) → (
    0 ≤ x8 ∧ x8 < 120 ∧
    fM_layAnchor_j203 x1 (ms3.2 16 x8) Q ms3)) ∧
  (x8 = ((-1)) → (
    fM_layAnchor_j203 x1 ((-1)) Q ms3))

def fM_layAnchor_j165 (x1 : Int) (x5 : Int) (x6 : Int) (y1 : Int) (y2 : Int) (Q : jj_MS → Prop) (ms : jj_MS) : Prop :=
  0 ≤ y1 ∧ y1 < 40 ∧
  ∀ ms4, ms4 = jj_mA ms 17 y1 y2 →
  fM_layAnchor_j209 x1 x5 x6 Q ms4

def fM_layAnchor_j150 (x1 : Int) (x5 : Int) (x6 : Int) (x7 : Int) (Q : jj_MS → Prop) (ms : jj_MS) : Prop :=
  jj_r x7 ∧ (x7 = 0 → (
    fM_layAnchor_j165 x1 x5 x6 x1 1 Q ms)) ∧
  (¬ x7 = 0 → (
    fM_layAnchor_j165 x1 x5 x6 x1 0 Q ms))

def fM_layAnchor_j96 (K29 : Int → Int → Int → Int → Int → jj_MS → Prop) (x1 : Int) (x2 : Int) (x3 : Int) (x4 : Int) (x7 : Int) (x8 : Int) (x9 : Int) (y0 : Int) (Q : jj_MS → Prop) (ms : jj_MS) : Prop :=
  ∀ v5, v5 = x4 + 1 →
  ∀ v6, v6 = x8 + 1 →
  K29 v5 y0 x9 x7 v6 ms

def fM_layAnchor_j75 (K29 : Int → Int → Int → Int → Int → jj_MS → Prop) (x1 : Int) (x2 : Int) (x3 : Int) (x4 : Int) (x5 : Int) (x6 : Int) (x8 : Int) (x9 : Int) (y0 : Int) (Q : jj_MS → Prop) (ms : jj_MS) : Prop :=
  jj_r x9 ∧ (x9 = ((-1)) → (
    ∀ v7, v7 = x8 + 1 →
    K29 x4 x5 x6 y0 v7 ms)) ∧
  (¬ x9 = ((-1)) → (
    jj_r x5 ∧ (¬ x5 = ((-1)) → (
      fM_layAnchor_j96 K29 x1 x2 x3 x4 y0 x8 x9 x5 Q ms)) ∧
    (x5 = ((-1)) → (
      fM_layAnchor_j96 K29 x1 x2 x3 x4 y0 x8 x9 x9 Q ms))))

def fM_layAnchor_j74 (K29 : Int → Int → Int → Int → Int → jj_MS → Prop) (x1 : Int) (x2 : Int) (x3 : Int) (x4 : Int) (x5 : Int) (x6 : Int) (x8 : Int) (x9 : Int) (Q : jj_MS → Prop) (ms : jj_MS) : Prop :=
  fM_layAnchor_j75 K29 x1 x2 x3 x4 x5 x6 x8 x9 0 Q ms

def fM_layAnchor_j70 (K29 : Int → Int → Int → Int → Int → jj_MS → Prop) (x1 : Int) (x2 : Int) (x3 : Int) (x4 : Int) (x5 : Int) (x6 : Int) (x8 : Int) (x9 : Int) (Q : jj_MS → Prop) (ms : jj_MS) : Prop :=
  fM_layAnchor_j75 K29 x1 x2 x3 x4 x5 x6 x8 x9 1 Q ms

def fM_layAnchor_l29 (x1 : Int) (x2 : Int) (x3 : Int) (Q : jj_MS → Prop) : Nat → Int → Int → Int → Int → Int → jj_MS → Prop
  | 0, _, _, _, _, _, _ => False
  | n + 1, x4, x5, x6, x7, x8, ms =>
  jj_r x8 ∧ jj_r x3 ∧ (x3 < x8 → (
    0 ≤ x1 ∧ x1 < 40 ∧
    ∀ ms8, ms8 = jj_mA ms 20 x1 x4 →
    fM_ofNote x1 2 (fun r10 ms9 =>
    fM_nearestWith r10 x2 x3 (fun r12 ms11 =>
    jj_r x7 ∧ (¬ x7 = 0 → (
      fM_layAnchor_j150 x1 x5 x6 x7 Q ms11)) ∧
    (x7 = 0 → (
      jj_r (2 * x4) ∧ jj_r ((x3 - x2) + 1) ∧ ((2 * x4) < ((x3 - x2) + 1) → (
        jj_r r12 ∧ (¬ r12 = ((-1)) → (
          fM_layAnchor_j185 x1 r12 x1 2 Q ms11)) ∧
        (r12 = ((-1)) → (
          fM_layAnchor_j185 x1 r12 x1 3 Q ms11)))) ∧
      (¬ (2 * x4) < ((x3 - x2) + 1) → (
        fM_layAnchor_j150 x1 x5 x6 x7 Q ms11))))) ms9) ms8)) ∧
  (¬ x3 < x8 → (
    0 ≤ x8 ∧ x8 < 120 ∧
    ∀ v13, v13 = ms.2 16 x8 →
    jj_r x7 ∧ (x7 = 0 → (
      fM_layAnchor_j74 (fM_layAnchor_l29 x1 x2 x3 Q n) x1 x2 x3 x4 x5 x6 x8 v13 Q ms)) ∧
    (¬ x7 = 0 → (
      jj_r v13 ∧ (v13 = ((-1)) → (
        fM_layAnchor_j74 (fM_layAnchor_l29 x1 x2 x3 Q n) x1 x2 x3 x4 x5 x6 x8 v13 Q ms)) ∧
      (¬ v13 = ((-1)) → (
        jj_r x8 ∧ jj_r x2 ∧ (x8 = x2 → (
          fM_layAnchor_j70 (fM_layAnchor_l29 x1 x2 x3 Q n) x1 x2 x3 x4 x5 x6 x8 v13 Q ms)) ∧
        (¬ x8 = x2 → (
          jj_r v13 ∧ jj_r (x6 + 1) ∧ (¬ v13 = (x6 + 1) → (
            fM_layAnchor_j74 (fM_layAnchor_l29 x1 x2 x3 Q n) x1 x2 x3 x4 x5 x6 x8 v13 Q ms)) ∧
          (v13 = (x6 + 1) → (
            fM_layAnchor_j70 (fM_layAnchor_l29 x1 x2 x3 Q n) x1 x2 x3 x4 x5 x6 x8 v13 Q ms))))))))))

def fM_layAnchor (x1 : Int) (Q : jj_MS → Prop) (ms : jj_MS) : Prop :=
  fM_ofNote x1 3 (fun r15 ms14 =>
  fM_ofNote x1 4 (fun r17 ms16 =>
  ∃ n9, fM_layAnchor_l29 x1 r15 r17 Q n9 0 ((-1)) ((-1)) 1 r15 ms16) ms14) ms

theorem sM_layAnchor_j209 {X : jj_X} {h0 : jj_H} {m0 k : Nat} {N : Option jj_AV → jj_H → Prop} {XN : String → Nat → jj_H → Prop} (F : jj_F X RX3 cX3_layAnchor 10) (M : jj_M X (none) 3 70 N XN) (S : jj_GS X.1 X.2.2.1) (hs : jj_hs X.1 h0 m0) {Q : jj_MS → Prop} (hQ : ∀ ms, Q ms → N none (jj_mh h0 m0 ms)) : ∀ (x1 : Int) (x5 : Int) (x6 : Int) (ms : jj_MS), fM_layAnchor_j209 x1 x5 x6 Q ms → jj_J X 10 209 [(0, .inr (.inr (.inl (some m0)))), (1, .inl x1), (5, .inl x5), (6, .inl x6)] [] (jj_mh h0 m0 ms) k := by
  intro x1 x5 x6 ms w
  unfold fM_layAnchor_j209 at w
  refine jr_aload_n (pc := 209) F (j := 0) dX3_layAnchor_209 rfl ?_
  refine jm_get (pc := 210) (f := 18) (v := .inr (.inr (.inl (some (m0 + 1 + 15))))) F (Nat.le_of_ble_eq_true rfl) q3148 rfl rfl dX3_layAnchor_210 ?_
  refine jr_iload_n (pc := 213) F (j := 1) dX3_layAnchor_213 rfl ?_
  refine jr_iload (pc := 214) F (j := 2) dX3_layAnchor_214 rfl ?_
  obtain ⟨hi1, hi2, w⟩ := w
  have w := w _ rfl
  refine jm_iast (pc := 216) (f := 18) (o := 15) F (Nat.le_of_ble_eq_true rfl) rfl (by decide) hi1 hi2 dX3_layAnchor_216 ?_
  refine jr_aload_n (pc := 217) F (j := 0) dX3_layAnchor_217 rfl ?_
  refine jm_get (pc := 218) (f := 19) (v := .inr (.inr (.inl (some (m0 + 1 + 16))))) F (Nat.le_of_ble_eq_true rfl) q3149 rfl rfl dX3_layAnchor_218 ?_
  refine jr_iload_n (pc := 221) F (j := 1) dX3_layAnchor_221 rfl ?_
  refine jr_iload (pc := 222) F (j := 3) dX3_layAnchor_222 rfl ?_
  obtain ⟨hi1, hi2, w⟩ := w
  have w := w _ rfl
  refine jm_iast (pc := 224) (f := 19) (o := 16) F (Nat.le_of_ble_eq_true rfl) rfl (by decide) hi1 hi2 dX3_layAnchor_224 ?_
  exact jr_vret (pc := 225) F M dX3_layAnchor_225 (hQ _ w)

theorem sM_layAnchor_j203 {X : jj_X} {h0 : jj_H} {m0 k : Nat} {N : Option jj_AV → jj_H → Prop} {XN : String → Nat → jj_H → Prop} (F : jj_F X RX3 cX3_layAnchor 10) (M : jj_M X (none) 3 70 N XN) (S : jj_GS X.1 X.2.2.1) (hs : jj_hs X.1 h0 m0) {Q : jj_MS → Prop} (hQ : ∀ ms, Q ms → N none (jj_mh h0 m0 ms)) : ∀ (x1 : Int) (y0 : Int) (ms : jj_MS), fM_layAnchor_j203 x1 y0 Q ms → jj_J X 10 203 [(0, .inr (.inr (.inl (some m0)))), (1, .inl x1)] [.inl y0] (jj_mh h0 m0 ms) k := by
  intro x1 y0 ms w
  unfold fM_layAnchor_j203 at w
  refine jr_istore (pc := 203) F (vs' := [(5, .inl _), (0, .inr (.inr (.inl _))), (1, .inl _)]) dX3_layAnchor_203 (Nat.le_of_ble_eq_true rfl) rfl ?_
  refine jr_iload (pc := 205) F (j := 0) dX3_layAnchor_205 rfl ?_
  refine jr_istore (pc := 207) F (vs' := [(6, .inl _), (5, .inl _), (0, .inr (.inr (.inl _))), (1, .inl _)]) dX3_layAnchor_207 (Nat.le_of_ble_eq_true rfl) rfl ?_
  refine jj_J.sub [2, 3, 1, 0] rfl ?_
  exact sM_layAnchor_j209 F M S hs hQ _ _ _ _ w

theorem sM_layAnchor_j185 {X : jj_X} {h0 : jj_H} {m0 k : Nat} {N : Option jj_AV → jj_H → Prop} {XN : String → Nat → jj_H → Prop} (F : jj_F X RX3 cX3_layAnchor 10) (M : jj_M X (none) 3 70 N XN) (S : jj_GS X.1 X.2.2.1) (hs : jj_hs X.1 h0 m0) {Q : jj_MS → Prop} (hQ : ∀ ms, Q ms → N none (jj_mh h0 m0 ms)) : ∀ (x1 : Int) (x8 : Int) (y1 : Int) (y2 : Int) (ms : jj_MS), fM_layAnchor_j185 x1 x8 y1 y2 Q ms → jj_J X 10 185 [(0, .inr (.inr (.inl (some m0)))), (1, .inl x1), (8, .inl x8)] [.inl y2, .inl y1, .inr (.inr (.inl (some (m0 + 1 + 14))))] (jj_mh h0 m0 ms) k := by
  intro x1 x8 y1 y2 ms w
  unfold fM_layAnchor_j185 at w
  obtain ⟨hi1, hi2, w⟩ := w
  have w := w _ rfl
  refine jm_iast (pc := 185) (f := 17) (o := 14) F (Nat.le_of_ble_eq_true rfl) rfl (by decide) hi1 hi2 dX3_layAnchor_185 ?_
  refine jr_iload (pc := 186) F (j := 2) dX3_layAnchor_186 rfl ?_
  refine jr_iconst (pc := 188) F dX3_layAnchor_188 ?_
  obtain ⟨hx9, w1, w2⟩ := w
  refine jr_icmp_ne (pc := 189) (tgt := 196) F hx9 ⟨by decide, by decide⟩ dX3_layAnchor_189 rfl (fun c9 => ?_) (fun c9 => ?_)
  · have w := w1 c9
    refine jr_aload_n (pc := 196) F (j := 0) dX3_layAnchor_196 rfl ?_
    refine jm_get (pc := 197) (f := 16) (v := .inr (.inr (.inl (some (m0 + 1 + 13))))) F (Nat.le_of_ble_eq_true rfl) q3146 rfl rfl dX3_layAnchor_197 ?_
    refine jr_iload (pc := 200) F (j := 2) dX3_layAnchor_200 rfl ?_
    obtain ⟨hi1, hi2, w⟩ := w
    refine jm_iald (pc := 202) (f := 16) (o := 13) F rfl (by decide) hi1 hi2 dX3_layAnchor_202 ?_
    refine jj_J.sub [0, 1] rfl ?_
    exact sM_layAnchor_j203 F M S hs hQ _ _ _ w
  · have w := w2 c9
    refine jr_iconst (pc := 192) F dX3_layAnchor_192 ?_
    refine jr_goto (pc := 193) (tgt := 203) F dX3_layAnchor_193 rfl ?_
    refine jj_J.sub [0, 1] rfl ?_
    exact sM_layAnchor_j203 F M S hs hQ _ _ _ w

theorem sM_layAnchor_j165 {X : jj_X} {h0 : jj_H} {m0 k : Nat} {N : Option jj_AV → jj_H → Prop} {XN : String → Nat → jj_H → Prop} (F : jj_F X RX3 cX3_layAnchor 10) (M : jj_M X (none) 3 70 N XN) (S : jj_GS X.1 X.2.2.1) (hs : jj_hs X.1 h0 m0) {Q : jj_MS → Prop} (hQ : ∀ ms, Q ms → N none (jj_mh h0 m0 ms)) : ∀ (x1 : Int) (x5 : Int) (x6 : Int) (y1 : Int) (y2 : Int) (ms : jj_MS), fM_layAnchor_j165 x1 x5 x6 y1 y2 Q ms → jj_J X 10 165 [(0, .inr (.inr (.inl (some m0)))), (1, .inl x1), (5, .inl x5), (6, .inl x6)] [.inl y2, .inl y1, .inr (.inr (.inl (some (m0 + 1 + 14))))] (jj_mh h0 m0 ms) k := by
  intro x1 x5 x6 y1 y2 ms w
  unfold fM_layAnchor_j165 at w
  obtain ⟨hi1, hi2, w⟩ := w
  have w := w _ rfl
  refine jm_iast (pc := 165) (f := 17) (o := 14) F (Nat.le_of_ble_eq_true rfl) rfl (by decide) hi1 hi2 dX3_layAnchor_165 ?_
  refine jr_goto (pc := 166) (tgt := 209) F dX3_layAnchor_166 rfl ?_
  exact sM_layAnchor_j209 F M S hs hQ _ _ _ _ w

theorem sM_layAnchor_j150 {X : jj_X} {h0 : jj_H} {m0 k : Nat} {N : Option jj_AV → jj_H → Prop} {XN : String → Nat → jj_H → Prop} (F : jj_F X RX3 cX3_layAnchor 10) (M : jj_M X (none) 3 70 N XN) (S : jj_GS X.1 X.2.2.1) (hs : jj_hs X.1 h0 m0) {Q : jj_MS → Prop} (hQ : ∀ ms, Q ms → N none (jj_mh h0 m0 ms)) : ∀ (x1 : Int) (x5 : Int) (x6 : Int) (x7 : Int) (ms : jj_MS), fM_layAnchor_j150 x1 x5 x6 x7 Q ms → jj_J X 10 150 [(0, .inr (.inr (.inl (some m0)))), (1, .inl x1), (5, .inl x5), (6, .inl x6), (7, .inl x7)] [] (jj_mh h0 m0 ms) k := by
  intro x1 x5 x6 x7 ms w
  unfold fM_layAnchor_j150 at w
  refine jr_aload_n (pc := 150) F (j := 0) dX3_layAnchor_150 rfl ?_
  refine jm_get (pc := 151) (f := 17) (v := .inr (.inr (.inl (some (m0 + 1 + 14))))) F (Nat.le_of_ble_eq_true rfl) q3147 rfl rfl dX3_layAnchor_151 ?_
  refine jr_iload_n (pc := 154) F (j := 1) dX3_layAnchor_154 rfl ?_
  refine jr_iload (pc := 155) F (j := 4) dX3_layAnchor_155 rfl ?_
  obtain ⟨hx9, w1, w2⟩ := w
  refine jr_if_eq (pc := 157) (tgt := 164) F hx9 dX3_layAnchor_157 rfl (fun c9 => ?_) (fun c9 => ?_)
  · have w := w1 c9
    refine jr_iconst (pc := 164) F dX3_layAnchor_164 ?_
    refine jj_J.sub [0, 1, 2, 3] rfl ?_
    exact sM_layAnchor_j165 F M S hs hQ _ _ _ _ _ _ w
  · have w := w2 c9
    refine jr_iconst (pc := 160) F dX3_layAnchor_160 ?_
    refine jr_goto (pc := 161) (tgt := 165) F dX3_layAnchor_161 rfl ?_
    refine jj_J.sub [0, 1, 2, 3] rfl ?_
    exact sM_layAnchor_j165 F M S hs hQ _ _ _ _ _ _ w

theorem sM_layAnchor_j96 {X : jj_X} {h0 : jj_H} {m0 k : Nat} {N : Option jj_AV → jj_H → Prop} {XN : String → Nat → jj_H → Prop} (F : jj_F X RX3 cX3_layAnchor 10) (M : jj_M X (none) 3 70 N XN) (S : jj_GS X.1 X.2.2.1) (hs : jj_hs X.1 h0 m0) {Q : jj_MS → Prop} (hQ : ∀ ms, Q ms → N none (jj_mh h0 m0 ms)) (x1 : Int) (x2 : Int) (x3 : Int) {K29 : Int → Int → Int → Int → Int → jj_MS → Prop} (hK29 : ∀ (z4 : Int) (z5 : Int) (z6 : Int) (z7 : Int) (z8 : Int) (ms : jj_MS), K29 z4 z5 z6 z7 z8 ms → jj_J X 10 29 [(0, .inr (.inr (.inl (some m0)))), (1, .inl x1), (2, .inl x2), (3, .inl x3), (4, .inl z4), (5, .inl z5), (6, .inl z6), (7, .inl z7), (8, .inl z8)] [] (jj_mh h0 m0 ms) k) : ∀ (x4 : Int) (x7 : Int) (x8 : Int) (x9 : Int) (y0 : Int) (ms : jj_MS), fM_layAnchor_j96 K29 x1 x2 x3 x4 x7 x8 x9 y0 Q ms → jj_J X 10 96 [(0, .inr (.inr (.inl (some m0)))), (1, .inl x1), (2, .inl x2), (3, .inl x3), (4, .inl x4), (7, .inl x7), (8, .inl x8), (9, .inl x9)] [.inl y0] (jj_mh h0 m0 ms) k := by
  intro x4 x7 x8 x9 y0 ms w
  unfold fM_layAnchor_j96 at w
  refine jr_istore (pc := 96) F (vs' := [(5, .inl _), (0, .inr (.inr (.inl _))), (1, .inl _), (2, .inl _), (3, .inl _), (4, .inl _), (7, .inl _), (8, .inl _), (9, .inl _)]) dX3_layAnchor_96 (Nat.le_of_ble_eq_true rfl) rfl ?_
  refine jr_iload (pc := 98) F (j := 8) dX3_layAnchor_98 rfl ?_
  refine jr_istore (pc := 100) F (vs' := [(6, .inl _), (5, .inl _), (0, .inr (.inr (.inl _))), (1, .inl _), (2, .inl _), (3, .inl _), (4, .inl _), (7, .inl _), (8, .inl _), (9, .inl _)]) dX3_layAnchor_100 (Nat.le_of_ble_eq_true rfl) rfl ?_
  have w := w _ rfl
  refine jr_iinc (pc := 102) F (j := 6) (vs' := [(4, .inl _), (6, .inl _), (5, .inl _), (0, .inr (.inr (.inl _))), (1, .inl _), (2, .inl _), (3, .inl _), (7, .inl _), (8, .inl _), (9, .inl _)]) dX3_layAnchor_102 rfl rfl (Nat.le_of_ble_eq_true rfl) rfl ?_
  have w := w _ rfl
  refine jr_iinc (pc := 105) F (j := 8) (vs' := [(8, .inl _), (4, .inl _), (6, .inl _), (5, .inl _), (0, .inr (.inr (.inl _))), (1, .inl _), (2, .inl _), (3, .inl _), (7, .inl _), (9, .inl _)]) dX3_layAnchor_105 rfl rfl (Nat.le_of_ble_eq_true rfl) rfl ?_
  refine jr_goto (pc := 108) (tgt := 29) F dX3_layAnchor_108 rfl ?_
  refine jj_J.sub [4, 5, 6, 7, 1, 3, 2, 8, 0] rfl ?_
  exact hK29 _ _ _ _ _ _ w

theorem sM_layAnchor_j75 {X : jj_X} {h0 : jj_H} {m0 k : Nat} {N : Option jj_AV → jj_H → Prop} {XN : String → Nat → jj_H → Prop} (F : jj_F X RX3 cX3_layAnchor 10) (M : jj_M X (none) 3 70 N XN) (S : jj_GS X.1 X.2.2.1) (hs : jj_hs X.1 h0 m0) {Q : jj_MS → Prop} (hQ : ∀ ms, Q ms → N none (jj_mh h0 m0 ms)) (x1 : Int) (x2 : Int) (x3 : Int) {K29 : Int → Int → Int → Int → Int → jj_MS → Prop} (hK29 : ∀ (z4 : Int) (z5 : Int) (z6 : Int) (z7 : Int) (z8 : Int) (ms : jj_MS), K29 z4 z5 z6 z7 z8 ms → jj_J X 10 29 [(0, .inr (.inr (.inl (some m0)))), (1, .inl x1), (2, .inl x2), (3, .inl x3), (4, .inl z4), (5, .inl z5), (6, .inl z6), (7, .inl z7), (8, .inl z8)] [] (jj_mh h0 m0 ms) k) : ∀ (x4 : Int) (x5 : Int) (x6 : Int) (x8 : Int) (x9 : Int) (y0 : Int) (ms : jj_MS), fM_layAnchor_j75 K29 x1 x2 x3 x4 x5 x6 x8 x9 y0 Q ms → jj_J X 10 75 [(0, .inr (.inr (.inl (some m0)))), (1, .inl x1), (2, .inl x2), (3, .inl x3), (4, .inl x4), (5, .inl x5), (6, .inl x6), (8, .inl x8), (9, .inl x9)] [.inl y0] (jj_mh h0 m0 ms) k := by
  intro x4 x5 x6 x8 x9 y0 ms w
  unfold fM_layAnchor_j75 at w
  refine jr_istore (pc := 75) F (vs' := [(7, .inl _), (0, .inr (.inr (.inl _))), (1, .inl _), (2, .inl _), (3, .inl _), (4, .inl _), (5, .inl _), (6, .inl _), (8, .inl _), (9, .inl _)]) dX3_layAnchor_75 (Nat.le_of_ble_eq_true rfl) rfl ?_
  refine jr_iload (pc := 77) F (j := 9) dX3_layAnchor_77 rfl ?_
  refine jr_iconst (pc := 79) F dX3_layAnchor_79 ?_
  obtain ⟨hx9, w1, w2⟩ := w
  refine jr_icmp_eq (pc := 80) (tgt := 105) F hx9 ⟨by decide, by decide⟩ dX3_layAnchor_80 rfl (fun c9 => ?_) (fun c9 => ?_)
  · have w := w1 c9
    have w := w _ rfl
    refine jr_iinc (pc := 105) F (j := 8) (vs' := [(8, .inl _), (7, .inl _), (0, .inr (.inr (.inl _))), (1, .inl _), (2, .inl _), (3, .inl _), (4, .inl _), (5, .inl _), (6, .inl _), (9, .inl _)]) dX3_layAnchor_105 rfl rfl (Nat.le_of_ble_eq_true rfl) rfl ?_
    refine jr_goto (pc := 108) (tgt := 29) F dX3_layAnchor_108 rfl ?_
    refine jj_J.sub [2, 3, 4, 5, 6, 7, 8, 1, 0] rfl ?_
    exact hK29 _ _ _ _ _ _ w
  · have w := w2 c9
    refine jr_iload (pc := 83) F (j := 6) dX3_layAnchor_83 rfl ?_
    refine jr_iconst (pc := 85) F dX3_layAnchor_85 ?_
    obtain ⟨hx9, w1, w2⟩ := w
    refine jr_icmp_ne (pc := 86) (tgt := 94) F hx9 ⟨by decide, by decide⟩ dX3_layAnchor_86 rfl (fun c9 => ?_) (fun c9 => ?_)
    · have w := w1 c9
      refine jr_iload (pc := 94) F (j := 6) dX3_layAnchor_94 rfl ?_
      refine jj_J.sub [1, 2, 3, 4, 5, 0, 8, 9] rfl ?_
      exact sM_layAnchor_j96 F M S hs hQ _ _ _ hK29 _ _ _ _ _ _ w
    · have w := w2 c9
      refine jr_iload (pc := 89) F (j := 9) dX3_layAnchor_89 rfl ?_
      refine jr_goto (pc := 91) (tgt := 96) F dX3_layAnchor_91 rfl ?_
      refine jj_J.sub [1, 2, 3, 4, 5, 0, 8, 9] rfl ?_
      exact sM_layAnchor_j96 F M S hs hQ _ _ _ hK29 _ _ _ _ _ _ w

theorem sM_layAnchor_j74 {X : jj_X} {h0 : jj_H} {m0 k : Nat} {N : Option jj_AV → jj_H → Prop} {XN : String → Nat → jj_H → Prop} (F : jj_F X RX3 cX3_layAnchor 10) (M : jj_M X (none) 3 70 N XN) (S : jj_GS X.1 X.2.2.1) (hs : jj_hs X.1 h0 m0) {Q : jj_MS → Prop} (hQ : ∀ ms, Q ms → N none (jj_mh h0 m0 ms)) (x1 : Int) (x2 : Int) (x3 : Int) {K29 : Int → Int → Int → Int → Int → jj_MS → Prop} (hK29 : ∀ (z4 : Int) (z5 : Int) (z6 : Int) (z7 : Int) (z8 : Int) (ms : jj_MS), K29 z4 z5 z6 z7 z8 ms → jj_J X 10 29 [(0, .inr (.inr (.inl (some m0)))), (1, .inl x1), (2, .inl x2), (3, .inl x3), (4, .inl z4), (5, .inl z5), (6, .inl z6), (7, .inl z7), (8, .inl z8)] [] (jj_mh h0 m0 ms) k) : ∀ (x4 : Int) (x5 : Int) (x6 : Int) (x8 : Int) (x9 : Int) (ms : jj_MS), fM_layAnchor_j74 K29 x1 x2 x3 x4 x5 x6 x8 x9 Q ms → jj_J X 10 74 [(0, .inr (.inr (.inl (some m0)))), (1, .inl x1), (2, .inl x2), (3, .inl x3), (4, .inl x4), (5, .inl x5), (6, .inl x6), (8, .inl x8), (9, .inl x9)] [] (jj_mh h0 m0 ms) k := by
  intro x4 x5 x6 x8 x9 ms w
  unfold fM_layAnchor_j74 at w
  refine jr_iconst (pc := 74) F dX3_layAnchor_74 ?_
  exact sM_layAnchor_j75 F M S hs hQ _ _ _ hK29 _ _ _ _ _ _ _ w

theorem sM_layAnchor_j70 {X : jj_X} {h0 : jj_H} {m0 k : Nat} {N : Option jj_AV → jj_H → Prop} {XN : String → Nat → jj_H → Prop} (F : jj_F X RX3 cX3_layAnchor 10) (M : jj_M X (none) 3 70 N XN) (S : jj_GS X.1 X.2.2.1) (hs : jj_hs X.1 h0 m0) {Q : jj_MS → Prop} (hQ : ∀ ms, Q ms → N none (jj_mh h0 m0 ms)) (x1 : Int) (x2 : Int) (x3 : Int) {K29 : Int → Int → Int → Int → Int → jj_MS → Prop} (hK29 : ∀ (z4 : Int) (z5 : Int) (z6 : Int) (z7 : Int) (z8 : Int) (ms : jj_MS), K29 z4 z5 z6 z7 z8 ms → jj_J X 10 29 [(0, .inr (.inr (.inl (some m0)))), (1, .inl x1), (2, .inl x2), (3, .inl x3), (4, .inl z4), (5, .inl z5), (6, .inl z6), (7, .inl z7), (8, .inl z8)] [] (jj_mh h0 m0 ms) k) : ∀ (x4 : Int) (x5 : Int) (x6 : Int) (x8 : Int) (x9 : Int) (ms : jj_MS), fM_layAnchor_j70 K29 x1 x2 x3 x4 x5 x6 x8 x9 Q ms → jj_J X 10 70 [(0, .inr (.inr (.inl (some m0)))), (1, .inl x1), (2, .inl x2), (3, .inl x3), (4, .inl x4), (5, .inl x5), (6, .inl x6), (8, .inl x8), (9, .inl x9)] [] (jj_mh h0 m0 ms) k := by
  intro x4 x5 x6 x8 x9 ms w
  unfold fM_layAnchor_j70 at w
  refine jr_iconst (pc := 70) F dX3_layAnchor_70 ?_
  refine jr_goto (pc := 71) (tgt := 75) F dX3_layAnchor_71 rfl ?_
  exact sM_layAnchor_j75 F M S hs hQ _ _ _ hK29 _ _ _ _ _ _ _ w

theorem sM_layAnchor_l29 {X : jj_X} {h0 : jj_H} {m0 k : Nat} {N : Option jj_AV → jj_H → Prop} {XN : String → Nat → jj_H → Prop} (F : jj_F X RX3 cX3_layAnchor 10) (M : jj_M X (none) 3 70 N XN) (S : jj_GS X.1 X.2.2.1) (hs : jj_hs X.1 h0 m0) {Q : jj_MS → Prop} (hQ : ∀ ms, Q ms → N none (jj_mh h0 m0 ms)) (x1 : Int) (x2 : Int) (x3 : Int) : ∀ (n : Nat) (x4 : Int) (x5 : Int) (x6 : Int) (x7 : Int) (x8 : Int) (ms : jj_MS), fM_layAnchor_l29 x1 x2 x3 Q n x4 x5 x6 x7 x8 ms → jj_J X 10 29 [(0, .inr (.inr (.inl (some m0)))), (1, .inl x1), (2, .inl x2), (3, .inl x3), (4, .inl x4), (5, .inl x5), (6, .inl x6), (7, .inl x7), (8, .inl x8)] [] (jj_mh h0 m0 ms) k := by
  intro n
  induction n with
  | zero =>
    intro x4 x5 x6 x7 x8 ms w
    exact (show False from w).elim
  | succ n ih =>
    intro x4 x5 x6 x7 x8 ms w
    rw [fM_layAnchor_l29] at w
    refine jr_iload (pc := 29) F (j := 8) dX3_layAnchor_29 rfl ?_
    refine jr_iload_n (pc := 31) F (j := 3) dX3_layAnchor_31 rfl ?_
    obtain ⟨hx9, hy9, w1, w2⟩ := w
    refine jr_icmp_gt (pc := 32) (tgt := 111) F hx9 hy9 dX3_layAnchor_32 rfl (fun c9 => ?_) (fun c9 => ?_)
    · have w := w1 c9
      refine jr_aload_n (pc := 111) F (j := 0) dX3_layAnchor_111 rfl ?_
      refine jm_get (pc := 112) (f := 20) (v := .inr (.inr (.inl (some (m0 + 1 + 17))))) F (Nat.le_of_ble_eq_true rfl) q3150 rfl rfl dX3_layAnchor_112 ?_
      refine jr_iload_n (pc := 115) F (j := 1) dX3_layAnchor_115 rfl ?_
      refine jr_iload (pc := 116) F (j := 4) dX3_layAnchor_116 rfl ?_
      obtain ⟨hi1, hi2, w⟩ := w
      have w := w _ rfl
      refine jm_iast (pc := 118) (f := 20) (o := 17) F (Nat.le_of_ble_eq_true rfl) rfl (by decide) hi1 hi2 dX3_layAnchor_118 ?_
      refine jr_aload_n (pc := 119) F (j := 0) dX3_layAnchor_119 rfl ?_
      refine jr_aload_n (pc := 120) F (j := 0) dX3_layAnchor_120 rfl ?_
      refine jr_iload_n (pc := 121) F (j := 1) dX3_layAnchor_121 rfl ?_
      refine jr_iconst (pc := 122) F dX3_layAnchor_122 ?_
      refine jr_callV (pc := 123) (As := [_, _]) F M (lw_V q3338 q3340 qs57 q143 q3341) dX3_layAnchor_123 hM_ofNote rfl (Nat.le_of_ble_eq_true rfl) (Nat.le_of_ble_eq_true rfl) (Nat.le_of_ble_eq_true rfl) (jj_set_self _ _ _) rfl rfl (Nat.zero_le _) (cM_ofNote S hs w) (fun v9 h9 q9 => ?_) (fun _ _ _ q9 => q9.elim)
      obtain ⟨r10, ms9, rfl, rfl, w⟩ := q9
      refine jr_iload_n (pc := 126) F (j := 2) dX3_layAnchor_126 rfl ?_
      refine jr_iload_n (pc := 127) F (j := 3) dX3_layAnchor_127 rfl ?_
      refine jr_callV (pc := 128) (As := [_, _, _]) F M (lw_V q3346 q3348 qs59 q143 q3349) dX3_layAnchor_128 hM_nearestWith rfl (Nat.le_of_ble_eq_true rfl) (Nat.le_of_ble_eq_true rfl) (Nat.le_of_ble_eq_true rfl) (jj_set_self _ _ _) rfl rfl (Nat.zero_le _) (cM_nearestWith S hs w) (fun v9 h9 q9 => ?_) (fun _ _ _ q9 => q9.elim)
      obtain ⟨r12, ms11, rfl, rfl, w⟩ := q9
      refine jr_istore (pc := 131) F (vs' := [(8, .inl _), (0, .inr (.inr (.inl _))), (1, .inl _), (2, .inl _), (3, .inl _), (4, .inl _), (5, .inl _), (6, .inl _), (7, .inl _)]) dX3_layAnchor_131 (Nat.le_of_ble_eq_true rfl) rfl ?_
      refine jr_iload (pc := 133) F (j := 8) dX3_layAnchor_133 rfl ?_
      obtain ⟨hx9, w1, w2⟩ := w
      refine jr_if_ne (pc := 135) (tgt := 150) F hx9 dX3_layAnchor_135 rfl (fun c9 => ?_) (fun c9 => ?_)
      · have w := w1 c9
        refine jj_J.sub [1, 2, 6, 7, 8] rfl ?_
        exact sM_layAnchor_j150 F M S hs hQ _ _ _ _ _ w
      · have w := w2 c9
        refine jr_iconst (pc := 138) F dX3_layAnchor_138 ?_
        refine jr_iload (pc := 139) F (j := 5) dX3_layAnchor_139 rfl ?_
        refine jr_imul (pc := 141) F dX3_layAnchor_141 ?_
        refine jr_iload_n (pc := 142) F (j := 4) dX3_layAnchor_142 rfl ?_
        refine jr_iload_n (pc := 143) F (j := 3) dX3_layAnchor_143 rfl ?_
        refine jr_isub (pc := 144) F dX3_layAnchor_144 ?_
        refine jr_iconst (pc := 145) F dX3_layAnchor_145 ?_
        refine jr_iadd (pc := 146) F dX3_layAnchor_146 ?_
        obtain ⟨hx9, hy9, w1, w2⟩ := w
        refine jr_icmp_lt (pc := 147) (tgt := 169) F hx9 hy9 dX3_layAnchor_147 rfl (fun c9 => ?_) (fun c9 => ?_)
        · have w := w1 c9
          refine jr_aload_n (pc := 169) F (j := 1) dX3_layAnchor_169 rfl ?_
          refine jm_get (pc := 170) (f := 17) (v := .inr (.inr (.inl (some (m0 + 1 + 14))))) F (Nat.le_of_ble_eq_true rfl) q3147 rfl rfl dX3_layAnchor_170 ?_
          refine jr_iload_n (pc := 173) F (j := 2) dX3_layAnchor_173 rfl ?_
          refine jr_iload (pc := 174) F (j := 0) dX3_layAnchor_174 rfl ?_
          refine jr_iconst (pc := 176) F dX3_layAnchor_176 ?_
          obtain ⟨hx9, w1, w2⟩ := w
          refine jr_icmp_ne (pc := 177) (tgt := 184) F hx9 ⟨by decide, by decide⟩ dX3_layAnchor_177 rfl (fun c9 => ?_) (fun c9 => ?_)
          · have w := w1 c9
            refine jr_iconst (pc := 184) F dX3_layAnchor_184 ?_
            refine jj_J.sub [1, 2, 0] rfl ?_
            exact sM_layAnchor_j185 F M S hs hQ _ _ _ _ _ w
          · have w := w2 c9
            refine jr_iconst (pc := 180) F dX3_layAnchor_180 ?_
            refine jr_goto (pc := 181) (tgt := 185) F dX3_layAnchor_181 rfl ?_
            refine jj_J.sub [1, 2, 0] rfl ?_
            exact sM_layAnchor_j185 F M S hs hQ _ _ _ _ _ w
        · have w := w2 c9
          refine jj_J.sub [1, 2, 6, 7, 8] rfl ?_
          exact sM_layAnchor_j150 F M S hs hQ _ _ _ _ _ w
    · have w := w2 c9
      refine jr_aload_n (pc := 35) F (j := 0) dX3_layAnchor_35 rfl ?_
      refine jm_get (pc := 36) (f := 16) (v := .inr (.inr (.inl (some (m0 + 1 + 13))))) F (Nat.le_of_ble_eq_true rfl) q3146 rfl rfl dX3_layAnchor_36 ?_
      refine jr_iload (pc := 39) F (j := 8) dX3_layAnchor_39 rfl ?_
      obtain ⟨hi1, hi2, w⟩ := w
      refine jm_iald (pc := 41) (f := 16) (o := 13) F rfl (by decide) hi1 hi2 dX3_layAnchor_41 ?_
      have w := w _ rfl
      refine jr_istore (pc := 42) F (vs' := [(9, .inl _), (0, .inr (.inr (.inl _))), (1, .inl _), (2, .inl _), (3, .inl _), (4, .inl _), (5, .inl _), (6, .inl _), (7, .inl _), (8, .inl _)]) dX3_layAnchor_42 (Nat.le_of_ble_eq_true rfl) rfl ?_
      refine jr_iload (pc := 44) F (j := 8) dX3_layAnchor_44 rfl ?_
      obtain ⟨hx9, w1, w2⟩ := w
      refine jr_if_eq (pc := 46) (tgt := 74) F hx9 dX3_layAnchor_46 rfl (fun c9 => ?_) (fun c9 => ?_)
      · have w := w1 c9
        refine jj_J.sub [1, 2, 3, 4, 5, 6, 7, 9, 0] rfl ?_
        exact sM_layAnchor_j74 F M S hs hQ _ _ _ ih _ _ _ _ _ _ w
      · have w := w2 c9
        refine jr_iload (pc := 49) F (j := 0) dX3_layAnchor_49 rfl ?_
        refine jr_iconst (pc := 51) F dX3_layAnchor_51 ?_
        obtain ⟨hx9, w1, w2⟩ := w
        refine jr_icmp_eq (pc := 52) (tgt := 74) F hx9 ⟨by decide, by decide⟩ dX3_layAnchor_52 rfl (fun c9 => ?_) (fun c9 => ?_)
        · have w := w1 c9
          refine jj_J.sub [1, 2, 3, 4, 5, 6, 7, 9, 0] rfl ?_
          exact sM_layAnchor_j74 F M S hs hQ _ _ _ ih _ _ _ _ _ _ w
        · have w := w2 c9
          refine jr_iload (pc := 55) F (j := 9) dX3_layAnchor_55 rfl ?_
          refine jr_iload_n (pc := 57) F (j := 3) dX3_layAnchor_57 rfl ?_
          obtain ⟨hx9, hy9, w1, w2⟩ := w
          refine jr_icmp_eq (pc := 58) (tgt := 70) F hx9 hy9 dX3_layAnchor_58 rfl (fun c9 => ?_) (fun c9 => ?_)
          · have w := w1 c9
            refine jj_J.sub [1, 2, 3, 4, 5, 6, 7, 9, 0] rfl ?_
            exact sM_layAnchor_j70 F M S hs hQ _ _ _ ih _ _ _ _ _ _ w
          · have w := w2 c9
            refine jr_iload (pc := 61) F (j := 0) dX3_layAnchor_61 rfl ?_
            refine jr_iload (pc := 63) F (j := 7) dX3_layAnchor_63 rfl ?_
            refine jr_iconst (pc := 65) F dX3_layAnchor_65 ?_
            refine jr_iadd (pc := 66) F dX3_layAnchor_66 ?_
            obtain ⟨hx9, hy9, w1, w2⟩ := w
            refine jr_icmp_ne (pc := 67) (tgt := 74) F hx9 hy9 dX3_layAnchor_67 rfl (fun c9 => ?_) (fun c9 => ?_)
            · have w := w1 c9
              refine jj_J.sub [1, 2, 3, 4, 5, 6, 7, 9, 0] rfl ?_
              exact sM_layAnchor_j74 F M S hs hQ _ _ _ ih _ _ _ _ _ _ w
            · have w := w2 c9
              refine jj_J.sub [1, 2, 3, 4, 5, 6, 7, 9, 0] rfl ?_
              exact sM_layAnchor_j70 F M S hs hQ _ _ _ ih _ _ _ _ _ _ w

theorem sM_layAnchor {X : jj_X} {h0 : jj_H} {m0 k : Nat} {N : Option jj_AV → jj_H → Prop} {XN : String → Nat → jj_H → Prop} (F : jj_F X RX3 cX3_layAnchor 10) (M : jj_M X (none) 3 70 N XN) (S : jj_GS X.1 X.2.2.1) (hs : jj_hs X.1 h0 m0) {Q : jj_MS → Prop} (hQ : ∀ ms, Q ms → N none (jj_mh h0 m0 ms)) : ∀ (x1 : Int) (ms : jj_MS), fM_layAnchor x1 Q ms → jj_J X 10 0 [(0, .inr (.inr (.inl (some m0)))), (1, .inl x1)] [] (jj_mh h0 m0 ms) k := by
  intro x1 ms w
  unfold fM_layAnchor at w
  refine jr_aload_n (pc := 0) F (j := 0) dX3_layAnchor_0 rfl ?_
  refine jr_iload_n (pc := 1) F (j := 1) dX3_layAnchor_1 rfl ?_
  refine jr_iconst (pc := 2) F dX3_layAnchor_2 ?_
  refine jr_callV (pc := 3) (As := [_, _]) F M (lw_V q3338 q3340 qs57 q143 q3341) dX3_layAnchor_3 hM_ofNote rfl (Nat.le_of_ble_eq_true rfl) (Nat.le_of_ble_eq_true rfl) (Nat.le_of_ble_eq_true rfl) (jj_set_self _ _ _) rfl rfl (Nat.zero_le _) (cM_ofNote S hs w) (fun v9 h9 q9 => ?_) (fun _ _ _ q9 => q9.elim)
  obtain ⟨r15, ms14, rfl, rfl, w⟩ := q9
  refine jr_istore_n (pc := 6) F (vs' := [(2, .inl _), (0, .inr (.inr (.inl _))), (1, .inl _)]) dX3_layAnchor_6 (Nat.le_of_ble_eq_true rfl) rfl ?_
  refine jr_aload_n (pc := 7) F (j := 1) dX3_layAnchor_7 rfl ?_
  refine jr_iload_n (pc := 8) F (j := 2) dX3_layAnchor_8 rfl ?_
  refine jr_iconst (pc := 9) F dX3_layAnchor_9 ?_
  refine jr_callV (pc := 10) (As := [_, _]) F M (lw_V q3338 q3340 qs57 q143 q3341) dX3_layAnchor_10 hM_ofNote rfl (Nat.le_of_ble_eq_true rfl) (Nat.le_of_ble_eq_true rfl) (Nat.le_of_ble_eq_true rfl) (jj_set_self _ _ _) rfl rfl (Nat.zero_le _) (cM_ofNote S hs w) (fun v9 h9 q9 => ?_) (fun _ _ _ q9 => q9.elim)
  obtain ⟨r17, ms16, rfl, rfl, w⟩ := q9
  refine jr_istore_n (pc := 13) F (vs' := [(3, .inl _), (2, .inl _), (0, .inr (.inr (.inl _))), (1, .inl _)]) dX3_layAnchor_13 (Nat.le_of_ble_eq_true rfl) rfl ?_
  refine jr_iconst (pc := 14) F dX3_layAnchor_14 ?_
  refine jr_istore (pc := 15) F (vs' := [(4, .inl _), (3, .inl _), (2, .inl _), (0, .inr (.inr (.inl _))), (1, .inl _)]) dX3_layAnchor_15 (Nat.le_of_ble_eq_true rfl) rfl ?_
  refine jr_iconst (pc := 17) F dX3_layAnchor_17 ?_
  refine jr_istore (pc := 18) F (vs' := [(5, .inl _), (4, .inl _), (3, .inl _), (2, .inl _), (0, .inr (.inr (.inl _))), (1, .inl _)]) dX3_layAnchor_18 (Nat.le_of_ble_eq_true rfl) rfl ?_
  refine jr_iconst (pc := 20) F dX3_layAnchor_20 ?_
  refine jr_istore (pc := 21) F (vs' := [(6, .inl _), (5, .inl _), (4, .inl _), (3, .inl _), (2, .inl _), (0, .inr (.inr (.inl _))), (1, .inl _)]) dX3_layAnchor_21 (Nat.le_of_ble_eq_true rfl) rfl ?_
  refine jr_iconst (pc := 23) F dX3_layAnchor_23 ?_
  refine jr_istore (pc := 24) F (vs' := [(7, .inl _), (6, .inl _), (5, .inl _), (4, .inl _), (3, .inl _), (2, .inl _), (0, .inr (.inr (.inl _))), (1, .inl _)]) dX3_layAnchor_24 (Nat.le_of_ble_eq_true rfl) rfl ?_
  refine jr_iload_n (pc := 26) F (j := 5) dX3_layAnchor_26 rfl ?_
  refine jr_istore (pc := 27) F (vs' := [(8, .inl _), (7, .inl _), (6, .inl _), (5, .inl _), (4, .inl _), (3, .inl _), (2, .inl _), (0, .inr (.inr (.inl _))), (1, .inl _)]) dX3_layAnchor_27 (Nat.le_of_ble_eq_true rfl) rfl ?_
  refine jj_J.sub [7, 8, 6, 5, 4, 3, 2, 1, 0] rfl ?_
  obtain ⟨n9, w⟩ := w
  exact sM_layAnchor_l29 F M S hs hQ _ _ _ n9 _ _ _ _ _ _ w

theorem cM_layAnchor {G : jj_G} {l : Launch} (S : jj_GS G l) {h0 : jj_H} {m0 : Nat} (hs : jj_hs G h0 m0) {x1 : Int} {ms : jj_MS} {Q : jj_MS → Prop} (w : fM_layAnchor x1 Q ms) : jj_Ct G l yX3_layAnchor (ws_ yX3_layAnchor cX3_layAnchor 10 (none)) 3 70 [.inr (.inr (.inl (some m0))), .inl x1] (jj_mh h0 m0 ms) 0 (jm_Nv h0 m0 Q) jj_F0 := by
  refine jj_Ct.of S.1 (by decide +kernel) (Nat.le_of_ble_eq_true rfl) rfl (fun X hG hl F M O hnm => ?_)
  subst hG; subst hl
  exact sM_layAnchor F M S hs (fun ms q => ⟨ms, rfl, rfl, q⟩) _ _ w
theorem hM_layAnchor : yX3_layAnchor.cls = RX3 ∧ yX3_layAnchor.cls ≠ "java/lang/invoke/MethodHandle" ∧ yX3_layAnchor.cls ≠ "java/lang/invoke/VarHandle" ∧ (parseMethodDescriptor yX3_layAnchor.desc).map (fun d => d.parameters.length) = some 1 := by decide +kernel
/-! notes()I -/
def fM_notes (Q : Int → jj_MS → Prop) (ms : jj_MS) : Prop :=
  Q (ms.2 0 2) ms

theorem sM_notes {X : jj_X} {h0 : jj_H} {m0 k : Nat} {N : Option jj_AV → jj_H → Prop} {XN : String → Nat → jj_H → Prop} (F : jj_F X RX3 cX3_notes 1) (M : jj_M X (some (.int)) 0 0 N XN) (S : jj_GS X.1 X.2.2.1) (hs : jj_hs X.1 h0 m0) {Q : Int → jj_MS → Prop} (hQ : ∀ r ms, Q r ms → N (some (.inl r)) (jj_mh h0 m0 ms)) : ∀ (ms : jj_MS), fM_notes Q ms → jj_J X 1 0 [(0, .inr (.inr (.inl (some m0))))] [] (jj_mh h0 m0 ms) k := by
  intro  ms w
  unfold fM_notes at w
  refine jr_aload_n (pc := 0) F (j := 0) dX3_notes_0 rfl ?_
  refine jm_get (pc := 1) (f := 0) (v := .inr (.inr (.inl (some (m0 + 1 + 0))))) F (Nat.le_of_ble_eq_true rfl) q3130 rfl rfl dX3_notes_1 ?_
  refine jr_iconst (pc := 4) F dX3_notes_4 ?_
  refine jm_iald (pc := 5) (f := 0) (o := 0) F rfl (by decide) (by decide) (by decide) dX3_notes_5 ?_
  exact jr_iret (pc := 6) F M dX3_notes_6 (hQ _ _ w)

theorem cM_notes {G : jj_G} {l : Launch} (S : jj_GS G l) {h0 : jj_H} {m0 : Nat} (hs : jj_hs G h0 m0) {ms : jj_MS} {Q : Int → jj_MS → Prop} (w : fM_notes Q ms) : jj_Ct G l yX3_notes (ws_ yX3_notes cX3_notes 1 (some (.int))) 0 0 [.inr (.inr (.inl (some m0)))] (jj_mh h0 m0 ms) 0 (jm_Ni h0 m0 Q) jj_F0 := by
  refine jj_Ct.of S.1 (by decide +kernel) (Nat.le_of_ble_eq_true rfl) rfl (fun X hG hl F M O hnm => ?_)
  subst hG; subst hl
  exact sM_notes F M S hs (fun r ms q => ⟨r, ms, rfl, rfl, q⟩) _ w
theorem hM_notes : yX3_notes.cls = RX3 ∧ yX3_notes.cls ≠ "java/lang/invoke/MethodHandle" ∧ yX3_notes.cls ≠ "java/lang/invoke/VarHandle" ∧ (parseMethodDescriptor yX3_notes.desc).map (fun d => d.parameters.length) = some 0 := by decide +kernel
/-! layAnchors()V -/
def fM_layAnchors_l17 (x1 : Int) (K2 : Int → jj_MS → Prop) (Q : jj_MS → Prop) : Nat → Int → jj_MS → Prop
  | 0, _, _ => False
  | n + 1, x2, ms =>
  fM_notes (fun r2 ms1 =>
  jj_r x2 ∧ jj_r r2 ∧ (r2 ≤ x2 → (
    ∀ v3, v3 = x1 + 1 →
    K2 v3 ms1)) ∧
  (¬ r2 ≤ x2 → (
    fM_ofNote x2 2 (fun r5 ms4 =>
    jj_r r5 ∧ jj_r x1 ∧ (¬ r5 = x1 → (
      ∀ v6, v6 = x2 + 1 →
      fM_layAnchors_l17 x1 K2 Q n v6 ms4)) ∧
    (r5 = x1 → (
      fM_layAnchor x2 (fun ms7 =>
      ∀ v9, v9 = x2 + 1 →
      fM_layAnchors_l17 x1 K2 Q n v9 ms7) ms4))) ms1))) ms

def fM_layAnchors_l2 (Q : jj_MS → Prop) : Nat → Int → jj_MS → Prop
  | 0, _, _ => False
  | n + 1, x1, ms =>
  fM_editions (fun r11 ms10 =>
  jj_r x1 ∧ jj_r r11 ∧ (r11 ≤ x1 → (
    Q ms10)) ∧
  (¬ r11 ≤ x1 → (
    fM_align x1 (fun ms12 =>
    ∃ n9, fM_layAnchors_l17 x1 (fM_layAnchors_l2 Q n) Q n9 0 ms12) ms10))) ms

def fM_layAnchors (Q : jj_MS → Prop) (ms : jj_MS) : Prop :=
  ∃ n9, fM_layAnchors_l2 Q n9 0 ms

theorem sM_layAnchors_l17 {X : jj_X} {h0 : jj_H} {m0 k : Nat} {N : Option jj_AV → jj_H → Prop} {XN : String → Nat → jj_H → Prop} (F : jj_F X RX3 cX3_layAnchors 3) (M : jj_M X (none) 4 99 N XN) (S : jj_GS X.1 X.2.2.1) (hs : jj_hs X.1 h0 m0) {Q : jj_MS → Prop} (hQ : ∀ ms, Q ms → N none (jj_mh h0 m0 ms)) (x1 : Int) {K2 : Int → jj_MS → Prop} (hK2 : ∀ (z1 : Int) (ms : jj_MS), K2 z1 ms → jj_J X 3 2 [(0, .inr (.inr (.inl (some m0)))), (1, .inl z1)] [] (jj_mh h0 m0 ms) k) : ∀ (n : Nat) (x2 : Int) (ms : jj_MS), fM_layAnchors_l17 x1 K2 Q n x2 ms → jj_J X 3 17 [(0, .inr (.inr (.inl (some m0)))), (1, .inl x1), (2, .inl x2)] [] (jj_mh h0 m0 ms) k := by
  intro n
  induction n with
  | zero =>
    intro x2 ms w
    exact (show False from w).elim
  | succ n ih =>
    intro x2 ms w
    rw [fM_layAnchors_l17] at w
    refine jr_iload_n (pc := 17) F (j := 2) dX3_layAnchors_17 rfl ?_
    refine jr_aload_n (pc := 18) F (j := 0) dX3_layAnchors_18 rfl ?_
    refine jr_callV (pc := 19) (As := []) F M (lw_V q3334 q3336 qs56 q143 q3337) dX3_layAnchors_19 hM_notes rfl (Nat.le_of_ble_eq_true rfl) (Nat.le_of_ble_eq_true rfl) (Nat.le_of_ble_eq_true rfl) (jj_set_self _ _ _) rfl rfl (Nat.zero_le _) (cM_notes S hs w) (fun v9 h9 q9 => ?_) (fun _ _ _ q9 => q9.elim)
    obtain ⟨r2, ms1, rfl, rfl, w⟩ := q9
    obtain ⟨hx9, hy9, w1, w2⟩ := w
    refine jr_icmp_ge (pc := 22) (tgt := 46) F hx9 hy9 dX3_layAnchors_22 rfl (fun c9 => ?_) (fun c9 => ?_)
    · have w := w1 c9
      have w := w _ rfl
      refine jr_iinc (pc := 46) F (j := 1) (vs' := [(1, .inl _), (0, .inr (.inr (.inl _))), (2, .inl _)]) dX3_layAnchors_46 rfl rfl (Nat.le_of_ble_eq_true rfl) rfl ?_
      refine jr_goto (pc := 49) (tgt := 2) F dX3_layAnchors_49 rfl ?_
      refine jj_J.sub [1, 0] rfl ?_
      exact hK2 _ _ w
    · have w := w2 c9
      refine jr_aload_n (pc := 25) F (j := 0) dX3_layAnchors_25 rfl ?_
      refine jr_iload_n (pc := 26) F (j := 2) dX3_layAnchors_26 rfl ?_
      refine jr_iconst (pc := 27) F dX3_layAnchors_27 ?_
      refine jr_callV (pc := 28) (As := [_, _]) F M (lw_V q3338 q3340 qs57 q143 q3341) dX3_layAnchors_28 hM_ofNote rfl (Nat.le_of_ble_eq_true rfl) (Nat.le_of_ble_eq_true rfl) (Nat.le_of_ble_eq_true rfl) (jj_set_self _ _ _) rfl rfl (Nat.zero_le _) (cM_ofNote S hs w) (fun v9 h9 q9 => ?_) (fun _ _ _ q9 => q9.elim)
      obtain ⟨r5, ms4, rfl, rfl, w⟩ := q9
      refine jr_iload_n (pc := 31) F (j := 1) dX3_layAnchors_31 rfl ?_
      obtain ⟨hx9, hy9, w1, w2⟩ := w
      refine jr_icmp_ne (pc := 32) (tgt := 40) F hx9 hy9 dX3_layAnchors_32 rfl (fun c9 => ?_) (fun c9 => ?_)
      · have w := w1 c9
        have w := w _ rfl
        refine jr_iinc (pc := 40) F (j := 2) (vs' := [(2, .inl _), (0, .inr (.inr (.inl _))), (1, .inl _)]) dX3_layAnchors_40 rfl rfl (Nat.le_of_ble_eq_true rfl) rfl ?_
        refine jr_goto (pc := 43) (tgt := 17) F dX3_layAnchors_43 rfl ?_
        refine jj_J.sub [1, 2, 0] rfl ?_
        exact ih _ _ w
      · have w := w2 c9
        refine jr_aload_n (pc := 35) F (j := 0) dX3_layAnchors_35 rfl ?_
        refine jr_iload_n (pc := 36) F (j := 2) dX3_layAnchors_36 rfl ?_
        refine jr_callV (pc := 37) (As := [_]) F M (lw_V q3342 q3344 qs58 q143 q3345) dX3_layAnchors_37 hM_layAnchor rfl (Nat.le_of_ble_eq_true rfl) (Nat.le_of_ble_eq_true rfl) (Nat.le_of_ble_eq_true rfl) (jj_set_self _ _ _) rfl rfl (Nat.zero_le _) (cM_layAnchor S hs w) (fun v9 h9 q9 => ?_) (fun _ _ _ q9 => q9.elim)
        obtain ⟨ms7, rfl, rfl, w⟩ := q9
        have w := w _ rfl
        refine jr_iinc (pc := 40) F (j := 2) (vs' := [(2, .inl _), (0, .inr (.inr (.inl _))), (1, .inl _)]) dX3_layAnchors_40 rfl rfl (Nat.le_of_ble_eq_true rfl) rfl ?_
        refine jr_goto (pc := 43) (tgt := 17) F dX3_layAnchors_43 rfl ?_
        refine jj_J.sub [1, 2, 0] rfl ?_
        exact ih _ _ w

theorem sM_layAnchors_l2 {X : jj_X} {h0 : jj_H} {m0 k : Nat} {N : Option jj_AV → jj_H → Prop} {XN : String → Nat → jj_H → Prop} (F : jj_F X RX3 cX3_layAnchors 3) (M : jj_M X (none) 4 99 N XN) (S : jj_GS X.1 X.2.2.1) (hs : jj_hs X.1 h0 m0) {Q : jj_MS → Prop} (hQ : ∀ ms, Q ms → N none (jj_mh h0 m0 ms)) : ∀ (n : Nat) (x1 : Int) (ms : jj_MS), fM_layAnchors_l2 Q n x1 ms → jj_J X 3 2 [(0, .inr (.inr (.inl (some m0)))), (1, .inl x1)] [] (jj_mh h0 m0 ms) k := by
  intro n
  induction n with
  | zero =>
    intro x1 ms w
    exact (show False from w).elim
  | succ n ih =>
    intro x1 ms w
    rw [fM_layAnchors_l2] at w
    refine jr_iload_n (pc := 2) F (j := 1) dX3_layAnchors_2 rfl ?_
    refine jr_aload_n (pc := 3) F (j := 0) dX3_layAnchors_3 rfl ?_
    refine jr_callV (pc := 4) (As := []) F M (lw_V q3299 q3301 qs49 q143 q3302) dX3_layAnchors_4 hM_editions rfl (Nat.le_of_ble_eq_true rfl) (Nat.le_of_ble_eq_true rfl) (Nat.le_of_ble_eq_true rfl) (jj_set_self _ _ _) rfl rfl (Nat.zero_le _) (cM_editions S hs w) (fun v9 h9 q9 => ?_) (fun _ _ _ q9 => q9.elim)
    obtain ⟨r11, ms10, rfl, rfl, w⟩ := q9
    obtain ⟨hx9, hy9, w1, w2⟩ := w
    refine jr_icmp_ge (pc := 7) (tgt := 52) F hx9 hy9 dX3_layAnchors_7 rfl (fun c9 => ?_) (fun c9 => ?_)
    · have w := w1 c9
      exact jr_vret (pc := 52) F M dX3_layAnchors_52 (hQ _ w)
    · have w := w2 c9
      refine jr_aload_n (pc := 10) F (j := 0) dX3_layAnchors_10 rfl ?_
      refine jr_iload_n (pc := 11) F (j := 1) dX3_layAnchors_11 rfl ?_
      refine jr_callV (pc := 12) (As := [_]) F M (lw_V q3303 q3305 qs50 q143 q3306) dX3_layAnchors_12 hM_align rfl (Nat.le_of_ble_eq_true rfl) (Nat.le_of_ble_eq_true rfl) (Nat.le_of_ble_eq_true rfl) (jj_set_self _ _ _) rfl rfl (Nat.zero_le _) (cM_align S hs w) (fun v9 h9 q9 => ?_) (fun _ _ _ q9 => q9.elim)
      obtain ⟨ms12, rfl, rfl, w⟩ := q9
      refine jr_iconst (pc := 15) F dX3_layAnchors_15 ?_
      refine jr_istore_n (pc := 16) F (vs' := [(2, .inl _), (0, .inr (.inr (.inl _))), (1, .inl _)]) dX3_layAnchors_16 (Nat.le_of_ble_eq_true rfl) rfl ?_
      refine jj_J.sub [1, 2, 0] rfl ?_
      obtain ⟨n9, w⟩ := w
      exact sM_layAnchors_l17 F M S hs hQ _ ih n9 _ _ w

theorem sM_layAnchors {X : jj_X} {h0 : jj_H} {m0 k : Nat} {N : Option jj_AV → jj_H → Prop} {XN : String → Nat → jj_H → Prop} (F : jj_F X RX3 cX3_layAnchors 3) (M : jj_M X (none) 4 99 N XN) (S : jj_GS X.1 X.2.2.1) (hs : jj_hs X.1 h0 m0) {Q : jj_MS → Prop} (hQ : ∀ ms, Q ms → N none (jj_mh h0 m0 ms)) : ∀ (ms : jj_MS), fM_layAnchors Q ms → jj_J X 3 0 [(0, .inr (.inr (.inl (some m0))))] [] (jj_mh h0 m0 ms) k := by
  intro  ms w
  unfold fM_layAnchors at w
  refine jr_iconst (pc := 0) F dX3_layAnchors_0 ?_
  refine jr_istore_n (pc := 1) F (vs' := [(1, .inl _), (0, .inr (.inr (.inl _)))]) dX3_layAnchors_1 (Nat.le_of_ble_eq_true rfl) rfl ?_
  refine jj_J.sub [1, 0] rfl ?_
  obtain ⟨n9, w⟩ := w
  exact sM_layAnchors_l2 F M S hs hQ n9 _ _ w

theorem cM_layAnchors {G : jj_G} {l : Launch} (S : jj_GS G l) {h0 : jj_H} {m0 : Nat} (hs : jj_hs G h0 m0) {ms : jj_MS} {Q : jj_MS → Prop} (w : fM_layAnchors Q ms) : jj_Ct G l yX3_layAnchors (ws_ yX3_layAnchors cX3_layAnchors 3 (none)) 4 99 [.inr (.inr (.inl (some m0)))] (jj_mh h0 m0 ms) 0 (jm_Nv h0 m0 Q) jj_F0 := by
  refine jj_Ct.of S.1 (by decide +kernel) (Nat.le_of_ble_eq_true rfl) rfl (fun X hG hl F M O hnm => ?_)
  subst hG; subst hl
  exact sM_layAnchors F M S hs (fun ms q => ⟨ms, rfl, rfl, q⟩) _ w
theorem hM_layAnchors : yX3_layAnchors.cls = RX3 ∧ yX3_layAnchors.cls ≠ "java/lang/invoke/MethodHandle" ∧ yX3_layAnchors.cls ≠ "java/lang/invoke/VarHandle" ∧ (parseMethodDescriptor yX3_layAnchors.desc).map (fun d => d.parameters.length) = some 0 := by decide +kernel
/-! saidBy(II)J -/
def fM_saidBy (x1 : Int) (x2 : Int) (Q : Int → jj_MS → Prop) (ms : jj_MS) : Prop :=
  0 ≤ ((366 + (6 * x1)) + x2) ∧ ((366 + (6 * x1)) + x2) < 606 ∧
  Q (ms.2 3 ((366 + (6 * x1)) + x2)) ms

theorem sM_saidBy {X : jj_X} {h0 : jj_H} {m0 k : Nat} {N : Option jj_AV → jj_H → Prop} {XN : String → Nat → jj_H → Prop} (F : jj_F X RX3 cX3_saidBy 3) (M : jj_M X (some (.long)) 0 0 N XN) (S : jj_GS X.1 X.2.2.1) (hs : jj_hs X.1 h0 m0) {Q : Int → jj_MS → Prop} (hQ : ∀ r ms, Q r ms → N (some (.inr (.inl r))) (jj_mh h0 m0 ms)) : ∀ (x1 : Int) (x2 : Int) (ms : jj_MS), fM_saidBy x1 x2 Q ms → jj_J X 3 0 [(0, .inr (.inr (.inl (some m0)))), (1, .inl x1), (2, .inl x2)] [] (jj_mh h0 m0 ms) k := by
  intro x1 x2 ms w
  unfold fM_saidBy at w
  refine jr_aload_n (pc := 0) F (j := 0) dX3_saidBy_0 rfl ?_
  refine jm_get (pc := 1) (f := 3) (v := .inr (.inr (.inl (some (m0 + 1 + 3))))) F (Nat.le_of_ble_eq_true rfl) q3133 rfl rfl dX3_saidBy_1 ?_
  refine jr_sipush (pc := 4) F dX3_saidBy_4 (by decide +kernel) ?_
  refine jr_bipush (pc := 7) F dX3_saidBy_7 (by decide +kernel) ?_
  refine jr_iload_n (pc := 9) F (j := 1) dX3_saidBy_9 rfl ?_
  refine jr_imul (pc := 10) F dX3_saidBy_10 ?_
  refine jr_iadd (pc := 11) F dX3_saidBy_11 ?_
  refine jr_iload_n (pc := 12) F (j := 2) dX3_saidBy_12 rfl ?_
  refine jr_iadd (pc := 13) F dX3_saidBy_13 ?_
  obtain ⟨hi1, hi2, w⟩ := w
  refine jm_lald (pc := 14) (f := 3) (o := 3) F rfl (by decide) hi1 hi2 dX3_saidBy_14 ?_
  exact jr_lret (pc := 15) F M dX3_saidBy_15 (hQ _ _ w)

theorem cM_saidBy {G : jj_G} {l : Launch} (S : jj_GS G l) {h0 : jj_H} {m0 : Nat} (hs : jj_hs G h0 m0) {x1 : Int} {x2 : Int} {ms : jj_MS} {Q : Int → jj_MS → Prop} (w : fM_saidBy x1 x2 Q ms) : jj_Ct G l yX3_saidBy (ws_ yX3_saidBy cX3_saidBy 3 (some (.long))) 0 0 [.inr (.inr (.inl (some m0))), .inl x1, .inl x2] (jj_mh h0 m0 ms) 0 (jm_Nl h0 m0 Q) jj_F0 := by
  refine jj_Ct.of S.1 (by decide +kernel) (Nat.le_of_ble_eq_true rfl) rfl (fun X hG hl F M O hnm => ?_)
  subst hG; subst hl
  exact sM_saidBy F M S hs (fun r ms q => ⟨r, ms, rfl, rfl, q⟩) _ _ _ w
theorem hM_saidBy : yX3_saidBy.cls = RX3 ∧ yX3_saidBy.cls ≠ "java/lang/invoke/MethodHandle" ∧ yX3_saidBy.cls ≠ "java/lang/invoke/VarHandle" ∧ (parseMethodDescriptor yX3_saidBy.desc).map (fun d => d.parameters.length) = some 2 := by decide +kernel
/-! isRepeated(II)Z -/
def fM_isRepeated_l5 (x1 : Int) (x2 : Int) (Q : Int → jj_MS → Prop) : Nat → Int → Int → jj_MS → Prop
  | 0, _, _, _ => False
  | n + 1, x3, x4, ms =>
  jj_r x4 ∧ jj_r x2 ∧ (x2 ≤ x4 → (
    (x3 = 0 ∨ x3 = 1) ∧ Q x3 ms)) ∧
  (¬ x2 ≤ x4 → (
    jj_r x3 ∧ (¬ x3 = 0 → (
      ∀ v1, v1 = x4 + 1 →
      fM_isRepeated_l5 x1 x2 Q n 1 v1 ms)) ∧
    (x3 = 0 → (
      fM_saidBy x1 x4 (fun r3 ms2 =>
      fM_saidBy x1 x2 (fun r5 ms4 =>
      jj_rl r3 ∧ jj_rl r5 ∧ (¬ r3 = r5 → (
        ∀ v6, v6 = x4 + 1 →
        fM_isRepeated_l5 x1 x2 Q n 0 v6 ms4)) ∧
      (r3 = r5 → (
        ∀ v7, v7 = x4 + 1 →
        fM_isRepeated_l5 x1 x2 Q n 1 v7 ms4))) ms2) ms))))

def fM_isRepeated (x1 : Int) (x2 : Int) (Q : Int → jj_MS → Prop) (ms : jj_MS) : Prop :=
  ∃ n9, fM_isRepeated_l5 x1 x2 Q n9 0 0 ms

theorem sM_isRepeated_l5 {X : jj_X} {h0 : jj_H} {m0 k : Nat} {N : Option jj_AV → jj_H → Prop} {XN : String → Nat → jj_H → Prop} (F : jj_F X RX3 cX3_isRepeated 5) (M : jj_M X (some (.boolean)) 1 22 N XN) (S : jj_GS X.1 X.2.2.1) (hs : jj_hs X.1 h0 m0) {Q : Int → jj_MS → Prop} (hQ : ∀ r ms, Q r ms → N (some (.inl r)) (jj_mh h0 m0 ms)) (x1 : Int) (x2 : Int) : ∀ (n : Nat) (x3 : Int) (x4 : Int) (ms : jj_MS), fM_isRepeated_l5 x1 x2 Q n x3 x4 ms → jj_J X 5 5 [(0, .inr (.inr (.inl (some m0)))), (1, .inl x1), (2, .inl x2), (3, .inl x3), (4, .inl x4)] [] (jj_mh h0 m0 ms) k := by
  intro n
  induction n with
  | zero =>
    intro x3 x4 ms w
    exact (show False from w).elim
  | succ n ih =>
    intro x3 x4 ms w
    rw [fM_isRepeated_l5] at w
    refine jr_iload (pc := 5) F (j := 4) dX3_isRepeated_5 rfl ?_
    refine jr_iload_n (pc := 7) F (j := 2) dX3_isRepeated_7 rfl ?_
    obtain ⟨hx9, hy9, w1, w2⟩ := w
    refine jr_icmp_ge (pc := 8) (tgt := 44) F hx9 hy9 dX3_isRepeated_8 rfl (fun c9 => ?_) (fun c9 => ?_)
    · have w := w1 c9
      refine jr_iload_n (pc := 44) F (j := 3) dX3_isRepeated_44 rfl ?_
      exact jr_zret (pc := 45) F M dX3_isRepeated_45 w.1 (hQ _ _ w.2)
    · have w := w2 c9
      refine jr_iload_n (pc := 11) F (j := 3) dX3_isRepeated_11 rfl ?_
      obtain ⟨hx9, w1, w2⟩ := w
      refine jr_if_ne (pc := 12) (tgt := 32) F hx9 dX3_isRepeated_12 rfl (fun c9 => ?_) (fun c9 => ?_)
      · have w := w1 c9
        refine jr_iconst (pc := 32) F dX3_isRepeated_32 ?_
        refine jr_goto (pc := 33) (tgt := 37) F dX3_isRepeated_33 rfl ?_
        refine jr_istore_n (pc := 37) F (vs' := [(3, .inl _), (0, .inr (.inr (.inl _))), (1, .inl _), (2, .inl _), (4, .inl _)]) dX3_isRepeated_37 (Nat.le_of_ble_eq_true rfl) rfl ?_
        have w := w _ rfl
        refine jr_iinc (pc := 38) F (j := 4) (vs' := [(4, .inl _), (3, .inl _), (0, .inr (.inr (.inl _))), (1, .inl _), (2, .inl _)]) dX3_isRepeated_38 rfl rfl (Nat.le_of_ble_eq_true rfl) rfl ?_
        refine jr_goto (pc := 41) (tgt := 5) F dX3_isRepeated_41 rfl ?_
        refine jj_J.sub [2, 3, 4, 1, 0] rfl ?_
        exact ih _ _ _ w
      · have w := w2 c9
        refine jr_aload_n (pc := 15) F (j := 0) dX3_isRepeated_15 rfl ?_
        refine jr_iload_n (pc := 16) F (j := 1) dX3_isRepeated_16 rfl ?_
        refine jr_iload (pc := 17) F (j := 4) dX3_isRepeated_17 rfl ?_
        refine jr_callV (pc := 19) (As := [_, _]) F M (lw_V q3371 q3373 qs65 q143 q3374) dX3_isRepeated_19 hM_saidBy rfl (Nat.le_of_ble_eq_true rfl) (Nat.le_of_ble_eq_true rfl) (Nat.le_of_ble_eq_true rfl) (jj_set_self _ _ _) rfl rfl (Nat.zero_le _) (cM_saidBy S hs w) (fun v9 h9 q9 => ?_) (fun _ _ _ q9 => q9.elim)
        obtain ⟨r3, ms2, rfl, rfl, w⟩ := q9
        refine jr_aload_n (pc := 22) F (j := 0) dX3_isRepeated_22 rfl ?_
        refine jr_iload_n (pc := 23) F (j := 1) dX3_isRepeated_23 rfl ?_
        refine jr_iload_n (pc := 24) F (j := 2) dX3_isRepeated_24 rfl ?_
        refine jr_callV (pc := 25) (As := [_, _]) F M (lw_V q3371 q3373 qs65 q143 q3374) dX3_isRepeated_25 hM_saidBy rfl (Nat.le_of_ble_eq_true rfl) (Nat.le_of_ble_eq_true rfl) (Nat.le_of_ble_eq_true rfl) (jj_set_self _ _ _) rfl rfl (Nat.zero_le _) (cM_saidBy S hs w) (fun v9 h9 q9 => ?_) (fun _ _ _ q9 => q9.elim)
        obtain ⟨r5, ms4, rfl, rfl, w⟩ := q9
        obtain ⟨hx9, hy9, w1, w2⟩ := w
        refine jr_lc_ne (pc := 28) (tgt := 36) F hx9 hy9 dX3_isRepeated_28 dX3_isRepeated_29 rfl (fun c9 => ?_) (fun c9 => ?_)
        · have w := w1 c9
          refine jr_iconst (pc := 36) F dX3_isRepeated_36 ?_
          refine jr_istore_n (pc := 37) F (vs' := [(3, .inl _), (0, .inr (.inr (.inl _))), (1, .inl _), (2, .inl _), (4, .inl _)]) dX3_isRepeated_37 (Nat.le_of_ble_eq_true rfl) rfl ?_
          have w := w _ rfl
          refine jr_iinc (pc := 38) F (j := 4) (vs' := [(4, .inl _), (3, .inl _), (0, .inr (.inr (.inl _))), (1, .inl _), (2, .inl _)]) dX3_isRepeated_38 rfl rfl (Nat.le_of_ble_eq_true rfl) rfl ?_
          refine jr_goto (pc := 41) (tgt := 5) F dX3_isRepeated_41 rfl ?_
          refine jj_J.sub [2, 3, 4, 1, 0] rfl ?_
          exact ih _ _ _ w
        · have w := w2 c9
          refine jr_iconst (pc := 32) F dX3_isRepeated_32 ?_
          refine jr_goto (pc := 33) (tgt := 37) F dX3_isRepeated_33 rfl ?_
          refine jr_istore_n (pc := 37) F (vs' := [(3, .inl _), (0, .inr (.inr (.inl _))), (1, .inl _), (2, .inl _), (4, .inl _)]) dX3_isRepeated_37 (Nat.le_of_ble_eq_true rfl) rfl ?_
          have w := w _ rfl
          refine jr_iinc (pc := 38) F (j := 4) (vs' := [(4, .inl _), (3, .inl _), (0, .inr (.inr (.inl _))), (1, .inl _), (2, .inl _)]) dX3_isRepeated_38 rfl rfl (Nat.le_of_ble_eq_true rfl) rfl ?_
          refine jr_goto (pc := 41) (tgt := 5) F dX3_isRepeated_41 rfl ?_
          refine jj_J.sub [2, 3, 4, 1, 0] rfl ?_
          exact ih _ _ _ w

theorem sM_isRepeated {X : jj_X} {h0 : jj_H} {m0 k : Nat} {N : Option jj_AV → jj_H → Prop} {XN : String → Nat → jj_H → Prop} (F : jj_F X RX3 cX3_isRepeated 5) (M : jj_M X (some (.boolean)) 1 22 N XN) (S : jj_GS X.1 X.2.2.1) (hs : jj_hs X.1 h0 m0) {Q : Int → jj_MS → Prop} (hQ : ∀ r ms, Q r ms → N (some (.inl r)) (jj_mh h0 m0 ms)) : ∀ (x1 : Int) (x2 : Int) (ms : jj_MS), fM_isRepeated x1 x2 Q ms → jj_J X 5 0 [(0, .inr (.inr (.inl (some m0)))), (1, .inl x1), (2, .inl x2)] [] (jj_mh h0 m0 ms) k := by
  intro x1 x2 ms w
  unfold fM_isRepeated at w
  refine jr_iconst (pc := 0) F dX3_isRepeated_0 ?_
  refine jr_istore_n (pc := 1) F (vs' := [(3, .inl _), (0, .inr (.inr (.inl _))), (1, .inl _), (2, .inl _)]) dX3_isRepeated_1 (Nat.le_of_ble_eq_true rfl) rfl ?_
  refine jr_iconst (pc := 2) F dX3_isRepeated_2 ?_
  refine jr_istore (pc := 3) F (vs' := [(4, .inl _), (3, .inl _), (0, .inr (.inr (.inl _))), (1, .inl _), (2, .inl _)]) dX3_isRepeated_3 (Nat.le_of_ble_eq_true rfl) rfl ?_
  refine jj_J.sub [2, 3, 4, 1, 0] rfl ?_
  obtain ⟨n9, w⟩ := w
  exact sM_isRepeated_l5 F M S hs hQ _ _ n9 _ _ _ w

theorem cM_isRepeated {G : jj_G} {l : Launch} (S : jj_GS G l) {h0 : jj_H} {m0 : Nat} (hs : jj_hs G h0 m0) {x1 : Int} {x2 : Int} {ms : jj_MS} {Q : Int → jj_MS → Prop} (w : fM_isRepeated x1 x2 Q ms) : jj_Ct G l yX3_isRepeated (ws_ yX3_isRepeated cX3_isRepeated 5 (some (.boolean))) 1 22 [.inr (.inr (.inl (some m0))), .inl x1, .inl x2] (jj_mh h0 m0 ms) 0 (jm_Ni h0 m0 Q) jj_F0 := by
  refine jj_Ct.of S.1 (by decide +kernel) (Nat.le_of_ble_eq_true rfl) rfl (fun X hG hl F M O hnm => ?_)
  subst hG; subst hl
  exact sM_isRepeated F M S hs (fun r ms q => ⟨r, ms, rfl, rfl, q⟩) _ _ _ w
theorem hM_isRepeated : yX3_isRepeated.cls = RX3 ∧ yX3_isRepeated.cls ≠ "java/lang/invoke/MethodHandle" ∧ yX3_isRepeated.cls ≠ "java/lang/invoke/VarHandle" ∧ (parseMethodDescriptor yX3_isRepeated.desc).map (fun d => d.parameters.length) = some 2 := by decide +kernel
/-! says(IJ)Z -/
def fM_says_l6 (x1 : Int) (x2 : Int) (Q : Int → jj_MS → Prop) : Nat → Int → Int → jj_MS → Prop
  | 0, _, _, _ => False
  | n + 1, x4, x5, ms =>
  fM_ofNote x1 5 (fun r2 ms1 =>
  jj_r x5 ∧ jj_r r2 ∧ (r2 ≤ x5 → (
    (x4 = 0 ∨ x4 = 1) ∧ Q x4 ms1)) ∧
  (¬ r2 ≤ x5 → (
    jj_r x4 ∧ (¬ x4 = 0 → (
      ∀ v3, v3 = x5 + 1 →
      fM_says_l6 x1 x2 Q n 1 v3 ms1)) ∧
    (x4 = 0 → (
      fM_saidBy x1 x5 (fun r5 ms4 =>
      jj_rl r5 ∧ jj_rl x2 ∧ (¬ r5 = x2 → (
        ∀ v6, v6 = x5 + 1 →
        fM_says_l6 x1 x2 Q n 0 v6 ms4)) ∧
      (r5 = x2 → (
        ∀ v7, v7 = x5 + 1 →
        fM_says_l6 x1 x2 Q n 1 v7 ms4))) ms1))))) ms

def fM_says (x1 : Int) (x2 : Int) (Q : Int → jj_MS → Prop) (ms : jj_MS) : Prop :=
  ∃ n9, fM_says_l6 x1 x2 Q n9 0 0 ms

theorem sM_says_l6 {X : jj_X} {h0 : jj_H} {m0 k : Nat} {N : Option jj_AV → jj_H → Prop} {XN : String → Nat → jj_H → Prop} (F : jj_F X RX3 cX3_says 6) (M : jj_M X (some (.boolean)) 1 22 N XN) (S : jj_GS X.1 X.2.2.1) (hs : jj_hs X.1 h0 m0) {Q : Int → jj_MS → Prop} (hQ : ∀ r ms, Q r ms → N (some (.inl r)) (jj_mh h0 m0 ms)) (x1 : Int) (x2 : Int) : ∀ (n : Nat) (x4 : Int) (x5 : Int) (ms : jj_MS), fM_says_l6 x1 x2 Q n x4 x5 ms → jj_J X 6 6 [(0, .inr (.inr (.inl (some m0)))), (1, .inl x1), (2, .inr (.inl x2)), (4, .inl x4), (5, .inl x5)] [] (jj_mh h0 m0 ms) k := by
  intro n
  induction n with
  | zero =>
    intro x4 x5 ms w
    exact (show False from w).elim
  | succ n ih =>
    intro x4 x5 ms w
    rw [fM_says_l6] at w
    refine jr_iload (pc := 6) F (j := 4) dX3_says_6 rfl ?_
    refine jr_aload_n (pc := 8) F (j := 0) dX3_says_8 rfl ?_
    refine jr_iload_n (pc := 9) F (j := 1) dX3_says_9 rfl ?_
    refine jr_iconst (pc := 10) F dX3_says_10 ?_
    refine jr_callV (pc := 11) (As := [_, _]) F M (lw_V q3338 q3340 qs57 q143 q3341) dX3_says_11 hM_ofNote rfl (Nat.le_of_ble_eq_true rfl) (Nat.le_of_ble_eq_true rfl) (Nat.le_of_ble_eq_true rfl) (jj_set_self _ _ _) rfl rfl (Nat.zero_le _) (cM_ofNote S hs w) (fun v9 h9 q9 => ?_) (fun _ _ _ q9 => q9.elim)
    obtain ⟨r2, ms1, rfl, rfl, w⟩ := q9
    obtain ⟨hx9, hy9, w1, w2⟩ := w
    refine jr_icmp_ge (pc := 14) (tgt := 47) F hx9 hy9 dX3_says_14 rfl (fun c9 => ?_) (fun c9 => ?_)
    · have w := w1 c9
      refine jr_iload (pc := 47) F (j := 3) dX3_says_47 rfl ?_
      exact jr_zret (pc := 49) F M dX3_says_49 w.1 (hQ _ _ w.2)
    · have w := w2 c9
      refine jr_iload (pc := 17) F (j := 3) dX3_says_17 rfl ?_
      obtain ⟨hx9, w1, w2⟩ := w
      refine jr_if_ne (pc := 19) (tgt := 34) F hx9 dX3_says_19 rfl (fun c9 => ?_) (fun c9 => ?_)
      · have w := w1 c9
        refine jr_iconst (pc := 34) F dX3_says_34 ?_
        refine jr_goto (pc := 35) (tgt := 39) F dX3_says_35 rfl ?_
        refine jr_istore (pc := 39) F (vs' := [(4, .inl _), (0, .inr (.inr (.inl _))), (1, .inl _), (2, .inr (.inl _)), (5, .inl _)]) dX3_says_39 (Nat.le_of_ble_eq_true rfl) rfl ?_
        have w := w _ rfl
        refine jr_iinc (pc := 41) F (j := 4) (vs' := [(5, .inl _), (4, .inl _), (0, .inr (.inr (.inl _))), (1, .inl _), (2, .inr (.inl _))]) dX3_says_41 rfl rfl (Nat.le_of_ble_eq_true rfl) rfl ?_
        refine jr_goto (pc := 44) (tgt := 6) F dX3_says_44 rfl ?_
        refine jj_J.sub [2, 3, 4, 1, 0] rfl ?_
        exact ih _ _ _ w
      · have w := w2 c9
        refine jr_aload_n (pc := 22) F (j := 0) dX3_says_22 rfl ?_
        refine jr_iload_n (pc := 23) F (j := 1) dX3_says_23 rfl ?_
        refine jr_iload (pc := 24) F (j := 4) dX3_says_24 rfl ?_
        refine jr_callV (pc := 26) (As := [_, _]) F M (lw_V q3371 q3373 qs65 q143 q3374) dX3_says_26 hM_saidBy rfl (Nat.le_of_ble_eq_true rfl) (Nat.le_of_ble_eq_true rfl) (Nat.le_of_ble_eq_true rfl) (jj_set_self _ _ _) rfl rfl (Nat.zero_le _) (cM_saidBy S hs w) (fun v9 h9 q9 => ?_) (fun _ _ _ q9 => q9.elim)
        obtain ⟨r5, ms4, rfl, rfl, w⟩ := q9
        refine jr_lload_n (pc := 29) F (j := 2) dX3_says_29 rfl ?_
        obtain ⟨hx9, hy9, w1, w2⟩ := w
        refine jr_lc_ne (pc := 30) (tgt := 38) F hx9 hy9 dX3_says_30 dX3_says_31 rfl (fun c9 => ?_) (fun c9 => ?_)
        · have w := w1 c9
          refine jr_iconst (pc := 38) F dX3_says_38 ?_
          refine jr_istore (pc := 39) F (vs' := [(4, .inl _), (0, .inr (.inr (.inl _))), (1, .inl _), (2, .inr (.inl _)), (5, .inl _)]) dX3_says_39 (Nat.le_of_ble_eq_true rfl) rfl ?_
          have w := w _ rfl
          refine jr_iinc (pc := 41) F (j := 4) (vs' := [(5, .inl _), (4, .inl _), (0, .inr (.inr (.inl _))), (1, .inl _), (2, .inr (.inl _))]) dX3_says_41 rfl rfl (Nat.le_of_ble_eq_true rfl) rfl ?_
          refine jr_goto (pc := 44) (tgt := 6) F dX3_says_44 rfl ?_
          refine jj_J.sub [2, 3, 4, 1, 0] rfl ?_
          exact ih _ _ _ w
        · have w := w2 c9
          refine jr_iconst (pc := 34) F dX3_says_34 ?_
          refine jr_goto (pc := 35) (tgt := 39) F dX3_says_35 rfl ?_
          refine jr_istore (pc := 39) F (vs' := [(4, .inl _), (0, .inr (.inr (.inl _))), (1, .inl _), (2, .inr (.inl _)), (5, .inl _)]) dX3_says_39 (Nat.le_of_ble_eq_true rfl) rfl ?_
          have w := w _ rfl
          refine jr_iinc (pc := 41) F (j := 4) (vs' := [(5, .inl _), (4, .inl _), (0, .inr (.inr (.inl _))), (1, .inl _), (2, .inr (.inl _))]) dX3_says_41 rfl rfl (Nat.le_of_ble_eq_true rfl) rfl ?_
          refine jr_goto (pc := 44) (tgt := 6) F dX3_says_44 rfl ?_
          refine jj_J.sub [2, 3, 4, 1, 0] rfl ?_
          exact ih _ _ _ w

theorem sM_says {X : jj_X} {h0 : jj_H} {m0 k : Nat} {N : Option jj_AV → jj_H → Prop} {XN : String → Nat → jj_H → Prop} (F : jj_F X RX3 cX3_says 6) (M : jj_M X (some (.boolean)) 1 22 N XN) (S : jj_GS X.1 X.2.2.1) (hs : jj_hs X.1 h0 m0) {Q : Int → jj_MS → Prop} (hQ : ∀ r ms, Q r ms → N (some (.inl r)) (jj_mh h0 m0 ms)) : ∀ (x1 : Int) (x2 : Int) (ms : jj_MS), fM_says x1 x2 Q ms → jj_J X 6 0 [(0, .inr (.inr (.inl (some m0)))), (1, .inl x1), (2, .inr (.inl x2))] [] (jj_mh h0 m0 ms) k := by
  intro x1 x2 ms w
  unfold fM_says at w
  refine jr_iconst (pc := 0) F dX3_says_0 ?_
  refine jr_istore (pc := 1) F (vs' := [(4, .inl _), (0, .inr (.inr (.inl _))), (1, .inl _), (2, .inr (.inl _))]) dX3_says_1 (Nat.le_of_ble_eq_true rfl) rfl ?_
  refine jr_iconst (pc := 3) F dX3_says_3 ?_
  refine jr_istore (pc := 4) F (vs' := [(5, .inl _), (4, .inl _), (0, .inr (.inr (.inl _))), (1, .inl _), (2, .inr (.inl _))]) dX3_says_4 (Nat.le_of_ble_eq_true rfl) rfl ?_
  refine jj_J.sub [2, 3, 4, 1, 0] rfl ?_
  obtain ⟨n9, w⟩ := w
  exact sM_says_l6 F M S hs hQ _ _ n9 _ _ _ w

theorem cM_says {G : jj_G} {l : Launch} (S : jj_GS G l) {h0 : jj_H} {m0 : Nat} (hs : jj_hs G h0 m0) {x1 : Int} {x2 : Int} {ms : jj_MS} {Q : Int → jj_MS → Prop} (w : fM_says x1 x2 Q ms) : jj_Ct G l yX3_says (ws_ yX3_says cX3_says 6 (some (.boolean))) 1 22 [.inr (.inr (.inl (some m0))), .inl x1, .inr (.inl x2)] (jj_mh h0 m0 ms) 0 (jm_Ni h0 m0 Q) jj_F0 := by
  refine jj_Ct.of S.1 (by decide +kernel) (Nat.le_of_ble_eq_true rfl) rfl (fun X hG hl F M O hnm => ?_)
  subst hG; subst hl
  exact sM_says F M S hs (fun r ms q => ⟨r, ms, rfl, rfl, q⟩) _ _ _ w
theorem hM_says : yX3_says.cls = RX3 ∧ yX3_says.cls ≠ "java/lang/invoke/MethodHandle" ∧ yX3_says.cls ≠ "java/lang/invoke/VarHandle" ∧ (parseMethodDescriptor yX3_says.desc).map (fun d => d.parameters.length) = some 2 := by decide +kernel
/-! differentWords(IIZ)I -/
def fM_differentWords_j51 (K6 : Int → Int → jj_MS → Prop) (x1 : Int) (x2 : Int) (x3 : Int) (x4 : Int) (x5 : Int) (y0 : Int) (Q : Int → jj_MS → Prop) (ms : jj_MS) : Prop :=
  jj_r y0 ∧ (y0 = 0 → (
    ∀ v1, v1 = x4 + 0 →
    ∀ v2, v2 = x5 + 1 →
    K6 v1 v2 ms)) ∧
  (¬ y0 = 0 → (
    ∀ v3, v3 = x4 + 1 →
    ∀ v4, v4 = x5 + 1 →
    K6 v3 v4 ms))

def fM_differentWords_j50 (K6 : Int → Int → jj_MS → Prop) (x1 : Int) (x2 : Int) (x3 : Int) (x4 : Int) (x5 : Int) (Q : Int → jj_MS → Prop) (ms : jj_MS) : Prop :=
  fM_differentWords_j51 K6 x1 x2 x3 x4 x5 0 Q ms

def fM_differentWords_j46 (K6 : Int → Int → jj_MS → Prop) (x1 : Int) (x2 : Int) (x3 : Int) (x4 : Int) (x5 : Int) (Q : Int → jj_MS → Prop) (ms : jj_MS) : Prop :=
  fM_differentWords_j51 K6 x1 x2 x3 x4 x5 1 Q ms

def fM_differentWords_l6 (x1 : Int) (x2 : Int) (x3 : Int) (Q : Int → jj_MS → Prop) : Nat → Int → Int → jj_MS → Prop
  | 0, _, _, _ => False
  | n + 1, x4, x5, ms =>
  fM_ofNote x1 5 (fun r6 ms5 =>
  jj_r x5 ∧ jj_r r6 ∧ (r6 ≤ x5 → (
    Q x4 ms5)) ∧
  (¬ r6 ≤ x5 → (
    fM_isRepeated x1 x5 (fun r8 ms7 =>
    jj_r r8 ∧ (¬ r8 = 0 → (
      fM_differentWords_j50 (fM_differentWords_l6 x1 x2 x3 Q n) x1 x2 x3 x4 x5 Q ms7)) ∧
    (r8 = 0 → (
      jj_r x3 ∧ (x3 = 0 → (
        fM_differentWords_j46 (fM_differentWords_l6 x1 x2 x3 Q n) x1 x2 x3 x4 x5 Q ms7)) ∧
      (¬ x3 = 0 → (
        fM_saidBy x1 x5 (fun r10 ms9 =>
        fM_says x2 r10 (fun r12 ms11 =>
        jj_r r12 ∧ (r12 = 0 → (
          fM_differentWords_j50 (fM_differentWords_l6 x1 x2 x3 Q n) x1 x2 x3 x4 x5 Q ms11)) ∧
        (¬ r12 = 0 → (
          fM_differentWords_j46 (fM_differentWords_l6 x1 x2 x3 Q n) x1 x2 x3 x4 x5 Q ms11))) ms9) ms7))))) ms5))) ms

def fM_differentWords (x1 : Int) (x2 : Int) (x3 : Int) (Q : Int → jj_MS → Prop) (ms : jj_MS) : Prop :=
  ∃ n9, fM_differentWords_l6 x1 x2 x3 Q n9 0 0 ms

theorem sM_differentWords_j51 {X : jj_X} {h0 : jj_H} {m0 k : Nat} {N : Option jj_AV → jj_H → Prop} {XN : String → Nat → jj_H → Prop} (F : jj_F X RX3 cX3_differentWords 7) (M : jj_M X (some (.int)) 2 47 N XN) (S : jj_GS X.1 X.2.2.1) (hs : jj_hs X.1 h0 m0) {Q : Int → jj_MS → Prop} (hQ : ∀ r ms, Q r ms → N (some (.inl r)) (jj_mh h0 m0 ms)) (x1 : Int) (x2 : Int) (x3 : Int) {K6 : Int → Int → jj_MS → Prop} (hK6 : ∀ (z4 : Int) (z5 : Int) (ms : jj_MS), K6 z4 z5 ms → jj_J X 7 6 [(0, .inr (.inr (.inl (some m0)))), (1, .inl x1), (2, .inl x2), (3, .inl x3), (4, .inl z4), (5, .inl z5)] [] (jj_mh h0 m0 ms) k) : ∀ (x4 : Int) (x5 : Int) (y0 : Int) (ms : jj_MS), fM_differentWords_j51 K6 x1 x2 x3 x4 x5 y0 Q ms → jj_J X 7 51 [(0, .inr (.inr (.inl (some m0)))), (1, .inl x1), (2, .inl x2), (3, .inl x3), (4, .inl x4), (5, .inl x5)] [.inl y0] (jj_mh h0 m0 ms) k := by
  intro x4 x5 y0 ms w
  unfold fM_differentWords_j51 at w
  refine jr_istore (pc := 51) F (vs' := [(6, .inl _), (0, .inr (.inr (.inl _))), (1, .inl _), (2, .inl _), (3, .inl _), (4, .inl _), (5, .inl _)]) dX3_differentWords_51 (Nat.le_of_ble_eq_true rfl) rfl ?_
  refine jr_iload (pc := 53) F (j := 5) dX3_differentWords_53 rfl ?_
  refine jr_iload (pc := 55) F (j := 0) dX3_differentWords_55 rfl ?_
  obtain ⟨hx9, w1, w2⟩ := w
  refine jr_if_eq (pc := 57) (tgt := 64) F hx9 dX3_differentWords_57 rfl (fun c9 => ?_) (fun c9 => ?_)
  · have w := w1 c9
    refine jr_iconst (pc := 64) F dX3_differentWords_64 ?_
    refine jr_iadd (pc := 65) F dX3_differentWords_65 ?_
    have w := w _ rfl
    refine jr_istore (pc := 66) F (vs' := [(4, .inl _), (6, .inl _), (0, .inr (.inr (.inl _))), (1, .inl _), (2, .inl _), (3, .inl _), (5, .inl _)]) dX3_differentWords_66 (Nat.le_of_ble_eq_true rfl) rfl ?_
    have w := w _ rfl
    refine jr_iinc (pc := 68) F (j := 6) (vs' := [(5, .inl _), (4, .inl _), (6, .inl _), (0, .inr (.inr (.inl _))), (1, .inl _), (2, .inl _), (3, .inl _)]) dX3_differentWords_68 rfl rfl (Nat.le_of_ble_eq_true rfl) rfl ?_
    refine jr_goto (pc := 71) (tgt := 6) F dX3_differentWords_71 rfl ?_
    refine jj_J.sub [3, 4, 5, 6, 1, 0] rfl ?_
    exact hK6 _ _ _ w
  · have w := w2 c9
    refine jr_iconst (pc := 60) F dX3_differentWords_60 ?_
    refine jr_goto (pc := 61) (tgt := 65) F dX3_differentWords_61 rfl ?_
    refine jr_iadd (pc := 65) F dX3_differentWords_65 ?_
    have w := w _ rfl
    refine jr_istore (pc := 66) F (vs' := [(4, .inl _), (6, .inl _), (0, .inr (.inr (.inl _))), (1, .inl _), (2, .inl _), (3, .inl _), (5, .inl _)]) dX3_differentWords_66 (Nat.le_of_ble_eq_true rfl) rfl ?_
    have w := w _ rfl
    refine jr_iinc (pc := 68) F (j := 6) (vs' := [(5, .inl _), (4, .inl _), (6, .inl _), (0, .inr (.inr (.inl _))), (1, .inl _), (2, .inl _), (3, .inl _)]) dX3_differentWords_68 rfl rfl (Nat.le_of_ble_eq_true rfl) rfl ?_
    refine jr_goto (pc := 71) (tgt := 6) F dX3_differentWords_71 rfl ?_
    refine jj_J.sub [3, 4, 5, 6, 1, 0] rfl ?_
    exact hK6 _ _ _ w

theorem sM_differentWords_j50 {X : jj_X} {h0 : jj_H} {m0 k : Nat} {N : Option jj_AV → jj_H → Prop} {XN : String → Nat → jj_H → Prop} (F : jj_F X RX3 cX3_differentWords 7) (M : jj_M X (some (.int)) 2 47 N XN) (S : jj_GS X.1 X.2.2.1) (hs : jj_hs X.1 h0 m0) {Q : Int → jj_MS → Prop} (hQ : ∀ r ms, Q r ms → N (some (.inl r)) (jj_mh h0 m0 ms)) (x1 : Int) (x2 : Int) (x3 : Int) {K6 : Int → Int → jj_MS → Prop} (hK6 : ∀ (z4 : Int) (z5 : Int) (ms : jj_MS), K6 z4 z5 ms → jj_J X 7 6 [(0, .inr (.inr (.inl (some m0)))), (1, .inl x1), (2, .inl x2), (3, .inl x3), (4, .inl z4), (5, .inl z5)] [] (jj_mh h0 m0 ms) k) : ∀ (x4 : Int) (x5 : Int) (ms : jj_MS), fM_differentWords_j50 K6 x1 x2 x3 x4 x5 Q ms → jj_J X 7 50 [(0, .inr (.inr (.inl (some m0)))), (1, .inl x1), (2, .inl x2), (3, .inl x3), (4, .inl x4), (5, .inl x5)] [] (jj_mh h0 m0 ms) k := by
  intro x4 x5 ms w
  unfold fM_differentWords_j50 at w
  refine jr_iconst (pc := 50) F dX3_differentWords_50 ?_
  exact sM_differentWords_j51 F M S hs hQ _ _ _ hK6 _ _ _ _ w

theorem sM_differentWords_j46 {X : jj_X} {h0 : jj_H} {m0 k : Nat} {N : Option jj_AV → jj_H → Prop} {XN : String → Nat → jj_H → Prop} (F : jj_F X RX3 cX3_differentWords 7) (M : jj_M X (some (.int)) 2 47 N XN) (S : jj_GS X.1 X.2.2.1) (hs : jj_hs X.1 h0 m0) {Q : Int → jj_MS → Prop} (hQ : ∀ r ms, Q r ms → N (some (.inl r)) (jj_mh h0 m0 ms)) (x1 : Int) (x2 : Int) (x3 : Int) {K6 : Int → Int → jj_MS → Prop} (hK6 : ∀ (z4 : Int) (z5 : Int) (ms : jj_MS), K6 z4 z5 ms → jj_J X 7 6 [(0, .inr (.inr (.inl (some m0)))), (1, .inl x1), (2, .inl x2), (3, .inl x3), (4, .inl z4), (5, .inl z5)] [] (jj_mh h0 m0 ms) k) : ∀ (x4 : Int) (x5 : Int) (ms : jj_MS), fM_differentWords_j46 K6 x1 x2 x3 x4 x5 Q ms → jj_J X 7 46 [(0, .inr (.inr (.inl (some m0)))), (1, .inl x1), (2, .inl x2), (3, .inl x3), (4, .inl x4), (5, .inl x5)] [] (jj_mh h0 m0 ms) k := by
  intro x4 x5 ms w
  unfold fM_differentWords_j46 at w
  refine jr_iconst (pc := 46) F dX3_differentWords_46 ?_
  refine jr_goto (pc := 47) (tgt := 51) F dX3_differentWords_47 rfl ?_
  exact sM_differentWords_j51 F M S hs hQ _ _ _ hK6 _ _ _ _ w

theorem sM_differentWords_l6 {X : jj_X} {h0 : jj_H} {m0 k : Nat} {N : Option jj_AV → jj_H → Prop} {XN : String → Nat → jj_H → Prop} (F : jj_F X RX3 cX3_differentWords 7) (M : jj_M X (some (.int)) 2 47 N XN) (S : jj_GS X.1 X.2.2.1) (hs : jj_hs X.1 h0 m0) {Q : Int → jj_MS → Prop} (hQ : ∀ r ms, Q r ms → N (some (.inl r)) (jj_mh h0 m0 ms)) (x1 : Int) (x2 : Int) (x3 : Int) : ∀ (n : Nat) (x4 : Int) (x5 : Int) (ms : jj_MS), fM_differentWords_l6 x1 x2 x3 Q n x4 x5 ms → jj_J X 7 6 [(0, .inr (.inr (.inl (some m0)))), (1, .inl x1), (2, .inl x2), (3, .inl x3), (4, .inl x4), (5, .inl x5)] [] (jj_mh h0 m0 ms) k := by
  intro n
  induction n with
  | zero =>
    intro x4 x5 ms w
    exact (show False from w).elim
  | succ n ih =>
    intro x4 x5 ms w
    rw [fM_differentWords_l6] at w
    refine jr_iload (pc := 6) F (j := 5) dX3_differentWords_6 rfl ?_
    refine jr_aload_n (pc := 8) F (j := 0) dX3_differentWords_8 rfl ?_
    refine jr_iload_n (pc := 9) F (j := 1) dX3_differentWords_9 rfl ?_
    refine jr_iconst (pc := 10) F dX3_differentWords_10 ?_
    refine jr_callV (pc := 11) (As := [_, _]) F M (lw_V q3338 q3340 qs57 q143 q3341) dX3_differentWords_11 hM_ofNote rfl (Nat.le_of_ble_eq_true rfl) (Nat.le_of_ble_eq_true rfl) (Nat.le_of_ble_eq_true rfl) (jj_set_self _ _ _) rfl rfl (Nat.zero_le _) (cM_ofNote S hs w) (fun v9 h9 q9 => ?_) (fun _ _ _ q9 => q9.elim)
    obtain ⟨r6, ms5, rfl, rfl, w⟩ := q9
    obtain ⟨hx9, hy9, w1, w2⟩ := w
    refine jr_icmp_ge (pc := 14) (tgt := 74) F hx9 hy9 dX3_differentWords_14 rfl (fun c9 => ?_) (fun c9 => ?_)
    · have w := w1 c9
      refine jr_iload (pc := 74) F (j := 4) dX3_differentWords_74 rfl ?_
      exact jr_iret (pc := 76) F M dX3_differentWords_76 (hQ _ _ w)
    · have w := w2 c9
      refine jr_aload_n (pc := 17) F (j := 0) dX3_differentWords_17 rfl ?_
      refine jr_iload_n (pc := 18) F (j := 1) dX3_differentWords_18 rfl ?_
      refine jr_iload (pc := 19) F (j := 5) dX3_differentWords_19 rfl ?_
      refine jr_callV (pc := 21) (As := [_, _]) F M (lw_V q3367 q3369 qs64 q143 q3370) dX3_differentWords_21 hM_isRepeated rfl (Nat.le_of_ble_eq_true rfl) (Nat.le_of_ble_eq_true rfl) (Nat.le_of_ble_eq_true rfl) (jj_set_self _ _ _) rfl rfl (Nat.zero_le _) (cM_isRepeated S hs w) (fun v9 h9 q9 => ?_) (fun _ _ _ q9 => q9.elim)
      obtain ⟨r8, ms7, rfl, rfl, w⟩ := q9
      obtain ⟨hx9, w1, w2⟩ := w
      refine jr_if_ne (pc := 24) (tgt := 50) F hx9 dX3_differentWords_24 rfl (fun c9 => ?_) (fun c9 => ?_)
      · have w := w1 c9
        exact sM_differentWords_j50 F M S hs hQ _ _ _ ih _ _ _ w
      · have w := w2 c9
        refine jr_iload_n (pc := 27) F (j := 3) dX3_differentWords_27 rfl ?_
        obtain ⟨hx9, w1, w2⟩ := w
        refine jr_if_eq (pc := 28) (tgt := 46) F hx9 dX3_differentWords_28 rfl (fun c9 => ?_) (fun c9 => ?_)
        · have w := w1 c9
          exact sM_differentWords_j46 F M S hs hQ _ _ _ ih _ _ _ w
        · have w := w2 c9
          refine jr_aload_n (pc := 31) F (j := 0) dX3_differentWords_31 rfl ?_
          refine jr_iload_n (pc := 32) F (j := 2) dX3_differentWords_32 rfl ?_
          refine jr_aload_n (pc := 33) F (j := 0) dX3_differentWords_33 rfl ?_
          refine jr_iload_n (pc := 34) F (j := 1) dX3_differentWords_34 rfl ?_
          refine jr_iload (pc := 35) F (j := 5) dX3_differentWords_35 rfl ?_
          refine jr_callV (pc := 37) (As := [_, _]) F M (lw_V q3371 q3373 qs65 q143 q3374) dX3_differentWords_37 hM_saidBy rfl (Nat.le_of_ble_eq_true rfl) (Nat.le_of_ble_eq_true rfl) (Nat.le_of_ble_eq_true rfl) (jj_set_self _ _ _) rfl rfl (Nat.zero_le _) (cM_saidBy S hs w) (fun v9 h9 q9 => ?_) (fun _ _ _ q9 => q9.elim)
          obtain ⟨r10, ms9, rfl, rfl, w⟩ := q9
          refine jr_callV (pc := 40) (As := [_, _]) F M (lw_V q3375 q3377 qs66 q143 q3378) dX3_differentWords_40 hM_says rfl (Nat.le_of_ble_eq_true rfl) (Nat.le_of_ble_eq_true rfl) (Nat.le_of_ble_eq_true rfl) (jj_set_self _ _ _) rfl rfl (Nat.zero_le _) (cM_says S hs w) (fun v9 h9 q9 => ?_) (fun _ _ _ q9 => q9.elim)
          obtain ⟨r12, ms11, rfl, rfl, w⟩ := q9
          obtain ⟨hx9, w1, w2⟩ := w
          refine jr_if_eq (pc := 43) (tgt := 50) F hx9 dX3_differentWords_43 rfl (fun c9 => ?_) (fun c9 => ?_)
          · have w := w1 c9
            exact sM_differentWords_j50 F M S hs hQ _ _ _ ih _ _ _ w
          · have w := w2 c9
            exact sM_differentWords_j46 F M S hs hQ _ _ _ ih _ _ _ w

theorem sM_differentWords {X : jj_X} {h0 : jj_H} {m0 k : Nat} {N : Option jj_AV → jj_H → Prop} {XN : String → Nat → jj_H → Prop} (F : jj_F X RX3 cX3_differentWords 7) (M : jj_M X (some (.int)) 2 47 N XN) (S : jj_GS X.1 X.2.2.1) (hs : jj_hs X.1 h0 m0) {Q : Int → jj_MS → Prop} (hQ : ∀ r ms, Q r ms → N (some (.inl r)) (jj_mh h0 m0 ms)) : ∀ (x1 : Int) (x2 : Int) (x3 : Int) (ms : jj_MS), fM_differentWords x1 x2 x3 Q ms → jj_J X 7 0 [(0, .inr (.inr (.inl (some m0)))), (1, .inl x1), (2, .inl x2), (3, .inl x3)] [] (jj_mh h0 m0 ms) k := by
  intro x1 x2 x3 ms w
  unfold fM_differentWords at w
  refine jr_iconst (pc := 0) F dX3_differentWords_0 ?_
  refine jr_istore (pc := 1) F (vs' := [(4, .inl _), (0, .inr (.inr (.inl _))), (1, .inl _), (2, .inl _), (3, .inl _)]) dX3_differentWords_1 (Nat.le_of_ble_eq_true rfl) rfl ?_
  refine jr_iconst (pc := 3) F dX3_differentWords_3 ?_
  refine jr_istore (pc := 4) F (vs' := [(5, .inl _), (4, .inl _), (0, .inr (.inr (.inl _))), (1, .inl _), (2, .inl _), (3, .inl _)]) dX3_differentWords_4 (Nat.le_of_ble_eq_true rfl) rfl ?_
  refine jj_J.sub [2, 3, 4, 5, 1, 0] rfl ?_
  obtain ⟨n9, w⟩ := w
  exact sM_differentWords_l6 F M S hs hQ _ _ _ n9 _ _ _ w

theorem cM_differentWords {G : jj_G} {l : Launch} (S : jj_GS G l) {h0 : jj_H} {m0 : Nat} (hs : jj_hs G h0 m0) {x1 : Int} {x2 : Int} {x3 : Int} {ms : jj_MS} {Q : Int → jj_MS → Prop} (w : fM_differentWords x1 x2 x3 Q ms) : jj_Ct G l yX3_differentWords (ws_ yX3_differentWords cX3_differentWords 7 (some (.int))) 2 47 [.inr (.inr (.inl (some m0))), .inl x1, .inl x2, .inl x3] (jj_mh h0 m0 ms) 0 (jm_Ni h0 m0 Q) jj_F0 := by
  refine jj_Ct.of S.1 (by decide +kernel) (Nat.le_of_ble_eq_true rfl) rfl (fun X hG hl F M O hnm => ?_)
  subst hG; subst hl
  exact sM_differentWords F M S hs (fun r ms q => ⟨r, ms, rfl, rfl, q⟩) _ _ _ _ w
theorem hM_differentWords : yX3_differentWords.cls = RX3 ∧ yX3_differentWords.cls ≠ "java/lang/invoke/MethodHandle" ∧ yX3_differentWords.cls ≠ "java/lang/invoke/VarHandle" ∧ (parseMethodDescriptor yX3_differentWords.desc).map (fun d => d.parameters.length) = some 3 := by decide +kernel
/-! haveLikeTexts(II)Z -/
def fM_haveLikeTexts (x1 : Int) (x2 : Int) (Q : Int → jj_MS → Prop) (ms : jj_MS) : Prop :=
  fM_differentWords x1 x2 1 (fun r2 ms1 =>
  fM_differentWords x1 x2 0 (fun r4 ms3 =>
  fM_differentWords x2 x1 0 (fun r6 ms5 =>
  ∀ v7, v7 = (r4 + r6) - r2 →
  jj_r (r2 * 100) ∧ jj_r ((ms5.2 0 3) * v7) ∧ ((r2 * 100) < ((ms5.2 0 3) * v7) → (
    Q 0 ms5)) ∧
  (¬ (r2 * 100) < ((ms5.2 0 3) * v7) → (
    Q 1 ms5))) ms3) ms1) ms

theorem sM_haveLikeTexts {X : jj_X} {h0 : jj_H} {m0 k : Nat} {N : Option jj_AV → jj_H → Prop} {XN : String → Nat → jj_H → Prop} (F : jj_F X RX3 cX3_haveLikeTexts 5) (M : jj_M X (some (.boolean)) 3 73 N XN) (S : jj_GS X.1 X.2.2.1) (hs : jj_hs X.1 h0 m0) {Q : Int → jj_MS → Prop} (hQ : ∀ r ms, Q r ms → N (some (.inl r)) (jj_mh h0 m0 ms)) : ∀ (x1 : Int) (x2 : Int) (ms : jj_MS), fM_haveLikeTexts x1 x2 Q ms → jj_J X 5 0 [(0, .inr (.inr (.inl (some m0)))), (1, .inl x1), (2, .inl x2)] [] (jj_mh h0 m0 ms) k := by
  intro x1 x2 ms w
  unfold fM_haveLikeTexts at w
  refine jr_aload_n (pc := 0) F (j := 0) dX3_haveLikeTexts_0 rfl ?_
  refine jr_iload_n (pc := 1) F (j := 1) dX3_haveLikeTexts_1 rfl ?_
  refine jr_iload_n (pc := 2) F (j := 2) dX3_haveLikeTexts_2 rfl ?_
  refine jr_iconst (pc := 3) F dX3_haveLikeTexts_3 ?_
  refine jr_callV (pc := 4) (As := [_, _, _]) F M (lw_V q3363 q3365 qs63 q143 q3366) dX3_haveLikeTexts_4 hM_differentWords rfl (Nat.le_of_ble_eq_true rfl) (Nat.le_of_ble_eq_true rfl) (Nat.le_of_ble_eq_true rfl) (jj_set_self _ _ _) rfl rfl (Nat.zero_le _) (cM_differentWords S hs w) (fun v9 h9 q9 => ?_) (fun _ _ _ q9 => q9.elim)
  obtain ⟨r2, ms1, rfl, rfl, w⟩ := q9
  refine jr_istore_n (pc := 7) F (vs' := [(3, .inl _), (0, .inr (.inr (.inl _))), (1, .inl _), (2, .inl _)]) dX3_haveLikeTexts_7 (Nat.le_of_ble_eq_true rfl) rfl ?_
  refine jr_aload_n (pc := 8) F (j := 1) dX3_haveLikeTexts_8 rfl ?_
  refine jr_iload_n (pc := 9) F (j := 2) dX3_haveLikeTexts_9 rfl ?_
  refine jr_iload_n (pc := 10) F (j := 3) dX3_haveLikeTexts_10 rfl ?_
  refine jr_iconst (pc := 11) F dX3_haveLikeTexts_11 ?_
  refine jr_callV (pc := 12) (As := [_, _, _]) F M (lw_V q3363 q3365 qs63 q143 q3366) dX3_haveLikeTexts_12 hM_differentWords rfl (Nat.le_of_ble_eq_true rfl) (Nat.le_of_ble_eq_true rfl) (Nat.le_of_ble_eq_true rfl) (jj_set_self _ _ _) rfl rfl (Nat.zero_le _) (cM_differentWords S hs w) (fun v9 h9 q9 => ?_) (fun _ _ _ q9 => q9.elim)
  obtain ⟨r4, ms3, rfl, rfl, w⟩ := q9
  refine jr_aload_n (pc := 15) F (j := 1) dX3_haveLikeTexts_15 rfl ?_
  refine jr_iload_n (pc := 16) F (j := 3) dX3_haveLikeTexts_16 rfl ?_
  refine jr_iload_n (pc := 17) F (j := 2) dX3_haveLikeTexts_17 rfl ?_
  refine jr_iconst (pc := 18) F dX3_haveLikeTexts_18 ?_
  refine jr_callV (pc := 19) (As := [_, _, _]) F M (lw_V q3363 q3365 qs63 q143 q3366) dX3_haveLikeTexts_19 hM_differentWords rfl (Nat.le_of_ble_eq_true rfl) (Nat.le_of_ble_eq_true rfl) (Nat.le_of_ble_eq_true rfl) (jj_set_self _ _ _) rfl rfl (Nat.zero_le _) (cM_differentWords S hs w) (fun v9 h9 q9 => ?_) (fun _ _ _ q9 => q9.elim)
  obtain ⟨r6, ms5, rfl, rfl, w⟩ := q9
  refine jr_iadd (pc := 22) F dX3_haveLikeTexts_22 ?_
  refine jr_iload_n (pc := 23) F (j := 0) dX3_haveLikeTexts_23 rfl ?_
  refine jr_isub (pc := 24) F dX3_haveLikeTexts_24 ?_
  have w := w _ rfl
  refine jr_istore (pc := 25) F (vs' := [(4, .inl _), (3, .inl _), (0, .inr (.inr (.inl _))), (1, .inl _), (2, .inl _)]) dX3_haveLikeTexts_25 (Nat.le_of_ble_eq_true rfl) rfl ?_
  refine jr_iload_n (pc := 27) F (j := 1) dX3_haveLikeTexts_27 rfl ?_
  refine jr_bipush (pc := 28) F dX3_haveLikeTexts_28 (by decide +kernel) ?_
  refine jr_imul (pc := 30) F dX3_haveLikeTexts_30 ?_
  refine jr_aload_n (pc := 31) F (j := 2) dX3_haveLikeTexts_31 rfl ?_
  refine jm_get (pc := 32) (f := 0) (v := .inr (.inr (.inl (some (m0 + 1 + 0))))) F (Nat.le_of_ble_eq_true rfl) q3130 rfl rfl dX3_haveLikeTexts_32 ?_
  refine jr_iconst (pc := 35) F dX3_haveLikeTexts_35 ?_
  refine jm_iald (pc := 36) (f := 0) (o := 0) F rfl (by decide) (by decide) (by decide) dX3_haveLikeTexts_36 ?_
  refine jr_iload (pc := 37) F (j := 0) dX3_haveLikeTexts_37 rfl ?_
  refine jr_imul (pc := 39) F dX3_haveLikeTexts_39 ?_
  obtain ⟨hx9, hy9, w1, w2⟩ := w
  refine jr_icmp_lt (pc := 40) (tgt := 47) F hx9 hy9 dX3_haveLikeTexts_40 rfl (fun c9 => ?_) (fun c9 => ?_)
  · have w := w1 c9
    refine jr_iconst (pc := 47) F dX3_haveLikeTexts_47 ?_
    exact jr_zret (pc := 48) F M dX3_haveLikeTexts_48 (by decide) (hQ _ _ w)
  · have w := w2 c9
    refine jr_iconst (pc := 43) F dX3_haveLikeTexts_43 ?_
    refine jr_goto (pc := 44) (tgt := 48) F dX3_haveLikeTexts_44 rfl ?_
    exact jr_zret (pc := 48) F M dX3_haveLikeTexts_48 (by decide) (hQ _ _ w)

theorem cM_haveLikeTexts {G : jj_G} {l : Launch} (S : jj_GS G l) {h0 : jj_H} {m0 : Nat} (hs : jj_hs G h0 m0) {x1 : Int} {x2 : Int} {ms : jj_MS} {Q : Int → jj_MS → Prop} (w : fM_haveLikeTexts x1 x2 Q ms) : jj_Ct G l yX3_haveLikeTexts (ws_ yX3_haveLikeTexts cX3_haveLikeTexts 5 (some (.boolean))) 3 73 [.inr (.inr (.inl (some m0))), .inl x1, .inl x2] (jj_mh h0 m0 ms) 0 (jm_Ni h0 m0 Q) jj_F0 := by
  refine jj_Ct.of S.1 (by decide +kernel) (Nat.le_of_ble_eq_true rfl) rfl (fun X hG hl F M O hnm => ?_)
  subst hG; subst hl
  exact sM_haveLikeTexts F M S hs (fun r ms q => ⟨r, ms, rfl, rfl, q⟩) _ _ _ w
theorem hM_haveLikeTexts : yX3_haveLikeTexts.cls = RX3 ∧ yX3_haveLikeTexts.cls ≠ "java/lang/invoke/MethodHandle" ∧ yX3_haveLikeTexts.cls ≠ "java/lang/invoke/VarHandle" ∧ (parseMethodDescriptor yX3_haveLikeTexts.desc).map (fun d => d.parameters.length) = some 2 := by decide +kernel
/-! alike(II)Z -/
def fM_alike_j25 (x1 : Int) (x2 : Int) (y0 : Int) (Q : Int → jj_MS → Prop) (ms : jj_MS) : Prop :=
  jj_r x1 ∧ jj_r x2 ∧ (x1 = x2 → (
    Q 0 ms)) ∧
  (¬ x1 = x2 → (
    jj_r y0 ∧ (y0 = 0 → (
      Q 0 ms)) ∧
    (¬ y0 = 0 → (
      fM_ofNote x1 1 (fun r2 ms1 =>
      fM_ofNote x2 1 (fun r4 ms3 =>
      jj_r r2 ∧ jj_r r4 ∧ (r2 = r4 → (
        0 ≤ x1 ∧ x1 < 40 ∧
        0 ≤ x2 ∧ x2 < 40 ∧
        jj_r (ms3.2 18 x1) ∧ jj_r (ms3.2 18 x2) ∧
        ∀ v5, v5 = max (ms3.2 18 x1) (ms3.2 18 x2) →
        0 ≤ x1 ∧ x1 < 40 ∧
        0 ≤ x2 ∧ x2 < 40 ∧
        jj_r (ms3.2 19 x1) ∧ jj_r (ms3.2 19 x2) ∧
        ∀ v6, v6 = min (ms3.2 19 x1) (ms3.2 19 x2) →
        jj_r ((v6 - v5) + 1) ∧
        ∀ v7, v7 = max 0 ((v6 - v5) + 1) →
        0 ≤ x1 ∧ x1 < 40 ∧
        0 ≤ x1 ∧ x1 < 40 ∧
        ∀ v8, v8 = ((ms3.2 19 x1) - (ms3.2 18 x1)) + 1 →
        0 ≤ x2 ∧ x2 < 40 ∧
        0 ≤ x2 ∧ x2 < 40 ∧
        ∀ v9, v9 = ((ms3.2 19 x2) - (ms3.2 18 x2)) + 1 →
        jj_r v8 ∧ jj_r v9 ∧
        jj_r (2 * v7) ∧ jj_r (min v8 v9) ∧ ((2 * v7) < (min v8 v9) → (
          Q 0 ms3)) ∧
        (¬ (2 * v7) < (min v8 v9) → (
          fM_haveLikeTexts x1 x2 (fun r11 ms10 =>
          jj_r r11 ∧ (r11 = 0 → (
            Q 0 ms10)) ∧
          (¬ r11 = 0 → (
            Q 1 ms10))) ms3)))) ∧
      (¬ r2 = r4 → (
        Q 0 ms3))) ms1) ms))))

def fM_alike_j24 (x1 : Int) (x2 : Int) (Q : Int → jj_MS → Prop) (ms : jj_MS) : Prop :=
  fM_alike_j25 x1 x2 0 Q ms

def fM_alike (x1 : Int) (x2 : Int) (Q : Int → jj_MS → Prop) (ms : jj_MS) : Prop :=
  0 ≤ x1 ∧ x1 < 40 ∧
  jj_r (ms.2 17 x1) ∧ ((ms.2 17 x1) = 3 → (
    fM_alike_j24 x1 x2 Q ms)) ∧
  (¬ (ms.2 17 x1) = 3 → (
    0 ≤ x2 ∧ x2 < 40 ∧
    jj_r (ms.2 17 x2) ∧ ((ms.2 17 x2) = 3 → (
      fM_alike_j24 x1 x2 Q ms)) ∧
    (¬ (ms.2 17 x2) = 3 → (
      fM_alike_j25 x1 x2 1 Q ms))))

theorem sM_alike_j25 {X : jj_X} {h0 : jj_H} {m0 k : Nat} {N : Option jj_AV → jj_H → Prop} {XN : String → Nat → jj_H → Prop} (F : jj_F X RX3 cX3_alike 9) (M : jj_M X (some (.boolean)) 4 97 N XN) (S : jj_GS X.1 X.2.2.1) (hs : jj_hs X.1 h0 m0) {Q : Int → jj_MS → Prop} (hQ : ∀ r ms, Q r ms → N (some (.inl r)) (jj_mh h0 m0 ms)) : ∀ (x1 : Int) (x2 : Int) (y0 : Int) (ms : jj_MS), fM_alike_j25 x1 x2 y0 Q ms → jj_J X 9 25 [(0, .inr (.inr (.inl (some m0)))), (1, .inl x1), (2, .inl x2)] [.inl y0] (jj_mh h0 m0 ms) k := by
  intro x1 x2 y0 ms w
  unfold fM_alike_j25 at w
  refine jr_istore_n (pc := 25) F (vs' := [(3, .inl _), (0, .inr (.inr (.inl _))), (1, .inl _), (2, .inl _)]) dX3_alike_25 (Nat.le_of_ble_eq_true rfl) rfl ?_
  refine jr_iload_n (pc := 26) F (j := 2) dX3_alike_26 rfl ?_
  refine jr_iload_n (pc := 27) F (j := 3) dX3_alike_27 rfl ?_
  obtain ⟨hx9, hy9, w1, w2⟩ := w
  refine jr_icmp_eq (pc := 28) (tgt := 50) F hx9 hy9 dX3_alike_28 rfl (fun c9 => ?_) (fun c9 => ?_)
  · have w := w1 c9
    refine jr_iconst (pc := 50) F dX3_alike_50 ?_
    exact jr_zret (pc := 51) F M dX3_alike_51 (by decide) (hQ _ _ w)
  · have w := w2 c9
    refine jr_iload_n (pc := 31) F (j := 0) dX3_alike_31 rfl ?_
    obtain ⟨hx9, w1, w2⟩ := w
    refine jr_if_eq (pc := 32) (tgt := 50) F hx9 dX3_alike_32 rfl (fun c9 => ?_) (fun c9 => ?_)
    · have w := w1 c9
      refine jr_iconst (pc := 50) F dX3_alike_50 ?_
      exact jr_zret (pc := 51) F M dX3_alike_51 (by decide) (hQ _ _ w)
    · have w := w2 c9
      refine jr_aload_n (pc := 35) F (j := 1) dX3_alike_35 rfl ?_
      refine jr_iload_n (pc := 36) F (j := 2) dX3_alike_36 rfl ?_
      refine jr_iconst (pc := 37) F dX3_alike_37 ?_
      refine jr_callV (pc := 38) (As := [_, _]) F M (lw_V q3338 q3340 qs57 q143 q3341) dX3_alike_38 hM_ofNote rfl (Nat.le_of_ble_eq_true rfl) (Nat.le_of_ble_eq_true rfl) (Nat.le_of_ble_eq_true rfl) (jj_set_self _ _ _) rfl rfl (Nat.zero_le _) (cM_ofNote S hs w) (fun v9 h9 q9 => ?_) (fun _ _ _ q9 => q9.elim)
      obtain ⟨r2, ms1, rfl, rfl, w⟩ := q9
      refine jr_aload_n (pc := 41) F (j := 1) dX3_alike_41 rfl ?_
      refine jr_iload_n (pc := 42) F (j := 3) dX3_alike_42 rfl ?_
      refine jr_iconst (pc := 43) F dX3_alike_43 ?_
      refine jr_callV (pc := 44) (As := [_, _]) F M (lw_V q3338 q3340 qs57 q143 q3341) dX3_alike_44 hM_ofNote rfl (Nat.le_of_ble_eq_true rfl) (Nat.le_of_ble_eq_true rfl) (Nat.le_of_ble_eq_true rfl) (jj_set_self _ _ _) rfl rfl (Nat.zero_le _) (cM_ofNote S hs w) (fun v9 h9 q9 => ?_) (fun _ _ _ q9 => q9.elim)
      obtain ⟨r4, ms3, rfl, rfl, w⟩ := q9
      obtain ⟨hx9, hy9, w1, w2⟩ := w
      refine jr_icmp_eq (pc := 47) (tgt := 52) F hx9 hy9 dX3_alike_47 rfl (fun c9 => ?_) (fun c9 => ?_)
      · have w := w1 c9
        refine jr_aload_n (pc := 52) F (j := 1) dX3_alike_52 rfl ?_
        refine jm_get (pc := 53) (f := 18) (v := .inr (.inr (.inl (some (m0 + 1 + 15))))) F (Nat.le_of_ble_eq_true rfl) q3148 rfl rfl dX3_alike_53 ?_
        refine jr_iload_n (pc := 56) F (j := 2) dX3_alike_56 rfl ?_
        obtain ⟨hi1, hi2, w⟩ := w
        refine jm_iald (pc := 57) (f := 18) (o := 15) F rfl (by decide) hi1 hi2 dX3_alike_57 ?_
        refine jr_aload_n (pc := 58) F (j := 1) dX3_alike_58 rfl ?_
        refine jm_get (pc := 59) (f := 18) (v := .inr (.inr (.inl (some (m0 + 1 + 15))))) F (Nat.le_of_ble_eq_true rfl) q3148 rfl rfl dX3_alike_59 ?_
        refine jr_iload_n (pc := 62) F (j := 3) dX3_alike_62 rfl ?_
        obtain ⟨hi1, hi2, w⟩ := w
        refine jm_iald (pc := 63) (f := 18) (o := 15) F rfl (by decide) hi1 hi2 dX3_alike_63 ?_
        obtain ⟨hx9, hy9, w⟩ := w
        refine jr_mmax (pc := 64) F M hx9 hy9 q3333 (Nat.le_of_ble_eq_true rfl) (Nat.le_of_ble_eq_true rfl) (Nat.le_of_ble_eq_true rfl) dX3_alike_64 ?_
        have w := w _ rfl
        refine jr_istore (pc := 67) F (vs' := [(4, .inl _), (3, .inl _), (0, .inr (.inr (.inl _))), (1, .inl _), (2, .inl _)]) dX3_alike_67 (Nat.le_of_ble_eq_true rfl) rfl ?_
        refine jr_aload_n (pc := 69) F (j := 2) dX3_alike_69 rfl ?_
        refine jm_get (pc := 70) (f := 19) (v := .inr (.inr (.inl (some (m0 + 1 + 16))))) F (Nat.le_of_ble_eq_true rfl) q3149 rfl rfl dX3_alike_70 ?_
        refine jr_iload_n (pc := 73) F (j := 3) dX3_alike_73 rfl ?_
        obtain ⟨hi1, hi2, w⟩ := w
        refine jm_iald (pc := 74) (f := 19) (o := 16) F rfl (by decide) hi1 hi2 dX3_alike_74 ?_
        refine jr_aload_n (pc := 75) F (j := 2) dX3_alike_75 rfl ?_
        refine jm_get (pc := 76) (f := 19) (v := .inr (.inr (.inl (some (m0 + 1 + 16))))) F (Nat.le_of_ble_eq_true rfl) q3149 rfl rfl dX3_alike_76 ?_
        refine jr_iload_n (pc := 79) F (j := 4) dX3_alike_79 rfl ?_
        obtain ⟨hi1, hi2, w⟩ := w
        refine jm_iald (pc := 80) (f := 19) (o := 16) F rfl (by decide) hi1 hi2 dX3_alike_80 ?_
        obtain ⟨hx9, hy9, w⟩ := w
        refine jr_mmin (pc := 81) F M hx9 hy9 q3358 (Nat.le_of_ble_eq_true rfl) (Nat.le_of_ble_eq_true rfl) (Nat.le_of_ble_eq_true rfl) dX3_alike_81 ?_
        have w := w _ rfl
        refine jr_istore (pc := 84) F (vs' := [(5, .inl _), (4, .inl _), (3, .inl _), (0, .inr (.inr (.inl _))), (1, .inl _), (2, .inl _)]) dX3_alike_84 (Nat.le_of_ble_eq_true rfl) rfl ?_
        refine jr_iconst (pc := 86) F dX3_alike_86 ?_
        refine jr_iload (pc := 87) F (j := 0) dX3_alike_87 rfl ?_
        refine jr_iload (pc := 89) F (j := 1) dX3_alike_89 rfl ?_
        refine jr_isub (pc := 91) F dX3_alike_91 ?_
        refine jr_iconst (pc := 92) F dX3_alike_92 ?_
        refine jr_iadd (pc := 93) F dX3_alike_93 ?_
        obtain ⟨hy9, w⟩ := w
        refine jr_mmax (pc := 94) F M ⟨by decide, by decide⟩ hy9 q3333 (Nat.le_of_ble_eq_true rfl) (Nat.le_of_ble_eq_true rfl) (Nat.le_of_ble_eq_true rfl) dX3_alike_94 ?_
        have w := w _ rfl
        refine jr_istore (pc := 97) F (vs' := [(6, .inl _), (5, .inl _), (4, .inl _), (3, .inl _), (0, .inr (.inr (.inl _))), (1, .inl _), (2, .inl _)]) dX3_alike_97 (Nat.le_of_ble_eq_true rfl) rfl ?_
        refine jr_aload_n (pc := 99) F (j := 4) dX3_alike_99 rfl ?_
        refine jm_get (pc := 100) (f := 19) (v := .inr (.inr (.inl (some (m0 + 1 + 16))))) F (Nat.le_of_ble_eq_true rfl) q3149 rfl rfl dX3_alike_100 ?_
        refine jr_iload_n (pc := 103) F (j := 5) dX3_alike_103 rfl ?_
        obtain ⟨hi1, hi2, w⟩ := w
        refine jm_iald (pc := 104) (f := 19) (o := 16) F rfl (by decide) hi1 hi2 dX3_alike_104 ?_
        refine jr_aload_n (pc := 105) F (j := 4) dX3_alike_105 rfl ?_
        refine jm_get (pc := 106) (f := 18) (v := .inr (.inr (.inl (some (m0 + 1 + 15))))) F (Nat.le_of_ble_eq_true rfl) q3148 rfl rfl dX3_alike_106 ?_
        refine jr_iload_n (pc := 109) F (j := 5) dX3_alike_109 rfl ?_
        obtain ⟨hi1, hi2, w⟩ := w
        refine jm_iald (pc := 110) (f := 18) (o := 15) F rfl (by decide) hi1 hi2 dX3_alike_110 ?_
        refine jr_isub (pc := 111) F dX3_alike_111 ?_
        refine jr_iconst (pc := 112) F dX3_alike_112 ?_
        refine jr_iadd (pc := 113) F dX3_alike_113 ?_
        have w := w _ rfl
        refine jr_istore (pc := 114) F (vs' := [(7, .inl _), (6, .inl _), (5, .inl _), (4, .inl _), (3, .inl _), (0, .inr (.inr (.inl _))), (1, .inl _), (2, .inl _)]) dX3_alike_114 (Nat.le_of_ble_eq_true rfl) rfl ?_
        refine jr_aload_n (pc := 116) F (j := 5) dX3_alike_116 rfl ?_
        refine jm_get (pc := 117) (f := 19) (v := .inr (.inr (.inl (some (m0 + 1 + 16))))) F (Nat.le_of_ble_eq_true rfl) q3149 rfl rfl dX3_alike_117 ?_
        refine jr_iload_n (pc := 120) F (j := 7) dX3_alike_120 rfl ?_
        obtain ⟨hi1, hi2, w⟩ := w
        refine jm_iald (pc := 121) (f := 19) (o := 16) F rfl (by decide) hi1 hi2 dX3_alike_121 ?_
        refine jr_aload_n (pc := 122) F (j := 5) dX3_alike_122 rfl ?_
        refine jm_get (pc := 123) (f := 18) (v := .inr (.inr (.inl (some (m0 + 1 + 15))))) F (Nat.le_of_ble_eq_true rfl) q3148 rfl rfl dX3_alike_123 ?_
        refine jr_iload_n (pc := 126) F (j := 7) dX3_alike_126 rfl ?_
        obtain ⟨hi1, hi2, w⟩ := w
        refine jm_iald (pc := 127) (f := 18) (o := 15) F rfl (by decide) hi1 hi2 dX3_alike_127 ?_
        refine jr_isub (pc := 128) F dX3_alike_128 ?_
        refine jr_iconst (pc := 129) F dX3_alike_129 ?_
        refine jr_iadd (pc := 130) F dX3_alike_130 ?_
        have w := w _ rfl
        refine jr_istore (pc := 131) F (vs' := [(8, .inl _), (7, .inl _), (6, .inl _), (5, .inl _), (4, .inl _), (3, .inl _), (0, .inr (.inr (.inl _))), (1, .inl _), (2, .inl _)]) dX3_alike_131 (Nat.le_of_ble_eq_true rfl) rfl ?_
        refine jr_iconst (pc := 133) F dX3_alike_133 ?_
        refine jr_iload (pc := 134) F (j := 2) dX3_alike_134 rfl ?_
        refine jr_imul (pc := 136) F dX3_alike_136 ?_
        refine jr_iload (pc := 137) F (j := 1) dX3_alike_137 rfl ?_
        refine jr_iload (pc := 139) F (j := 0) dX3_alike_139 rfl ?_
        obtain ⟨hx9, hy9, w⟩ := w
        refine jr_mmin (pc := 141) F M hx9 hy9 q3358 (Nat.le_of_ble_eq_true rfl) (Nat.le_of_ble_eq_true rfl) (Nat.le_of_ble_eq_true rfl) dX3_alike_141 ?_
        obtain ⟨hx9, hy9, w1, w2⟩ := w
        refine jr_icmp_lt (pc := 144) (tgt := 160) F hx9 hy9 dX3_alike_144 rfl (fun c9 => ?_) (fun c9 => ?_)
        · have w := w1 c9
          refine jr_iconst (pc := 160) F dX3_alike_160 ?_
          exact jr_zret (pc := 161) F M dX3_alike_161 (by decide) (hQ _ _ w)
        · have w := w2 c9
          refine jr_aload_n (pc := 147) F (j := 6) dX3_alike_147 rfl ?_
          refine jr_iload_n (pc := 148) F (j := 7) dX3_alike_148 rfl ?_
          refine jr_iload_n (pc := 149) F (j := 8) dX3_alike_149 rfl ?_
          refine jr_callV (pc := 150) (As := [_, _]) F M (lw_V q3359 q3361 qs62 q143 q3362) dX3_alike_150 hM_haveLikeTexts rfl (Nat.le_of_ble_eq_true rfl) (Nat.le_of_ble_eq_true rfl) (Nat.le_of_ble_eq_true rfl) (jj_set_self _ _ _) rfl rfl (Nat.zero_le _) (cM_haveLikeTexts S hs w) (fun v9 h9 q9 => ?_) (fun _ _ _ q9 => q9.elim)
          obtain ⟨r11, ms10, rfl, rfl, w⟩ := q9
          obtain ⟨hx9, w1, w2⟩ := w
          refine jr_if_eq (pc := 153) (tgt := 160) F hx9 dX3_alike_153 rfl (fun c9 => ?_) (fun c9 => ?_)
          · have w := w1 c9
            refine jr_iconst (pc := 160) F dX3_alike_160 ?_
            exact jr_zret (pc := 161) F M dX3_alike_161 (by decide) (hQ _ _ w)
          · have w := w2 c9
            refine jr_iconst (pc := 156) F dX3_alike_156 ?_
            refine jr_goto (pc := 157) (tgt := 161) F dX3_alike_157 rfl ?_
            exact jr_zret (pc := 161) F M dX3_alike_161 (by decide) (hQ _ _ w)
      · have w := w2 c9
        refine jr_iconst (pc := 50) F dX3_alike_50 ?_
        exact jr_zret (pc := 51) F M dX3_alike_51 (by decide) (hQ _ _ w)

theorem sM_alike_j24 {X : jj_X} {h0 : jj_H} {m0 k : Nat} {N : Option jj_AV → jj_H → Prop} {XN : String → Nat → jj_H → Prop} (F : jj_F X RX3 cX3_alike 9) (M : jj_M X (some (.boolean)) 4 97 N XN) (S : jj_GS X.1 X.2.2.1) (hs : jj_hs X.1 h0 m0) {Q : Int → jj_MS → Prop} (hQ : ∀ r ms, Q r ms → N (some (.inl r)) (jj_mh h0 m0 ms)) : ∀ (x1 : Int) (x2 : Int) (ms : jj_MS), fM_alike_j24 x1 x2 Q ms → jj_J X 9 24 [(0, .inr (.inr (.inl (some m0)))), (1, .inl x1), (2, .inl x2)] [] (jj_mh h0 m0 ms) k := by
  intro x1 x2 ms w
  unfold fM_alike_j24 at w
  refine jr_iconst (pc := 24) F dX3_alike_24 ?_
  exact sM_alike_j25 F M S hs hQ _ _ _ _ w

theorem sM_alike {X : jj_X} {h0 : jj_H} {m0 k : Nat} {N : Option jj_AV → jj_H → Prop} {XN : String → Nat → jj_H → Prop} (F : jj_F X RX3 cX3_alike 9) (M : jj_M X (some (.boolean)) 4 97 N XN) (S : jj_GS X.1 X.2.2.1) (hs : jj_hs X.1 h0 m0) {Q : Int → jj_MS → Prop} (hQ : ∀ r ms, Q r ms → N (some (.inl r)) (jj_mh h0 m0 ms)) : ∀ (x1 : Int) (x2 : Int) (ms : jj_MS), fM_alike x1 x2 Q ms → jj_J X 9 0 [(0, .inr (.inr (.inl (some m0)))), (1, .inl x1), (2, .inl x2)] [] (jj_mh h0 m0 ms) k := by
  intro x1 x2 ms w
  unfold fM_alike at w
  refine jr_aload_n (pc := 0) F (j := 0) dX3_alike_0 rfl ?_
  refine jm_get (pc := 1) (f := 17) (v := .inr (.inr (.inl (some (m0 + 1 + 14))))) F (Nat.le_of_ble_eq_true rfl) q3147 rfl rfl dX3_alike_1 ?_
  refine jr_iload_n (pc := 4) F (j := 1) dX3_alike_4 rfl ?_
  obtain ⟨hi1, hi2, w⟩ := w
  refine jm_iald (pc := 5) (f := 17) (o := 14) F rfl (by decide) hi1 hi2 dX3_alike_5 ?_
  refine jr_iconst (pc := 6) F dX3_alike_6 ?_
  obtain ⟨hx9, w1, w2⟩ := w
  refine jr_icmp_eq (pc := 7) (tgt := 24) F hx9 ⟨by decide, by decide⟩ dX3_alike_7 rfl (fun c9 => ?_) (fun c9 => ?_)
  · have w := w1 c9
    exact sM_alike_j24 F M S hs hQ _ _ _ w
  · have w := w2 c9
    refine jr_aload_n (pc := 10) F (j := 0) dX3_alike_10 rfl ?_
    refine jm_get (pc := 11) (f := 17) (v := .inr (.inr (.inl (some (m0 + 1 + 14))))) F (Nat.le_of_ble_eq_true rfl) q3147 rfl rfl dX3_alike_11 ?_
    refine jr_iload_n (pc := 14) F (j := 2) dX3_alike_14 rfl ?_
    obtain ⟨hi1, hi2, w⟩ := w
    refine jm_iald (pc := 15) (f := 17) (o := 14) F rfl (by decide) hi1 hi2 dX3_alike_15 ?_
    refine jr_iconst (pc := 16) F dX3_alike_16 ?_
    obtain ⟨hx9, w1, w2⟩ := w
    refine jr_icmp_eq (pc := 17) (tgt := 24) F hx9 ⟨by decide, by decide⟩ dX3_alike_17 rfl (fun c9 => ?_) (fun c9 => ?_)
    · have w := w1 c9
      exact sM_alike_j24 F M S hs hQ _ _ _ w
    · have w := w2 c9
      refine jr_iconst (pc := 20) F dX3_alike_20 ?_
      refine jr_goto (pc := 21) (tgt := 25) F dX3_alike_21 rfl ?_
      exact sM_alike_j25 F M S hs hQ _ _ _ _ w

theorem cM_alike {G : jj_G} {l : Launch} (S : jj_GS G l) {h0 : jj_H} {m0 : Nat} (hs : jj_hs G h0 m0) {x1 : Int} {x2 : Int} {ms : jj_MS} {Q : Int → jj_MS → Prop} (w : fM_alike x1 x2 Q ms) : jj_Ct G l yX3_alike (ws_ yX3_alike cX3_alike 9 (some (.boolean))) 4 97 [.inr (.inr (.inl (some m0))), .inl x1, .inl x2] (jj_mh h0 m0 ms) 0 (jm_Ni h0 m0 Q) jj_F0 := by
  refine jj_Ct.of S.1 (by decide +kernel) (Nat.le_of_ble_eq_true rfl) rfl (fun X hG hl F M O hnm => ?_)
  subst hG; subst hl
  exact sM_alike F M S hs (fun r ms q => ⟨r, ms, rfl, rfl, q⟩) _ _ _ w
theorem hM_alike : yX3_alike.cls = RX3 ∧ yX3_alike.cls ≠ "java/lang/invoke/MethodHandle" ∧ yX3_alike.cls ≠ "java/lang/invoke/VarHandle" ∧ (parseMethodDescriptor yX3_alike.desc).map (fun d => d.parameters.length) = some 2 := by decide +kernel
/-! spread(I)V -/
def fM_spread_l29 (x3 : Int) (K21 : Int → Int → jj_MS → Prop) (Q : jj_MS → Prop) : Nat → Int → Int → jj_MS → Prop
  | 0, _, _, _ => False
  | n + 1, x2, x4, ms =>
  fM_notes (fun r2 ms1 =>
  jj_r x4 ∧ jj_r r2 ∧ (r2 ≤ x4 → (
    ∀ v3, v3 = x3 + 1 →
    K21 x2 v3 ms1)) ∧
  (¬ r2 ≤ x4 → (
    0 ≤ x4 ∧ x4 < 40 ∧
    jj_r (ms1.2 21 x4) ∧ (¬ (ms1.2 21 x4) = ((-1)) → (
      ∀ v4, v4 = x4 + 1 →
      fM_spread_l29 x3 K21 Q n x2 v4 ms1)) ∧
    ((ms1.2 21 x4) = ((-1)) → (
      0 ≤ x3 ∧ x3 < 40 ∧
      fM_alike (ms1.2 29 x3) x4 (fun r6 ms5 =>
      jj_r r6 ∧ (r6 = 0 → (
        ∀ v7, v7 = x4 + 1 →
        fM_spread_l29 x3 K21 Q n x2 v7 ms5)) ∧
      (¬ r6 = 0 → (
        0 ≤ x4 ∧ x4 < 40 ∧
        ∀ ms8, ms8 = jj_mA ms5 21 x4 (ms5.1 28) →
        0 ≤ x2 ∧ x2 < 40 ∧
        ∀ ms9, ms9 = jj_mA ms8 29 x2 x4 →
        ∀ v10, v10 = x2 + 1 →
        ∀ v11, v11 = x4 + 1 →
        fM_spread_l29 x3 K21 Q n v10 v11 ms9))) ms1))))) ms

def fM_spread_l21 (Q : jj_MS → Prop) : Nat → Int → Int → jj_MS → Prop
  | 0, _, _, _ => False
  | n + 1, x2, x3, ms =>
  jj_r x3 ∧ jj_r x2 ∧ (x2 ≤ x3 → (
    Q ms)) ∧
  (¬ x2 ≤ x3 → (
    ∃ n9, fM_spread_l29 x3 (fM_spread_l21 Q n) Q n9 x2 0 ms))

def fM_spread (x1 : Int) (Q : jj_MS → Prop) (ms : jj_MS) : Prop :=
  ∀ ms12, ms12 = jj_mA ms 29 0 x1 →
  0 ≤ x1 ∧ x1 < 40 ∧
  ∀ ms13, ms13 = jj_mA ms12 21 x1 (ms12.1 28) →
  ∃ n9, fM_spread_l21 Q n9 1 0 ms13

theorem sM_spread_l29 {X : jj_X} {h0 : jj_H} {m0 k : Nat} {N : Option jj_AV → jj_H → Prop} {XN : String → Nat → jj_H → Prop} (F : jj_F X RX3 cX3_spread 5) (M : jj_M X (none) 5 125 N XN) (S : jj_GS X.1 X.2.2.1) (hs : jj_hs X.1 h0 m0) {Q : jj_MS → Prop} (hQ : ∀ ms, Q ms → N none (jj_mh h0 m0 ms)) (x3 : Int) {K21 : Int → Int → jj_MS → Prop} (hK21 : ∀ (z2 : Int) (z3 : Int) (ms : jj_MS), K21 z2 z3 ms → jj_J X 5 21 [(0, .inr (.inr (.inl (some m0)))), (2, .inl z2), (3, .inl z3)] [] (jj_mh h0 m0 ms) k) : ∀ (n : Nat) (x2 : Int) (x4 : Int) (ms : jj_MS), fM_spread_l29 x3 K21 Q n x2 x4 ms → jj_J X 5 29 [(0, .inr (.inr (.inl (some m0)))), (2, .inl x2), (3, .inl x3), (4, .inl x4)] [] (jj_mh h0 m0 ms) k := by
  intro n
  induction n with
  | zero =>
    intro x2 x4 ms w
    exact (show False from w).elim
  | succ n ih =>
    intro x2 x4 ms w
    rw [fM_spread_l29] at w
    refine jr_iload (pc := 29) F (j := 3) dX3_spread_29 rfl ?_
    refine jr_aload_n (pc := 31) F (j := 0) dX3_spread_31 rfl ?_
    refine jr_callV (pc := 32) (As := []) F M (lw_V q3334 q3336 qs56 q143 q3337) dX3_spread_32 hM_notes rfl (Nat.le_of_ble_eq_true rfl) (Nat.le_of_ble_eq_true rfl) (Nat.le_of_ble_eq_true rfl) (jj_set_self _ _ _) rfl rfl (Nat.zero_le _) (cM_notes S hs w) (fun v9 h9 q9 => ?_) (fun _ _ _ q9 => q9.elim)
    obtain ⟨r2, ms1, rfl, rfl, w⟩ := q9
    obtain ⟨hx9, hy9, w1, w2⟩ := w
    refine jr_icmp_ge (pc := 35) (tgt := 92) F hx9 hy9 dX3_spread_35 rfl (fun c9 => ?_) (fun c9 => ?_)
    · have w := w1 c9
      have w := w _ rfl
      refine jr_iinc (pc := 92) F (j := 2) (vs' := [(3, .inl _), (0, .inr (.inr (.inl _))), (2, .inl _), (4, .inl _)]) dX3_spread_92 rfl rfl (Nat.le_of_ble_eq_true rfl) rfl ?_
      refine jr_goto (pc := 95) (tgt := 21) F dX3_spread_95 rfl ?_
      refine jj_J.sub [1, 2, 0] rfl ?_
      exact hK21 _ _ _ w
    · have w := w2 c9
      refine jr_aload_n (pc := 38) F (j := 0) dX3_spread_38 rfl ?_
      refine jm_get (pc := 39) (f := 21) (v := .inr (.inr (.inl (some (m0 + 1 + 18))))) F (Nat.le_of_ble_eq_true rfl) q3151 rfl rfl dX3_spread_39 ?_
      refine jr_iload (pc := 42) F (j := 3) dX3_spread_42 rfl ?_
      obtain ⟨hi1, hi2, w⟩ := w
      refine jm_iald (pc := 44) (f := 21) (o := 18) F rfl (by decide) hi1 hi2 dX3_spread_44 ?_
      refine jr_iconst (pc := 45) F dX3_spread_45 ?_
      obtain ⟨hx9, w1, w2⟩ := w
      refine jr_icmp_ne (pc := 46) (tgt := 86) F hx9 ⟨by decide, by decide⟩ dX3_spread_46 rfl (fun c9 => ?_) (fun c9 => ?_)
      · have w := w1 c9
        have w := w _ rfl
        refine jr_iinc (pc := 86) F (j := 3) (vs' := [(4, .inl _), (0, .inr (.inr (.inl _))), (2, .inl _), (3, .inl _)]) dX3_spread_86 rfl rfl (Nat.le_of_ble_eq_true rfl) rfl ?_
        refine jr_goto (pc := 89) (tgt := 29) F dX3_spread_89 rfl ?_
        refine jj_J.sub [1, 2, 3, 0] rfl ?_
        exact ih _ _ _ w
      · have w := w2 c9
        refine jr_aload_n (pc := 49) F (j := 0) dX3_spread_49 rfl ?_
        refine jr_aload_n (pc := 50) F (j := 0) dX3_spread_50 rfl ?_
        refine jm_get (pc := 51) (f := 29) (v := .inr (.inr (.inl (some (m0 + 1 + 25))))) F (Nat.le_of_ble_eq_true rfl) q3159 rfl rfl dX3_spread_51 ?_
        refine jr_iload_n (pc := 54) F (j := 2) dX3_spread_54 rfl ?_
        obtain ⟨hi1, hi2, w⟩ := w
        refine jm_iald (pc := 55) (f := 29) (o := 25) F rfl (by decide) hi1 hi2 dX3_spread_55 ?_
        refine jr_iload (pc := 56) F (j := 3) dX3_spread_56 rfl ?_
        refine jr_callV (pc := 58) (As := [_, _]) F M (lw_V q3354 q3356 qs61 q143 q3357) dX3_spread_58 hM_alike rfl (Nat.le_of_ble_eq_true rfl) (Nat.le_of_ble_eq_true rfl) (Nat.le_of_ble_eq_true rfl) (jj_set_self _ _ _) rfl rfl (Nat.zero_le _) (cM_alike S hs w) (fun v9 h9 q9 => ?_) (fun _ _ _ q9 => q9.elim)
        obtain ⟨r6, ms5, rfl, rfl, w⟩ := q9
        obtain ⟨hx9, w1, w2⟩ := w
        refine jr_if_eq (pc := 61) (tgt := 86) F hx9 dX3_spread_61 rfl (fun c9 => ?_) (fun c9 => ?_)
        · have w := w1 c9
          have w := w _ rfl
          refine jr_iinc (pc := 86) F (j := 3) (vs' := [(4, .inl _), (0, .inr (.inr (.inl _))), (2, .inl _), (3, .inl _)]) dX3_spread_86 rfl rfl (Nat.le_of_ble_eq_true rfl) rfl ?_
          refine jr_goto (pc := 89) (tgt := 29) F dX3_spread_89 rfl ?_
          refine jj_J.sub [1, 2, 3, 0] rfl ?_
          exact ih _ _ _ w
        · have w := w2 c9
          refine jr_aload_n (pc := 64) F (j := 0) dX3_spread_64 rfl ?_
          refine jm_get (pc := 65) (f := 21) (v := .inr (.inr (.inl (some (m0 + 1 + 18))))) F (Nat.le_of_ble_eq_true rfl) q3151 rfl rfl dX3_spread_65 ?_
          refine jr_iload (pc := 68) F (j := 3) dX3_spread_68 rfl ?_
          refine jr_aload_n (pc := 70) F (j := 0) dX3_spread_70 rfl ?_
          refine jm_get (pc := 71) (f := 28) (v := .inl _) F (Nat.le_of_ble_eq_true rfl) q3158 rfl rfl dX3_spread_71 ?_
          obtain ⟨hi1, hi2, w⟩ := w
          have w := w _ rfl
          refine jm_iast (pc := 74) (f := 21) (o := 18) F (Nat.le_of_ble_eq_true rfl) rfl (by decide) hi1 hi2 dX3_spread_74 ?_
          refine jr_aload_n (pc := 75) F (j := 0) dX3_spread_75 rfl ?_
          refine jm_get (pc := 76) (f := 29) (v := .inr (.inr (.inl (some (m0 + 1 + 25))))) F (Nat.le_of_ble_eq_true rfl) q3159 rfl rfl dX3_spread_76 ?_
          refine jr_iload_n (pc := 79) F (j := 1) dX3_spread_79 rfl ?_
          refine jr_iload (pc := 80) F (j := 3) dX3_spread_80 rfl ?_
          obtain ⟨hi1, hi2, w⟩ := w
          have w := w _ rfl
          refine jm_iast (pc := 82) (f := 29) (o := 25) F (Nat.le_of_ble_eq_true rfl) rfl (by decide) hi1 hi2 dX3_spread_82 ?_
          have w := w _ rfl
          refine jr_iinc (pc := 83) F (j := 1) (vs' := [(2, .inl _), (0, .inr (.inr (.inl _))), (3, .inl _), (4, .inl _)]) dX3_spread_83 rfl rfl (Nat.le_of_ble_eq_true rfl) rfl ?_
          have w := w _ rfl
          refine jr_iinc (pc := 86) F (j := 3) (vs' := [(4, .inl _), (2, .inl _), (0, .inr (.inr (.inl _))), (3, .inl _)]) dX3_spread_86 rfl rfl (Nat.le_of_ble_eq_true rfl) rfl ?_
          refine jr_goto (pc := 89) (tgt := 29) F dX3_spread_89 rfl ?_
          refine jj_J.sub [2, 1, 3, 0] rfl ?_
          exact ih _ _ _ w

theorem sM_spread_l21 {X : jj_X} {h0 : jj_H} {m0 k : Nat} {N : Option jj_AV → jj_H → Prop} {XN : String → Nat → jj_H → Prop} (F : jj_F X RX3 cX3_spread 5) (M : jj_M X (none) 5 125 N XN) (S : jj_GS X.1 X.2.2.1) (hs : jj_hs X.1 h0 m0) {Q : jj_MS → Prop} (hQ : ∀ ms, Q ms → N none (jj_mh h0 m0 ms)) : ∀ (n : Nat) (x2 : Int) (x3 : Int) (ms : jj_MS), fM_spread_l21 Q n x2 x3 ms → jj_J X 5 21 [(0, .inr (.inr (.inl (some m0)))), (2, .inl x2), (3, .inl x3)] [] (jj_mh h0 m0 ms) k := by
  intro n
  induction n with
  | zero =>
    intro x2 x3 ms w
    exact (show False from w).elim
  | succ n ih =>
    intro x2 x3 ms w
    rw [fM_spread_l21] at w
    refine jr_iload_n (pc := 21) F (j := 2) dX3_spread_21 rfl ?_
    refine jr_iload_n (pc := 22) F (j := 1) dX3_spread_22 rfl ?_
    obtain ⟨hx9, hy9, w1, w2⟩ := w
    refine jr_icmp_ge (pc := 23) (tgt := 98) F hx9 hy9 dX3_spread_23 rfl (fun c9 => ?_) (fun c9 => ?_)
    · have w := w1 c9
      exact jr_vret (pc := 98) F M dX3_spread_98 (hQ _ w)
    · have w := w2 c9
      refine jr_iconst (pc := 26) F dX3_spread_26 ?_
      refine jr_istore (pc := 27) F (vs' := [(4, .inl _), (0, .inr (.inr (.inl _))), (2, .inl _), (3, .inl _)]) dX3_spread_27 (Nat.le_of_ble_eq_true rfl) rfl ?_
      refine jj_J.sub [1, 2, 3, 0] rfl ?_
      obtain ⟨n9, w⟩ := w
      exact sM_spread_l29 F M S hs hQ _ ih n9 _ _ _ w

theorem sM_spread {X : jj_X} {h0 : jj_H} {m0 k : Nat} {N : Option jj_AV → jj_H → Prop} {XN : String → Nat → jj_H → Prop} (F : jj_F X RX3 cX3_spread 5) (M : jj_M X (none) 5 125 N XN) (S : jj_GS X.1 X.2.2.1) (hs : jj_hs X.1 h0 m0) {Q : jj_MS → Prop} (hQ : ∀ ms, Q ms → N none (jj_mh h0 m0 ms)) : ∀ (x1 : Int) (ms : jj_MS), fM_spread x1 Q ms → jj_J X 5 0 [(0, .inr (.inr (.inl (some m0)))), (1, .inl x1)] [] (jj_mh h0 m0 ms) k := by
  intro x1 ms w
  unfold fM_spread at w
  refine jr_aload_n (pc := 0) F (j := 0) dX3_spread_0 rfl ?_
  refine jm_get (pc := 1) (f := 29) (v := .inr (.inr (.inl (some (m0 + 1 + 25))))) F (Nat.le_of_ble_eq_true rfl) q3159 rfl rfl dX3_spread_1 ?_
  refine jr_iconst (pc := 4) F dX3_spread_4 ?_
  refine jr_iload_n (pc := 5) F (j := 1) dX3_spread_5 rfl ?_
  have w := w _ rfl
  refine jm_iast (pc := 6) (f := 29) (o := 25) F (Nat.le_of_ble_eq_true rfl) rfl (by decide) (by decide) (by decide) dX3_spread_6 ?_
  refine jr_aload_n (pc := 7) F (j := 0) dX3_spread_7 rfl ?_
  refine jm_get (pc := 8) (f := 21) (v := .inr (.inr (.inl (some (m0 + 1 + 18))))) F (Nat.le_of_ble_eq_true rfl) q3151 rfl rfl dX3_spread_8 ?_
  refine jr_iload_n (pc := 11) F (j := 1) dX3_spread_11 rfl ?_
  refine jr_aload_n (pc := 12) F (j := 0) dX3_spread_12 rfl ?_
  refine jm_get (pc := 13) (f := 28) (v := .inl _) F (Nat.le_of_ble_eq_true rfl) q3158 rfl rfl dX3_spread_13 ?_
  obtain ⟨hi1, hi2, w⟩ := w
  have w := w _ rfl
  refine jm_iast (pc := 16) (f := 21) (o := 18) F (Nat.le_of_ble_eq_true rfl) rfl (by decide) hi1 hi2 dX3_spread_16 ?_
  refine jr_iconst (pc := 17) F dX3_spread_17 ?_
  refine jr_istore_n (pc := 18) F (vs' := [(2, .inl _), (0, .inr (.inr (.inl _))), (1, .inl _)]) dX3_spread_18 (Nat.le_of_ble_eq_true rfl) rfl ?_
  refine jr_iconst (pc := 19) F dX3_spread_19 ?_
  refine jr_istore_n (pc := 20) F (vs' := [(3, .inl _), (2, .inl _), (0, .inr (.inr (.inl _))), (1, .inl _)]) dX3_spread_20 (Nat.le_of_ble_eq_true rfl) rfl ?_
  refine jj_J.sub [2, 1, 0] rfl ?_
  obtain ⟨n9, w⟩ := w
  exact sM_spread_l21 F M S hs hQ n9 _ _ _ w

theorem cM_spread {G : jj_G} {l : Launch} (S : jj_GS G l) {h0 : jj_H} {m0 : Nat} (hs : jj_hs G h0 m0) {x1 : Int} {ms : jj_MS} {Q : jj_MS → Prop} (w : fM_spread x1 Q ms) : jj_Ct G l yX3_spread (ws_ yX3_spread cX3_spread 5 (none)) 5 125 [.inr (.inr (.inl (some m0))), .inl x1] (jj_mh h0 m0 ms) 0 (jm_Nv h0 m0 Q) jj_F0 := by
  refine jj_Ct.of S.1 (by decide +kernel) (Nat.le_of_ble_eq_true rfl) rfl (fun X hG hl F M O hnm => ?_)
  subst hG; subst hl
  exact sM_spread F M S hs (fun ms q => ⟨ms, rfl, rfl, q⟩) _ _ w
theorem hM_spread : yX3_spread.cls = RX3 ∧ yX3_spread.cls ≠ "java/lang/invoke/MethodHandle" ∧ yX3_spread.cls ≠ "java/lang/invoke/VarHandle" ∧ (parseMethodDescriptor yX3_spread.desc).map (fun d => d.parameters.length) = some 1 := by decide +kernel
/-! layGroups()V -/
def fM_layGroups_l108 (Q : jj_MS → Prop) : Nat → Int → jj_MS → Prop
  | 0, _, _ => False
  | n + 1, x1, ms =>
  fM_notes (fun r2 ms1 =>
  jj_r x1 ∧ jj_r r2 ∧ (r2 ≤ x1 → (
    Q ms1)) ∧
  (¬ r2 ≤ x1 → (
    fM_join x1 (fun ms3 =>
    ∀ v5, v5 = x1 + 1 →
    fM_layGroups_l108 Q n v5 ms3) ms1))) ms

def fM_layGroups_l67 (Q : jj_MS → Prop) : Nat → Int → jj_MS → Prop
  | 0, _, _ => False
  | n + 1, x1, ms =>
  fM_notes (fun r7 ms6 =>
  jj_r x1 ∧ jj_r r7 ∧ (r7 ≤ x1 → (
    ∃ n9, fM_layGroups_l108 Q n9 0 ms6)) ∧
  (¬ r7 ≤ x1 → (
    0 ≤ x1 ∧ x1 < 40 ∧
    jj_r (ms6.2 21 x1) ∧ (¬ (ms6.2 21 x1) = ((-1)) → (
      ∀ v8, v8 = x1 + 1 →
      fM_layGroups_l67 Q n v8 ms6)) ∧
    ((ms6.2 21 x1) = ((-1)) → (
      fM_spread x1 (fun ms9 =>
      ∀ ms11, ms11 = jj_mI ms9 28 ((ms9.1 28) + 1) →
      ∀ v12, v12 = x1 + 1 →
      fM_layGroups_l67 Q n v12 ms11) ms6))))) ms

def fM_layGroups_l11 (Q : jj_MS → Prop) : Nat → Int → jj_MS → Prop
  | 0, _, _ => False
  | n + 1, x1, ms =>
  jj_r x1 ∧ (40 ≤ x1 → (
    ∃ n9, fM_layGroups_l67 Q n9 0 ms)) ∧
  (¬ 40 ≤ x1 → (
    0 ≤ x1 ∧ x1 < 40 ∧
    ∀ ms13, ms13 = jj_mA ms 21 x1 ((-1)) →
    0 ≤ x1 ∧ x1 < 40 ∧
    ∀ ms14, ms14 = jj_mA ms13 25 x1 ((-1)) →
    0 ≤ x1 ∧ x1 < 40 ∧
    ∀ ms15, ms15 = jj_mA ms14 26 x1 0 →
    0 ≤ x1 ∧ x1 < 40 ∧
    ∀ ms16, ms16 = jj_mA ms15 27 x1 0 →
    0 ≤ x1 ∧ x1 < 40 ∧
    ∀ ms17, ms17 = jj_mA ms16 22 x1 ((-1)) →
    0 ≤ x1 ∧ x1 < 40 ∧
    ∀ ms18, ms18 = jj_mA ms17 23 x1 ((-1)) →
    ∀ v19, v19 = x1 + 1 →
    fM_layGroups_l11 Q n v19 ms18))

def fM_layGroups (Q : jj_MS → Prop) (ms : jj_MS) : Prop :=
  fM_layAnchors (fun ms20 =>
  ∀ ms22, ms22 = jj_mI ms20 28 0 →
  ∃ n9, fM_layGroups_l11 Q n9 0 ms22) ms

theorem sM_layGroups_l108 {X : jj_X} {h0 : jj_H} {m0 k : Nat} {N : Option jj_AV → jj_H → Prop} {XN : String → Nat → jj_H → Prop} (F : jj_F X RX3 cX3_layGroups 2) (M : jj_M X (none) 6 149 N XN) (S : jj_GS X.1 X.2.2.1) (hs : jj_hs X.1 h0 m0) {Q : jj_MS → Prop} (hQ : ∀ ms, Q ms → N none (jj_mh h0 m0 ms)) : ∀ (n : Nat) (x1 : Int) (ms : jj_MS), fM_layGroups_l108 Q n x1 ms → jj_J X 2 108 [(0, .inr (.inr (.inl (some m0)))), (1, .inl x1)] [] (jj_mh h0 m0 ms) k := by
  intro n
  induction n with
  | zero =>
    intro x1 ms w
    exact (show False from w).elim
  | succ n ih =>
    intro x1 ms w
    rw [fM_layGroups_l108] at w
    refine jr_iload_n (pc := 108) F (j := 1) dX3_layGroups_108 rfl ?_
    refine jr_aload_n (pc := 109) F (j := 0) dX3_layGroups_109 rfl ?_
    refine jr_callV (pc := 110) (As := []) F M (lw_V q3334 q3336 qs56 q143 q3337) dX3_layGroups_110 hM_notes rfl (Nat.le_of_ble_eq_true rfl) (Nat.le_of_ble_eq_true rfl) (Nat.le_of_ble_eq_true rfl) (jj_set_self _ _ _) rfl rfl (Nat.zero_le _) (cM_notes S hs w) (fun v9 h9 q9 => ?_) (fun _ _ _ q9 => q9.elim)
    obtain ⟨r2, ms1, rfl, rfl, w⟩ := q9
    obtain ⟨hx9, hy9, w1, w2⟩ := w
    refine jr_icmp_ge (pc := 113) (tgt := 127) F hx9 hy9 dX3_layGroups_113 rfl (fun c9 => ?_) (fun c9 => ?_)
    · have w := w1 c9
      exact jr_vret (pc := 127) F M dX3_layGroups_127 (hQ _ w)
    · have w := w2 c9
      refine jr_aload_n (pc := 116) F (j := 0) dX3_layGroups_116 rfl ?_
      refine jr_iload_n (pc := 117) F (j := 1) dX3_layGroups_117 rfl ?_
      refine jr_callV (pc := 118) (As := [_]) F M (lw_V q3379 q3381 qs67 q143 q3382) dX3_layGroups_118 hM_join rfl (Nat.le_of_ble_eq_true rfl) (Nat.le_of_ble_eq_true rfl) (Nat.le_of_ble_eq_true rfl) (jj_set_self _ _ _) rfl rfl (Nat.zero_le _) (cM_join S hs w) (fun v9 h9 q9 => ?_) (fun _ _ _ q9 => q9.elim)
      obtain ⟨ms3, rfl, rfl, w⟩ := q9
      have w := w _ rfl
      refine jr_iinc (pc := 121) F (j := 1) (vs' := [(1, .inl _), (0, .inr (.inr (.inl _)))]) dX3_layGroups_121 rfl rfl (Nat.le_of_ble_eq_true rfl) rfl ?_
      refine jr_goto (pc := 124) (tgt := 108) F dX3_layGroups_124 rfl ?_
      refine jj_J.sub [1, 0] rfl ?_
      exact ih _ _ w

theorem sM_layGroups_l67 {X : jj_X} {h0 : jj_H} {m0 k : Nat} {N : Option jj_AV → jj_H → Prop} {XN : String → Nat → jj_H → Prop} (F : jj_F X RX3 cX3_layGroups 2) (M : jj_M X (none) 6 149 N XN) (S : jj_GS X.1 X.2.2.1) (hs : jj_hs X.1 h0 m0) {Q : jj_MS → Prop} (hQ : ∀ ms, Q ms → N none (jj_mh h0 m0 ms)) : ∀ (n : Nat) (x1 : Int) (ms : jj_MS), fM_layGroups_l67 Q n x1 ms → jj_J X 2 67 [(0, .inr (.inr (.inl (some m0)))), (1, .inl x1)] [] (jj_mh h0 m0 ms) k := by
  intro n
  induction n with
  | zero =>
    intro x1 ms w
    exact (show False from w).elim
  | succ n ih =>
    intro x1 ms w
    rw [fM_layGroups_l67] at w
    refine jr_iload_n (pc := 67) F (j := 1) dX3_layGroups_67 rfl ?_
    refine jr_aload_n (pc := 68) F (j := 0) dX3_layGroups_68 rfl ?_
    refine jr_callV (pc := 69) (As := []) F M (lw_V q3334 q3336 qs56 q143 q3337) dX3_layGroups_69 hM_notes rfl (Nat.le_of_ble_eq_true rfl) (Nat.le_of_ble_eq_true rfl) (Nat.le_of_ble_eq_true rfl) (jj_set_self _ _ _) rfl rfl (Nat.zero_le _) (cM_notes S hs w) (fun v9 h9 q9 => ?_) (fun _ _ _ q9 => q9.elim)
    obtain ⟨r7, ms6, rfl, rfl, w⟩ := q9
    obtain ⟨hx9, hy9, w1, w2⟩ := w
    refine jr_icmp_ge (pc := 72) (tgt := 106) F hx9 hy9 dX3_layGroups_72 rfl (fun c9 => ?_) (fun c9 => ?_)
    · have w := w1 c9
      refine jr_iconst (pc := 106) F dX3_layGroups_106 ?_
      refine jr_istore_n (pc := 107) F (vs' := [(1, .inl _), (0, .inr (.inr (.inl _)))]) dX3_layGroups_107 (Nat.le_of_ble_eq_true rfl) rfl ?_
      refine jj_J.sub [1, 0] rfl ?_
      obtain ⟨n9, w⟩ := w
      exact sM_layGroups_l108 F M S hs hQ n9 _ _ w
    · have w := w2 c9
      refine jr_aload_n (pc := 75) F (j := 0) dX3_layGroups_75 rfl ?_
      refine jm_get (pc := 76) (f := 21) (v := .inr (.inr (.inl (some (m0 + 1 + 18))))) F (Nat.le_of_ble_eq_true rfl) q3151 rfl rfl dX3_layGroups_76 ?_
      refine jr_iload_n (pc := 79) F (j := 1) dX3_layGroups_79 rfl ?_
      obtain ⟨hi1, hi2, w⟩ := w
      refine jm_iald (pc := 80) (f := 21) (o := 18) F rfl (by decide) hi1 hi2 dX3_layGroups_80 ?_
      refine jr_iconst (pc := 81) F dX3_layGroups_81 ?_
      obtain ⟨hx9, w1, w2⟩ := w
      refine jr_icmp_ne (pc := 82) (tgt := 100) F hx9 ⟨by decide, by decide⟩ dX3_layGroups_82 rfl (fun c9 => ?_) (fun c9 => ?_)
      · have w := w1 c9
        have w := w _ rfl
        refine jr_iinc (pc := 100) F (j := 1) (vs' := [(1, .inl _), (0, .inr (.inr (.inl _)))]) dX3_layGroups_100 rfl rfl (Nat.le_of_ble_eq_true rfl) rfl ?_
        refine jr_goto (pc := 103) (tgt := 67) F dX3_layGroups_103 rfl ?_
        refine jj_J.sub [1, 0] rfl ?_
        exact ih _ _ w
      · have w := w2 c9
        refine jr_aload_n (pc := 85) F (j := 0) dX3_layGroups_85 rfl ?_
        refine jr_iload_n (pc := 86) F (j := 1) dX3_layGroups_86 rfl ?_
        refine jr_callV (pc := 87) (As := [_]) F M (lw_V q3350 q3352 qs60 q143 q3353) dX3_layGroups_87 hM_spread rfl (Nat.le_of_ble_eq_true rfl) (Nat.le_of_ble_eq_true rfl) (Nat.le_of_ble_eq_true rfl) (jj_set_self _ _ _) rfl rfl (Nat.zero_le _) (cM_spread S hs w) (fun v9 h9 q9 => ?_) (fun _ _ _ q9 => q9.elim)
        obtain ⟨ms9, rfl, rfl, w⟩ := q9
        refine jr_aload_n (pc := 90) F (j := 0) dX3_layGroups_90 rfl ?_
        refine jr_dup (pc := 91) F dX3_layGroups_91 rfl ?_
        refine jm_get (pc := 92) (f := 28) (v := .inl _) F (Nat.le_of_ble_eq_true rfl) q3158 rfl rfl dX3_layGroups_92 ?_
        refine jr_iconst (pc := 95) F dX3_layGroups_95 ?_
        refine jr_iadd (pc := 96) F dX3_layGroups_96 ?_
        have w := w _ rfl
        refine jm_put (pc := 97) (f := 28) F (Nat.le_of_ble_eq_true rfl) q3158 rfl rfl rfl rfl rfl rfl dX3_layGroups_97 ?_
        have w := w _ rfl
        refine jr_iinc (pc := 100) F (j := 1) (vs' := [(1, .inl _), (0, .inr (.inr (.inl _)))]) dX3_layGroups_100 rfl rfl (Nat.le_of_ble_eq_true rfl) rfl ?_
        refine jr_goto (pc := 103) (tgt := 67) F dX3_layGroups_103 rfl ?_
        refine jj_J.sub [1, 0] rfl ?_
        exact ih _ _ w

theorem sM_layGroups_l11 {X : jj_X} {h0 : jj_H} {m0 k : Nat} {N : Option jj_AV → jj_H → Prop} {XN : String → Nat → jj_H → Prop} (F : jj_F X RX3 cX3_layGroups 2) (M : jj_M X (none) 6 149 N XN) (S : jj_GS X.1 X.2.2.1) (hs : jj_hs X.1 h0 m0) {Q : jj_MS → Prop} (hQ : ∀ ms, Q ms → N none (jj_mh h0 m0 ms)) : ∀ (n : Nat) (x1 : Int) (ms : jj_MS), fM_layGroups_l11 Q n x1 ms → jj_J X 2 11 [(0, .inr (.inr (.inl (some m0)))), (1, .inl x1)] [] (jj_mh h0 m0 ms) k := by
  intro n
  induction n with
  | zero =>
    intro x1 ms w
    exact (show False from w).elim
  | succ n ih =>
    intro x1 ms w
    rw [fM_layGroups_l11] at w
    refine jr_iload_n (pc := 11) F (j := 1) dX3_layGroups_11 rfl ?_
    refine jr_bipush (pc := 12) F dX3_layGroups_12 (by decide +kernel) ?_
    obtain ⟨hx9, w1, w2⟩ := w
    refine jr_icmp_ge (pc := 14) (tgt := 65) F hx9 ⟨by decide, by decide⟩ dX3_layGroups_14 rfl (fun c9 => ?_) (fun c9 => ?_)
    · have w := w1 c9
      refine jr_iconst (pc := 65) F dX3_layGroups_65 ?_
      refine jr_istore_n (pc := 66) F (vs' := [(1, .inl _), (0, .inr (.inr (.inl _)))]) dX3_layGroups_66 (Nat.le_of_ble_eq_true rfl) rfl ?_
      refine jj_J.sub [1, 0] rfl ?_
      obtain ⟨n9, w⟩ := w
      exact sM_layGroups_l67 F M S hs hQ n9 _ _ w
    · have w := w2 c9
      refine jr_aload_n (pc := 17) F (j := 0) dX3_layGroups_17 rfl ?_
      refine jm_get (pc := 18) (f := 21) (v := .inr (.inr (.inl (some (m0 + 1 + 18))))) F (Nat.le_of_ble_eq_true rfl) q3151 rfl rfl dX3_layGroups_18 ?_
      refine jr_iload_n (pc := 21) F (j := 1) dX3_layGroups_21 rfl ?_
      refine jr_iconst (pc := 22) F dX3_layGroups_22 ?_
      obtain ⟨hi1, hi2, w⟩ := w
      have w := w _ rfl
      refine jm_iast (pc := 23) (f := 21) (o := 18) F (Nat.le_of_ble_eq_true rfl) rfl (by decide) hi1 hi2 dX3_layGroups_23 ?_
      refine jr_aload_n (pc := 24) F (j := 0) dX3_layGroups_24 rfl ?_
      refine jm_get (pc := 25) (f := 25) (v := .inr (.inr (.inl (some (m0 + 1 + 22))))) F (Nat.le_of_ble_eq_true rfl) q3155 rfl rfl dX3_layGroups_25 ?_
      refine jr_iload_n (pc := 28) F (j := 1) dX3_layGroups_28 rfl ?_
      refine jr_iconst (pc := 29) F dX3_layGroups_29 ?_
      obtain ⟨hi1, hi2, w⟩ := w
      have w := w _ rfl
      refine jm_iast (pc := 30) (f := 25) (o := 22) F (Nat.le_of_ble_eq_true rfl) rfl (by decide) hi1 hi2 dX3_layGroups_30 ?_
      refine jr_aload_n (pc := 31) F (j := 0) dX3_layGroups_31 rfl ?_
      refine jm_get (pc := 32) (f := 26) (v := .inr (.inr (.inl (some (m0 + 1 + 23))))) F (Nat.le_of_ble_eq_true rfl) q3156 rfl rfl dX3_layGroups_32 ?_
      refine jr_iload_n (pc := 35) F (j := 1) dX3_layGroups_35 rfl ?_
      refine jr_iconst (pc := 36) F dX3_layGroups_36 ?_
      obtain ⟨hi1, hi2, w⟩ := w
      have w := w _ rfl
      refine jm_iast (pc := 37) (f := 26) (o := 23) F (Nat.le_of_ble_eq_true rfl) rfl (by decide) hi1 hi2 dX3_layGroups_37 ?_
      refine jr_aload_n (pc := 38) F (j := 0) dX3_layGroups_38 rfl ?_
      refine jm_get (pc := 39) (f := 27) (v := .inr (.inr (.inl (some (m0 + 1 + 24))))) F (Nat.le_of_ble_eq_true rfl) q3157 rfl rfl dX3_layGroups_39 ?_
      refine jr_iload_n (pc := 42) F (j := 1) dX3_layGroups_42 rfl ?_
      refine jr_iconst (pc := 43) F dX3_layGroups_43 ?_
      obtain ⟨hi1, hi2, w⟩ := w
      have w := w _ rfl
      refine jm_iast (pc := 44) (f := 27) (o := 24) F (Nat.le_of_ble_eq_true rfl) rfl (by decide) hi1 hi2 dX3_layGroups_44 ?_
      refine jr_aload_n (pc := 45) F (j := 0) dX3_layGroups_45 rfl ?_
      refine jm_get (pc := 46) (f := 22) (v := .inr (.inr (.inl (some (m0 + 1 + 19))))) F (Nat.le_of_ble_eq_true rfl) q3152 rfl rfl dX3_layGroups_46 ?_
      refine jr_iload_n (pc := 49) F (j := 1) dX3_layGroups_49 rfl ?_
      refine jr_iconst (pc := 50) F dX3_layGroups_50 ?_
      obtain ⟨hi1, hi2, w⟩ := w
      have w := w _ rfl
      refine jm_iast (pc := 51) (f := 22) (o := 19) F (Nat.le_of_ble_eq_true rfl) rfl (by decide) hi1 hi2 dX3_layGroups_51 ?_
      refine jr_aload_n (pc := 52) F (j := 0) dX3_layGroups_52 rfl ?_
      refine jm_get (pc := 53) (f := 23) (v := .inr (.inr (.inl (some (m0 + 1 + 20))))) F (Nat.le_of_ble_eq_true rfl) q3153 rfl rfl dX3_layGroups_53 ?_
      refine jr_iload_n (pc := 56) F (j := 1) dX3_layGroups_56 rfl ?_
      refine jr_iconst (pc := 57) F dX3_layGroups_57 ?_
      obtain ⟨hi1, hi2, w⟩ := w
      have w := w _ rfl
      refine jm_iast (pc := 58) (f := 23) (o := 20) F (Nat.le_of_ble_eq_true rfl) rfl (by decide) hi1 hi2 dX3_layGroups_58 ?_
      have w := w _ rfl
      refine jr_iinc (pc := 59) F (j := 1) (vs' := [(1, .inl _), (0, .inr (.inr (.inl _)))]) dX3_layGroups_59 rfl rfl (Nat.le_of_ble_eq_true rfl) rfl ?_
      refine jr_goto (pc := 62) (tgt := 11) F dX3_layGroups_62 rfl ?_
      refine jj_J.sub [1, 0] rfl ?_
      exact ih _ _ w

theorem sM_layGroups {X : jj_X} {h0 : jj_H} {m0 k : Nat} {N : Option jj_AV → jj_H → Prop} {XN : String → Nat → jj_H → Prop} (F : jj_F X RX3 cX3_layGroups 2) (M : jj_M X (none) 6 149 N XN) (S : jj_GS X.1 X.2.2.1) (hs : jj_hs X.1 h0 m0) {Q : jj_MS → Prop} (hQ : ∀ ms, Q ms → N none (jj_mh h0 m0 ms)) : ∀ (ms : jj_MS), fM_layGroups Q ms → jj_J X 2 0 [(0, .inr (.inr (.inl (some m0))))] [] (jj_mh h0 m0 ms) k := by
  intro  ms w
  unfold fM_layGroups at w
  refine jr_aload_n (pc := 0) F (j := 0) dX3_layGroups_0 rfl ?_
  refine jr_callV (pc := 1) (As := []) F M (lw_V q3295 q3297 qs48 q143 q3298) dX3_layGroups_1 hM_layAnchors rfl (Nat.le_of_ble_eq_true rfl) (Nat.le_of_ble_eq_true rfl) (Nat.le_of_ble_eq_true rfl) (jj_set_self _ _ _) rfl rfl (Nat.zero_le _) (cM_layAnchors S hs w) (fun v9 h9 q9 => ?_) (fun _ _ _ q9 => q9.elim)
  obtain ⟨ms20, rfl, rfl, w⟩ := q9
  refine jr_aload_n (pc := 4) F (j := 0) dX3_layGroups_4 rfl ?_
  refine jr_iconst (pc := 5) F dX3_layGroups_5 ?_
  have w := w _ rfl
  refine jm_put (pc := 6) (f := 28) F (Nat.le_of_ble_eq_true rfl) q3158 rfl rfl rfl rfl rfl rfl dX3_layGroups_6 ?_
  refine jr_iconst (pc := 9) F dX3_layGroups_9 ?_
  refine jr_istore_n (pc := 10) F (vs' := [(1, .inl _), (0, .inr (.inr (.inl _)))]) dX3_layGroups_10 (Nat.le_of_ble_eq_true rfl) rfl ?_
  refine jj_J.sub [1, 0] rfl ?_
  obtain ⟨n9, w⟩ := w
  exact sM_layGroups_l11 F M S hs hQ n9 _ _ w

theorem cM_layGroups {G : jj_G} {l : Launch} (S : jj_GS G l) {h0 : jj_H} {m0 : Nat} (hs : jj_hs G h0 m0) {ms : jj_MS} {Q : jj_MS → Prop} (w : fM_layGroups Q ms) : jj_Ct G l yX3_layGroups (ws_ yX3_layGroups cX3_layGroups 2 (none)) 6 149 [.inr (.inr (.inl (some m0)))] (jj_mh h0 m0 ms) 0 (jm_Nv h0 m0 Q) jj_F0 := by
  refine jj_Ct.of S.1 (by decide +kernel) (Nat.le_of_ble_eq_true rfl) rfl (fun X hG hl F M O hnm => ?_)
  subst hG; subst hl
  exact sM_layGroups F M S hs (fun ms q => ⟨ms, rfl, rfl, q⟩) _ w
theorem hM_layGroups : yX3_layGroups.cls = RX3 ∧ yX3_layGroups.cls ≠ "java/lang/invoke/MethodHandle" ∧ yX3_layGroups.cls ≠ "java/lang/invoke/VarHandle" ∧ (parseMethodDescriptor yX3_layGroups.desc).map (fun d => d.parameters.length) = some 0 := by decide +kernel
/-! count(I)I -/
def fM_count_j44 (x1 : Int) (Q : Int → jj_MS → Prop) (ms : jj_MS) : Prop :=
  0 ≤ (0 + x1) ∧ (0 + x1) < 614 ∧
  Q (ms.2 0 (0 + x1)) ms

def fM_count (x1 : Int) (Q : Int → jj_MS → Prop) (ms : jj_MS) : Prop :=
  ∀ ms1, ms1 = jj_mI ms 7 0 →
  jj_r x1 ∧
  (x1 = 0 → (
    fM_count_j44 x1 Q ms1)) ∧
  (x1 = 1 → (
    fM_count_j44 x1 Q ms1)) ∧
  (x1 = 2 → (
    fM_count_j44 x1 Q ms1)) ∧
  (x1 = 3 → (
    fM_layGroups (fun ms2 =>
    Q (ms2.1 28) ms2) ms1)) ∧
  (x1 = 4 → (
    Q (ms1.2 0 3) ms1)) ∧
  (x1 = 5 → (
    fM_editions (fun r5 ms4 =>
    jj_r r5 ∧ (¬ r5 = 0 → (
      fM_target (fun r7 ms6 =>
      Q r7 ms6) ms4)) ∧
    (r5 = 0 → (
      Q ((-1)) ms4))) ms1)) ∧
  ((x1 < 0 ∨ 5 < x1) → (
    fM_fail 1 (fun r9 ms8 =>
    Q r9 ms8) ms1))

theorem sM_count_j44 {X : jj_X} {h0 : jj_H} {m0 k : Nat} {N : Option jj_AV → jj_H → Prop} {XN : String → Nat → jj_H → Prop} (F : jj_F X RX3 cX3_count 2) (M : jj_M X (some (.int)) 7 170 N XN) (S : jj_GS X.1 X.2.2.1) (hs : jj_hs X.1 h0 m0) {Q : Int → jj_MS → Prop} (hQ : ∀ r ms, Q r ms → N (some (.inl r)) (jj_mh h0 m0 ms)) : ∀ (x1 : Int) (ms : jj_MS), fM_count_j44 x1 Q ms → jj_J X 2 44 [(0, .inr (.inr (.inl (some m0)))), (1, .inl x1)] [] (jj_mh h0 m0 ms) k := by
  intro x1 ms w
  unfold fM_count_j44 at w
  refine jr_aload_n (pc := 44) F (j := 0) dX3_count_44 rfl ?_
  refine jm_get (pc := 45) (f := 0) (v := .inr (.inr (.inl (some (m0 + 1 + 0))))) F (Nat.le_of_ble_eq_true rfl) q3130 rfl rfl dX3_count_45 ?_
  refine jr_iconst (pc := 48) F dX3_count_48 ?_
  refine jr_iload_n (pc := 49) F (j := 1) dX3_count_49 rfl ?_
  refine jr_iadd (pc := 50) F dX3_count_50 ?_
  obtain ⟨hi1, hi2, w⟩ := w
  refine jm_iald (pc := 51) (f := 0) (o := 0) F rfl (by decide) hi1 hi2 dX3_count_51 ?_
  exact jr_iret (pc := 52) F M dX3_count_52 (hQ _ _ w)

theorem sM_count {X : jj_X} {h0 : jj_H} {m0 k : Nat} {N : Option jj_AV → jj_H → Prop} {XN : String → Nat → jj_H → Prop} (F : jj_F X RX3 cX3_count 2) (M : jj_M X (some (.int)) 7 170 N XN) (S : jj_GS X.1 X.2.2.1) (hs : jj_hs X.1 h0 m0) {Q : Int → jj_MS → Prop} (hQ : ∀ r ms, Q r ms → N (some (.inl r)) (jj_mh h0 m0 ms)) : ∀ (x1 : Int) (ms : jj_MS), fM_count x1 Q ms → jj_J X 2 0 [(0, .inr (.inr (.inl (some m0)))), (1, .inl x1)] [] (jj_mh h0 m0 ms) k := by
  intro x1 ms w
  unfold fM_count at w
  refine jr_aload_n (pc := 0) F (j := 0) dX3_count_0 rfl ?_
  refine jr_iconst (pc := 1) F dX3_count_1 ?_
  have w := w _ rfl
  refine jm_put (pc := 2) (f := 7) F (Nat.le_of_ble_eq_true rfl) q3137 rfl rfl rfl rfl rfl rfl dX3_count_2 ?_
  refine jr_iload_n (pc := 5) F (j := 1) dX3_count_5 rfl ?_
  obtain ⟨hx9, w⟩ := w
  obtain ⟨w9, w⟩ := w
  rcases Decidable.em (x1 = 0) with e9 | e9_0
  · have w := w9 e9
    refine jr_tabIn (pc := 6) (tgt := 44) (off := 38) F hx9 dX3_count_6 (by rw [e9]; decide) (by rw [e9]; decide) (by rw [e9]; rfl) rfl ?_
    exact sM_count_j44 F M S hs hQ _ _ w
  obtain ⟨w9, w⟩ := w
  rcases Decidable.em (x1 = 1) with e9 | e9_1
  · have w := w9 e9
    refine jr_tabIn (pc := 6) (tgt := 44) (off := 38) F hx9 dX3_count_6 (by rw [e9]; decide) (by rw [e9]; decide) (by rw [e9]; rfl) rfl ?_
    exact sM_count_j44 F M S hs hQ _ _ w
  obtain ⟨w9, w⟩ := w
  rcases Decidable.em (x1 = 2) with e9 | e9_2
  · have w := w9 e9
    refine jr_tabIn (pc := 6) (tgt := 44) (off := 38) F hx9 dX3_count_6 (by rw [e9]; decide) (by rw [e9]; decide) (by rw [e9]; rfl) rfl ?_
    exact sM_count_j44 F M S hs hQ _ _ w
  obtain ⟨w9, w⟩ := w
  rcases Decidable.em (x1 = 3) with e9 | e9_3
  · have w := w9 e9
    refine jr_tabIn (pc := 6) (tgt := 53) (off := 47) F hx9 dX3_count_6 (by rw [e9]; decide) (by rw [e9]; decide) (by rw [e9]; rfl) rfl ?_
    refine jr_aload_n (pc := 53) F (j := 0) dX3_count_53 rfl ?_
    refine jr_callV (pc := 54) (As := []) F M (lw_V q3291 q3293 qs47 q143 q3294) dX3_count_54 hM_layGroups rfl (Nat.le_of_ble_eq_true rfl) (Nat.le_of_ble_eq_true rfl) (Nat.le_of_ble_eq_true rfl) (jj_set_self _ _ _) rfl rfl (Nat.zero_le _) (cM_layGroups S hs w) (fun v9 h9 q9 => ?_) (fun _ _ _ q9 => q9.elim)
    obtain ⟨ms2, rfl, rfl, w⟩ := q9
    refine jr_aload_n (pc := 57) F (j := 0) dX3_count_57 rfl ?_
    refine jm_get (pc := 58) (f := 28) (v := .inl _) F (Nat.le_of_ble_eq_true rfl) q3158 rfl rfl dX3_count_58 ?_
    exact jr_iret (pc := 61) F M dX3_count_61 (hQ _ _ w)
  obtain ⟨w9, w⟩ := w
  rcases Decidable.em (x1 = 4) with e9 | e9_4
  · have w := w9 e9
    refine jr_tabIn (pc := 6) (tgt := 62) (off := 56) F hx9 dX3_count_6 (by rw [e9]; decide) (by rw [e9]; decide) (by rw [e9]; rfl) rfl ?_
    refine jr_aload_n (pc := 62) F (j := 0) dX3_count_62 rfl ?_
    refine jm_get (pc := 63) (f := 0) (v := .inr (.inr (.inl (some (m0 + 1 + 0))))) F (Nat.le_of_ble_eq_true rfl) q3130 rfl rfl dX3_count_63 ?_
    refine jr_iconst (pc := 66) F dX3_count_66 ?_
    refine jm_iald (pc := 67) (f := 0) (o := 0) F rfl (by decide) (by decide) (by decide) dX3_count_67 ?_
    exact jr_iret (pc := 68) F M dX3_count_68 (hQ _ _ w)
  obtain ⟨w9, w⟩ := w
  rcases Decidable.em (x1 = 5) with e9 | e9_5
  · have w := w9 e9
    refine jr_tabIn (pc := 6) (tgt := 69) (off := 63) F hx9 dX3_count_6 (by rw [e9]; decide) (by rw [e9]; decide) (by rw [e9]; rfl) rfl ?_
    refine jr_aload_n (pc := 69) F (j := 0) dX3_count_69 rfl ?_
    refine jr_callV (pc := 70) (As := []) F M (lw_V q3299 q3301 qs49 q143 q3302) dX3_count_70 hM_editions rfl (Nat.le_of_ble_eq_true rfl) (Nat.le_of_ble_eq_true rfl) (Nat.le_of_ble_eq_true rfl) (jj_set_self _ _ _) rfl rfl (Nat.zero_le _) (cM_editions S hs w) (fun v9 h9 q9 => ?_) (fun _ _ _ q9 => q9.elim)
    obtain ⟨r5, ms4, rfl, rfl, w⟩ := q9
    obtain ⟨hx9, w1, w2⟩ := w
    refine jr_if_ne (pc := 73) (tgt := 80) F hx9 dX3_count_73 rfl (fun c9 => ?_) (fun c9 => ?_)
    · have w := w1 c9
      refine jr_aload_n (pc := 80) F (j := 0) dX3_count_80 rfl ?_
      refine jr_callV (pc := 81) (As := []) F M (lw_V q3315 q3317 qs53 q143 q3318) dX3_count_81 hM_target rfl (Nat.le_of_ble_eq_true rfl) (Nat.le_of_ble_eq_true rfl) (Nat.le_of_ble_eq_true rfl) (jj_set_self _ _ _) rfl rfl (Nat.zero_le _) (cM_target S hs w) (fun v9 h9 q9 => ?_) (fun _ _ _ q9 => q9.elim)
      obtain ⟨r7, ms6, rfl, rfl, w⟩ := q9
      exact jr_iret (pc := 84) F M dX3_count_84 (hQ _ _ w)
    · have w := w2 c9
      refine jr_iconst (pc := 76) F dX3_count_76 ?_
      refine jr_goto (pc := 77) (tgt := 84) F dX3_count_77 rfl ?_
      exact jr_iret (pc := 84) F M dX3_count_84 (hQ _ _ w)
  have c9 : x1 < 0 ∨ 5 < x1 := by omega
  have w := w c9
  refine jr_tabOut (pc := 6) (tgt := 85) F hx9 dX3_count_6 c9 rfl ?_
  refine jr_aload_n (pc := 85) F (j := 0) dX3_count_85 rfl ?_
  refine jr_iconst (pc := 86) F dX3_count_86 ?_
  refine jr_callV (pc := 87) (As := [_]) F M (lw_V q3276 q3278 qs46 q143 q3279) dX3_count_87 hM_fail rfl (Nat.le_of_ble_eq_true rfl) (Nat.le_of_ble_eq_true rfl) (Nat.le_of_ble_eq_true rfl) (jj_set_self _ _ _) rfl rfl (Nat.zero_le _) (cM_fail S hs w) (fun v9 h9 q9 => ?_) (fun _ _ _ q9 => q9.elim)
  obtain ⟨r9, ms8, rfl, rfl, w⟩ := q9
  exact jr_iret (pc := 90) F M dX3_count_90 (hQ _ _ w)

theorem cM_count {G : jj_G} {l : Launch} (S : jj_GS G l) {h0 : jj_H} {m0 : Nat} (hs : jj_hs G h0 m0) {x1 : Int} {ms : jj_MS} {Q : Int → jj_MS → Prop} (w : fM_count x1 Q ms) : jj_Ct G l yX3_count (ws_ yX3_count cX3_count 2 (some (.int))) 7 170 [.inr (.inr (.inl (some m0))), .inl x1] (jj_mh h0 m0 ms) 0 (jm_Ni h0 m0 Q) jj_F0 := by
  refine jj_Ct.of S.1 (by decide +kernel) (Nat.le_of_ble_eq_true rfl) rfl (fun X hG hl F M O hnm => ?_)
  subst hG; subst hl
  exact sM_count F M S hs (fun r ms q => ⟨r, ms, rfl, rfl, q⟩) _ _ w
theorem hM_count : yX3_count.cls = RX3 ∧ yX3_count.cls ≠ "java/lang/invoke/MethodHandle" ∧ yX3_count.cls ≠ "java/lang/invoke/VarHandle" ∧ (parseMethodDescriptor yX3_count.desc).map (fun d => d.parameters.length) = some 1 := by decide +kernel
/-! appendWord(IJZ)V -/
def fM_appendWord_j38 (x1 : Int) (y1 : Int) (y2 : Int) (Q : jj_MS → Prop) (ms : jj_MS) : Prop :=
  0 ≤ y1 ∧ y1 < 614 ∧
  ∀ ms1, ms1 = jj_mA ms 0 y1 y2 →
  0 ≤ ((5 + (3 * x1)) + 0) ∧ ((5 + (3 * x1)) + 0) < 614 ∧
  0 ≤ ((5 + (3 * x1)) + 0) ∧ ((5 + (3 * x1)) + 0) < 614 ∧
  ∀ ms2, ms2 = jj_mA ms1 0 ((5 + (3 * x1)) + 0) ((ms1.2 0 ((5 + (3 * x1)) + 0)) + 1) →
  Q ms2

def fM_appendWord (x1 : Int) (x2 : Int) (x4 : Int) (Q : jj_MS → Prop) (ms : jj_MS) : Prop :=
  fM_sizeOf x1 (fun r4 ms3 =>
  fM_wordPlace x1 r4 (fun r6 ms5 =>
  0 ≤ r6 ∧ r6 < 606 ∧
  ∀ ms7, ms7 = jj_mA ms5 3 r6 x2 →
  jj_r x4 ∧ (x4 = 0 → (
    fM_appendWord_j38 x1 (14 + r6) 0 Q ms7)) ∧
  (¬ x4 = 0 → (
    fM_appendWord_j38 x1 (14 + r6) 1 Q ms7))) ms3) ms

theorem sM_appendWord_j38 {X : jj_X} {h0 : jj_H} {m0 k : Nat} {N : Option jj_AV → jj_H → Prop} {XN : String → Nat → jj_H → Prop} (F : jj_F X RX3 cX3_appendWord 6) (M : jj_M X (none) 2 43 N XN) (S : jj_GS X.1 X.2.2.1) (hs : jj_hs X.1 h0 m0) {Q : jj_MS → Prop} (hQ : ∀ ms, Q ms → N none (jj_mh h0 m0 ms)) : ∀ (x1 : Int) (y1 : Int) (y2 : Int) (ms : jj_MS), fM_appendWord_j38 x1 y1 y2 Q ms → jj_J X 6 38 [(0, .inr (.inr (.inl (some m0)))), (1, .inl x1)] [.inl y2, .inl y1, .inr (.inr (.inl (some (m0 + 1 + 0))))] (jj_mh h0 m0 ms) k := by
  intro x1 y1 y2 ms w
  unfold fM_appendWord_j38 at w
  obtain ⟨hi1, hi2, w⟩ := w
  have w := w _ rfl
  refine jm_iast (pc := 38) (f := 0) (o := 0) F (Nat.le_of_ble_eq_true rfl) rfl (by decide) hi1 hi2 dX3_appendWord_38 ?_
  refine jr_aload_n (pc := 39) F (j := 0) dX3_appendWord_39 rfl ?_
  refine jm_get (pc := 40) (f := 0) (v := .inr (.inr (.inl (some (m0 + 1 + 0))))) F (Nat.le_of_ble_eq_true rfl) q3130 rfl rfl dX3_appendWord_40 ?_
  refine jr_iconst (pc := 43) F dX3_appendWord_43 ?_
  refine jr_iconst (pc := 44) F dX3_appendWord_44 ?_
  refine jr_iload_n (pc := 45) F (j := 1) dX3_appendWord_45 rfl ?_
  refine jr_imul (pc := 46) F dX3_appendWord_46 ?_
  refine jr_iadd (pc := 47) F dX3_appendWord_47 ?_
  refine jr_iconst (pc := 48) F dX3_appendWord_48 ?_
  refine jr_iadd (pc := 49) F dX3_appendWord_49 ?_
  refine jr_dup2 (pc := 50) F dX3_appendWord_50 rfl rfl ?_
  obtain ⟨hi1, hi2, w⟩ := w
  refine jm_iald (pc := 51) (f := 0) (o := 0) F rfl (by decide) hi1 hi2 dX3_appendWord_51 ?_
  refine jr_iconst (pc := 52) F dX3_appendWord_52 ?_
  refine jr_iadd (pc := 53) F dX3_appendWord_53 ?_
  obtain ⟨hi1, hi2, w⟩ := w
  have w := w _ rfl
  refine jm_iast (pc := 54) (f := 0) (o := 0) F (Nat.le_of_ble_eq_true rfl) rfl (by decide) hi1 hi2 dX3_appendWord_54 ?_
  exact jr_vret (pc := 55) F M dX3_appendWord_55 (hQ _ w)

theorem sM_appendWord {X : jj_X} {h0 : jj_H} {m0 k : Nat} {N : Option jj_AV → jj_H → Prop} {XN : String → Nat → jj_H → Prop} (F : jj_F X RX3 cX3_appendWord 6) (M : jj_M X (none) 2 43 N XN) (S : jj_GS X.1 X.2.2.1) (hs : jj_hs X.1 h0 m0) {Q : jj_MS → Prop} (hQ : ∀ ms, Q ms → N none (jj_mh h0 m0 ms)) : ∀ (x1 : Int) (x2 : Int) (x4 : Int) (ms : jj_MS), fM_appendWord x1 x2 x4 Q ms → jj_J X 6 0 [(0, .inr (.inr (.inl (some m0)))), (1, .inl x1), (2, .inr (.inl x2)), (4, .inl x4)] [] (jj_mh h0 m0 ms) k := by
  intro x1 x2 x4 ms w
  unfold fM_appendWord at w
  refine jr_iload_n (pc := 0) F (j := 1) dX3_appendWord_0 rfl ?_
  refine jr_aload_n (pc := 1) F (j := 0) dX3_appendWord_1 rfl ?_
  refine jr_iload_n (pc := 2) F (j := 1) dX3_appendWord_2 rfl ?_
  refine jr_callV (pc := 3) (As := [_]) F M (lw_V q3307 q3309 qs51 q143 q3310) dX3_appendWord_3 hM_sizeOf rfl (Nat.le_of_ble_eq_true rfl) (Nat.le_of_ble_eq_true rfl) (Nat.le_of_ble_eq_true rfl) (jj_set_self _ _ _) rfl rfl (Nat.zero_le _) (cM_sizeOf S hs w) (fun v9 h9 q9 => ?_) (fun _ _ _ q9 => q9.elim)
  obtain ⟨r4, ms3, rfl, rfl, w⟩ := q9
  refine jr_callS (pc := 6) (As := [_, _]) F M (lw_S q3327 q3328 q143 q3329) dX3_appendWord_6 hM_wordPlace.2 rfl (Nat.le_of_ble_eq_true rfl) (Nat.le_of_ble_eq_true rfl) (Nat.le_of_ble_eq_true rfl) (Nat.zero_le _) (cM_wordPlace S hs w) (fun v9 h9 q9 => ?_) (fun _ _ _ q9 => q9.elim)
  obtain ⟨r6, ms5, rfl, rfl, w⟩ := q9
  refine jr_istore (pc := 9) F (vs' := [(5, .inl _), (0, .inr (.inr (.inl _))), (1, .inl _), (2, .inr (.inl _)), (4, .inl _)]) dX3_appendWord_9 (Nat.le_of_ble_eq_true rfl) rfl ?_
  refine jr_aload_n (pc := 11) F (j := 1) dX3_appendWord_11 rfl ?_
  refine jm_get (pc := 12) (f := 3) (v := .inr (.inr (.inl (some (m0 + 1 + 3))))) F (Nat.le_of_ble_eq_true rfl) q3133 rfl rfl dX3_appendWord_12 ?_
  refine jr_iload (pc := 15) F (j := 0) dX3_appendWord_15 rfl ?_
  refine jr_lload_n (pc := 17) F (j := 3) dX3_appendWord_17 rfl ?_
  obtain ⟨hi1, hi2, w⟩ := w
  have w := w _ rfl
  refine jm_last (pc := 18) (f := 3) (o := 3) F (Nat.le_of_ble_eq_true rfl) rfl (by decide) hi1 hi2 dX3_appendWord_18 ?_
  refine jr_aload_n (pc := 19) F (j := 1) dX3_appendWord_19 rfl ?_
  refine jm_get (pc := 20) (f := 0) (v := .inr (.inr (.inl (some (m0 + 1 + 0))))) F (Nat.le_of_ble_eq_true rfl) q3130 rfl rfl dX3_appendWord_20 ?_
  refine jr_bipush (pc := 23) F dX3_appendWord_23 (by decide +kernel) ?_
  refine jr_iload (pc := 25) F (j := 0) dX3_appendWord_25 rfl ?_
  refine jr_iadd (pc := 27) F dX3_appendWord_27 ?_
  refine jr_iload (pc := 28) F (j := 4) dX3_appendWord_28 rfl ?_
  obtain ⟨hx9, w1, w2⟩ := w
  refine jr_if_eq (pc := 30) (tgt := 37) F hx9 dX3_appendWord_30 rfl (fun c9 => ?_) (fun c9 => ?_)
  · have w := w1 c9
    refine jr_iconst (pc := 37) F dX3_appendWord_37 ?_
    refine jj_J.sub [1, 2] rfl ?_
    exact sM_appendWord_j38 F M S hs hQ _ _ _ _ w
  · have w := w2 c9
    refine jr_iconst (pc := 33) F dX3_appendWord_33 ?_
    refine jr_goto (pc := 34) (tgt := 38) F dX3_appendWord_34 rfl ?_
    refine jj_J.sub [1, 2] rfl ?_
    exact sM_appendWord_j38 F M S hs hQ _ _ _ _ w

theorem cM_appendWord {G : jj_G} {l : Launch} (S : jj_GS G l) {h0 : jj_H} {m0 : Nat} (hs : jj_hs G h0 m0) {x1 : Int} {x2 : Int} {x4 : Int} {ms : jj_MS} {Q : jj_MS → Prop} (w : fM_appendWord x1 x2 x4 Q ms) : jj_Ct G l yX3_appendWord (ws_ yX3_appendWord cX3_appendWord 6 (none)) 2 43 [.inr (.inr (.inl (some m0))), .inl x1, .inr (.inl x2), .inl x4] (jj_mh h0 m0 ms) 0 (jm_Nv h0 m0 Q) jj_F0 := by
  refine jj_Ct.of S.1 (by decide +kernel) (Nat.le_of_ble_eq_true rfl) rfl (fun X hG hl F M O hnm => ?_)
  subst hG; subst hl
  exact sM_appendWord F M S hs (fun ms q => ⟨ms, rfl, rfl, q⟩) _ _ _ _ w
theorem hM_appendWord : yX3_appendWord.cls = RX3 ∧ yX3_appendWord.cls ≠ "java/lang/invoke/MethodHandle" ∧ yX3_appendWord.cls ≠ "java/lang/invoke/VarHandle" ∧ (parseMethodDescriptor yX3_appendWord.desc).map (fun d => d.parameters.length) = some 3 := by decide +kernel
/-! beginEdition(II)I -/
def fM_beginEdition (x1 : Int) (x2 : Int) (Q : Int → jj_MS → Prop) (ms : jj_MS) : Prop :=
  fM_editions (fun r2 ms1 =>
  ∀ v3, v3 = 5 + (3 * r2) →
  0 ≤ (v3 + 0) ∧ (v3 + 0) < 614 ∧
  ∀ ms4, ms4 = jj_mA ms1 0 (v3 + 0) 0 →
  0 ≤ (v3 + 1) ∧ (v3 + 1) < 614 ∧
  ∀ ms5, ms5 = jj_mA ms4 0 (v3 + 1) x1 →
  0 ≤ (v3 + 2) ∧ (v3 + 2) < 614 ∧
  ∀ ms6, ms6 = jj_mA ms5 0 (v3 + 2) x2 →
  ∀ ms7, ms7 = jj_mA ms6 0 0 ((ms6.2 0 0) + 1) →
  Q r2 ms7) ms

theorem sM_beginEdition {X : jj_X} {h0 : jj_H} {m0 k : Nat} {N : Option jj_AV → jj_H → Prop} {XN : String → Nat → jj_H → Prop} (F : jj_F X RX3 cX3_beginEdition 5) (M : jj_M X (some (.int)) 1 20 N XN) (S : jj_GS X.1 X.2.2.1) (hs : jj_hs X.1 h0 m0) {Q : Int → jj_MS → Prop} (hQ : ∀ r ms, Q r ms → N (some (.inl r)) (jj_mh h0 m0 ms)) : ∀ (x1 : Int) (x2 : Int) (ms : jj_MS), fM_beginEdition x1 x2 Q ms → jj_J X 5 0 [(0, .inr (.inr (.inl (some m0)))), (1, .inl x1), (2, .inl x2)] [] (jj_mh h0 m0 ms) k := by
  intro x1 x2 ms w
  unfold fM_beginEdition at w
  refine jr_aload_n (pc := 0) F (j := 0) dX3_beginEdition_0 rfl ?_
  refine jr_callV (pc := 1) (As := []) F M (lw_V q3299 q3301 qs49 q143 q3302) dX3_beginEdition_1 hM_editions rfl (Nat.le_of_ble_eq_true rfl) (Nat.le_of_ble_eq_true rfl) (Nat.le_of_ble_eq_true rfl) (jj_set_self _ _ _) rfl rfl (Nat.zero_le _) (cM_editions S hs w) (fun v9 h9 q9 => ?_) (fun _ _ _ q9 => q9.elim)
  obtain ⟨r2, ms1, rfl, rfl, w⟩ := q9
  refine jr_istore_n (pc := 4) F (vs' := [(3, .inl _), (0, .inr (.inr (.inl _))), (1, .inl _), (2, .inl _)]) dX3_beginEdition_4 (Nat.le_of_ble_eq_true rfl) rfl ?_
  refine jr_iconst (pc := 5) F dX3_beginEdition_5 ?_
  refine jr_iconst (pc := 6) F dX3_beginEdition_6 ?_
  refine jr_iload_n (pc := 7) F (j := 0) dX3_beginEdition_7 rfl ?_
  refine jr_imul (pc := 8) F dX3_beginEdition_8 ?_
  refine jr_iadd (pc := 9) F dX3_beginEdition_9 ?_
  have w := w _ rfl
  refine jr_istore (pc := 10) F (vs' := [(4, .inl _), (3, .inl _), (0, .inr (.inr (.inl _))), (1, .inl _), (2, .inl _)]) dX3_beginEdition_10 (Nat.le_of_ble_eq_true rfl) rfl ?_
  refine jr_aload_n (pc := 12) F (j := 2) dX3_beginEdition_12 rfl ?_
  refine jm_get (pc := 13) (f := 0) (v := .inr (.inr (.inl (some (m0 + 1 + 0))))) F (Nat.le_of_ble_eq_true rfl) q3130 rfl rfl dX3_beginEdition_13 ?_
  refine jr_iload (pc := 16) F (j := 0) dX3_beginEdition_16 rfl ?_
  refine jr_iconst (pc := 18) F dX3_beginEdition_18 ?_
  refine jr_iadd (pc := 19) F dX3_beginEdition_19 ?_
  refine jr_iconst (pc := 20) F dX3_beginEdition_20 ?_
  obtain ⟨hi1, hi2, w⟩ := w
  have w := w _ rfl
  refine jm_iast (pc := 21) (f := 0) (o := 0) F (Nat.le_of_ble_eq_true rfl) rfl (by decide) hi1 hi2 dX3_beginEdition_21 ?_
  refine jr_aload_n (pc := 22) F (j := 2) dX3_beginEdition_22 rfl ?_
  refine jm_get (pc := 23) (f := 0) (v := .inr (.inr (.inl (some (m0 + 1 + 0))))) F (Nat.le_of_ble_eq_true rfl) q3130 rfl rfl dX3_beginEdition_23 ?_
  refine jr_iload (pc := 26) F (j := 0) dX3_beginEdition_26 rfl ?_
  refine jr_iconst (pc := 28) F dX3_beginEdition_28 ?_
  refine jr_iadd (pc := 29) F dX3_beginEdition_29 ?_
  refine jr_iload_n (pc := 30) F (j := 3) dX3_beginEdition_30 rfl ?_
  obtain ⟨hi1, hi2, w⟩ := w
  have w := w _ rfl
  refine jm_iast (pc := 31) (f := 0) (o := 0) F (Nat.le_of_ble_eq_true rfl) rfl (by decide) hi1 hi2 dX3_beginEdition_31 ?_
  refine jr_aload_n (pc := 32) F (j := 2) dX3_beginEdition_32 rfl ?_
  refine jm_get (pc := 33) (f := 0) (v := .inr (.inr (.inl (some (m0 + 1 + 0))))) F (Nat.le_of_ble_eq_true rfl) q3130 rfl rfl dX3_beginEdition_33 ?_
  refine jr_iload (pc := 36) F (j := 0) dX3_beginEdition_36 rfl ?_
  refine jr_iconst (pc := 38) F dX3_beginEdition_38 ?_
  refine jr_iadd (pc := 39) F dX3_beginEdition_39 ?_
  refine jr_iload_n (pc := 40) F (j := 4) dX3_beginEdition_40 rfl ?_
  obtain ⟨hi1, hi2, w⟩ := w
  have w := w _ rfl
  refine jm_iast (pc := 41) (f := 0) (o := 0) F (Nat.le_of_ble_eq_true rfl) rfl (by decide) hi1 hi2 dX3_beginEdition_41 ?_
  refine jr_aload_n (pc := 42) F (j := 2) dX3_beginEdition_42 rfl ?_
  refine jm_get (pc := 43) (f := 0) (v := .inr (.inr (.inl (some (m0 + 1 + 0))))) F (Nat.le_of_ble_eq_true rfl) q3130 rfl rfl dX3_beginEdition_43 ?_
  refine jr_iconst (pc := 46) F dX3_beginEdition_46 ?_
  refine jr_dup2 (pc := 47) F dX3_beginEdition_47 rfl rfl ?_
  refine jm_iald (pc := 48) (f := 0) (o := 0) F rfl (by decide) (by decide) (by decide) dX3_beginEdition_48 ?_
  refine jr_iconst (pc := 49) F dX3_beginEdition_49 ?_
  refine jr_iadd (pc := 50) F dX3_beginEdition_50 ?_
  have w := w _ rfl
  refine jm_iast (pc := 51) (f := 0) (o := 0) F (Nat.le_of_ble_eq_true rfl) rfl (by decide) (by decide) (by decide) dX3_beginEdition_51 ?_
  refine jr_iload_n (pc := 52) F (j := 1) dX3_beginEdition_52 rfl ?_
  exact jr_iret (pc := 53) F M dX3_beginEdition_53 (hQ _ _ w)

theorem cM_beginEdition {G : jj_G} {l : Launch} (S : jj_GS G l) {h0 : jj_H} {m0 : Nat} (hs : jj_hs G h0 m0) {x1 : Int} {x2 : Int} {ms : jj_MS} {Q : Int → jj_MS → Prop} (w : fM_beginEdition x1 x2 Q ms) : jj_Ct G l yX3_beginEdition (ws_ yX3_beginEdition cX3_beginEdition 5 (some (.int))) 1 20 [.inr (.inr (.inl (some m0))), .inl x1, .inl x2] (jj_mh h0 m0 ms) 0 (jm_Ni h0 m0 Q) jj_F0 := by
  refine jj_Ct.of S.1 (by decide +kernel) (Nat.le_of_ble_eq_true rfl) rfl (fun X hG hl F M O hnm => ?_)
  subst hG; subst hl
  exact sM_beginEdition F M S hs (fun r ms q => ⟨r, ms, rfl, rfl, q⟩) _ _ _ w
theorem hM_beginEdition : yX3_beginEdition.cls = RX3 ∧ yX3_beginEdition.cls ≠ "java/lang/invoke/MethodHandle" ∧ yX3_beginEdition.cls ≠ "java/lang/invoke/VarHandle" ∧ (parseMethodDescriptor yX3_beginEdition.desc).map (fun d => d.parameters.length) = some 2 := by decide +kernel
/-! byteAt(I)I -/
def fM_byteAt (x1 : Int) (Q : Int → jj_MS → Prop) (ms : jj_MS) : Prop :=
  jj_r x1 ∧ jj_r (ms.1 9) ∧ ((ms.1 9) ≤ x1 → (
    Q ((-1)) ms)) ∧
  (¬ (ms.1 9) ≤ x1 → (
    0 ≤ x1 ∧ x1 < 900 ∧
    Q (ms.2 8 x1) ms))

theorem sM_byteAt {X : jj_X} {h0 : jj_H} {m0 k : Nat} {N : Option jj_AV → jj_H → Prop} {XN : String → Nat → jj_H → Prop} (F : jj_F X RX3 cX3_byteAt 2) (M : jj_M X (some (.int)) 0 0 N XN) (S : jj_GS X.1 X.2.2.1) (hs : jj_hs X.1 h0 m0) {Q : Int → jj_MS → Prop} (hQ : ∀ r ms, Q r ms → N (some (.inl r)) (jj_mh h0 m0 ms)) : ∀ (x1 : Int) (ms : jj_MS), fM_byteAt x1 Q ms → jj_J X 2 0 [(0, .inr (.inr (.inl (some m0)))), (1, .inl x1)] [] (jj_mh h0 m0 ms) k := by
  intro x1 ms w
  unfold fM_byteAt at w
  refine jr_iload_n (pc := 0) F (j := 1) dX3_byteAt_0 rfl ?_
  refine jr_aload_n (pc := 1) F (j := 0) dX3_byteAt_1 rfl ?_
  refine jm_get (pc := 2) (f := 9) (v := .inl _) F (Nat.le_of_ble_eq_true rfl) q3139 rfl rfl dX3_byteAt_2 ?_
  obtain ⟨hx9, hy9, w1, w2⟩ := w
  refine jr_icmp_ge (pc := 5) (tgt := 17) F hx9 hy9 dX3_byteAt_5 rfl (fun c9 => ?_) (fun c9 => ?_)
  · have w := w1 c9
    refine jr_iconst (pc := 17) F dX3_byteAt_17 ?_
    exact jr_iret (pc := 18) F M dX3_byteAt_18 (hQ _ _ w)
  · have w := w2 c9
    refine jr_aload_n (pc := 8) F (j := 0) dX3_byteAt_8 rfl ?_
    refine jm_get (pc := 9) (f := 8) (v := .inr (.inr (.inl (some (m0 + 1 + 7))))) F (Nat.le_of_ble_eq_true rfl) q3138 rfl rfl dX3_byteAt_9 ?_
    refine jr_iload_n (pc := 12) F (j := 1) dX3_byteAt_12 rfl ?_
    obtain ⟨hi1, hi2, w⟩ := w
    refine jm_iald (pc := 13) (f := 8) (o := 7) F rfl (by decide) hi1 hi2 dX3_byteAt_13 ?_
    refine jr_goto (pc := 14) (tgt := 18) F dX3_byteAt_14 rfl ?_
    exact jr_iret (pc := 18) F M dX3_byteAt_18 (hQ _ _ w)

theorem cM_byteAt {G : jj_G} {l : Launch} (S : jj_GS G l) {h0 : jj_H} {m0 : Nat} (hs : jj_hs G h0 m0) {x1 : Int} {ms : jj_MS} {Q : Int → jj_MS → Prop} (w : fM_byteAt x1 Q ms) : jj_Ct G l yX3_byteAt (ws_ yX3_byteAt cX3_byteAt 2 (some (.int))) 0 0 [.inr (.inr (.inl (some m0))), .inl x1] (jj_mh h0 m0 ms) 0 (jm_Ni h0 m0 Q) jj_F0 := by
  refine jj_Ct.of S.1 (by decide +kernel) (Nat.le_of_ble_eq_true rfl) rfl (fun X hG hl F M O hnm => ?_)
  subst hG; subst hl
  exact sM_byteAt F M S hs (fun r ms q => ⟨r, ms, rfl, rfl, q⟩) _ _ w
theorem hM_byteAt : yX3_byteAt.cls = RX3 ∧ yX3_byteAt.cls ≠ "java/lang/invoke/MethodHandle" ∧ yX3_byteAt.cls ≠ "java/lang/invoke/VarHandle" ∧ (parseMethodDescriptor yX3_byteAt.desc).map (fun d => d.parameters.length) = some 1 := by decide +kernel
/-! isBlank(I)Z -/
def fM_isBlank (x0 : Int) (Q : Int → jj_MS → Prop) (ms : jj_MS) : Prop :=
  jj_r x0 ∧ (x0 = 32 → (
    Q 1 ms)) ∧
  (¬ x0 = 32 → (
    jj_r x0 ∧ (¬ x0 = 10 → (
      Q 0 ms)) ∧
    (x0 = 10 → (
      Q 1 ms))))

theorem sM_isBlank {X : jj_X} {h0 : jj_H} {m0 k : Nat} {N : Option jj_AV → jj_H → Prop} {XN : String → Nat → jj_H → Prop} (F : jj_F X RX3 cX3_isBlank 1) (M : jj_M X (some (.boolean)) 0 0 N XN) (S : jj_GS X.1 X.2.2.1) (hs : jj_hs X.1 h0 m0) {Q : Int → jj_MS → Prop} (hQ : ∀ r ms, Q r ms → N (some (.inl r)) (jj_mh h0 m0 ms)) : ∀ (x0 : Int) (ms : jj_MS), fM_isBlank x0 Q ms → jj_J X 1 0 [(0, .inl x0)] [] (jj_mh h0 m0 ms) k := by
  intro x0 ms w
  unfold fM_isBlank at w
  refine jr_iload_n (pc := 0) F (j := 0) dX3_isBlank_0 rfl ?_
  refine jr_bipush (pc := 1) F dX3_isBlank_1 (by decide +kernel) ?_
  obtain ⟨hx9, w1, w2⟩ := w
  refine jr_icmp_eq (pc := 3) (tgt := 12) F hx9 ⟨by decide, by decide⟩ dX3_isBlank_3 rfl (fun c9 => ?_) (fun c9 => ?_)
  · have w := w1 c9
    refine jr_iconst (pc := 12) F dX3_isBlank_12 ?_
    refine jr_goto (pc := 13) (tgt := 17) F dX3_isBlank_13 rfl ?_
    exact jr_zret (pc := 17) F M dX3_isBlank_17 (by decide) (hQ _ _ w)
  · have w := w2 c9
    refine jr_iload_n (pc := 6) F (j := 0) dX3_isBlank_6 rfl ?_
    refine jr_bipush (pc := 7) F dX3_isBlank_7 (by decide +kernel) ?_
    obtain ⟨hx9, w1, w2⟩ := w
    refine jr_icmp_ne (pc := 9) (tgt := 16) F hx9 ⟨by decide, by decide⟩ dX3_isBlank_9 rfl (fun c9 => ?_) (fun c9 => ?_)
    · have w := w1 c9
      refine jr_iconst (pc := 16) F dX3_isBlank_16 ?_
      exact jr_zret (pc := 17) F M dX3_isBlank_17 (by decide) (hQ _ _ w)
    · have w := w2 c9
      refine jr_iconst (pc := 12) F dX3_isBlank_12 ?_
      refine jr_goto (pc := 13) (tgt := 17) F dX3_isBlank_13 rfl ?_
      exact jr_zret (pc := 17) F M dX3_isBlank_17 (by decide) (hQ _ _ w)

theorem cM_isBlank {G : jj_G} {l : Launch} (S : jj_GS G l) {h0 : jj_H} {m0 : Nat} (hs : jj_hs G h0 m0) {x0 : Int} {ms : jj_MS} {Q : Int → jj_MS → Prop} (w : fM_isBlank x0 Q ms) : jj_Ct G l yX3_isBlank (ws_ yX3_isBlank cX3_isBlank 1 (some (.boolean))) 0 0 [.inl x0] (jj_mh h0 m0 ms) 0 (jm_Ni h0 m0 Q) jj_F0 := by
  refine jj_Ct.of S.1 (by decide +kernel) (Nat.le_of_ble_eq_true rfl) rfl (fun X hG hl F M O hnm => ?_)
  subst hG; subst hl
  exact sM_isBlank F M S hs (fun r ms q => ⟨r, ms, rfl, rfl, q⟩) _ _ w
theorem hM_isBlank : yX3_isBlank.cls = RX3 ∧ yX3_isBlank.cls ≠ "java/lang/invoke/MethodHandle" ∧ yX3_isBlank.cls ≠ "java/lang/invoke/VarHandle" ∧ (parseMethodDescriptor yX3_isBlank.desc).map (fun d => d.parameters.length) = some 1 := by decide +kernel
/-! isLetter(I)Z -/
def fM_isLetter (x0 : Int) (Q : Int → jj_MS → Prop) (ms : jj_MS) : Prop :=
  fM_isBetween x0 97 122 (fun r2 ms1 =>
  (r2 = 0 ∨ r2 = 1) ∧ Q r2 ms1) ms

theorem sM_isLetter {X : jj_X} {h0 : jj_H} {m0 k : Nat} {N : Option jj_AV → jj_H → Prop} {XN : String → Nat → jj_H → Prop} (F : jj_F X RX3 cX3_isLetter 1) (M : jj_M X (some (.boolean)) 1 22 N XN) (S : jj_GS X.1 X.2.2.1) (hs : jj_hs X.1 h0 m0) {Q : Int → jj_MS → Prop} (hQ : ∀ r ms, Q r ms → N (some (.inl r)) (jj_mh h0 m0 ms)) : ∀ (x0 : Int) (ms : jj_MS), fM_isLetter x0 Q ms → jj_J X 1 0 [(0, .inl x0)] [] (jj_mh h0 m0 ms) k := by
  intro x0 ms w
  unfold fM_isLetter at w
  refine jr_iload_n (pc := 0) F (j := 0) dX3_isLetter_0 rfl ?_
  refine jr_bipush (pc := 1) F dX3_isLetter_1 (by decide +kernel) ?_
  refine jr_bipush (pc := 3) F dX3_isLetter_3 (by decide +kernel) ?_
  refine jr_callS (pc := 5) (As := [_, _, _]) F M (lw_S q3284 q3285 q143 q3286) dX3_isLetter_5 hM_isBetween.2 rfl (Nat.le_of_ble_eq_true rfl) (Nat.le_of_ble_eq_true rfl) (Nat.le_of_ble_eq_true rfl) (Nat.zero_le _) (cM_isBetween S hs w) (fun v9 h9 q9 => ?_) (fun _ _ _ q9 => q9.elim)
  obtain ⟨r2, ms1, rfl, rfl, w⟩ := q9
  exact jr_zret (pc := 8) F M dX3_isLetter_8 w.1 (hQ _ _ w.2)

theorem cM_isLetter {G : jj_G} {l : Launch} (S : jj_GS G l) {h0 : jj_H} {m0 : Nat} (hs : jj_hs G h0 m0) {x0 : Int} {ms : jj_MS} {Q : Int → jj_MS → Prop} (w : fM_isLetter x0 Q ms) : jj_Ct G l yX3_isLetter (ws_ yX3_isLetter cX3_isLetter 1 (some (.boolean))) 1 22 [.inl x0] (jj_mh h0 m0 ms) 0 (jm_Ni h0 m0 Q) jj_F0 := by
  refine jj_Ct.of S.1 (by decide +kernel) (Nat.le_of_ble_eq_true rfl) rfl (fun X hG hl F M O hnm => ?_)
  subst hG; subst hl
  exact sM_isLetter F M S hs (fun r ms q => ⟨r, ms, rfl, rfl, q⟩) _ _ w
theorem hM_isLetter : yX3_isLetter.cls = RX3 ∧ yX3_isLetter.cls ≠ "java/lang/invoke/MethodHandle" ∧ yX3_isLetter.cls ≠ "java/lang/invoke/VarHandle" ∧ (parseMethodDescriptor yX3_isLetter.desc).map (fun d => d.parameters.length) = some 1 := by decide +kernel
/-! hasWords(II)Z -/
def fM_hasWords_j117 (K10 : Int → Int → jj_MS → Prop) (x1 : Int) (x2 : Int) (x4 : Int) (x5 : Int) (x6 : Int) (y0 : Int) (Q : Int → jj_MS → Prop) (ms : jj_MS) : Prop :=
  jj_r x4 ∧ jj_r x5 ∧ (x4 ≤ x5 → (
    ∀ v1, v1 = x4 + 1 →
    K10 y0 v1 ms)) ∧
  (¬ x4 ≤ x5 → (
    0 ≤ (ms.1 11) ∧ (ms.1 11) < 500 ∧
    ∀ ms2, ms2 = jj_mA ms 10 (ms.1 11) x6 →
    ∀ ms3, ms3 = jj_mI ms2 11 ((ms2.1 11) + 1) →
    K10 y0 x4 ms3))

def fM_hasWords_j116 (K10 : Int → Int → jj_MS → Prop) (x1 : Int) (x2 : Int) (x4 : Int) (x5 : Int) (x6 : Int) (Q : Int → jj_MS → Prop) (ms : jj_MS) : Prop :=
  fM_hasWords_j117 K10 x1 x2 x4 x5 x6 0 Q ms

def fM_hasWords_j112 (K10 : Int → Int → jj_MS → Prop) (x1 : Int) (x2 : Int) (x4 : Int) (x5 : Int) (x6 : Int) (Q : Int → jj_MS → Prop) (ms : jj_MS) : Prop :=
  fM_hasWords_j117 K10 x1 x2 x4 x5 x6 1 Q ms

def fM_hasWords_l26 (x1 : Int) (x2 : Int) (x3 : Int) (x5 : Int) (K10 : Int → Int → jj_MS → Prop) (Q : Int → jj_MS → Prop) : Nat → Int → Int → jj_MS → Prop
  | 0, _, _, _ => False
  | n + 1, x4, x6, ms =>
  fM_byteAt x4 (fun r5 ms4 =>
  fM_isLetter r5 (fun r7 ms6 =>
  jj_r r7 ∧ (r7 = 0 → (
    jj_r x3 ∧ (x3 = 0 → (
      fM_hasWords_j116 K10 x1 x2 x4 x5 x6 Q ms6)) ∧
    (¬ x3 = 0 → (
      jj_r (x4 - x5) ∧ (8 < (x4 - x5) → (
        fM_hasWords_j116 K10 x1 x2 x4 x5 x6 Q ms6)) ∧
      (¬ 8 < (x4 - x5) → (
        jj_r x4 ∧ jj_r x5 ∧ (x5 < x4 → (
          fM_hasWords_j112 K10 x1 x2 x4 x5 x6 Q ms6)) ∧
        (¬ x5 < x4 → (
          fM_byteAt x4 (fun r9 ms8 =>
          fM_isBlank r9 (fun r11 ms10 =>
          jj_r r11 ∧ (r11 = 0 → (
            fM_hasWords_j116 K10 x1 x2 x4 x5 x6 Q ms10)) ∧
          (¬ r11 = 0 → (
            fM_hasWords_j112 K10 x1 x2 x4 x5 x6 Q ms10))) ms8) ms6)))))))) ∧
  (¬ r7 = 0 → (
    jj_r (x4 - x5) ∧ (8 ≤ (x4 - x5) → (
      ∀ v12, v12 = x4 + 1 →
      fM_hasWords_l26 x1 x2 x3 x5 K10 Q n v12 x6 ms6)) ∧
    (¬ 8 ≤ (x4 - x5) → (
      fM_byteAt x4 (fun r14 ms13 =>
      ∀ v15, v15 = ((27 * x6) + (jj_i2l r14)) - 96 →
      ∀ v16, v16 = x4 + 1 →
      fM_hasWords_l26 x1 x2 x3 x5 K10 Q n v16 v15 ms13) ms6))))) ms4) ms

def fM_hasWords_l10 (x1 : Int) (x2 : Int) (Q : Int → jj_MS → Prop) : Nat → Int → Int → jj_MS → Prop
  | 0, _, _, _ => False
  | n + 1, x3, x4, ms =>
  jj_r x4 ∧ jj_r (ms.1 9) ∧ ((ms.1 9) ≤ x4 → (
    jj_r x3 ∧ (x3 = 0 → (
      Q 0 ms)) ∧
    (¬ x3 = 0 → (
      fM_isBetween (ms.1 11) x1 x2 (fun r18 ms17 =>
      jj_r r18 ∧ (r18 = 0 → (
        Q 0 ms17)) ∧
      (¬ r18 = 0 → (
        Q 1 ms17))) ms)))) ∧
  (¬ (ms.1 9) ≤ x4 → (
    ∃ n9, fM_hasWords_l26 x1 x2 x3 x4 (fM_hasWords_l10 x1 x2 Q n) Q n9 x4 0 ms))

def fM_hasWords (x1 : Int) (x2 : Int) (Q : Int → jj_MS → Prop) (ms : jj_MS) : Prop :=
  ∀ ms19, ms19 = jj_mI ms 11 0 →
  ∃ n9, fM_hasWords_l10 x1 x2 Q n9 1 0 ms19

theorem sM_hasWords_j117 {X : jj_X} {h0 : jj_H} {m0 k : Nat} {N : Option jj_AV → jj_H → Prop} {XN : String → Nat → jj_H → Prop} (F : jj_F X RX3 cX3_hasWords 8) (M : jj_M X (some (.boolean)) 2 42 N XN) (S : jj_GS X.1 X.2.2.1) (hs : jj_hs X.1 h0 m0) {Q : Int → jj_MS → Prop} (hQ : ∀ r ms, Q r ms → N (some (.inl r)) (jj_mh h0 m0 ms)) (x1 : Int) (x2 : Int) {K10 : Int → Int → jj_MS → Prop} (hK10 : ∀ (z3 : Int) (z4 : Int) (ms : jj_MS), K10 z3 z4 ms → jj_J X 8 10 [(0, .inr (.inr (.inl (some m0)))), (1, .inl x1), (2, .inl x2), (3, .inl z3), (4, .inl z4)] [] (jj_mh h0 m0 ms) k) : ∀ (x4 : Int) (x5 : Int) (x6 : Int) (y0 : Int) (ms : jj_MS), fM_hasWords_j117 K10 x1 x2 x4 x5 x6 y0 Q ms → jj_J X 8 117 [(0, .inr (.inr (.inl (some m0)))), (1, .inl x1), (2, .inl x2), (4, .inl x4), (5, .inl x5), (6, .inr (.inl x6))] [.inl y0] (jj_mh h0 m0 ms) k := by
  intro x4 x5 x6 y0 ms w
  unfold fM_hasWords_j117 at w
  refine jr_istore_n (pc := 117) F (vs' := [(3, .inl _), (0, .inr (.inr (.inl _))), (1, .inl _), (2, .inl _), (4, .inl _), (5, .inl _), (6, .inr (.inl _))]) dX3_hasWords_117 (Nat.le_of_ble_eq_true rfl) rfl ?_
  refine jr_iload (pc := 118) F (j := 4) dX3_hasWords_118 rfl ?_
  refine jr_iload (pc := 120) F (j := 5) dX3_hasWords_120 rfl ?_
  obtain ⟨hx9, hy9, w1, w2⟩ := w
  refine jr_icmp_le (pc := 122) (tgt := 149) F hx9 hy9 dX3_hasWords_122 rfl (fun c9 => ?_) (fun c9 => ?_)
  · have w := w1 c9
    have w := w _ rfl
    refine jr_iinc (pc := 149) F (j := 4) (vs' := [(4, .inl _), (3, .inl _), (0, .inr (.inr (.inl _))), (1, .inl _), (2, .inl _), (5, .inl _), (6, .inr (.inl _))]) dX3_hasWords_149 rfl rfl (Nat.le_of_ble_eq_true rfl) rfl ?_
    refine jr_goto (pc := 152) (tgt := 10) F dX3_hasWords_152 rfl ?_
    refine jj_J.sub [2, 3, 4, 1, 0] rfl ?_
    exact hK10 _ _ _ w
  · have w := w2 c9
    refine jr_aload_n (pc := 125) F (j := 1) dX3_hasWords_125 rfl ?_
    refine jm_get (pc := 126) (f := 10) (v := .inr (.inr (.inl (some (m0 + 1 + 8))))) F (Nat.le_of_ble_eq_true rfl) q3140 rfl rfl dX3_hasWords_126 ?_
    refine jr_aload_n (pc := 129) F (j := 1) dX3_hasWords_129 rfl ?_
    refine jm_get (pc := 130) (f := 11) (v := .inl _) F (Nat.le_of_ble_eq_true rfl) q3141 rfl rfl dX3_hasWords_130 ?_
    refine jr_lload (pc := 133) F (j := 6) dX3_hasWords_133 rfl ?_
    obtain ⟨hi1, hi2, w⟩ := w
    have w := w _ rfl
    refine jm_last (pc := 135) (f := 10) (o := 8) F (Nat.le_of_ble_eq_true rfl) rfl (by decide) hi1 hi2 dX3_hasWords_135 ?_
    refine jr_aload_n (pc := 136) F (j := 1) dX3_hasWords_136 rfl ?_
    refine jr_dup (pc := 137) F dX3_hasWords_137 rfl ?_
    refine jm_get (pc := 138) (f := 11) (v := .inl _) F (Nat.le_of_ble_eq_true rfl) q3141 rfl rfl dX3_hasWords_138 ?_
    refine jr_iconst (pc := 141) F dX3_hasWords_141 ?_
    refine jr_iadd (pc := 142) F dX3_hasWords_142 ?_
    have w := w _ rfl
    refine jm_put (pc := 143) (f := 11) F (Nat.le_of_ble_eq_true rfl) q3141 rfl rfl rfl rfl rfl rfl dX3_hasWords_143 ?_
    refine jr_goto (pc := 146) (tgt := 152) F dX3_hasWords_146 rfl ?_
    refine jr_goto (pc := 152) (tgt := 10) F dX3_hasWords_152 rfl ?_
    refine jj_J.sub [1, 2, 3, 0, 4] rfl ?_
    exact hK10 _ _ _ w

theorem sM_hasWords_j116 {X : jj_X} {h0 : jj_H} {m0 k : Nat} {N : Option jj_AV → jj_H → Prop} {XN : String → Nat → jj_H → Prop} (F : jj_F X RX3 cX3_hasWords 8) (M : jj_M X (some (.boolean)) 2 42 N XN) (S : jj_GS X.1 X.2.2.1) (hs : jj_hs X.1 h0 m0) {Q : Int → jj_MS → Prop} (hQ : ∀ r ms, Q r ms → N (some (.inl r)) (jj_mh h0 m0 ms)) (x1 : Int) (x2 : Int) {K10 : Int → Int → jj_MS → Prop} (hK10 : ∀ (z3 : Int) (z4 : Int) (ms : jj_MS), K10 z3 z4 ms → jj_J X 8 10 [(0, .inr (.inr (.inl (some m0)))), (1, .inl x1), (2, .inl x2), (3, .inl z3), (4, .inl z4)] [] (jj_mh h0 m0 ms) k) : ∀ (x4 : Int) (x5 : Int) (x6 : Int) (ms : jj_MS), fM_hasWords_j116 K10 x1 x2 x4 x5 x6 Q ms → jj_J X 8 116 [(0, .inr (.inr (.inl (some m0)))), (1, .inl x1), (2, .inl x2), (4, .inl x4), (5, .inl x5), (6, .inr (.inl x6))] [] (jj_mh h0 m0 ms) k := by
  intro x4 x5 x6 ms w
  unfold fM_hasWords_j116 at w
  refine jr_iconst (pc := 116) F dX3_hasWords_116 ?_
  exact sM_hasWords_j117 F M S hs hQ _ _ hK10 _ _ _ _ _ w

theorem sM_hasWords_j112 {X : jj_X} {h0 : jj_H} {m0 k : Nat} {N : Option jj_AV → jj_H → Prop} {XN : String → Nat → jj_H → Prop} (F : jj_F X RX3 cX3_hasWords 8) (M : jj_M X (some (.boolean)) 2 42 N XN) (S : jj_GS X.1 X.2.2.1) (hs : jj_hs X.1 h0 m0) {Q : Int → jj_MS → Prop} (hQ : ∀ r ms, Q r ms → N (some (.inl r)) (jj_mh h0 m0 ms)) (x1 : Int) (x2 : Int) {K10 : Int → Int → jj_MS → Prop} (hK10 : ∀ (z3 : Int) (z4 : Int) (ms : jj_MS), K10 z3 z4 ms → jj_J X 8 10 [(0, .inr (.inr (.inl (some m0)))), (1, .inl x1), (2, .inl x2), (3, .inl z3), (4, .inl z4)] [] (jj_mh h0 m0 ms) k) : ∀ (x4 : Int) (x5 : Int) (x6 : Int) (ms : jj_MS), fM_hasWords_j112 K10 x1 x2 x4 x5 x6 Q ms → jj_J X 8 112 [(0, .inr (.inr (.inl (some m0)))), (1, .inl x1), (2, .inl x2), (4, .inl x4), (5, .inl x5), (6, .inr (.inl x6))] [] (jj_mh h0 m0 ms) k := by
  intro x4 x5 x6 ms w
  unfold fM_hasWords_j112 at w
  refine jr_iconst (pc := 112) F dX3_hasWords_112 ?_
  refine jr_goto (pc := 113) (tgt := 117) F dX3_hasWords_113 rfl ?_
  exact sM_hasWords_j117 F M S hs hQ _ _ hK10 _ _ _ _ _ w

theorem sM_hasWords_l26 {X : jj_X} {h0 : jj_H} {m0 k : Nat} {N : Option jj_AV → jj_H → Prop} {XN : String → Nat → jj_H → Prop} (F : jj_F X RX3 cX3_hasWords 8) (M : jj_M X (some (.boolean)) 2 42 N XN) (S : jj_GS X.1 X.2.2.1) (hs : jj_hs X.1 h0 m0) {Q : Int → jj_MS → Prop} (hQ : ∀ r ms, Q r ms → N (some (.inl r)) (jj_mh h0 m0 ms)) (x1 : Int) (x2 : Int) (x3 : Int) (x5 : Int) {K10 : Int → Int → jj_MS → Prop} (hK10 : ∀ (z3 : Int) (z4 : Int) (ms : jj_MS), K10 z3 z4 ms → jj_J X 8 10 [(0, .inr (.inr (.inl (some m0)))), (1, .inl x1), (2, .inl x2), (3, .inl z3), (4, .inl z4)] [] (jj_mh h0 m0 ms) k) : ∀ (n : Nat) (x4 : Int) (x6 : Int) (ms : jj_MS), fM_hasWords_l26 x1 x2 x3 x5 K10 Q n x4 x6 ms → jj_J X 8 26 [(0, .inr (.inr (.inl (some m0)))), (1, .inl x1), (2, .inl x2), (3, .inl x3), (4, .inl x4), (5, .inl x5), (6, .inr (.inl x6))] [] (jj_mh h0 m0 ms) k := by
  intro n
  induction n with
  | zero =>
    intro x4 x6 ms w
    exact (show False from w).elim
  | succ n ih =>
    intro x4 x6 ms w
    rw [fM_hasWords_l26] at w
    refine jr_aload_n (pc := 26) F (j := 0) dX3_hasWords_26 rfl ?_
    refine jr_iload (pc := 27) F (j := 4) dX3_hasWords_27 rfl ?_
    refine jr_callV (pc := 29) (As := [_]) F M (lw_V q3394 q3396 qs69 q143 q3397) dX3_hasWords_29 hM_byteAt rfl (Nat.le_of_ble_eq_true rfl) (Nat.le_of_ble_eq_true rfl) (Nat.le_of_ble_eq_true rfl) (jj_set_self _ _ _) rfl rfl (Nat.zero_le _) (cM_byteAt S hs w) (fun v9 h9 q9 => ?_) (fun _ _ _ q9 => q9.elim)
    obtain ⟨r5, ms4, rfl, rfl, w⟩ := q9
    refine jr_callS (pc := 32) (As := [_]) F M (lw_S q3398 q3399 q143 q3400) dX3_hasWords_32 hM_isLetter.2 rfl (Nat.le_of_ble_eq_true rfl) (Nat.le_of_ble_eq_true rfl) (Nat.le_of_ble_eq_true rfl) (Nat.zero_le _) (cM_isLetter S hs w) (fun v9 h9 q9 => ?_) (fun _ _ _ q9 => q9.elim)
    obtain ⟨r7, ms6, rfl, rfl, w⟩ := q9
    obtain ⟨hx9, w1, w2⟩ := w
    refine jr_if_eq (pc := 35) (tgt := 79) F hx9 dX3_hasWords_35 rfl (fun c9 => ?_) (fun c9 => ?_)
    · have w := w1 c9
      refine jr_iload_n (pc := 79) F (j := 3) dX3_hasWords_79 rfl ?_
      obtain ⟨hx9, w1, w2⟩ := w
      refine jr_if_eq (pc := 80) (tgt := 116) F hx9 dX3_hasWords_80 rfl (fun c9 => ?_) (fun c9 => ?_)
      · have w := w1 c9
        refine jj_J.sub [0, 1, 2, 4, 5, 6] rfl ?_
        exact sM_hasWords_j116 F M S hs hQ _ _ hK10 _ _ _ _ w
      · have w := w2 c9
        refine jr_iload (pc := 83) F (j := 4) dX3_hasWords_83 rfl ?_
        refine jr_iload (pc := 85) F (j := 5) dX3_hasWords_85 rfl ?_
        refine jr_isub (pc := 87) F dX3_hasWords_87 ?_
        refine jr_bipush (pc := 88) F dX3_hasWords_88 (by decide +kernel) ?_
        obtain ⟨hx9, w1, w2⟩ := w
        refine jr_icmp_gt (pc := 90) (tgt := 116) F hx9 ⟨by decide, by decide⟩ dX3_hasWords_90 rfl (fun c9 => ?_) (fun c9 => ?_)
        · have w := w1 c9
          refine jj_J.sub [0, 1, 2, 4, 5, 6] rfl ?_
          exact sM_hasWords_j116 F M S hs hQ _ _ hK10 _ _ _ _ w
        · have w := w2 c9
          refine jr_iload (pc := 93) F (j := 4) dX3_hasWords_93 rfl ?_
          refine jr_iload (pc := 95) F (j := 5) dX3_hasWords_95 rfl ?_
          obtain ⟨hx9, hy9, w1, w2⟩ := w
          refine jr_icmp_gt (pc := 97) (tgt := 112) F hx9 hy9 dX3_hasWords_97 rfl (fun c9 => ?_) (fun c9 => ?_)
          · have w := w1 c9
            refine jj_J.sub [0, 1, 2, 4, 5, 6] rfl ?_
            exact sM_hasWords_j112 F M S hs hQ _ _ hK10 _ _ _ _ w
          · have w := w2 c9
            refine jr_aload_n (pc := 100) F (j := 0) dX3_hasWords_100 rfl ?_
            refine jr_iload (pc := 101) F (j := 4) dX3_hasWords_101 rfl ?_
            refine jr_callV (pc := 103) (As := [_]) F M (lw_V q3394 q3396 qs69 q143 q3397) dX3_hasWords_103 hM_byteAt rfl (Nat.le_of_ble_eq_true rfl) (Nat.le_of_ble_eq_true rfl) (Nat.le_of_ble_eq_true rfl) (jj_set_self _ _ _) rfl rfl (Nat.zero_le _) (cM_byteAt S hs w) (fun v9 h9 q9 => ?_) (fun _ _ _ q9 => q9.elim)
            obtain ⟨r9, ms8, rfl, rfl, w⟩ := q9
            refine jr_callS (pc := 106) (As := [_]) F M (lw_S q3403 q3404 q143 q3405) dX3_hasWords_106 hM_isBlank.2 rfl (Nat.le_of_ble_eq_true rfl) (Nat.le_of_ble_eq_true rfl) (Nat.le_of_ble_eq_true rfl) (Nat.zero_le _) (cM_isBlank S hs w) (fun v9 h9 q9 => ?_) (fun _ _ _ q9 => q9.elim)
            obtain ⟨r11, ms10, rfl, rfl, w⟩ := q9
            obtain ⟨hx9, w1, w2⟩ := w
            refine jr_if_eq (pc := 109) (tgt := 116) F hx9 dX3_hasWords_109 rfl (fun c9 => ?_) (fun c9 => ?_)
            · have w := w1 c9
              refine jj_J.sub [0, 1, 2, 4, 5, 6] rfl ?_
              exact sM_hasWords_j116 F M S hs hQ _ _ hK10 _ _ _ _ w
            · have w := w2 c9
              refine jj_J.sub [0, 1, 2, 4, 5, 6] rfl ?_
              exact sM_hasWords_j112 F M S hs hQ _ _ hK10 _ _ _ _ w
    · have w := w2 c9
      refine jr_iload (pc := 38) F (j := 4) dX3_hasWords_38 rfl ?_
      refine jr_iload (pc := 40) F (j := 5) dX3_hasWords_40 rfl ?_
      refine jr_isub (pc := 42) F dX3_hasWords_42 ?_
      refine jr_bipush (pc := 43) F dX3_hasWords_43 (by decide +kernel) ?_
      obtain ⟨hx9, w1, w2⟩ := w
      refine jr_icmp_ge (pc := 45) (tgt := 69) F hx9 ⟨by decide, by decide⟩ dX3_hasWords_45 rfl (fun c9 => ?_) (fun c9 => ?_)
      · have w := w1 c9
        refine jr_lload (pc := 69) F (j := 6) dX3_hasWords_69 rfl ?_
        refine jr_lstore (pc := 71) F (vs' := [(6, .inr (.inl _)), (0, .inr (.inr (.inl _))), (1, .inl _), (2, .inl _), (3, .inl _), (4, .inl _), (5, .inl _)]) dX3_hasWords_71 (Nat.le_of_ble_eq_true rfl) rfl ?_
        have w := w _ rfl
        refine jr_iinc (pc := 73) F (j := 5) (vs' := [(4, .inl _), (6, .inr (.inl _)), (0, .inr (.inr (.inl _))), (1, .inl _), (2, .inl _), (3, .inl _), (5, .inl _)]) dX3_hasWords_73 rfl rfl (Nat.le_of_ble_eq_true rfl) rfl ?_
        refine jr_goto (pc := 76) (tgt := 26) F dX3_hasWords_76 rfl ?_
        refine jj_J.sub [2, 3, 4, 5, 0, 6, 1] rfl ?_
        exact ih _ _ _ w
      · have w := w2 c9
        refine jr_ldc2 (pc := 48) F (x := 27) q3401 dX3_hasWords_48 (by decide +kernel) ?_
        refine jr_lload (pc := 51) F (j := 6) dX3_hasWords_51 rfl ?_
        refine jr_lmul (pc := 53) F dX3_hasWords_53 ?_
        refine jr_aload_n (pc := 54) F (j := 0) dX3_hasWords_54 rfl ?_
        refine jr_iload (pc := 55) F (j := 4) dX3_hasWords_55 rfl ?_
        refine jr_callV (pc := 57) (As := [_]) F M (lw_V q3394 q3396 qs69 q143 q3397) dX3_hasWords_57 hM_byteAt rfl (Nat.le_of_ble_eq_true rfl) (Nat.le_of_ble_eq_true rfl) (Nat.le_of_ble_eq_true rfl) (jj_set_self _ _ _) rfl rfl (Nat.zero_le _) (cM_byteAt S hs w) (fun v9 h9 q9 => ?_) (fun _ _ _ q9 => q9.elim)
        obtain ⟨r14, ms13, rfl, rfl, w⟩ := q9
        refine jr_i2l (pc := 60) F dX3_hasWords_60 ?_
        refine jr_ladd (pc := 61) F dX3_hasWords_61 ?_
        refine jr_ldc2 (pc := 62) F (x := 96) q3402 dX3_hasWords_62 (by decide +kernel) ?_
        refine jr_lsub (pc := 65) F dX3_hasWords_65 ?_
        refine jr_goto (pc := 66) (tgt := 71) F dX3_hasWords_66 rfl ?_
        have w := w _ rfl
        refine jr_lstore (pc := 71) F (vs' := [(6, .inr (.inl _)), (0, .inr (.inr (.inl _))), (1, .inl _), (2, .inl _), (3, .inl _), (4, .inl _), (5, .inl _)]) dX3_hasWords_71 (Nat.le_of_ble_eq_true rfl) rfl ?_
        have w := w _ rfl
        refine jr_iinc (pc := 73) F (j := 5) (vs' := [(4, .inl _), (6, .inr (.inl _)), (0, .inr (.inr (.inl _))), (1, .inl _), (2, .inl _), (3, .inl _), (5, .inl _)]) dX3_hasWords_73 rfl rfl (Nat.le_of_ble_eq_true rfl) rfl ?_
        refine jr_goto (pc := 76) (tgt := 26) F dX3_hasWords_76 rfl ?_
        refine jj_J.sub [2, 3, 4, 5, 0, 6, 1] rfl ?_
        exact ih _ _ _ w

theorem sM_hasWords_l10 {X : jj_X} {h0 : jj_H} {m0 k : Nat} {N : Option jj_AV → jj_H → Prop} {XN : String → Nat → jj_H → Prop} (F : jj_F X RX3 cX3_hasWords 8) (M : jj_M X (some (.boolean)) 2 42 N XN) (S : jj_GS X.1 X.2.2.1) (hs : jj_hs X.1 h0 m0) {Q : Int → jj_MS → Prop} (hQ : ∀ r ms, Q r ms → N (some (.inl r)) (jj_mh h0 m0 ms)) (x1 : Int) (x2 : Int) : ∀ (n : Nat) (x3 : Int) (x4 : Int) (ms : jj_MS), fM_hasWords_l10 x1 x2 Q n x3 x4 ms → jj_J X 8 10 [(0, .inr (.inr (.inl (some m0)))), (1, .inl x1), (2, .inl x2), (3, .inl x3), (4, .inl x4)] [] (jj_mh h0 m0 ms) k := by
  intro n
  induction n with
  | zero =>
    intro x3 x4 ms w
    exact (show False from w).elim
  | succ n ih =>
    intro x3 x4 ms w
    rw [fM_hasWords_l10] at w
    refine jr_iload (pc := 10) F (j := 4) dX3_hasWords_10 rfl ?_
    refine jr_aload_n (pc := 12) F (j := 0) dX3_hasWords_12 rfl ?_
    refine jm_get (pc := 13) (f := 9) (v := .inl _) F (Nat.le_of_ble_eq_true rfl) q3139 rfl rfl dX3_hasWords_13 ?_
    obtain ⟨hx9, hy9, w1, w2⟩ := w
    refine jr_icmp_ge (pc := 16) (tgt := 155) F hx9 hy9 dX3_hasWords_16 rfl (fun c9 => ?_) (fun c9 => ?_)
    · have w := w1 c9
      refine jr_iload_n (pc := 155) F (j := 3) dX3_hasWords_155 rfl ?_
      obtain ⟨hx9, w1, w2⟩ := w
      refine jr_if_eq (pc := 156) (tgt := 175) F hx9 dX3_hasWords_156 rfl (fun c9 => ?_) (fun c9 => ?_)
      · have w := w1 c9
        refine jr_iconst (pc := 175) F dX3_hasWords_175 ?_
        exact jr_zret (pc := 176) F M dX3_hasWords_176 (by decide) (hQ _ _ w)
      · have w := w2 c9
        refine jr_aload_n (pc := 159) F (j := 0) dX3_hasWords_159 rfl ?_
        refine jm_get (pc := 160) (f := 11) (v := .inl _) F (Nat.le_of_ble_eq_true rfl) q3141 rfl rfl dX3_hasWords_160 ?_
        refine jr_iload_n (pc := 163) F (j := 1) dX3_hasWords_163 rfl ?_
        refine jr_iload_n (pc := 164) F (j := 2) dX3_hasWords_164 rfl ?_
        refine jr_callS (pc := 165) (As := [_, _, _]) F M (lw_S q3284 q3285 q143 q3286) dX3_hasWords_165 hM_isBetween.2 rfl (Nat.le_of_ble_eq_true rfl) (Nat.le_of_ble_eq_true rfl) (Nat.le_of_ble_eq_true rfl) (Nat.zero_le _) (cM_isBetween S hs w) (fun v9 h9 q9 => ?_) (fun _ _ _ q9 => q9.elim)
        obtain ⟨r18, ms17, rfl, rfl, w⟩ := q9
        obtain ⟨hx9, w1, w2⟩ := w
        refine jr_if_eq (pc := 168) (tgt := 175) F hx9 dX3_hasWords_168 rfl (fun c9 => ?_) (fun c9 => ?_)
        · have w := w1 c9
          refine jr_iconst (pc := 175) F dX3_hasWords_175 ?_
          exact jr_zret (pc := 176) F M dX3_hasWords_176 (by decide) (hQ _ _ w)
        · have w := w2 c9
          refine jr_iconst (pc := 171) F dX3_hasWords_171 ?_
          refine jr_goto (pc := 172) (tgt := 176) F dX3_hasWords_172 rfl ?_
          exact jr_zret (pc := 176) F M dX3_hasWords_176 (by decide) (hQ _ _ w)
    · have w := w2 c9
      refine jr_iload (pc := 19) F (j := 4) dX3_hasWords_19 rfl ?_
      refine jr_istore (pc := 21) F (vs' := [(5, .inl _), (0, .inr (.inr (.inl _))), (1, .inl _), (2, .inl _), (3, .inl _), (4, .inl _)]) dX3_hasWords_21 (Nat.le_of_ble_eq_true rfl) rfl ?_
      refine jr_lconst (pc := 23) F (x := 0) dX3_hasWords_23 (by decide +kernel) ?_
      refine jr_lstore (pc := 24) F (vs' := [(6, .inr (.inl _)), (5, .inl _), (0, .inr (.inr (.inl _))), (1, .inl _), (2, .inl _), (3, .inl _), (4, .inl _)]) dX3_hasWords_24 (Nat.le_of_ble_eq_true rfl) rfl ?_
      refine jj_J.sub [2, 3, 4, 5, 6, 1, 0] rfl ?_
      obtain ⟨n9, w⟩ := w
      exact sM_hasWords_l26 F M S hs hQ _ _ _ _ ih n9 _ _ _ w

theorem sM_hasWords {X : jj_X} {h0 : jj_H} {m0 k : Nat} {N : Option jj_AV → jj_H → Prop} {XN : String → Nat → jj_H → Prop} (F : jj_F X RX3 cX3_hasWords 8) (M : jj_M X (some (.boolean)) 2 42 N XN) (S : jj_GS X.1 X.2.2.1) (hs : jj_hs X.1 h0 m0) {Q : Int → jj_MS → Prop} (hQ : ∀ r ms, Q r ms → N (some (.inl r)) (jj_mh h0 m0 ms)) : ∀ (x1 : Int) (x2 : Int) (ms : jj_MS), fM_hasWords x1 x2 Q ms → jj_J X 8 0 [(0, .inr (.inr (.inl (some m0)))), (1, .inl x1), (2, .inl x2)] [] (jj_mh h0 m0 ms) k := by
  intro x1 x2 ms w
  unfold fM_hasWords at w
  refine jr_iconst (pc := 0) F dX3_hasWords_0 ?_
  refine jr_istore_n (pc := 1) F (vs' := [(3, .inl _), (0, .inr (.inr (.inl _))), (1, .inl _), (2, .inl _)]) dX3_hasWords_1 (Nat.le_of_ble_eq_true rfl) rfl ?_
  refine jr_iconst (pc := 2) F dX3_hasWords_2 ?_
  refine jr_istore (pc := 3) F (vs' := [(4, .inl _), (3, .inl _), (0, .inr (.inr (.inl _))), (1, .inl _), (2, .inl _)]) dX3_hasWords_3 (Nat.le_of_ble_eq_true rfl) rfl ?_
  refine jr_aload_n (pc := 5) F (j := 2) dX3_hasWords_5 rfl ?_
  refine jr_iconst (pc := 6) F dX3_hasWords_6 ?_
  have w := w _ rfl
  refine jm_put (pc := 7) (f := 11) F (Nat.le_of_ble_eq_true rfl) q3141 rfl rfl rfl rfl rfl rfl dX3_hasWords_7 ?_
  refine jj_J.sub [2, 3, 4, 1, 0] rfl ?_
  obtain ⟨n9, w⟩ := w
  exact sM_hasWords_l10 F M S hs hQ _ _ n9 _ _ _ w

theorem cM_hasWords {G : jj_G} {l : Launch} (S : jj_GS G l) {h0 : jj_H} {m0 : Nat} (hs : jj_hs G h0 m0) {x1 : Int} {x2 : Int} {ms : jj_MS} {Q : Int → jj_MS → Prop} (w : fM_hasWords x1 x2 Q ms) : jj_Ct G l yX3_hasWords (ws_ yX3_hasWords cX3_hasWords 8 (some (.boolean))) 2 42 [.inr (.inr (.inl (some m0))), .inl x1, .inl x2] (jj_mh h0 m0 ms) 0 (jm_Ni h0 m0 Q) jj_F0 := by
  refine jj_Ct.of S.1 (by decide +kernel) (Nat.le_of_ble_eq_true rfl) rfl (fun X hG hl F M O hnm => ?_)
  subst hG; subst hl
  exact sM_hasWords F M S hs (fun r ms q => ⟨r, ms, rfl, rfl, q⟩) _ _ _ w
theorem hM_hasWords : yX3_hasWords.cls = RX3 ∧ yX3_hasWords.cls ≠ "java/lang/invoke/MethodHandle" ∧ yX3_hasWords.cls ≠ "java/lang/invoke/VarHandle" ∧ (parseMethodDescriptor yX3_hasWords.desc).map (fun d => d.parameters.length) = some 2 := by decide +kernel
/-! isLayout(II)Z -/
def fM_isLayout (x0 : Int) (x1 : Int) (Q : Int → jj_MS → Prop) (ms : jj_MS) : Prop :=
  fM_isBetween x0 8 60 (fun r2 ms1 =>
  jj_r r2 ∧ (r2 = 0 → (
    Q 0 ms1)) ∧
  (¬ r2 = 0 → (
    fM_isBetween x1 1 40 (fun r4 ms3 =>
    jj_r r4 ∧ (r4 = 0 → (
      Q 0 ms3)) ∧
    (¬ r4 = 0 → (
      Q 1 ms3))) ms1))) ms

theorem sM_isLayout {X : jj_X} {h0 : jj_H} {m0 k : Nat} {N : Option jj_AV → jj_H → Prop} {XN : String → Nat → jj_H → Prop} (F : jj_F X RX3 cX3_isLayout 2) (M : jj_M X (some (.boolean)) 1 22 N XN) (S : jj_GS X.1 X.2.2.1) (hs : jj_hs X.1 h0 m0) {Q : Int → jj_MS → Prop} (hQ : ∀ r ms, Q r ms → N (some (.inl r)) (jj_mh h0 m0 ms)) : ∀ (x0 : Int) (x1 : Int) (ms : jj_MS), fM_isLayout x0 x1 Q ms → jj_J X 2 0 [(0, .inl x0), (1, .inl x1)] [] (jj_mh h0 m0 ms) k := by
  intro x0 x1 ms w
  unfold fM_isLayout at w
  refine jr_iload_n (pc := 0) F (j := 0) dX3_isLayout_0 rfl ?_
  refine jr_bipush (pc := 1) F dX3_isLayout_1 (by decide +kernel) ?_
  refine jr_bipush (pc := 3) F dX3_isLayout_3 (by decide +kernel) ?_
  refine jr_callS (pc := 5) (As := [_, _, _]) F M (lw_S q3284 q3285 q143 q3286) dX3_isLayout_5 hM_isBetween.2 rfl (Nat.le_of_ble_eq_true rfl) (Nat.le_of_ble_eq_true rfl) (Nat.le_of_ble_eq_true rfl) (Nat.zero_le _) (cM_isBetween S hs w) (fun v9 h9 q9 => ?_) (fun _ _ _ q9 => q9.elim)
  obtain ⟨r2, ms1, rfl, rfl, w⟩ := q9
  obtain ⟨hx9, w1, w2⟩ := w
  refine jr_if_eq (pc := 8) (tgt := 25) F hx9 dX3_isLayout_8 rfl (fun c9 => ?_) (fun c9 => ?_)
  · have w := w1 c9
    refine jr_iconst (pc := 25) F dX3_isLayout_25 ?_
    exact jr_zret (pc := 26) F M dX3_isLayout_26 (by decide) (hQ _ _ w)
  · have w := w2 c9
    refine jr_iload_n (pc := 11) F (j := 1) dX3_isLayout_11 rfl ?_
    refine jr_iconst (pc := 12) F dX3_isLayout_12 ?_
    refine jr_bipush (pc := 13) F dX3_isLayout_13 (by decide +kernel) ?_
    refine jr_callS (pc := 15) (As := [_, _, _]) F M (lw_S q3284 q3285 q143 q3286) dX3_isLayout_15 hM_isBetween.2 rfl (Nat.le_of_ble_eq_true rfl) (Nat.le_of_ble_eq_true rfl) (Nat.le_of_ble_eq_true rfl) (Nat.zero_le _) (cM_isBetween S hs w) (fun v9 h9 q9 => ?_) (fun _ _ _ q9 => q9.elim)
    obtain ⟨r4, ms3, rfl, rfl, w⟩ := q9
    obtain ⟨hx9, w1, w2⟩ := w
    refine jr_if_eq (pc := 18) (tgt := 25) F hx9 dX3_isLayout_18 rfl (fun c9 => ?_) (fun c9 => ?_)
    · have w := w1 c9
      refine jr_iconst (pc := 25) F dX3_isLayout_25 ?_
      exact jr_zret (pc := 26) F M dX3_isLayout_26 (by decide) (hQ _ _ w)
    · have w := w2 c9
      refine jr_iconst (pc := 21) F dX3_isLayout_21 ?_
      refine jr_goto (pc := 22) (tgt := 26) F dX3_isLayout_22 rfl ?_
      exact jr_zret (pc := 26) F M dX3_isLayout_26 (by decide) (hQ _ _ w)

theorem cM_isLayout {G : jj_G} {l : Launch} (S : jj_GS G l) {h0 : jj_H} {m0 : Nat} (hs : jj_hs G h0 m0) {x0 : Int} {x1 : Int} {ms : jj_MS} {Q : Int → jj_MS → Prop} (w : fM_isLayout x0 x1 Q ms) : jj_Ct G l yX3_isLayout (ws_ yX3_isLayout cX3_isLayout 2 (some (.boolean))) 1 22 [.inl x0, .inl x1] (jj_mh h0 m0 ms) 0 (jm_Ni h0 m0 Q) jj_F0 := by
  refine jj_Ct.of S.1 (by decide +kernel) (Nat.le_of_ble_eq_true rfl) rfl (fun X hG hl F M O hnm => ?_)
  subst hG; subst hl
  exact sM_isLayout F M S hs (fun r ms q => ⟨r, ms, rfl, rfl, q⟩) _ _ _ w
theorem hM_isLayout : yX3_isLayout.cls = RX3 ∧ yX3_isLayout.cls ≠ "java/lang/invoke/MethodHandle" ∧ yX3_isLayout.cls ≠ "java/lang/invoke/VarHandle" ∧ (parseMethodDescriptor yX3_isLayout.desc).map (fun d => d.parameters.length) = some 2 := by decide +kernel
/-! addEdition(II)I -/
def fM_addEdition_j81 (K53 : Int → jj_MS → Prop) (x3 : Int) (x4 : Int) (y1 : Int) (y2 : Int) (y3 : Int) (Q : Int → jj_MS → Prop) (ms : jj_MS) : Prop :=
  fM_appendWord y1 y2 y3 (fun ms1 =>
  ∀ v3, v3 = x4 + 1 →
  K53 v3 ms1) ms

def fM_addEdition_l53 (x3 : Int) (Q : Int → jj_MS → Prop) : Nat → Int → jj_MS → Prop
  | 0, _, _ => False
  | n + 1, x4, ms =>
  jj_r x4 ∧ jj_r (ms.1 11) ∧ ((ms.1 11) ≤ x4 → (
    ∀ ms4, ms4 = jj_mI ms 9 0 →
    Q x3 ms4)) ∧
  (¬ (ms.1 11) ≤ x4 → (
    0 ≤ x4 ∧ x4 < 500 ∧
    jj_r x4 ∧ (¬ x4 = 0 → (
      fM_addEdition_j81 (fM_addEdition_l53 x3 Q n) x3 x4 x3 (ms.2 10 x4) 0 Q ms)) ∧
    (x4 = 0 → (
      fM_addEdition_j81 (fM_addEdition_l53 x3 Q n) x3 x4 x3 (ms.2 10 x4) 1 Q ms))))

def fM_addEdition_j23 (Q : Int → jj_MS → Prop) (ms : jj_MS) : Prop :=
  fM_fail 1 (fun r6 ms5 =>
  Q r6 ms5) ms

def fM_addEdition (x1 : Int) (x2 : Int) (Q : Int → jj_MS → Prop) (ms : jj_MS) : Prop :=
  ∀ ms7, ms7 = jj_mI ms 7 0 →
  fM_isLayout x1 x2 (fun r9 ms8 =>
  jj_r r9 ∧ (r9 = 0 → (
    fM_addEdition_j23 Q ms8)) ∧
  (¬ r9 = 0 → (
    fM_hasWords 1 120 (fun r11 ms10 =>
    jj_r r11 ∧ (¬ r11 = 0 → (
      fM_editions (fun r13 ms12 =>
      jj_r r13 ∧ (¬ r13 = 3 → (
        fM_beginEdition x1 x2 (fun r15 ms14 =>
        ∃ n9, fM_addEdition_l53 r15 Q n9 0 ms14) ms12)) ∧
      (r13 = 3 → (
        fM_fail 2 (fun r17 ms16 =>
        Q r17 ms16) ms12))) ms10)) ∧
    (r11 = 0 → (
      fM_addEdition_j23 Q ms10))) ms8))) ms7

theorem sM_addEdition_j81 {X : jj_X} {h0 : jj_H} {m0 k : Nat} {N : Option jj_AV → jj_H → Prop} {XN : String → Nat → jj_H → Prop} (F : jj_F X RX3 cX3_addEdition 5) (M : jj_M X (some (.int)) 3 69 N XN) (S : jj_GS X.1 X.2.2.1) (hs : jj_hs X.1 h0 m0) {Q : Int → jj_MS → Prop} (hQ : ∀ r ms, Q r ms → N (some (.inl r)) (jj_mh h0 m0 ms)) (x3 : Int) {K53 : Int → jj_MS → Prop} (hK53 : ∀ (z4 : Int) (ms : jj_MS), K53 z4 ms → jj_J X 5 53 [(0, .inr (.inr (.inl (some m0)))), (3, .inl x3), (4, .inl z4)] [] (jj_mh h0 m0 ms) k) : ∀ (x4 : Int) (y1 : Int) (y2 : Int) (y3 : Int) (ms : jj_MS), fM_addEdition_j81 K53 x3 x4 y1 y2 y3 Q ms → jj_J X 5 81 [(0, .inr (.inr (.inl (some m0)))), (3, .inl x3), (4, .inl x4)] [.inl y3, .inr (.inl y2), .inl y1, .inr (.inr (.inl (some m0)))] (jj_mh h0 m0 ms) k := by
  intro x4 y1 y2 y3 ms w
  unfold fM_addEdition_j81 at w
  refine jr_callV (pc := 81) (As := [_, _, _]) F M (lw_V q3410 q3412 qs71 q143 q3413) dX3_addEdition_81 hM_appendWord rfl (Nat.le_of_ble_eq_true rfl) (Nat.le_of_ble_eq_true rfl) (Nat.le_of_ble_eq_true rfl) (jj_set_self _ _ _) rfl rfl (Nat.zero_le _) (cM_appendWord S hs w) (fun v9 h9 q9 => ?_) (fun _ _ _ q9 => q9.elim)
  obtain ⟨ms1, rfl, rfl, w⟩ := q9
  have w := w _ rfl
  refine jr_iinc (pc := 84) F (j := 2) (vs' := [(4, .inl _), (0, .inr (.inr (.inl _))), (3, .inl _)]) dX3_addEdition_84 rfl rfl (Nat.le_of_ble_eq_true rfl) rfl ?_
  refine jr_goto (pc := 87) (tgt := 53) F dX3_addEdition_87 rfl ?_
  refine jj_J.sub [1, 2, 0] rfl ?_
  exact hK53 _ _ w

theorem sM_addEdition_l53 {X : jj_X} {h0 : jj_H} {m0 k : Nat} {N : Option jj_AV → jj_H → Prop} {XN : String → Nat → jj_H → Prop} (F : jj_F X RX3 cX3_addEdition 5) (M : jj_M X (some (.int)) 3 69 N XN) (S : jj_GS X.1 X.2.2.1) (hs : jj_hs X.1 h0 m0) {Q : Int → jj_MS → Prop} (hQ : ∀ r ms, Q r ms → N (some (.inl r)) (jj_mh h0 m0 ms)) (x3 : Int) : ∀ (n : Nat) (x4 : Int) (ms : jj_MS), fM_addEdition_l53 x3 Q n x4 ms → jj_J X 5 53 [(0, .inr (.inr (.inl (some m0)))), (3, .inl x3), (4, .inl x4)] [] (jj_mh h0 m0 ms) k := by
  intro n
  induction n with
  | zero =>
    intro x4 ms w
    exact (show False from w).elim
  | succ n ih =>
    intro x4 ms w
    rw [fM_addEdition_l53] at w
    refine jr_iload (pc := 53) F (j := 2) dX3_addEdition_53 rfl ?_
    refine jr_aload_n (pc := 55) F (j := 0) dX3_addEdition_55 rfl ?_
    refine jm_get (pc := 56) (f := 11) (v := .inl _) F (Nat.le_of_ble_eq_true rfl) q3141 rfl rfl dX3_addEdition_56 ?_
    obtain ⟨hx9, hy9, w1, w2⟩ := w
    refine jr_icmp_ge (pc := 59) (tgt := 90) F hx9 hy9 dX3_addEdition_59 rfl (fun c9 => ?_) (fun c9 => ?_)
    · have w := w1 c9
      refine jr_aload_n (pc := 90) F (j := 0) dX3_addEdition_90 rfl ?_
      refine jr_iconst (pc := 91) F dX3_addEdition_91 ?_
      have w := w _ rfl
      refine jm_put (pc := 92) (f := 9) F (Nat.le_of_ble_eq_true rfl) q3139 rfl rfl rfl rfl rfl rfl dX3_addEdition_92 ?_
      refine jr_iload_n (pc := 95) F (j := 1) dX3_addEdition_95 rfl ?_
      exact jr_iret (pc := 96) F M dX3_addEdition_96 (hQ _ _ w)
    · have w := w2 c9
      refine jr_aload_n (pc := 62) F (j := 0) dX3_addEdition_62 rfl ?_
      refine jr_iload_n (pc := 63) F (j := 1) dX3_addEdition_63 rfl ?_
      refine jr_aload_n (pc := 64) F (j := 0) dX3_addEdition_64 rfl ?_
      refine jm_get (pc := 65) (f := 10) (v := .inr (.inr (.inl (some (m0 + 1 + 8))))) F (Nat.le_of_ble_eq_true rfl) q3140 rfl rfl dX3_addEdition_65 ?_
      refine jr_iload (pc := 68) F (j := 2) dX3_addEdition_68 rfl ?_
      obtain ⟨hi1, hi2, w⟩ := w
      refine jm_lald (pc := 70) (f := 10) (o := 8) F rfl (by decide) hi1 hi2 dX3_addEdition_70 ?_
      refine jr_iload (pc := 71) F (j := 2) dX3_addEdition_71 rfl ?_
      obtain ⟨hx9, w1, w2⟩ := w
      refine jr_if_ne (pc := 73) (tgt := 80) F hx9 dX3_addEdition_73 rfl (fun c9 => ?_) (fun c9 => ?_)
      · have w := w1 c9
        refine jr_iconst (pc := 80) F dX3_addEdition_80 ?_
        exact sM_addEdition_j81 F M S hs hQ _ ih _ _ _ _ _ w
      · have w := w2 c9
        refine jr_iconst (pc := 76) F dX3_addEdition_76 ?_
        refine jr_goto (pc := 77) (tgt := 81) F dX3_addEdition_77 rfl ?_
        exact sM_addEdition_j81 F M S hs hQ _ ih _ _ _ _ _ w

theorem sM_addEdition_j23 {X : jj_X} {h0 : jj_H} {m0 k : Nat} {N : Option jj_AV → jj_H → Prop} {XN : String → Nat → jj_H → Prop} (F : jj_F X RX3 cX3_addEdition 5) (M : jj_M X (some (.int)) 3 69 N XN) (S : jj_GS X.1 X.2.2.1) (hs : jj_hs X.1 h0 m0) {Q : Int → jj_MS → Prop} (hQ : ∀ r ms, Q r ms → N (some (.inl r)) (jj_mh h0 m0 ms)) : ∀ (ms : jj_MS), fM_addEdition_j23 Q ms → jj_J X 5 23 [(0, .inr (.inr (.inl (some m0))))] [] (jj_mh h0 m0 ms) k := by
  intro  ms w
  unfold fM_addEdition_j23 at w
  refine jr_aload_n (pc := 23) F (j := 0) dX3_addEdition_23 rfl ?_
  refine jr_iconst (pc := 24) F dX3_addEdition_24 ?_
  refine jr_callV (pc := 25) (As := [_]) F M (lw_V q3276 q3278 qs46 q143 q3279) dX3_addEdition_25 hM_fail rfl (Nat.le_of_ble_eq_true rfl) (Nat.le_of_ble_eq_true rfl) (Nat.le_of_ble_eq_true rfl) (jj_set_self _ _ _) rfl rfl (Nat.zero_le _) (cM_fail S hs w) (fun v9 h9 q9 => ?_) (fun _ _ _ q9 => q9.elim)
  obtain ⟨r6, ms5, rfl, rfl, w⟩ := q9
  exact jr_iret (pc := 28) F M dX3_addEdition_28 (hQ _ _ w)

theorem sM_addEdition {X : jj_X} {h0 : jj_H} {m0 k : Nat} {N : Option jj_AV → jj_H → Prop} {XN : String → Nat → jj_H → Prop} (F : jj_F X RX3 cX3_addEdition 5) (M : jj_M X (some (.int)) 3 69 N XN) (S : jj_GS X.1 X.2.2.1) (hs : jj_hs X.1 h0 m0) {Q : Int → jj_MS → Prop} (hQ : ∀ r ms, Q r ms → N (some (.inl r)) (jj_mh h0 m0 ms)) : ∀ (x1 : Int) (x2 : Int) (ms : jj_MS), fM_addEdition x1 x2 Q ms → jj_J X 5 0 [(0, .inr (.inr (.inl (some m0)))), (1, .inl x1), (2, .inl x2)] [] (jj_mh h0 m0 ms) k := by
  intro x1 x2 ms w
  unfold fM_addEdition at w
  refine jr_aload_n (pc := 0) F (j := 0) dX3_addEdition_0 rfl ?_
  refine jr_iconst (pc := 1) F dX3_addEdition_1 ?_
  have w := w _ rfl
  refine jm_put (pc := 2) (f := 7) F (Nat.le_of_ble_eq_true rfl) q3137 rfl rfl rfl rfl rfl rfl dX3_addEdition_2 ?_
  refine jr_iload_n (pc := 5) F (j := 1) dX3_addEdition_5 rfl ?_
  refine jr_iload_n (pc := 6) F (j := 2) dX3_addEdition_6 rfl ?_
  refine jr_callS (pc := 7) (As := [_, _]) F M (lw_S q3387 q3388 q143 q3389) dX3_addEdition_7 hM_isLayout.2 rfl (Nat.le_of_ble_eq_true rfl) (Nat.le_of_ble_eq_true rfl) (Nat.le_of_ble_eq_true rfl) (Nat.zero_le _) (cM_isLayout S hs w) (fun v9 h9 q9 => ?_) (fun _ _ _ q9 => q9.elim)
  obtain ⟨r9, ms8, rfl, rfl, w⟩ := q9
  obtain ⟨hx9, w1, w2⟩ := w
  refine jr_if_eq (pc := 10) (tgt := 23) F hx9 dX3_addEdition_10 rfl (fun c9 => ?_) (fun c9 => ?_)
  · have w := w1 c9
    refine jj_J.sub [0] rfl ?_
    exact sM_addEdition_j23 F M S hs hQ _ w
  · have w := w2 c9
    refine jr_aload_n (pc := 13) F (j := 0) dX3_addEdition_13 rfl ?_
    refine jr_iconst (pc := 14) F dX3_addEdition_14 ?_
    refine jr_bipush (pc := 15) F dX3_addEdition_15 (by decide +kernel) ?_
    refine jr_callV (pc := 17) (As := [_, _]) F M (lw_V q3390 q3392 qs68 q143 q3393) dX3_addEdition_17 hM_hasWords rfl (Nat.le_of_ble_eq_true rfl) (Nat.le_of_ble_eq_true rfl) (Nat.le_of_ble_eq_true rfl) (jj_set_self _ _ _) rfl rfl (Nat.zero_le _) (cM_hasWords S hs w) (fun v9 h9 q9 => ?_) (fun _ _ _ q9 => q9.elim)
    obtain ⟨r11, ms10, rfl, rfl, w⟩ := q9
    obtain ⟨hx9, w1, w2⟩ := w
    refine jr_if_ne (pc := 20) (tgt := 29) F hx9 dX3_addEdition_20 rfl (fun c9 => ?_) (fun c9 => ?_)
    · have w := w1 c9
      refine jr_aload_n (pc := 29) F (j := 0) dX3_addEdition_29 rfl ?_
      refine jr_callV (pc := 30) (As := []) F M (lw_V q3299 q3301 qs49 q143 q3302) dX3_addEdition_30 hM_editions rfl (Nat.le_of_ble_eq_true rfl) (Nat.le_of_ble_eq_true rfl) (Nat.le_of_ble_eq_true rfl) (jj_set_self _ _ _) rfl rfl (Nat.zero_le _) (cM_editions S hs w) (fun v9 h9 q9 => ?_) (fun _ _ _ q9 => q9.elim)
      obtain ⟨r13, ms12, rfl, rfl, w⟩ := q9
      refine jr_iconst (pc := 33) F dX3_addEdition_33 ?_
      obtain ⟨hx9, w1, w2⟩ := w
      refine jr_icmp_ne (pc := 34) (tgt := 43) F hx9 ⟨by decide, by decide⟩ dX3_addEdition_34 rfl (fun c9 => ?_) (fun c9 => ?_)
      · have w := w1 c9
        refine jr_aload_n (pc := 43) F (j := 0) dX3_addEdition_43 rfl ?_
        refine jr_iload_n (pc := 44) F (j := 1) dX3_addEdition_44 rfl ?_
        refine jr_iload_n (pc := 45) F (j := 2) dX3_addEdition_45 rfl ?_
        refine jr_callV (pc := 46) (As := [_, _]) F M (lw_V q3406 q3408 qs70 q143 q3409) dX3_addEdition_46 hM_beginEdition rfl (Nat.le_of_ble_eq_true rfl) (Nat.le_of_ble_eq_true rfl) (Nat.le_of_ble_eq_true rfl) (jj_set_self _ _ _) rfl rfl (Nat.zero_le _) (cM_beginEdition S hs w) (fun v9 h9 q9 => ?_) (fun _ _ _ q9 => q9.elim)
        obtain ⟨r15, ms14, rfl, rfl, w⟩ := q9
        refine jr_istore_n (pc := 49) F (vs' := [(3, .inl _), (0, .inr (.inr (.inl _))), (1, .inl _), (2, .inl _)]) dX3_addEdition_49 (Nat.le_of_ble_eq_true rfl) rfl ?_
        refine jr_iconst (pc := 50) F dX3_addEdition_50 ?_
        refine jr_istore (pc := 51) F (vs' := [(4, .inl _), (3, .inl _), (0, .inr (.inr (.inl _))), (1, .inl _), (2, .inl _)]) dX3_addEdition_51 (Nat.le_of_ble_eq_true rfl) rfl ?_
        refine jj_J.sub [2, 1, 0] rfl ?_
        obtain ⟨n9, w⟩ := w
        exact sM_addEdition_l53 F M S hs hQ _ n9 _ _ w
      · have w := w2 c9
        refine jr_aload_n (pc := 37) F (j := 0) dX3_addEdition_37 rfl ?_
        refine jr_iconst (pc := 38) F dX3_addEdition_38 ?_
        refine jr_callV (pc := 39) (As := [_]) F M (lw_V q3276 q3278 qs46 q143 q3279) dX3_addEdition_39 hM_fail rfl (Nat.le_of_ble_eq_true rfl) (Nat.le_of_ble_eq_true rfl) (Nat.le_of_ble_eq_true rfl) (jj_set_self _ _ _) rfl rfl (Nat.zero_le _) (cM_fail S hs w) (fun v9 h9 q9 => ?_) (fun _ _ _ q9 => q9.elim)
        obtain ⟨r17, ms16, rfl, rfl, w⟩ := q9
        exact jr_iret (pc := 42) F M dX3_addEdition_42 (hQ _ _ w)
    · have w := w2 c9
      refine jj_J.sub [0] rfl ?_
      exact sM_addEdition_j23 F M S hs hQ _ w

theorem cM_addEdition {G : jj_G} {l : Launch} (S : jj_GS G l) {h0 : jj_H} {m0 : Nat} (hs : jj_hs G h0 m0) {x1 : Int} {x2 : Int} {ms : jj_MS} {Q : Int → jj_MS → Prop} (w : fM_addEdition x1 x2 Q ms) : jj_Ct G l yX3_addEdition (ws_ yX3_addEdition cX3_addEdition 5 (some (.int))) 3 69 [.inr (.inr (.inl (some m0))), .inl x1, .inl x2] (jj_mh h0 m0 ms) 0 (jm_Ni h0 m0 Q) jj_F0 := by
  refine jj_Ct.of S.1 (by decide +kernel) (Nat.le_of_ble_eq_true rfl) rfl (fun X hG hl F M O hnm => ?_)
  subst hG; subst hl
  exact sM_addEdition F M S hs (fun r ms q => ⟨r, ms, rfl, rfl, q⟩) _ _ _ w
theorem hM_addEdition : yX3_addEdition.cls = RX3 ∧ yX3_addEdition.cls ≠ "java/lang/invoke/MethodHandle" ∧ yX3_addEdition.cls ≠ "java/lang/invoke/VarHandle" ∧ (parseMethodDescriptor yX3_addEdition.desc).map (fun d => d.parameters.length) = some 2 := by decide +kernel
/-! isEdition(I)Z -/
def fM_isEdition (x1 : Int) (Q : Int → jj_MS → Prop) (ms : jj_MS) : Prop :=
  fM_editions (fun r2 ms1 =>
  fM_isBetween x1 0 (r2 - 1) (fun r4 ms3 =>
  (r4 = 0 ∨ r4 = 1) ∧ Q r4 ms3) ms1) ms

theorem sM_isEdition {X : jj_X} {h0 : jj_H} {m0 k : Nat} {N : Option jj_AV → jj_H → Prop} {XN : String → Nat → jj_H → Prop} (F : jj_F X RX3 cX3_isEdition 2) (M : jj_M X (some (.boolean)) 1 22 N XN) (S : jj_GS X.1 X.2.2.1) (hs : jj_hs X.1 h0 m0) {Q : Int → jj_MS → Prop} (hQ : ∀ r ms, Q r ms → N (some (.inl r)) (jj_mh h0 m0 ms)) : ∀ (x1 : Int) (ms : jj_MS), fM_isEdition x1 Q ms → jj_J X 2 0 [(0, .inr (.inr (.inl (some m0)))), (1, .inl x1)] [] (jj_mh h0 m0 ms) k := by
  intro x1 ms w
  unfold fM_isEdition at w
  refine jr_iload_n (pc := 0) F (j := 1) dX3_isEdition_0 rfl ?_
  refine jr_iconst (pc := 1) F dX3_isEdition_1 ?_
  refine jr_aload_n (pc := 2) F (j := 0) dX3_isEdition_2 rfl ?_
  refine jr_callV (pc := 3) (As := []) F M (lw_V q3299 q3301 qs49 q143 q3302) dX3_isEdition_3 hM_editions rfl (Nat.le_of_ble_eq_true rfl) (Nat.le_of_ble_eq_true rfl) (Nat.le_of_ble_eq_true rfl) (jj_set_self _ _ _) rfl rfl (Nat.zero_le _) (cM_editions S hs w) (fun v9 h9 q9 => ?_) (fun _ _ _ q9 => q9.elim)
  obtain ⟨r2, ms1, rfl, rfl, w⟩ := q9
  refine jr_iconst (pc := 6) F dX3_isEdition_6 ?_
  refine jr_isub (pc := 7) F dX3_isEdition_7 ?_
  refine jr_callS (pc := 8) (As := [_, _, _]) F M (lw_S q3284 q3285 q143 q3286) dX3_isEdition_8 hM_isBetween.2 rfl (Nat.le_of_ble_eq_true rfl) (Nat.le_of_ble_eq_true rfl) (Nat.le_of_ble_eq_true rfl) (Nat.zero_le _) (cM_isBetween S hs w) (fun v9 h9 q9 => ?_) (fun _ _ _ q9 => q9.elim)
  obtain ⟨r4, ms3, rfl, rfl, w⟩ := q9
  exact jr_zret (pc := 11) F M dX3_isEdition_11 w.1 (hQ _ _ w.2)

theorem cM_isEdition {G : jj_G} {l : Launch} (S : jj_GS G l) {h0 : jj_H} {m0 : Nat} (hs : jj_hs G h0 m0) {x1 : Int} {ms : jj_MS} {Q : Int → jj_MS → Prop} (w : fM_isEdition x1 Q ms) : jj_Ct G l yX3_isEdition (ws_ yX3_isEdition cX3_isEdition 2 (some (.boolean))) 1 22 [.inr (.inr (.inl (some m0))), .inl x1] (jj_mh h0 m0 ms) 0 (jm_Ni h0 m0 Q) jj_F0 := by
  refine jj_Ct.of S.1 (by decide +kernel) (Nat.le_of_ble_eq_true rfl) rfl (fun X hG hl F M O hnm => ?_)
  subst hG; subst hl
  exact sM_isEdition F M S hs (fun r ms q => ⟨r, ms, rfl, rfl, q⟩) _ _ w
theorem hM_isEdition : yX3_isEdition.cls = RX3 ∧ yX3_isEdition.cls ≠ "java/lang/invoke/MethodHandle" ∧ yX3_isEdition.cls ≠ "java/lang/invoke/VarHandle" ∧ (parseMethodDescriptor yX3_isEdition.desc).map (fun d => d.parameters.length) = some 1 := by decide +kernel
/-! beginsParagraph(II)Z -/
def fM_beginsParagraph (x1 : Int) (x2 : Int) (Q : Int → jj_MS → Prop) (ms : jj_MS) : Prop :=
  fM_wordPlace x1 x2 (fun r2 ms1 =>
  0 ≤ (14 + r2) ∧ (14 + r2) < 614 ∧
  jj_r (ms1.2 0 (14 + r2)) ∧ (¬ (ms1.2 0 (14 + r2)) = 1 → (
    Q 0 ms1)) ∧
  ((ms1.2 0 (14 + r2)) = 1 → (
    Q 1 ms1))) ms

theorem sM_beginsParagraph {X : jj_X} {h0 : jj_H} {m0 k : Nat} {N : Option jj_AV → jj_H → Prop} {XN : String → Nat → jj_H → Prop} (F : jj_F X RX3 cX3_beginsParagraph 3) (M : jj_M X (some (.boolean)) 1 21 N XN) (S : jj_GS X.1 X.2.2.1) (hs : jj_hs X.1 h0 m0) {Q : Int → jj_MS → Prop} (hQ : ∀ r ms, Q r ms → N (some (.inl r)) (jj_mh h0 m0 ms)) : ∀ (x1 : Int) (x2 : Int) (ms : jj_MS), fM_beginsParagraph x1 x2 Q ms → jj_J X 3 0 [(0, .inr (.inr (.inl (some m0)))), (1, .inl x1), (2, .inl x2)] [] (jj_mh h0 m0 ms) k := by
  intro x1 x2 ms w
  unfold fM_beginsParagraph at w
  refine jr_aload_n (pc := 0) F (j := 0) dX3_beginsParagraph_0 rfl ?_
  refine jm_get (pc := 1) (f := 0) (v := .inr (.inr (.inl (some (m0 + 1 + 0))))) F (Nat.le_of_ble_eq_true rfl) q3130 rfl rfl dX3_beginsParagraph_1 ?_
  refine jr_bipush (pc := 4) F dX3_beginsParagraph_4 (by decide +kernel) ?_
  refine jr_iload_n (pc := 6) F (j := 1) dX3_beginsParagraph_6 rfl ?_
  refine jr_iload_n (pc := 7) F (j := 2) dX3_beginsParagraph_7 rfl ?_
  refine jr_callS (pc := 8) (As := [_, _]) F M (lw_S q3327 q3328 q143 q3329) dX3_beginsParagraph_8 hM_wordPlace.2 rfl (Nat.le_of_ble_eq_true rfl) (Nat.le_of_ble_eq_true rfl) (Nat.le_of_ble_eq_true rfl) (Nat.zero_le _) (cM_wordPlace S hs w) (fun v9 h9 q9 => ?_) (fun _ _ _ q9 => q9.elim)
  obtain ⟨r2, ms1, rfl, rfl, w⟩ := q9
  refine jr_iadd (pc := 11) F dX3_beginsParagraph_11 ?_
  obtain ⟨hi1, hi2, w⟩ := w
  refine jm_iald (pc := 12) (f := 0) (o := 0) F rfl (by decide) hi1 hi2 dX3_beginsParagraph_12 ?_
  refine jr_iconst (pc := 13) F dX3_beginsParagraph_13 ?_
  obtain ⟨hx9, w1, w2⟩ := w
  refine jr_icmp_ne (pc := 14) (tgt := 21) F hx9 ⟨by decide, by decide⟩ dX3_beginsParagraph_14 rfl (fun c9 => ?_) (fun c9 => ?_)
  · have w := w1 c9
    refine jr_iconst (pc := 21) F dX3_beginsParagraph_21 ?_
    exact jr_zret (pc := 22) F M dX3_beginsParagraph_22 (by decide) (hQ _ _ w)
  · have w := w2 c9
    refine jr_iconst (pc := 17) F dX3_beginsParagraph_17 ?_
    refine jr_goto (pc := 18) (tgt := 22) F dX3_beginsParagraph_18 rfl ?_
    exact jr_zret (pc := 22) F M dX3_beginsParagraph_22 (by decide) (hQ _ _ w)

theorem cM_beginsParagraph {G : jj_G} {l : Launch} (S : jj_GS G l) {h0 : jj_H} {m0 : Nat} (hs : jj_hs G h0 m0) {x1 : Int} {x2 : Int} {ms : jj_MS} {Q : Int → jj_MS → Prop} (w : fM_beginsParagraph x1 x2 Q ms) : jj_Ct G l yX3_beginsParagraph (ws_ yX3_beginsParagraph cX3_beginsParagraph 3 (some (.boolean))) 1 21 [.inr (.inr (.inl (some m0))), .inl x1, .inl x2] (jj_mh h0 m0 ms) 0 (jm_Ni h0 m0 Q) jj_F0 := by
  refine jj_Ct.of S.1 (by decide +kernel) (Nat.le_of_ble_eq_true rfl) rfl (fun X hG hl F M O hnm => ?_)
  subst hG; subst hl
  exact sM_beginsParagraph F M S hs (fun r ms q => ⟨r, ms, rfl, rfl, q⟩) _ _ _ w
theorem hM_beginsParagraph : yX3_beginsParagraph.cls = RX3 ∧ yX3_beginsParagraph.cls ≠ "java/lang/invoke/MethodHandle" ∧ yX3_beginsParagraph.cls ≠ "java/lang/invoke/VarHandle" ∧ (parseMethodDescriptor yX3_beginsParagraph.desc).map (fun d => d.parameters.length) = some 2 := by decide +kernel
/-! lettersOf(J)I -/
def fM_lettersOf_l4 (Q : Int → jj_MS → Prop) : Nat → Int → Int → jj_MS → Prop
  | 0, _, _, _ => False
  | n + 1, x2, x3, ms =>
  jj_rl x3 ∧ (x3 ≤ 0 → (
    Q x2 ms)) ∧
  (¬ x3 ≤ 0 → (
    ∀ v1, v1 = jj_ldiv x3 27 →
    ∀ v2, v2 = x2 + 1 →
    fM_lettersOf_l4 Q n v2 v1 ms))

def fM_lettersOf (x0 : Int) (Q : Int → jj_MS → Prop) (ms : jj_MS) : Prop :=
  ∃ n9, fM_lettersOf_l4 Q n9 0 x0 ms

theorem sM_lettersOf_l4 {X : jj_X} {h0 : jj_H} {m0 k : Nat} {N : Option jj_AV → jj_H → Prop} {XN : String → Nat → jj_H → Prop} (F : jj_F X RX3 cX3_lettersOf 5) (M : jj_M X (some (.int)) 0 0 N XN) (S : jj_GS X.1 X.2.2.1) (hs : jj_hs X.1 h0 m0) {Q : Int → jj_MS → Prop} (hQ : ∀ r ms, Q r ms → N (some (.inl r)) (jj_mh h0 m0 ms)) : ∀ (n : Nat) (x2 : Int) (x3 : Int) (ms : jj_MS), fM_lettersOf_l4 Q n x2 x3 ms → jj_J X 5 4 [(2, .inl x2), (3, .inr (.inl x3))] [] (jj_mh h0 m0 ms) k := by
  intro n
  induction n with
  | zero =>
    intro x2 x3 ms w
    exact (show False from w).elim
  | succ n ih =>
    intro x2 x3 ms w
    rw [fM_lettersOf_l4] at w
    refine jr_lload_n (pc := 4) F (j := 1) dX3_lettersOf_4 rfl ?_
    refine jr_lconst (pc := 5) F (x := 0) dX3_lettersOf_5 (by decide +kernel) ?_
    obtain ⟨hx9, w1, w2⟩ := w
    refine jr_lc_le (pc := 6) (tgt := 22) F hx9 ⟨by decide, by decide⟩ dX3_lettersOf_6 dX3_lettersOf_7 rfl (fun c9 => ?_) (fun c9 => ?_)
    · have w := w1 c9
      refine jr_iload_n (pc := 22) F (j := 0) dX3_lettersOf_22 rfl ?_
      exact jr_iret (pc := 23) F M dX3_lettersOf_23 (hQ _ _ w)
    · have w := w2 c9
      refine jr_lload_n (pc := 10) F (j := 1) dX3_lettersOf_10 rfl ?_
      refine jr_ldc2 (pc := 11) F (x := 27) q3401 dX3_lettersOf_11 (by decide +kernel) ?_
      refine jr_ldiv (pc := 14) F dX3_lettersOf_14 ⟨⟨by decide, by decide⟩, by decide⟩ ?_
      have w := w _ rfl
      refine jr_lstore_n (pc := 15) F (vs' := [(3, .inr (.inl _)), (2, .inl _)]) dX3_lettersOf_15 (Nat.le_of_ble_eq_true rfl) rfl ?_
      have w := w _ rfl
      refine jr_iinc (pc := 16) F (j := 1) (vs' := [(2, .inl _), (3, .inr (.inl _))]) dX3_lettersOf_16 rfl rfl (Nat.le_of_ble_eq_true rfl) rfl ?_
      refine jr_goto (pc := 19) (tgt := 4) F dX3_lettersOf_19 rfl ?_
      exact ih _ _ _ w

theorem sM_lettersOf {X : jj_X} {h0 : jj_H} {m0 k : Nat} {N : Option jj_AV → jj_H → Prop} {XN : String → Nat → jj_H → Prop} (F : jj_F X RX3 cX3_lettersOf 5) (M : jj_M X (some (.int)) 0 0 N XN) (S : jj_GS X.1 X.2.2.1) (hs : jj_hs X.1 h0 m0) {Q : Int → jj_MS → Prop} (hQ : ∀ r ms, Q r ms → N (some (.inl r)) (jj_mh h0 m0 ms)) : ∀ (x0 : Int) (ms : jj_MS), fM_lettersOf x0 Q ms → jj_J X 5 0 [(0, .inr (.inl x0))] [] (jj_mh h0 m0 ms) k := by
  intro x0 ms w
  unfold fM_lettersOf at w
  refine jr_iconst (pc := 0) F dX3_lettersOf_0 ?_
  refine jr_istore_n (pc := 1) F (vs' := [(2, .inl _), (0, .inr (.inl _))]) dX3_lettersOf_1 (Nat.le_of_ble_eq_true rfl) rfl ?_
  refine jr_lload_n (pc := 2) F (j := 1) dX3_lettersOf_2 rfl ?_
  refine jr_lstore_n (pc := 3) F (vs' := [(3, .inr (.inl _)), (2, .inl _), (0, .inr (.inl _))]) dX3_lettersOf_3 (Nat.le_of_ble_eq_true rfl) rfl ?_
  refine jj_J.sub [1, 0] rfl ?_
  obtain ⟨n9, w⟩ := w
  exact sM_lettersOf_l4 F M S hs hQ n9 _ _ _ w

theorem cM_lettersOf {G : jj_G} {l : Launch} (S : jj_GS G l) {h0 : jj_H} {m0 : Nat} (hs : jj_hs G h0 m0) {x0 : Int} {ms : jj_MS} {Q : Int → jj_MS → Prop} (w : fM_lettersOf x0 Q ms) : jj_Ct G l yX3_lettersOf (ws_ yX3_lettersOf cX3_lettersOf 5 (some (.int))) 0 0 [.inr (.inl x0)] (jj_mh h0 m0 ms) 0 (jm_Ni h0 m0 Q) jj_F0 := by
  refine jj_Ct.of S.1 (by decide +kernel) (Nat.le_of_ble_eq_true rfl) rfl (fun X hG hl F M O hnm => ?_)
  subst hG; subst hl
  exact sM_lettersOf F M S hs (fun r ms q => ⟨r, ms, rfl, rfl, q⟩) _ _ w
theorem hM_lettersOf : yX3_lettersOf.cls = RX3 ∧ yX3_lettersOf.cls ≠ "java/lang/invoke/MethodHandle" ∧ yX3_lettersOf.cls ≠ "java/lang/invoke/VarHandle" ∧ (parseMethodDescriptor yX3_lettersOf.desc).map (fun d => d.parameters.length) = some 1 := by decide +kernel
/-! layOut(I)V -/
def fM_layOut_j74 (K10 : Int → Int → Int → Int → jj_MS → Prop) (x1 : Int) (x2 : Int) (x3 : Int) (x4 : Int) (x5 : Int) (x6 : Int) (Q : jj_MS → Prop) (ms : jj_MS) : Prop :=
  0 ≤ x5 ∧ x5 < 120 ∧
  ∀ ms1, ms1 = jj_mA ms 12 x5 x2 →
  0 ≤ x5 ∧ x5 < 120 ∧
  ∀ ms2, ms2 = jj_mA ms1 13 x5 x3 →
  0 ≤ x5 ∧ x5 < 120 ∧
  ∀ ms3, ms3 = jj_mA ms2 14 x5 x4 →
  ∀ v4, v4 = x3 + x6 →
  ∀ v5, v5 = x5 + 1 →
  K10 x2 v4 x4 v5 ms3

def fM_layOut_j57 (K10 : Int → Int → Int → Int → jj_MS → Prop) (x1 : Int) (x2 : Int) (x5 : Int) (x6 : Int) (Q : jj_MS → Prop) (ms : jj_MS) : Prop :=
  ∀ v6, v6 = x2 + 1 →
  fM_layOut_j74 K10 x1 v6 0 0 x5 x6 Q ms

def fM_layOut_l10 (x1 : Int) (Q : jj_MS → Prop) : Nat → Int → Int → Int → Int → jj_MS → Prop
  | 0, _, _, _, _, _ => False
  | n + 1, x2, x3, x4, x5, ms =>
  fM_sizeOf x1 (fun r8 ms7 =>
  jj_r x5 ∧ jj_r r8 ∧ (r8 ≤ x5 → (
    Q ms7)) ∧
  (¬ r8 ≤ x5 → (
    fM_wordOf x1 x5 (fun r10 ms9 =>
    fM_lettersOf r10 (fun r12 ms11 =>
    fM_beginsParagraph x1 x5 (fun r14 ms13 =>
    jj_r r14 ∧ (¬ r14 = 0 → (
      fM_layOut_j57 (fM_layOut_l10 x1 Q n) x1 x2 x5 r12 Q ms13)) ∧
    (r14 = 0 → (
      fM_ofEdition x1 1 (fun r16 ms15 =>
      jj_r ((x3 + 1) + r12) ∧ jj_r r16 ∧ (((x3 + 1) + r12) ≤ r16 → (
        ∀ v17, v17 = x3 + 1 →
        ∀ v18, v18 = x4 + 1 →
        fM_layOut_j74 (fM_layOut_l10 x1 Q n) x1 x2 v17 v18 x5 r12 Q ms15)) ∧
      (¬ ((x3 + 1) + r12) ≤ r16 → (
        fM_layOut_j57 (fM_layOut_l10 x1 Q n) x1 x2 x5 r12 Q ms15))) ms13))) ms11) ms9) ms7))) ms

def fM_layOut (x1 : Int) (Q : jj_MS → Prop) (ms : jj_MS) : Prop :=
  ∃ n9, fM_layOut_l10 x1 Q n9 ((-1)) 0 0 0 ms

theorem sM_layOut_j74 {X : jj_X} {h0 : jj_H} {m0 k : Nat} {N : Option jj_AV → jj_H → Prop} {XN : String → Nat → jj_H → Prop} (F : jj_F X RX3 cX3_layOut 7) (M : jj_M X (none) 2 43 N XN) (S : jj_GS X.1 X.2.2.1) (hs : jj_hs X.1 h0 m0) {Q : jj_MS → Prop} (hQ : ∀ ms, Q ms → N none (jj_mh h0 m0 ms)) (x1 : Int) {K10 : Int → Int → Int → Int → jj_MS → Prop} (hK10 : ∀ (z2 : Int) (z3 : Int) (z4 : Int) (z5 : Int) (ms : jj_MS), K10 z2 z3 z4 z5 ms → jj_J X 7 10 [(0, .inr (.inr (.inl (some m0)))), (1, .inl x1), (2, .inl z2), (3, .inl z3), (4, .inl z4), (5, .inl z5)] [] (jj_mh h0 m0 ms) k) : ∀ (x2 : Int) (x3 : Int) (x4 : Int) (x5 : Int) (x6 : Int) (ms : jj_MS), fM_layOut_j74 K10 x1 x2 x3 x4 x5 x6 Q ms → jj_J X 7 74 [(0, .inr (.inr (.inl (some m0)))), (1, .inl x1), (2, .inl x2), (3, .inl x3), (4, .inl x4), (5, .inl x5), (6, .inl x6)] [] (jj_mh h0 m0 ms) k := by
  intro x2 x3 x4 x5 x6 ms w
  unfold fM_layOut_j74 at w
  refine jr_aload_n (pc := 74) F (j := 0) dX3_layOut_74 rfl ?_
  refine jm_get (pc := 75) (f := 12) (v := .inr (.inr (.inl (some (m0 + 1 + 9))))) F (Nat.le_of_ble_eq_true rfl) q3142 rfl rfl dX3_layOut_75 ?_
  refine jr_iload (pc := 78) F (j := 5) dX3_layOut_78 rfl ?_
  refine jr_iload_n (pc := 80) F (j := 2) dX3_layOut_80 rfl ?_
  obtain ⟨hi1, hi2, w⟩ := w
  have w := w _ rfl
  refine jm_iast (pc := 81) (f := 12) (o := 9) F (Nat.le_of_ble_eq_true rfl) rfl (by decide) hi1 hi2 dX3_layOut_81 ?_
  refine jr_aload_n (pc := 82) F (j := 0) dX3_layOut_82 rfl ?_
  refine jm_get (pc := 83) (f := 13) (v := .inr (.inr (.inl (some (m0 + 1 + 10))))) F (Nat.le_of_ble_eq_true rfl) q3143 rfl rfl dX3_layOut_83 ?_
  refine jr_iload (pc := 86) F (j := 5) dX3_layOut_86 rfl ?_
  refine jr_iload_n (pc := 88) F (j := 3) dX3_layOut_88 rfl ?_
  obtain ⟨hi1, hi2, w⟩ := w
  have w := w _ rfl
  refine jm_iast (pc := 89) (f := 13) (o := 10) F (Nat.le_of_ble_eq_true rfl) rfl (by decide) hi1 hi2 dX3_layOut_89 ?_
  refine jr_aload_n (pc := 90) F (j := 0) dX3_layOut_90 rfl ?_
  refine jm_get (pc := 91) (f := 14) (v := .inr (.inr (.inl (some (m0 + 1 + 11))))) F (Nat.le_of_ble_eq_true rfl) q3144 rfl rfl dX3_layOut_91 ?_
  refine jr_iload (pc := 94) F (j := 5) dX3_layOut_94 rfl ?_
  refine jr_iload (pc := 96) F (j := 4) dX3_layOut_96 rfl ?_
  obtain ⟨hi1, hi2, w⟩ := w
  have w := w _ rfl
  refine jm_iast (pc := 98) (f := 14) (o := 11) F (Nat.le_of_ble_eq_true rfl) rfl (by decide) hi1 hi2 dX3_layOut_98 ?_
  refine jr_iload_n (pc := 99) F (j := 3) dX3_layOut_99 rfl ?_
  refine jr_iload (pc := 100) F (j := 6) dX3_layOut_100 rfl ?_
  refine jr_iadd (pc := 102) F dX3_layOut_102 ?_
  have w := w _ rfl
  refine jr_istore_n (pc := 103) F (vs' := [(3, .inl _), (0, .inr (.inr (.inl _))), (1, .inl _), (2, .inl _), (4, .inl _), (5, .inl _), (6, .inl _)]) dX3_layOut_103 (Nat.le_of_ble_eq_true rfl) rfl ?_
  have w := w _ rfl
  refine jr_iinc (pc := 104) F (j := 5) (vs' := [(5, .inl _), (3, .inl _), (0, .inr (.inr (.inl _))), (1, .inl _), (2, .inl _), (4, .inl _), (6, .inl _)]) dX3_layOut_104 rfl rfl (Nat.le_of_ble_eq_true rfl) rfl ?_
  refine jr_goto (pc := 107) (tgt := 10) F dX3_layOut_107 rfl ?_
  refine jj_J.sub [2, 3, 4, 1, 5, 0] rfl ?_
  exact hK10 _ _ _ _ _ w

theorem sM_layOut_j57 {X : jj_X} {h0 : jj_H} {m0 k : Nat} {N : Option jj_AV → jj_H → Prop} {XN : String → Nat → jj_H → Prop} (F : jj_F X RX3 cX3_layOut 7) (M : jj_M X (none) 2 43 N XN) (S : jj_GS X.1 X.2.2.1) (hs : jj_hs X.1 h0 m0) {Q : jj_MS → Prop} (hQ : ∀ ms, Q ms → N none (jj_mh h0 m0 ms)) (x1 : Int) {K10 : Int → Int → Int → Int → jj_MS → Prop} (hK10 : ∀ (z2 : Int) (z3 : Int) (z4 : Int) (z5 : Int) (ms : jj_MS), K10 z2 z3 z4 z5 ms → jj_J X 7 10 [(0, .inr (.inr (.inl (some m0)))), (1, .inl x1), (2, .inl z2), (3, .inl z3), (4, .inl z4), (5, .inl z5)] [] (jj_mh h0 m0 ms) k) : ∀ (x2 : Int) (x5 : Int) (x6 : Int) (ms : jj_MS), fM_layOut_j57 K10 x1 x2 x5 x6 Q ms → jj_J X 7 57 [(0, .inr (.inr (.inl (some m0)))), (1, .inl x1), (2, .inl x2), (5, .inl x5), (6, .inl x6)] [] (jj_mh h0 m0 ms) k := by
  intro x2 x5 x6 ms w
  unfold fM_layOut_j57 at w
  have w := w _ rfl
  refine jr_iinc (pc := 57) F (j := 2) (vs' := [(2, .inl _), (0, .inr (.inr (.inl _))), (1, .inl _), (5, .inl _), (6, .inl _)]) dX3_layOut_57 rfl rfl (Nat.le_of_ble_eq_true rfl) rfl ?_
  refine jr_iconst (pc := 60) F dX3_layOut_60 ?_
  refine jr_istore_n (pc := 61) F (vs' := [(3, .inl _), (2, .inl _), (0, .inr (.inr (.inl _))), (1, .inl _), (5, .inl _), (6, .inl _)]) dX3_layOut_61 (Nat.le_of_ble_eq_true rfl) rfl ?_
  refine jr_iconst (pc := 62) F dX3_layOut_62 ?_
  refine jr_istore (pc := 63) F (vs' := [(4, .inl _), (3, .inl _), (2, .inl _), (0, .inr (.inr (.inl _))), (1, .inl _), (5, .inl _), (6, .inl _)]) dX3_layOut_63 (Nat.le_of_ble_eq_true rfl) rfl ?_
  refine jr_goto (pc := 65) (tgt := 74) F dX3_layOut_65 rfl ?_
  refine jj_J.sub [3, 4, 2, 1, 0, 5, 6] rfl ?_
  exact sM_layOut_j74 F M S hs hQ _ hK10 _ _ _ _ _ _ w

theorem sM_layOut_l10 {X : jj_X} {h0 : jj_H} {m0 k : Nat} {N : Option jj_AV → jj_H → Prop} {XN : String → Nat → jj_H → Prop} (F : jj_F X RX3 cX3_layOut 7) (M : jj_M X (none) 2 43 N XN) (S : jj_GS X.1 X.2.2.1) (hs : jj_hs X.1 h0 m0) {Q : jj_MS → Prop} (hQ : ∀ ms, Q ms → N none (jj_mh h0 m0 ms)) (x1 : Int) : ∀ (n : Nat) (x2 : Int) (x3 : Int) (x4 : Int) (x5 : Int) (ms : jj_MS), fM_layOut_l10 x1 Q n x2 x3 x4 x5 ms → jj_J X 7 10 [(0, .inr (.inr (.inl (some m0)))), (1, .inl x1), (2, .inl x2), (3, .inl x3), (4, .inl x4), (5, .inl x5)] [] (jj_mh h0 m0 ms) k := by
  intro n
  induction n with
  | zero =>
    intro x2 x3 x4 x5 ms w
    exact (show False from w).elim
  | succ n ih =>
    intro x2 x3 x4 x5 ms w
    rw [fM_layOut_l10] at w
    refine jr_iload (pc := 10) F (j := 5) dX3_layOut_10 rfl ?_
    refine jr_aload_n (pc := 12) F (j := 0) dX3_layOut_12 rfl ?_
    refine jr_iload_n (pc := 13) F (j := 1) dX3_layOut_13 rfl ?_
    refine jr_callV (pc := 14) (As := [_]) F M (lw_V q3307 q3309 qs51 q143 q3310) dX3_layOut_14 hM_sizeOf rfl (Nat.le_of_ble_eq_true rfl) (Nat.le_of_ble_eq_true rfl) (Nat.le_of_ble_eq_true rfl) (jj_set_self _ _ _) rfl rfl (Nat.zero_le _) (cM_sizeOf S hs w) (fun v9 h9 q9 => ?_) (fun _ _ _ q9 => q9.elim)
    obtain ⟨r8, ms7, rfl, rfl, w⟩ := q9
    obtain ⟨hx9, hy9, w1, w2⟩ := w
    refine jr_icmp_ge (pc := 17) (tgt := 110) F hx9 hy9 dX3_layOut_17 rfl (fun c9 => ?_) (fun c9 => ?_)
    · have w := w1 c9
      exact jr_vret (pc := 110) F M dX3_layOut_110 (hQ _ w)
    · have w := w2 c9
      refine jr_aload_n (pc := 20) F (j := 0) dX3_layOut_20 rfl ?_
      refine jr_iload_n (pc := 21) F (j := 1) dX3_layOut_21 rfl ?_
      refine jr_iload (pc := 22) F (j := 5) dX3_layOut_22 rfl ?_
      refine jr_callV (pc := 24) (As := [_, _]) F M (lw_V q3323 q3325 qs55 q143 q3326) dX3_layOut_24 hM_wordOf rfl (Nat.le_of_ble_eq_true rfl) (Nat.le_of_ble_eq_true rfl) (Nat.le_of_ble_eq_true rfl) (jj_set_self _ _ _) rfl rfl (Nat.zero_le _) (cM_wordOf S hs w) (fun v9 h9 q9 => ?_) (fun _ _ _ q9 => q9.elim)
      obtain ⟨r10, ms9, rfl, rfl, w⟩ := q9
      refine jr_callS (pc := 27) (As := [_]) F M (lw_S q3426 q3427 q143 q3428) dX3_layOut_27 hM_lettersOf.2 rfl (Nat.le_of_ble_eq_true rfl) (Nat.le_of_ble_eq_true rfl) (Nat.le_of_ble_eq_true rfl) (Nat.zero_le _) (cM_lettersOf S hs w) (fun v9 h9 q9 => ?_) (fun _ _ _ q9 => q9.elim)
      obtain ⟨r12, ms11, rfl, rfl, w⟩ := q9
      refine jr_istore (pc := 30) F (vs' := [(6, .inl _), (0, .inr (.inr (.inl _))), (1, .inl _), (2, .inl _), (3, .inl _), (4, .inl _), (5, .inl _)]) dX3_layOut_30 (Nat.le_of_ble_eq_true rfl) rfl ?_
      refine jr_aload_n (pc := 32) F (j := 1) dX3_layOut_32 rfl ?_
      refine jr_iload_n (pc := 33) F (j := 2) dX3_layOut_33 rfl ?_
      refine jr_iload (pc := 34) F (j := 6) dX3_layOut_34 rfl ?_
      refine jr_callV (pc := 36) (As := [_, _]) F M (lw_V q3429 q3431 qs74 q143 q3432) dX3_layOut_36 hM_beginsParagraph rfl (Nat.le_of_ble_eq_true rfl) (Nat.le_of_ble_eq_true rfl) (Nat.le_of_ble_eq_true rfl) (jj_set_self _ _ _) rfl rfl (Nat.zero_le _) (cM_beginsParagraph S hs w) (fun v9 h9 q9 => ?_) (fun _ _ _ q9 => q9.elim)
      obtain ⟨r14, ms13, rfl, rfl, w⟩ := q9
      obtain ⟨hx9, w1, w2⟩ := w
      refine jr_if_ne (pc := 39) (tgt := 57) F hx9 dX3_layOut_39 rfl (fun c9 => ?_) (fun c9 => ?_)
      · have w := w1 c9
        refine jj_J.sub [1, 2, 3, 6, 0] rfl ?_
        exact sM_layOut_j57 F M S hs hQ _ ih _ _ _ _ w
      · have w := w2 c9
        refine jr_iload_n (pc := 42) F (j := 4) dX3_layOut_42 rfl ?_
        refine jr_iconst (pc := 43) F dX3_layOut_43 ?_
        refine jr_iadd (pc := 44) F dX3_layOut_44 ?_
        refine jr_iload (pc := 45) F (j := 0) dX3_layOut_45 rfl ?_
        refine jr_iadd (pc := 47) F dX3_layOut_47 ?_
        refine jr_aload_n (pc := 48) F (j := 1) dX3_layOut_48 rfl ?_
        refine jr_iload_n (pc := 49) F (j := 2) dX3_layOut_49 rfl ?_
        refine jr_iconst (pc := 50) F dX3_layOut_50 ?_
        refine jr_callV (pc := 51) (As := [_, _]) F M (lw_V q3311 q3313 qs52 q143 q3314) dX3_layOut_51 hM_ofEdition rfl (Nat.le_of_ble_eq_true rfl) (Nat.le_of_ble_eq_true rfl) (Nat.le_of_ble_eq_true rfl) (jj_set_self _ _ _) rfl rfl (Nat.zero_le _) (cM_ofEdition S hs w) (fun v9 h9 q9 => ?_) (fun _ _ _ q9 => q9.elim)
        obtain ⟨r16, ms15, rfl, rfl, w⟩ := q9
        obtain ⟨hx9, hy9, w1, w2⟩ := w
        refine jr_icmp_le (pc := 54) (tgt := 68) F hx9 hy9 dX3_layOut_54 rfl (fun c9 => ?_) (fun c9 => ?_)
        · have w := w1 c9
          have w := w _ rfl
          refine jr_iinc (pc := 68) F (j := 4) (vs' := [(3, .inl _), (6, .inl _), (0, .inr (.inr (.inl _))), (1, .inl _), (2, .inl _), (4, .inl _), (5, .inl _)]) dX3_layOut_68 rfl rfl (Nat.le_of_ble_eq_true rfl) rfl ?_
          have w := w _ rfl
          refine jr_iinc (pc := 71) F (j := 5) (vs' := [(4, .inl _), (3, .inl _), (6, .inl _), (0, .inr (.inr (.inl _))), (1, .inl _), (2, .inl _), (5, .inl _)]) dX3_layOut_71 rfl rfl (Nat.le_of_ble_eq_true rfl) rfl ?_
          refine jj_J.sub [3, 4, 5, 1, 0, 6, 2] rfl ?_
          exact sM_layOut_j74 F M S hs hQ _ ih _ _ _ _ _ _ w
        · have w := w2 c9
          refine jj_J.sub [1, 2, 3, 6, 0] rfl ?_
          exact sM_layOut_j57 F M S hs hQ _ ih _ _ _ _ w

theorem sM_layOut {X : jj_X} {h0 : jj_H} {m0 k : Nat} {N : Option jj_AV → jj_H → Prop} {XN : String → Nat → jj_H → Prop} (F : jj_F X RX3 cX3_layOut 7) (M : jj_M X (none) 2 43 N XN) (S : jj_GS X.1 X.2.2.1) (hs : jj_hs X.1 h0 m0) {Q : jj_MS → Prop} (hQ : ∀ ms, Q ms → N none (jj_mh h0 m0 ms)) : ∀ (x1 : Int) (ms : jj_MS), fM_layOut x1 Q ms → jj_J X 7 0 [(0, .inr (.inr (.inl (some m0)))), (1, .inl x1)] [] (jj_mh h0 m0 ms) k := by
  intro x1 ms w
  unfold fM_layOut at w
  refine jr_iconst (pc := 0) F dX3_layOut_0 ?_
  refine jr_istore_n (pc := 1) F (vs' := [(2, .inl _), (0, .inr (.inr (.inl _))), (1, .inl _)]) dX3_layOut_1 (Nat.le_of_ble_eq_true rfl) rfl ?_
  refine jr_iconst (pc := 2) F dX3_layOut_2 ?_
  refine jr_istore_n (pc := 3) F (vs' := [(3, .inl _), (2, .inl _), (0, .inr (.inr (.inl _))), (1, .inl _)]) dX3_layOut_3 (Nat.le_of_ble_eq_true rfl) rfl ?_
  refine jr_iconst (pc := 4) F dX3_layOut_4 ?_
  refine jr_istore (pc := 5) F (vs' := [(4, .inl _), (3, .inl _), (2, .inl _), (0, .inr (.inr (.inl _))), (1, .inl _)]) dX3_layOut_5 (Nat.le_of_ble_eq_true rfl) rfl ?_
  refine jr_iconst (pc := 7) F dX3_layOut_7 ?_
  refine jr_istore (pc := 8) F (vs' := [(5, .inl _), (4, .inl _), (3, .inl _), (2, .inl _), (0, .inr (.inr (.inl _))), (1, .inl _)]) dX3_layOut_8 (Nat.le_of_ble_eq_true rfl) rfl ?_
  refine jj_J.sub [4, 5, 3, 2, 1, 0] rfl ?_
  obtain ⟨n9, w⟩ := w
  exact sM_layOut_l10 F M S hs hQ _ n9 _ _ _ _ _ w

theorem cM_layOut {G : jj_G} {l : Launch} (S : jj_GS G l) {h0 : jj_H} {m0 : Nat} (hs : jj_hs G h0 m0) {x1 : Int} {ms : jj_MS} {Q : jj_MS → Prop} (w : fM_layOut x1 Q ms) : jj_Ct G l yX3_layOut (ws_ yX3_layOut cX3_layOut 7 (none)) 2 43 [.inr (.inr (.inl (some m0))), .inl x1] (jj_mh h0 m0 ms) 0 (jm_Nv h0 m0 Q) jj_F0 := by
  refine jj_Ct.of S.1 (by decide +kernel) (Nat.le_of_ble_eq_true rfl) rfl (fun X hG hl F M O hnm => ?_)
  subst hG; subst hl
  exact sM_layOut F M S hs (fun ms q => ⟨ms, rfl, rfl, q⟩) _ _ w
theorem hM_layOut : yX3_layOut.cls = RX3 ∧ yX3_layOut.cls ≠ "java/lang/invoke/MethodHandle" ∧ yX3_layOut.cls ≠ "java/lang/invoke/VarHandle" ∧ (parseMethodDescriptor yX3_layOut.desc).map (fun d => d.parameters.length) = some 1 := by decide +kernel
/-! linesOf(I)I -/
def fM_linesOf (x1 : Int) (Q : Int → jj_MS → Prop) (ms : jj_MS) : Prop :=
  fM_sizeOf x1 (fun r2 ms1 =>
  0 ≤ (r2 - 1) ∧ (r2 - 1) < 120 ∧
  Q ((ms1.2 12 (r2 - 1)) + 1) ms1) ms

theorem sM_linesOf {X : jj_X} {h0 : jj_H} {m0 k : Nat} {N : Option jj_AV → jj_H → Prop} {XN : String → Nat → jj_H → Prop} (F : jj_F X RX3 cX3_linesOf 2) (M : jj_M X (some (.int)) 2 43 N XN) (S : jj_GS X.1 X.2.2.1) (hs : jj_hs X.1 h0 m0) {Q : Int → jj_MS → Prop} (hQ : ∀ r ms, Q r ms → N (some (.inl r)) (jj_mh h0 m0 ms)) : ∀ (x1 : Int) (ms : jj_MS), fM_linesOf x1 Q ms → jj_J X 2 0 [(0, .inr (.inr (.inl (some m0)))), (1, .inl x1)] [] (jj_mh h0 m0 ms) k := by
  intro x1 ms w
  unfold fM_linesOf at w
  refine jr_aload_n (pc := 0) F (j := 0) dX3_linesOf_0 rfl ?_
  refine jm_get (pc := 1) (f := 12) (v := .inr (.inr (.inl (some (m0 + 1 + 9))))) F (Nat.le_of_ble_eq_true rfl) q3142 rfl rfl dX3_linesOf_1 ?_
  refine jr_aload_n (pc := 4) F (j := 0) dX3_linesOf_4 rfl ?_
  refine jr_iload_n (pc := 5) F (j := 1) dX3_linesOf_5 rfl ?_
  refine jr_callV (pc := 6) (As := [_]) F M (lw_V q3307 q3309 qs51 q143 q3310) dX3_linesOf_6 hM_sizeOf rfl (Nat.le_of_ble_eq_true rfl) (Nat.le_of_ble_eq_true rfl) (Nat.le_of_ble_eq_true rfl) (jj_set_self _ _ _) rfl rfl (Nat.zero_le _) (cM_sizeOf S hs w) (fun v9 h9 q9 => ?_) (fun _ _ _ q9 => q9.elim)
  obtain ⟨r2, ms1, rfl, rfl, w⟩ := q9
  refine jr_iconst (pc := 9) F dX3_linesOf_9 ?_
  refine jr_isub (pc := 10) F dX3_linesOf_10 ?_
  obtain ⟨hi1, hi2, w⟩ := w
  refine jm_iald (pc := 11) (f := 12) (o := 9) F rfl (by decide) hi1 hi2 dX3_linesOf_11 ?_
  refine jr_iconst (pc := 12) F dX3_linesOf_12 ?_
  refine jr_iadd (pc := 13) F dX3_linesOf_13 ?_
  exact jr_iret (pc := 14) F M dX3_linesOf_14 (hQ _ _ w)

theorem cM_linesOf {G : jj_G} {l : Launch} (S : jj_GS G l) {h0 : jj_H} {m0 : Nat} (hs : jj_hs G h0 m0) {x1 : Int} {ms : jj_MS} {Q : Int → jj_MS → Prop} (w : fM_linesOf x1 Q ms) : jj_Ct G l yX3_linesOf (ws_ yX3_linesOf cX3_linesOf 2 (some (.int))) 2 43 [.inr (.inr (.inl (some m0))), .inl x1] (jj_mh h0 m0 ms) 0 (jm_Ni h0 m0 Q) jj_F0 := by
  refine jj_Ct.of S.1 (by decide +kernel) (Nat.le_of_ble_eq_true rfl) rfl (fun X hG hl F M O hnm => ?_)
  subst hG; subst hl
  exact sM_linesOf F M S hs (fun r ms q => ⟨r, ms, rfl, rfl, q⟩) _ _ w
theorem hM_linesOf : yX3_linesOf.cls = RX3 ∧ yX3_linesOf.cls ≠ "java/lang/invoke/MethodHandle" ∧ yX3_linesOf.cls ≠ "java/lang/invoke/VarHandle" ∧ (parseMethodDescriptor yX3_linesOf.desc).map (fun d => d.parameters.length) = some 1 := by decide +kernel
/-! pagesOf(I)I -/
def fM_pagesOf (x1 : Int) (Q : Int → jj_MS → Prop) (ms : jj_MS) : Prop :=
  fM_linesOf x1 (fun r2 ms1 =>
  fM_ofEdition x1 2 (fun r4 ms3 =>
  fM_ofEdition x1 2 (fun r6 ms5 =>
  (jj_r r6 ∧ r6 ≠ 0) ∧
  Q (jj_div ((r2 + r4) - 1) r6) ms5) ms3) ms1) ms

theorem sM_pagesOf {X : jj_X} {h0 : jj_H} {m0 k : Nat} {N : Option jj_AV → jj_H → Prop} {XN : String → Nat → jj_H → Prop} (F : jj_F X RX3 cX3_pagesOf 2) (M : jj_M X (some (.int)) 3 64 N XN) (S : jj_GS X.1 X.2.2.1) (hs : jj_hs X.1 h0 m0) {Q : Int → jj_MS → Prop} (hQ : ∀ r ms, Q r ms → N (some (.inl r)) (jj_mh h0 m0 ms)) : ∀ (x1 : Int) (ms : jj_MS), fM_pagesOf x1 Q ms → jj_J X 2 0 [(0, .inr (.inr (.inl (some m0)))), (1, .inl x1)] [] (jj_mh h0 m0 ms) k := by
  intro x1 ms w
  unfold fM_pagesOf at w
  refine jr_aload_n (pc := 0) F (j := 0) dX3_pagesOf_0 rfl ?_
  refine jr_iload_n (pc := 1) F (j := 1) dX3_pagesOf_1 rfl ?_
  refine jr_callV (pc := 2) (As := [_]) F M (lw_V q3437 q3439 qs76 q143 q3440) dX3_pagesOf_2 hM_linesOf rfl (Nat.le_of_ble_eq_true rfl) (Nat.le_of_ble_eq_true rfl) (Nat.le_of_ble_eq_true rfl) (jj_set_self _ _ _) rfl rfl (Nat.zero_le _) (cM_linesOf S hs w) (fun v9 h9 q9 => ?_) (fun _ _ _ q9 => q9.elim)
  obtain ⟨r2, ms1, rfl, rfl, w⟩ := q9
  refine jr_aload_n (pc := 5) F (j := 0) dX3_pagesOf_5 rfl ?_
  refine jr_iload_n (pc := 6) F (j := 1) dX3_pagesOf_6 rfl ?_
  refine jr_iconst (pc := 7) F dX3_pagesOf_7 ?_
  refine jr_callV (pc := 8) (As := [_, _]) F M (lw_V q3311 q3313 qs52 q143 q3314) dX3_pagesOf_8 hM_ofEdition rfl (Nat.le_of_ble_eq_true rfl) (Nat.le_of_ble_eq_true rfl) (Nat.le_of_ble_eq_true rfl) (jj_set_self _ _ _) rfl rfl (Nat.zero_le _) (cM_ofEdition S hs w) (fun v9 h9 q9 => ?_) (fun _ _ _ q9 => q9.elim)
  obtain ⟨r4, ms3, rfl, rfl, w⟩ := q9
  refine jr_iadd (pc := 11) F dX3_pagesOf_11 ?_
  refine jr_iconst (pc := 12) F dX3_pagesOf_12 ?_
  refine jr_isub (pc := 13) F dX3_pagesOf_13 ?_
  refine jr_aload_n (pc := 14) F (j := 0) dX3_pagesOf_14 rfl ?_
  refine jr_iload_n (pc := 15) F (j := 1) dX3_pagesOf_15 rfl ?_
  refine jr_iconst (pc := 16) F dX3_pagesOf_16 ?_
  refine jr_callV (pc := 17) (As := [_, _]) F M (lw_V q3311 q3313 qs52 q143 q3314) dX3_pagesOf_17 hM_ofEdition rfl (Nat.le_of_ble_eq_true rfl) (Nat.le_of_ble_eq_true rfl) (Nat.le_of_ble_eq_true rfl) (jj_set_self _ _ _) rfl rfl (Nat.zero_le _) (cM_ofEdition S hs w) (fun v9 h9 q9 => ?_) (fun _ _ _ q9 => q9.elim)
  obtain ⟨r6, ms5, rfl, rfl, w⟩ := q9
  obtain ⟨hd9, w⟩ := w
  refine jr_idiv (pc := 20) F dX3_pagesOf_20 hd9 ?_
  exact jr_iret (pc := 21) F M dX3_pagesOf_21 (hQ _ _ w)

theorem cM_pagesOf {G : jj_G} {l : Launch} (S : jj_GS G l) {h0 : jj_H} {m0 : Nat} (hs : jj_hs G h0 m0) {x1 : Int} {ms : jj_MS} {Q : Int → jj_MS → Prop} (w : fM_pagesOf x1 Q ms) : jj_Ct G l yX3_pagesOf (ws_ yX3_pagesOf cX3_pagesOf 2 (some (.int))) 3 64 [.inr (.inr (.inl (some m0))), .inl x1] (jj_mh h0 m0 ms) 0 (jm_Ni h0 m0 Q) jj_F0 := by
  refine jj_Ct.of S.1 (by decide +kernel) (Nat.le_of_ble_eq_true rfl) rfl (fun X hG hl F M O hnm => ?_)
  subst hG; subst hl
  exact sM_pagesOf F M S hs (fun r ms q => ⟨r, ms, rfl, rfl, q⟩) _ _ w
theorem hM_pagesOf : yX3_pagesOf.cls = RX3 ∧ yX3_pagesOf.cls ≠ "java/lang/invoke/MethodHandle" ∧ yX3_pagesOf.cls ≠ "java/lang/invoke/VarHandle" ∧ (parseMethodDescriptor yX3_pagesOf.desc).map (fun d => d.parameters.length) = some 1 := by decide +kernel
/-! setLayout(III)I -/
def fM_setLayout (x1 : Int) (x2 : Int) (x3 : Int) (Q : Int → jj_MS → Prop) (ms : jj_MS) : Prop :=
  ∀ ms1, ms1 = jj_mI ms 7 0 →
  fM_isEdition x1 (fun r3 ms2 =>
  jj_r r3 ∧ (¬ r3 = 0 → (
    fM_isLayout x2 x3 (fun r5 ms4 =>
    jj_r r5 ∧ (¬ r5 = 0 → (
      0 ≤ ((5 + (3 * x1)) + 1) ∧ ((5 + (3 * x1)) + 1) < 614 ∧
      ∀ ms6, ms6 = jj_mA ms4 0 ((5 + (3 * x1)) + 1) x2 →
      0 ≤ ((5 + (3 * x1)) + 2) ∧ ((5 + (3 * x1)) + 2) < 614 ∧
      ∀ ms7, ms7 = jj_mA ms6 0 ((5 + (3 * x1)) + 2) x3 →
      fM_layOut x1 (fun ms8 =>
      fM_pagesOf x1 (fun r11 ms10 =>
      Q r11 ms10) ms8) ms7)) ∧
    (r5 = 0 → (
      fM_fail 2 (fun r13 ms12 =>
      Q r13 ms12) ms4))) ms2)) ∧
  (r3 = 0 → (
    fM_fail 1 (fun r15 ms14 =>
    Q r15 ms14) ms2))) ms1

theorem sM_setLayout {X : jj_X} {h0 : jj_H} {m0 k : Nat} {N : Option jj_AV → jj_H → Prop} {XN : String → Nat → jj_H → Prop} (F : jj_F X RX3 cX3_setLayout 4) (M : jj_M X (some (.int)) 4 85 N XN) (S : jj_GS X.1 X.2.2.1) (hs : jj_hs X.1 h0 m0) {Q : Int → jj_MS → Prop} (hQ : ∀ r ms, Q r ms → N (some (.inl r)) (jj_mh h0 m0 ms)) : ∀ (x1 : Int) (x2 : Int) (x3 : Int) (ms : jj_MS), fM_setLayout x1 x2 x3 Q ms → jj_J X 4 0 [(0, .inr (.inr (.inl (some m0)))), (1, .inl x1), (2, .inl x2), (3, .inl x3)] [] (jj_mh h0 m0 ms) k := by
  intro x1 x2 x3 ms w
  unfold fM_setLayout at w
  refine jr_aload_n (pc := 0) F (j := 0) dX3_setLayout_0 rfl ?_
  refine jr_iconst (pc := 1) F dX3_setLayout_1 ?_
  have w := w _ rfl
  refine jm_put (pc := 2) (f := 7) F (Nat.le_of_ble_eq_true rfl) q3137 rfl rfl rfl rfl rfl rfl dX3_setLayout_2 ?_
  refine jr_aload_n (pc := 5) F (j := 0) dX3_setLayout_5 rfl ?_
  refine jr_iload_n (pc := 6) F (j := 1) dX3_setLayout_6 rfl ?_
  refine jr_callV (pc := 7) (As := [_]) F M (lw_V q3418 q3420 qs72 q143 q3421) dX3_setLayout_7 hM_isEdition rfl (Nat.le_of_ble_eq_true rfl) (Nat.le_of_ble_eq_true rfl) (Nat.le_of_ble_eq_true rfl) (jj_set_self _ _ _) rfl rfl (Nat.zero_le _) (cM_isEdition S hs w) (fun v9 h9 q9 => ?_) (fun _ _ _ q9 => q9.elim)
  obtain ⟨r3, ms2, rfl, rfl, w⟩ := q9
  obtain ⟨hx9, w1, w2⟩ := w
  refine jr_if_ne (pc := 10) (tgt := 19) F hx9 dX3_setLayout_10 rfl (fun c9 => ?_) (fun c9 => ?_)
  · have w := w1 c9
    refine jr_iload_n (pc := 19) F (j := 2) dX3_setLayout_19 rfl ?_
    refine jr_iload_n (pc := 20) F (j := 3) dX3_setLayout_20 rfl ?_
    refine jr_callS (pc := 21) (As := [_, _]) F M (lw_S q3387 q3388 q143 q3389) dX3_setLayout_21 hM_isLayout.2 rfl (Nat.le_of_ble_eq_true rfl) (Nat.le_of_ble_eq_true rfl) (Nat.le_of_ble_eq_true rfl) (Nat.zero_le _) (cM_isLayout S hs w) (fun v9 h9 q9 => ?_) (fun _ _ _ q9 => q9.elim)
    obtain ⟨r5, ms4, rfl, rfl, w⟩ := q9
    obtain ⟨hx9, w1, w2⟩ := w
    refine jr_if_ne (pc := 24) (tgt := 33) F hx9 dX3_setLayout_24 rfl (fun c9 => ?_) (fun c9 => ?_)
    · have w := w1 c9
      refine jr_aload_n (pc := 33) F (j := 0) dX3_setLayout_33 rfl ?_
      refine jm_get (pc := 34) (f := 0) (v := .inr (.inr (.inl (some (m0 + 1 + 0))))) F (Nat.le_of_ble_eq_true rfl) q3130 rfl rfl dX3_setLayout_34 ?_
      refine jr_iconst (pc := 37) F dX3_setLayout_37 ?_
      refine jr_iconst (pc := 38) F dX3_setLayout_38 ?_
      refine jr_iload_n (pc := 39) F (j := 1) dX3_setLayout_39 rfl ?_
      refine jr_imul (pc := 40) F dX3_setLayout_40 ?_
      refine jr_iadd (pc := 41) F dX3_setLayout_41 ?_
      refine jr_iconst (pc := 42) F dX3_setLayout_42 ?_
      refine jr_iadd (pc := 43) F dX3_setLayout_43 ?_
      refine jr_iload_n (pc := 44) F (j := 2) dX3_setLayout_44 rfl ?_
      obtain ⟨hi1, hi2, w⟩ := w
      have w := w _ rfl
      refine jm_iast (pc := 45) (f := 0) (o := 0) F (Nat.le_of_ble_eq_true rfl) rfl (by decide) hi1 hi2 dX3_setLayout_45 ?_
      refine jr_aload_n (pc := 46) F (j := 0) dX3_setLayout_46 rfl ?_
      refine jm_get (pc := 47) (f := 0) (v := .inr (.inr (.inl (some (m0 + 1 + 0))))) F (Nat.le_of_ble_eq_true rfl) q3130 rfl rfl dX3_setLayout_47 ?_
      refine jr_iconst (pc := 50) F dX3_setLayout_50 ?_
      refine jr_iconst (pc := 51) F dX3_setLayout_51 ?_
      refine jr_iload_n (pc := 52) F (j := 1) dX3_setLayout_52 rfl ?_
      refine jr_imul (pc := 53) F dX3_setLayout_53 ?_
      refine jr_iadd (pc := 54) F dX3_setLayout_54 ?_
      refine jr_iconst (pc := 55) F dX3_setLayout_55 ?_
      refine jr_iadd (pc := 56) F dX3_setLayout_56 ?_
      refine jr_iload_n (pc := 57) F (j := 3) dX3_setLayout_57 rfl ?_
      obtain ⟨hi1, hi2, w⟩ := w
      have w := w _ rfl
      refine jm_iast (pc := 58) (f := 0) (o := 0) F (Nat.le_of_ble_eq_true rfl) rfl (by decide) hi1 hi2 dX3_setLayout_58 ?_
      refine jr_aload_n (pc := 59) F (j := 0) dX3_setLayout_59 rfl ?_
      refine jr_iload_n (pc := 60) F (j := 1) dX3_setLayout_60 rfl ?_
      refine jr_callV (pc := 61) (As := [_]) F M (lw_V q3422 q3424 qs73 q143 q3425) dX3_setLayout_61 hM_layOut rfl (Nat.le_of_ble_eq_true rfl) (Nat.le_of_ble_eq_true rfl) (Nat.le_of_ble_eq_true rfl) (jj_set_self _ _ _) rfl rfl (Nat.zero_le _) (cM_layOut S hs w) (fun v9 h9 q9 => ?_) (fun _ _ _ q9 => q9.elim)
      obtain ⟨ms8, rfl, rfl, w⟩ := q9
      refine jr_aload_n (pc := 64) F (j := 0) dX3_setLayout_64 rfl ?_
      refine jr_iload_n (pc := 65) F (j := 1) dX3_setLayout_65 rfl ?_
      refine jr_callV (pc := 66) (As := [_]) F M (lw_V q3433 q3435 qs75 q143 q3436) dX3_setLayout_66 hM_pagesOf rfl (Nat.le_of_ble_eq_true rfl) (Nat.le_of_ble_eq_true rfl) (Nat.le_of_ble_eq_true rfl) (jj_set_self _ _ _) rfl rfl (Nat.zero_le _) (cM_pagesOf S hs w) (fun v9 h9 q9 => ?_) (fun _ _ _ q9 => q9.elim)
      obtain ⟨r11, ms10, rfl, rfl, w⟩ := q9
      exact jr_iret (pc := 69) F M dX3_setLayout_69 (hQ _ _ w)
    · have w := w2 c9
      refine jr_aload_n (pc := 27) F (j := 0) dX3_setLayout_27 rfl ?_
      refine jr_iconst (pc := 28) F dX3_setLayout_28 ?_
      refine jr_callV (pc := 29) (As := [_]) F M (lw_V q3276 q3278 qs46 q143 q3279) dX3_setLayout_29 hM_fail rfl (Nat.le_of_ble_eq_true rfl) (Nat.le_of_ble_eq_true rfl) (Nat.le_of_ble_eq_true rfl) (jj_set_self _ _ _) rfl rfl (Nat.zero_le _) (cM_fail S hs w) (fun v9 h9 q9 => ?_) (fun _ _ _ q9 => q9.elim)
      obtain ⟨r13, ms12, rfl, rfl, w⟩ := q9
      exact jr_iret (pc := 32) F M dX3_setLayout_32 (hQ _ _ w)
  · have w := w2 c9
    refine jr_aload_n (pc := 13) F (j := 0) dX3_setLayout_13 rfl ?_
    refine jr_iconst (pc := 14) F dX3_setLayout_14 ?_
    refine jr_callV (pc := 15) (As := [_]) F M (lw_V q3276 q3278 qs46 q143 q3279) dX3_setLayout_15 hM_fail rfl (Nat.le_of_ble_eq_true rfl) (Nat.le_of_ble_eq_true rfl) (Nat.le_of_ble_eq_true rfl) (jj_set_self _ _ _) rfl rfl (Nat.zero_le _) (cM_fail S hs w) (fun v9 h9 q9 => ?_) (fun _ _ _ q9 => q9.elim)
    obtain ⟨r15, ms14, rfl, rfl, w⟩ := q9
    exact jr_iret (pc := 18) F M dX3_setLayout_18 (hQ _ _ w)

theorem cM_setLayout {G : jj_G} {l : Launch} (S : jj_GS G l) {h0 : jj_H} {m0 : Nat} (hs : jj_hs G h0 m0) {x1 : Int} {x2 : Int} {x3 : Int} {ms : jj_MS} {Q : Int → jj_MS → Prop} (w : fM_setLayout x1 x2 x3 Q ms) : jj_Ct G l yX3_setLayout (ws_ yX3_setLayout cX3_setLayout 4 (some (.int))) 4 85 [.inr (.inr (.inl (some m0))), .inl x1, .inl x2, .inl x3] (jj_mh h0 m0 ms) 0 (jm_Ni h0 m0 Q) jj_F0 := by
  refine jj_Ct.of S.1 (by decide +kernel) (Nat.le_of_ble_eq_true rfl) rfl (fun X hG hl F M O hnm => ?_)
  subst hG; subst hl
  exact sM_setLayout F M S hs (fun r ms q => ⟨r, ms, rfl, rfl, q⟩) _ _ _ _ w
theorem hM_setLayout : yX3_setLayout.cls = RX3 ∧ yX3_setLayout.cls ≠ "java/lang/invoke/MethodHandle" ∧ yX3_setLayout.cls ≠ "java/lang/invoke/VarHandle" ∧ (parseMethodDescriptor yX3_setLayout.desc).map (fun d => d.parameters.length) = some 3 := by decide +kernel
/-! edition(II)I -/
def fM_edition (x1 : Int) (x2 : Int) (Q : Int → jj_MS → Prop) (ms : jj_MS) : Prop :=
  ∀ ms1, ms1 = jj_mI ms 7 0 →
  fM_isEdition x1 (fun r3 ms2 =>
  jj_r r3 ∧ (¬ r3 = 0 → (
    fM_layOut x1 (fun ms4 =>
    jj_r x2 ∧
    (x2 = 0 → (
      fM_sizeOf x1 (fun r7 ms6 =>
      Q r7 ms6) ms4)) ∧
    (x2 = 1 → (
      fM_linesOf x1 (fun r9 ms8 =>
      Q r9 ms8) ms4)) ∧
    (x2 = 2 → (
      fM_pagesOf x1 (fun r11 ms10 =>
      Q r11 ms10) ms4)) ∧
    (x2 = 3 → (
      fM_ofEdition x1 1 (fun r13 ms12 =>
      Q r13 ms12) ms4)) ∧
    (x2 = 4 → (
      fM_ofEdition x1 2 (fun r15 ms14 =>
      Q r15 ms14) ms4)) ∧
    ((x2 < 0 ∨ 4 < x2) → (
      fM_fail 2 (fun r17 ms16 =>
      Q r17 ms16) ms4))) ms2)) ∧
  (r3 = 0 → (
    fM_fail 1 (fun r19 ms18 =>
    Q r19 ms18) ms2))) ms1

theorem sM_edition {X : jj_X} {h0 : jj_H} {m0 k : Nat} {N : Option jj_AV → jj_H → Prop} {XN : String → Nat → jj_H → Prop} (F : jj_F X RX3 cX3_edition 3) (M : jj_M X (some (.int)) 4 85 N XN) (S : jj_GS X.1 X.2.2.1) (hs : jj_hs X.1 h0 m0) {Q : Int → jj_MS → Prop} (hQ : ∀ r ms, Q r ms → N (some (.inl r)) (jj_mh h0 m0 ms)) : ∀ (x1 : Int) (x2 : Int) (ms : jj_MS), fM_edition x1 x2 Q ms → jj_J X 3 0 [(0, .inr (.inr (.inl (some m0)))), (1, .inl x1), (2, .inl x2)] [] (jj_mh h0 m0 ms) k := by
  intro x1 x2 ms w
  unfold fM_edition at w
  refine jr_aload_n (pc := 0) F (j := 0) dX3_edition_0 rfl ?_
  refine jr_iconst (pc := 1) F dX3_edition_1 ?_
  have w := w _ rfl
  refine jm_put (pc := 2) (f := 7) F (Nat.le_of_ble_eq_true rfl) q3137 rfl rfl rfl rfl rfl rfl dX3_edition_2 ?_
  refine jr_aload_n (pc := 5) F (j := 0) dX3_edition_5 rfl ?_
  refine jr_iload_n (pc := 6) F (j := 1) dX3_edition_6 rfl ?_
  refine jr_callV (pc := 7) (As := [_]) F M (lw_V q3418 q3420 qs72 q143 q3421) dX3_edition_7 hM_isEdition rfl (Nat.le_of_ble_eq_true rfl) (Nat.le_of_ble_eq_true rfl) (Nat.le_of_ble_eq_true rfl) (jj_set_self _ _ _) rfl rfl (Nat.zero_le _) (cM_isEdition S hs w) (fun v9 h9 q9 => ?_) (fun _ _ _ q9 => q9.elim)
  obtain ⟨r3, ms2, rfl, rfl, w⟩ := q9
  obtain ⟨hx9, w1, w2⟩ := w
  refine jr_if_ne (pc := 10) (tgt := 19) F hx9 dX3_edition_10 rfl (fun c9 => ?_) (fun c9 => ?_)
  · have w := w1 c9
    refine jr_aload_n (pc := 19) F (j := 0) dX3_edition_19 rfl ?_
    refine jr_iload_n (pc := 20) F (j := 1) dX3_edition_20 rfl ?_
    refine jr_callV (pc := 21) (As := [_]) F M (lw_V q3422 q3424 qs73 q143 q3425) dX3_edition_21 hM_layOut rfl (Nat.le_of_ble_eq_true rfl) (Nat.le_of_ble_eq_true rfl) (Nat.le_of_ble_eq_true rfl) (jj_set_self _ _ _) rfl rfl (Nat.zero_le _) (cM_layOut S hs w) (fun v9 h9 q9 => ?_) (fun _ _ _ q9 => q9.elim)
    obtain ⟨ms4, rfl, rfl, w⟩ := q9
    refine jr_iload_n (pc := 24) F (j := 2) dX3_edition_24 rfl ?_
    obtain ⟨hx9, w⟩ := w
    obtain ⟨w9, w⟩ := w
    rcases Decidable.em (x2 = 0) with e9 | e9_0
    · have w := w9 e9
      refine jr_tabIn (pc := 25) (tgt := 60) (off := 35) F hx9 dX3_edition_25 (by rw [e9]; decide) (by rw [e9]; decide) (by rw [e9]; rfl) rfl ?_
      refine jr_aload_n (pc := 60) F (j := 0) dX3_edition_60 rfl ?_
      refine jr_iload_n (pc := 61) F (j := 1) dX3_edition_61 rfl ?_
      refine jr_callV (pc := 62) (As := [_]) F M (lw_V q3307 q3309 qs51 q143 q3310) dX3_edition_62 hM_sizeOf rfl (Nat.le_of_ble_eq_true rfl) (Nat.le_of_ble_eq_true rfl) (Nat.le_of_ble_eq_true rfl) (jj_set_self _ _ _) rfl rfl (Nat.zero_le _) (cM_sizeOf S hs w) (fun v9 h9 q9 => ?_) (fun _ _ _ q9 => q9.elim)
      obtain ⟨r7, ms6, rfl, rfl, w⟩ := q9
      exact jr_iret (pc := 65) F M dX3_edition_65 (hQ _ _ w)
    obtain ⟨w9, w⟩ := w
    rcases Decidable.em (x2 = 1) with e9 | e9_1
    · have w := w9 e9
      refine jr_tabIn (pc := 25) (tgt := 66) (off := 41) F hx9 dX3_edition_25 (by rw [e9]; decide) (by rw [e9]; decide) (by rw [e9]; rfl) rfl ?_
      refine jr_aload_n (pc := 66) F (j := 0) dX3_edition_66 rfl ?_
      refine jr_iload_n (pc := 67) F (j := 1) dX3_edition_67 rfl ?_
      refine jr_callV (pc := 68) (As := [_]) F M (lw_V q3437 q3439 qs76 q143 q3440) dX3_edition_68 hM_linesOf rfl (Nat.le_of_ble_eq_true rfl) (Nat.le_of_ble_eq_true rfl) (Nat.le_of_ble_eq_true rfl) (jj_set_self _ _ _) rfl rfl (Nat.zero_le _) (cM_linesOf S hs w) (fun v9 h9 q9 => ?_) (fun _ _ _ q9 => q9.elim)
      obtain ⟨r9, ms8, rfl, rfl, w⟩ := q9
      exact jr_iret (pc := 71) F M dX3_edition_71 (hQ _ _ w)
    obtain ⟨w9, w⟩ := w
    rcases Decidable.em (x2 = 2) with e9 | e9_2
    · have w := w9 e9
      refine jr_tabIn (pc := 25) (tgt := 72) (off := 47) F hx9 dX3_edition_25 (by rw [e9]; decide) (by rw [e9]; decide) (by rw [e9]; rfl) rfl ?_
      refine jr_aload_n (pc := 72) F (j := 0) dX3_edition_72 rfl ?_
      refine jr_iload_n (pc := 73) F (j := 1) dX3_edition_73 rfl ?_
      refine jr_callV (pc := 74) (As := [_]) F M (lw_V q3433 q3435 qs75 q143 q3436) dX3_edition_74 hM_pagesOf rfl (Nat.le_of_ble_eq_true rfl) (Nat.le_of_ble_eq_true rfl) (Nat.le_of_ble_eq_true rfl) (jj_set_self _ _ _) rfl rfl (Nat.zero_le _) (cM_pagesOf S hs w) (fun v9 h9 q9 => ?_) (fun _ _ _ q9 => q9.elim)
      obtain ⟨r11, ms10, rfl, rfl, w⟩ := q9
      exact jr_iret (pc := 77) F M dX3_edition_77 (hQ _ _ w)
    obtain ⟨w9, w⟩ := w
    rcases Decidable.em (x2 = 3) with e9 | e9_3
    · have w := w9 e9
      refine jr_tabIn (pc := 25) (tgt := 78) (off := 53) F hx9 dX3_edition_25 (by rw [e9]; decide) (by rw [e9]; decide) (by rw [e9]; rfl) rfl ?_
      refine jr_aload_n (pc := 78) F (j := 0) dX3_edition_78 rfl ?_
      refine jr_iload_n (pc := 79) F (j := 1) dX3_edition_79 rfl ?_
      refine jr_iconst (pc := 80) F dX3_edition_80 ?_
      refine jr_callV (pc := 81) (As := [_, _]) F M (lw_V q3311 q3313 qs52 q143 q3314) dX3_edition_81 hM_ofEdition rfl (Nat.le_of_ble_eq_true rfl) (Nat.le_of_ble_eq_true rfl) (Nat.le_of_ble_eq_true rfl) (jj_set_self _ _ _) rfl rfl (Nat.zero_le _) (cM_ofEdition S hs w) (fun v9 h9 q9 => ?_) (fun _ _ _ q9 => q9.elim)
      obtain ⟨r13, ms12, rfl, rfl, w⟩ := q9
      exact jr_iret (pc := 84) F M dX3_edition_84 (hQ _ _ w)
    obtain ⟨w9, w⟩ := w
    rcases Decidable.em (x2 = 4) with e9 | e9_4
    · have w := w9 e9
      refine jr_tabIn (pc := 25) (tgt := 85) (off := 60) F hx9 dX3_edition_25 (by rw [e9]; decide) (by rw [e9]; decide) (by rw [e9]; rfl) rfl ?_
      refine jr_aload_n (pc := 85) F (j := 0) dX3_edition_85 rfl ?_
      refine jr_iload_n (pc := 86) F (j := 1) dX3_edition_86 rfl ?_
      refine jr_iconst (pc := 87) F dX3_edition_87 ?_
      refine jr_callV (pc := 88) (As := [_, _]) F M (lw_V q3311 q3313 qs52 q143 q3314) dX3_edition_88 hM_ofEdition rfl (Nat.le_of_ble_eq_true rfl) (Nat.le_of_ble_eq_true rfl) (Nat.le_of_ble_eq_true rfl) (jj_set_self _ _ _) rfl rfl (Nat.zero_le _) (cM_ofEdition S hs w) (fun v9 h9 q9 => ?_) (fun _ _ _ q9 => q9.elim)
      obtain ⟨r15, ms14, rfl, rfl, w⟩ := q9
      exact jr_iret (pc := 91) F M dX3_edition_91 (hQ _ _ w)
    have c9 : x2 < 0 ∨ 4 < x2 := by omega
    have w := w c9
    refine jr_tabOut (pc := 25) (tgt := 92) F hx9 dX3_edition_25 c9 rfl ?_
    refine jr_aload_n (pc := 92) F (j := 0) dX3_edition_92 rfl ?_
    refine jr_iconst (pc := 93) F dX3_edition_93 ?_
    refine jr_callV (pc := 94) (As := [_]) F M (lw_V q3276 q3278 qs46 q143 q3279) dX3_edition_94 hM_fail rfl (Nat.le_of_ble_eq_true rfl) (Nat.le_of_ble_eq_true rfl) (Nat.le_of_ble_eq_true rfl) (jj_set_self _ _ _) rfl rfl (Nat.zero_le _) (cM_fail S hs w) (fun v9 h9 q9 => ?_) (fun _ _ _ q9 => q9.elim)
    obtain ⟨r17, ms16, rfl, rfl, w⟩ := q9
    exact jr_iret (pc := 97) F M dX3_edition_97 (hQ _ _ w)
  · have w := w2 c9
    refine jr_aload_n (pc := 13) F (j := 0) dX3_edition_13 rfl ?_
    refine jr_iconst (pc := 14) F dX3_edition_14 ?_
    refine jr_callV (pc := 15) (As := [_]) F M (lw_V q3276 q3278 qs46 q143 q3279) dX3_edition_15 hM_fail rfl (Nat.le_of_ble_eq_true rfl) (Nat.le_of_ble_eq_true rfl) (Nat.le_of_ble_eq_true rfl) (jj_set_self _ _ _) rfl rfl (Nat.zero_le _) (cM_fail S hs w) (fun v9 h9 q9 => ?_) (fun _ _ _ q9 => q9.elim)
    obtain ⟨r19, ms18, rfl, rfl, w⟩ := q9
    exact jr_iret (pc := 18) F M dX3_edition_18 (hQ _ _ w)

theorem cM_edition {G : jj_G} {l : Launch} (S : jj_GS G l) {h0 : jj_H} {m0 : Nat} (hs : jj_hs G h0 m0) {x1 : Int} {x2 : Int} {ms : jj_MS} {Q : Int → jj_MS → Prop} (w : fM_edition x1 x2 Q ms) : jj_Ct G l yX3_edition (ws_ yX3_edition cX3_edition 3 (some (.int))) 4 85 [.inr (.inr (.inl (some m0))), .inl x1, .inl x2] (jj_mh h0 m0 ms) 0 (jm_Ni h0 m0 Q) jj_F0 := by
  refine jj_Ct.of S.1 (by decide +kernel) (Nat.le_of_ble_eq_true rfl) rfl (fun X hG hl F M O hnm => ?_)
  subst hG; subst hl
  exact sM_edition F M S hs (fun r ms q => ⟨r, ms, rfl, rfl, q⟩) _ _ _ w
theorem hM_edition : yX3_edition.cls = RX3 ∧ yX3_edition.cls ≠ "java/lang/invoke/MethodHandle" ∧ yX3_edition.cls ≠ "java/lang/invoke/VarHandle" ∧ (parseMethodDescriptor yX3_edition.desc).map (fun d => d.parameters.length) = some 2 := by decide +kernel
