set_option maxRecDepth 100000
/-! isWordOf(II)Z -/
def fM_isWordOf (x1 : Int) (x2 : Int) (Q : Int → jj_MS → Prop) (ms : jj_MS) : Prop :=
  fM_isEdition x1 (fun r2 ms1 =>
  jj_r r2 ∧ (r2 = 0 → (
    Q 0 ms1)) ∧
  (¬ r2 = 0 → (
    fM_sizeOf x1 (fun r4 ms3 =>
    fM_isBetween x2 0 (r4 - 1) (fun r6 ms5 =>
    jj_r r6 ∧ (r6 = 0 → (
      Q 0 ms5)) ∧
    (¬ r6 = 0 → (
      Q 1 ms5))) ms3) ms1))) ms

theorem sM_isWordOf {X : jj_X} {h0 : jj_H} {m0 k : Nat} {N : Option jj_AV → jj_H → Prop} {XN : String → Nat → jj_H → Prop} (F : jj_F X RX3 cX3_isWordOf 3) (M : jj_M X (some (.boolean)) 2 43 N XN) (S : jj_GS X.1 X.2.2.1) (hs : jj_hs X.1 h0 m0) {Q : Int → jj_MS → Prop} (hQ : ∀ r ms, Q r ms → N (some (.inl r)) (jj_mh h0 m0 ms)) : ∀ (x1 : Int) (x2 : Int) (ms : jj_MS), fM_isWordOf x1 x2 Q ms → jj_J X 3 0 [(0, .inr (.inr (.inl (some m0)))), (1, .inl x1), (2, .inl x2)] [] (jj_mh h0 m0 ms) k := by
  intro x1 x2 ms w
  unfold fM_isWordOf at w
  refine jr_aload_n (pc := 0) F (j := 0) dX3_isWordOf_0 rfl ?_
  refine jr_iload_n (pc := 1) F (j := 1) dX3_isWordOf_1 rfl ?_
  refine jr_callV (pc := 2) (As := [_]) F M (lw_V q3418 q3420 qs72 q143 q3421) dX3_isWordOf_2 hM_isEdition rfl (Nat.le_of_ble_eq_true rfl) (Nat.le_of_ble_eq_true rfl) (Nat.le_of_ble_eq_true rfl) (jj_set_self _ _ _) rfl rfl (Nat.zero_le _) (cM_isEdition S hs w) (fun v9 h9 q9 => ?_) (fun _ _ _ q9 => q9.elim)
  obtain ⟨r2, ms1, rfl, rfl, w⟩ := q9
  obtain ⟨hx9, w1, w2⟩ := w
  refine jr_if_eq (pc := 5) (tgt := 27) F hx9 dX3_isWordOf_5 rfl (fun c9 => ?_) (fun c9 => ?_)
  · have w := w1 c9
    refine jr_iconst (pc := 27) F dX3_isWordOf_27 ?_
    exact jr_zret (pc := 28) F M dX3_isWordOf_28 (by decide) (hQ _ _ w)
  · have w := w2 c9
    refine jr_iload_n (pc := 8) F (j := 2) dX3_isWordOf_8 rfl ?_
    refine jr_iconst (pc := 9) F dX3_isWordOf_9 ?_
    refine jr_aload_n (pc := 10) F (j := 0) dX3_isWordOf_10 rfl ?_
    refine jr_iload_n (pc := 11) F (j := 1) dX3_isWordOf_11 rfl ?_
    refine jr_callV (pc := 12) (As := [_]) F M (lw_V q3307 q3309 qs51 q143 q3310) dX3_isWordOf_12 hM_sizeOf rfl (Nat.le_of_ble_eq_true rfl) (Nat.le_of_ble_eq_true rfl) (Nat.le_of_ble_eq_true rfl) (jj_set_self _ _ _) rfl rfl (Nat.zero_le _) (cM_sizeOf S hs w) (fun v9 h9 q9 => ?_) (fun _ _ _ q9 => q9.elim)
    obtain ⟨r4, ms3, rfl, rfl, w⟩ := q9
    refine jr_iconst (pc := 15) F dX3_isWordOf_15 ?_
    refine jr_isub (pc := 16) F dX3_isWordOf_16 ?_
    refine jr_callS (pc := 17) (As := [_, _, _]) F M (lw_S q3284 q3285 q143 q3286) dX3_isWordOf_17 hM_isBetween.2 rfl (Nat.le_of_ble_eq_true rfl) (Nat.le_of_ble_eq_true rfl) (Nat.le_of_ble_eq_true rfl) (Nat.zero_le _) (cM_isBetween S hs w) (fun v9 h9 q9 => ?_) (fun _ _ _ q9 => q9.elim)
    obtain ⟨r6, ms5, rfl, rfl, w⟩ := q9
    obtain ⟨hx9, w1, w2⟩ := w
    refine jr_if_eq (pc := 20) (tgt := 27) F hx9 dX3_isWordOf_20 rfl (fun c9 => ?_) (fun c9 => ?_)
    · have w := w1 c9
      refine jr_iconst (pc := 27) F dX3_isWordOf_27 ?_
      exact jr_zret (pc := 28) F M dX3_isWordOf_28 (by decide) (hQ _ _ w)
    · have w := w2 c9
      refine jr_iconst (pc := 23) F dX3_isWordOf_23 ?_
      refine jr_goto (pc := 24) (tgt := 28) F dX3_isWordOf_24 rfl ?_
      exact jr_zret (pc := 28) F M dX3_isWordOf_28 (by decide) (hQ _ _ w)

theorem cM_isWordOf {G : jj_G} {l : Launch} (S : jj_GS G l) {h0 : jj_H} {m0 : Nat} (hs : jj_hs G h0 m0) {x1 : Int} {x2 : Int} {ms : jj_MS} {Q : Int → jj_MS → Prop} (w : fM_isWordOf x1 x2 Q ms) : jj_Ct G l yX3_isWordOf (ws_ yX3_isWordOf cX3_isWordOf 3 (some (.boolean))) 2 43 [.inr (.inr (.inl (some m0))), .inl x1, .inl x2] (jj_mh h0 m0 ms) 0 (jm_Ni h0 m0 Q) jj_F0 := by
  refine jj_Ct.of S.1 (by decide +kernel) (Nat.le_of_ble_eq_true rfl) rfl (fun X hG hl F M O hnm => ?_)
  subst hG; subst hl
  exact sM_isWordOf F M S hs (fun r ms q => ⟨r, ms, rfl, rfl, q⟩) _ _ _ w
theorem hM_isWordOf : yX3_isWordOf.cls = RX3 ∧ yX3_isWordOf.cls ≠ "java/lang/invoke/MethodHandle" ∧ yX3_isWordOf.cls ≠ "java/lang/invoke/VarHandle" ∧ (parseMethodDescriptor yX3_isWordOf.desc).map (fun d => d.parameters.length) = some 2 := by decide +kernel
/-! word(III)I -/
def fM_word (x1 : Int) (x2 : Int) (x3 : Int) (Q : Int → jj_MS → Prop) (ms : jj_MS) : Prop :=
  ∀ ms1, ms1 = jj_mI ms 7 0 →
  fM_isWordOf x1 x2 (fun r3 ms2 =>
  jj_r r3 ∧ (¬ r3 = 0 → (
    fM_layOut x1 (fun ms4 =>
    jj_r x3 ∧
    (x3 = 0 → (
      0 ≤ x2 ∧ x2 < 120 ∧
      fM_ofEdition x1 2 (fun r7 ms6 =>
      (jj_r r7 ∧ r7 ≠ 0) ∧
      Q (jj_div (ms4.2 12 x2) r7) ms6) ms4)) ∧
    (x3 = 1 → (
      0 ≤ x2 ∧ x2 < 120 ∧
      fM_ofEdition x1 2 (fun r9 ms8 =>
      (jj_r r9 ∧ r9 ≠ 0) ∧
      Q (jj_rem (ms4.2 12 x2) r9) ms8) ms4)) ∧
    (x3 = 2 → (
      0 ≤ x2 ∧ x2 < 120 ∧
      Q (ms4.2 13 x2) ms4)) ∧
    (x3 = 3 → (
      0 ≤ x2 ∧ x2 < 120 ∧
      Q (ms4.2 14 x2) ms4)) ∧
    (x3 = 4 → (
      fM_wordOf x1 x2 (fun r11 ms10 =>
      fM_lettersOf r11 (fun r13 ms12 =>
      Q r13 ms12) ms10) ms4)) ∧
    (x3 = 5 → (
      fM_beginsParagraph x1 x2 (fun r15 ms14 =>
      jj_r r15 ∧ (r15 = 0 → (
        Q 0 ms14)) ∧
      (¬ r15 = 0 → (
        Q 1 ms14))) ms4)) ∧
    ((x3 < 0 ∨ 5 < x3) → (
      fM_fail 2 (fun r17 ms16 =>
      Q r17 ms16) ms4))) ms2)) ∧
  (r3 = 0 → (
    fM_fail 1 (fun r19 ms18 =>
    Q r19 ms18) ms2))) ms1

theorem sM_word {X : jj_X} {h0 : jj_H} {m0 k : Nat} {N : Option jj_AV → jj_H → Prop} {XN : String → Nat → jj_H → Prop} (F : jj_F X RX3 cX3_word 4) (M : jj_M X (some (.int)) 3 69 N XN) (S : jj_GS X.1 X.2.2.1) (hs : jj_hs X.1 h0 m0) {Q : Int → jj_MS → Prop} (hQ : ∀ r ms, Q r ms → N (some (.inl r)) (jj_mh h0 m0 ms)) : ∀ (x1 : Int) (x2 : Int) (x3 : Int) (ms : jj_MS), fM_word x1 x2 x3 Q ms → jj_J X 4 0 [(0, .inr (.inr (.inl (some m0)))), (1, .inl x1), (2, .inl x2), (3, .inl x3)] [] (jj_mh h0 m0 ms) k := by
  intro x1 x2 x3 ms w
  unfold fM_word at w
  refine jr_aload_n (pc := 0) F (j := 0) dX3_word_0 rfl ?_
  refine jr_iconst (pc := 1) F dX3_word_1 ?_
  have w := w _ rfl
  refine jm_put (pc := 2) (f := 7) F (Nat.le_of_ble_eq_true rfl) q3137 rfl rfl rfl rfl rfl rfl dX3_word_2 ?_
  refine jr_aload_n (pc := 5) F (j := 0) dX3_word_5 rfl ?_
  refine jr_iload_n (pc := 6) F (j := 1) dX3_word_6 rfl ?_
  refine jr_iload_n (pc := 7) F (j := 2) dX3_word_7 rfl ?_
  refine jr_callV (pc := 8) (As := [_, _]) F M (lw_V q3449 q3451 qs77 q143 q3452) dX3_word_8 hM_isWordOf rfl (Nat.le_of_ble_eq_true rfl) (Nat.le_of_ble_eq_true rfl) (Nat.le_of_ble_eq_true rfl) (jj_set_self _ _ _) rfl rfl (Nat.zero_le _) (cM_isWordOf S hs w) (fun v9 h9 q9 => ?_) (fun _ _ _ q9 => q9.elim)
  obtain ⟨r3, ms2, rfl, rfl, w⟩ := q9
  obtain ⟨hx9, w1, w2⟩ := w
  refine jr_if_ne (pc := 11) (tgt := 20) F hx9 dX3_word_11 rfl (fun c9 => ?_) (fun c9 => ?_)
  · have w := w1 c9
    refine jr_aload_n (pc := 20) F (j := 0) dX3_word_20 rfl ?_
    refine jr_iload_n (pc := 21) F (j := 1) dX3_word_21 rfl ?_
    refine jr_callV (pc := 22) (As := [_]) F M (lw_V q3422 q3424 qs73 q143 q3425) dX3_word_22 hM_layOut rfl (Nat.le_of_ble_eq_true rfl) (Nat.le_of_ble_eq_true rfl) (Nat.le_of_ble_eq_true rfl) (jj_set_self _ _ _) rfl rfl (Nat.zero_le _) (cM_layOut S hs w) (fun v9 h9 q9 => ?_) (fun _ _ _ q9 => q9.elim)
    obtain ⟨ms4, rfl, rfl, w⟩ := q9
    refine jr_iload_n (pc := 25) F (j := 3) dX3_word_25 rfl ?_
    obtain ⟨hx9, w⟩ := w
    obtain ⟨w9, w⟩ := w
    rcases Decidable.em (x3 = 0) with e9 | e9_0
    · have w := w9 e9
      refine jr_tabIn (pc := 26) (tgt := 64) (off := 38) F hx9 dX3_word_26 (by rw [e9]; decide) (by rw [e9]; decide) (by rw [e9]; rfl) rfl ?_
      refine jr_aload_n (pc := 64) F (j := 0) dX3_word_64 rfl ?_
      refine jm_get (pc := 65) (f := 12) (v := .inr (.inr (.inl (some (m0 + 1 + 9))))) F (Nat.le_of_ble_eq_true rfl) q3142 rfl rfl dX3_word_65 ?_
      refine jr_iload_n (pc := 68) F (j := 2) dX3_word_68 rfl ?_
      obtain ⟨hi1, hi2, w⟩ := w
      refine jm_iald (pc := 69) (f := 12) (o := 9) F rfl (by decide) hi1 hi2 dX3_word_69 ?_
      refine jr_aload_n (pc := 70) F (j := 0) dX3_word_70 rfl ?_
      refine jr_iload_n (pc := 71) F (j := 1) dX3_word_71 rfl ?_
      refine jr_iconst (pc := 72) F dX3_word_72 ?_
      refine jr_callV (pc := 73) (As := [_, _]) F M (lw_V q3311 q3313 qs52 q143 q3314) dX3_word_73 hM_ofEdition rfl (Nat.le_of_ble_eq_true rfl) (Nat.le_of_ble_eq_true rfl) (Nat.le_of_ble_eq_true rfl) (jj_set_self _ _ _) rfl rfl (Nat.zero_le _) (cM_ofEdition S hs w) (fun v9 h9 q9 => ?_) (fun _ _ _ q9 => q9.elim)
      obtain ⟨r7, ms6, rfl, rfl, w⟩ := q9
      obtain ⟨hd9, w⟩ := w
      refine jr_idiv (pc := 76) F dX3_word_76 hd9 ?_
      exact jr_iret (pc := 77) F M dX3_word_77 (hQ _ _ w)
    obtain ⟨w9, w⟩ := w
    rcases Decidable.em (x3 = 1) with e9 | e9_1
    · have w := w9 e9
      refine jr_tabIn (pc := 26) (tgt := 78) (off := 52) F hx9 dX3_word_26 (by rw [e9]; decide) (by rw [e9]; decide) (by rw [e9]; rfl) rfl ?_
      refine jr_aload_n (pc := 78) F (j := 0) dX3_word_78 rfl ?_
      refine jm_get (pc := 79) (f := 12) (v := .inr (.inr (.inl (some (m0 + 1 + 9))))) F (Nat.le_of_ble_eq_true rfl) q3142 rfl rfl dX3_word_79 ?_
      refine jr_iload_n (pc := 82) F (j := 2) dX3_word_82 rfl ?_
      obtain ⟨hi1, hi2, w⟩ := w
      refine jm_iald (pc := 83) (f := 12) (o := 9) F rfl (by decide) hi1 hi2 dX3_word_83 ?_
      refine jr_aload_n (pc := 84) F (j := 0) dX3_word_84 rfl ?_
      refine jr_iload_n (pc := 85) F (j := 1) dX3_word_85 rfl ?_
      refine jr_iconst (pc := 86) F dX3_word_86 ?_
      refine jr_callV (pc := 87) (As := [_, _]) F M (lw_V q3311 q3313 qs52 q143 q3314) dX3_word_87 hM_ofEdition rfl (Nat.le_of_ble_eq_true rfl) (Nat.le_of_ble_eq_true rfl) (Nat.le_of_ble_eq_true rfl) (jj_set_self _ _ _) rfl rfl (Nat.zero_le _) (cM_ofEdition S hs w) (fun v9 h9 q9 => ?_) (fun _ _ _ q9 => q9.elim)
      obtain ⟨r9, ms8, rfl, rfl, w⟩ := q9
      obtain ⟨hd9, w⟩ := w
      refine jr_irem (pc := 90) F dX3_word_90 hd9 ?_
      exact jr_iret (pc := 91) F M dX3_word_91 (hQ _ _ w)
    obtain ⟨w9, w⟩ := w
    rcases Decidable.em (x3 = 2) with e9 | e9_2
    · have w := w9 e9
      refine jr_tabIn (pc := 26) (tgt := 92) (off := 66) F hx9 dX3_word_26 (by rw [e9]; decide) (by rw [e9]; decide) (by rw [e9]; rfl) rfl ?_
      refine jr_aload_n (pc := 92) F (j := 0) dX3_word_92 rfl ?_
      refine jm_get (pc := 93) (f := 13) (v := .inr (.inr (.inl (some (m0 + 1 + 10))))) F (Nat.le_of_ble_eq_true rfl) q3143 rfl rfl dX3_word_93 ?_
      refine jr_iload_n (pc := 96) F (j := 2) dX3_word_96 rfl ?_
      obtain ⟨hi1, hi2, w⟩ := w
      refine jm_iald (pc := 97) (f := 13) (o := 10) F rfl (by decide) hi1 hi2 dX3_word_97 ?_
      exact jr_iret (pc := 98) F M dX3_word_98 (hQ _ _ w)
    obtain ⟨w9, w⟩ := w
    rcases Decidable.em (x3 = 3) with e9 | e9_3
    · have w := w9 e9
      refine jr_tabIn (pc := 26) (tgt := 99) (off := 73) F hx9 dX3_word_26 (by rw [e9]; decide) (by rw [e9]; decide) (by rw [e9]; rfl) rfl ?_
      refine jr_aload_n (pc := 99) F (j := 0) dX3_word_99 rfl ?_
      refine jm_get (pc := 100) (f := 14) (v := .inr (.inr (.inl (some (m0 + 1 + 11))))) F (Nat.le_of_ble_eq_true rfl) q3144 rfl rfl dX3_word_100 ?_
      refine jr_iload_n (pc := 103) F (j := 2) dX3_word_103 rfl ?_
      obtain ⟨hi1, hi2, w⟩ := w
      refine jm_iald (pc := 104) (f := 14) (o := 11) F rfl (by decide) hi1 hi2 dX3_word_104 ?_
      exact jr_iret (pc := 105) F M dX3_word_105 (hQ _ _ w)
    obtain ⟨w9, w⟩ := w
    rcases Decidable.em (x3 = 4) with e9 | e9_4
    · have w := w9 e9
      refine jr_tabIn (pc := 26) (tgt := 106) (off := 80) F hx9 dX3_word_26 (by rw [e9]; decide) (by rw [e9]; decide) (by rw [e9]; rfl) rfl ?_
      refine jr_aload_n (pc := 106) F (j := 0) dX3_word_106 rfl ?_
      refine jr_iload_n (pc := 107) F (j := 1) dX3_word_107 rfl ?_
      refine jr_iload_n (pc := 108) F (j := 2) dX3_word_108 rfl ?_
      refine jr_callV (pc := 109) (As := [_, _]) F M (lw_V q3323 q3325 qs55 q143 q3326) dX3_word_109 hM_wordOf rfl (Nat.le_of_ble_eq_true rfl) (Nat.le_of_ble_eq_true rfl) (Nat.le_of_ble_eq_true rfl) (jj_set_self _ _ _) rfl rfl (Nat.zero_le _) (cM_wordOf S hs w) (fun v9 h9 q9 => ?_) (fun _ _ _ q9 => q9.elim)
      obtain ⟨r11, ms10, rfl, rfl, w⟩ := q9
      refine jr_callS (pc := 112) (As := [_]) F M (lw_S q3426 q3427 q143 q3428) dX3_word_112 hM_lettersOf.2 rfl (Nat.le_of_ble_eq_true rfl) (Nat.le_of_ble_eq_true rfl) (Nat.le_of_ble_eq_true rfl) (Nat.zero_le _) (cM_lettersOf S hs w) (fun v9 h9 q9 => ?_) (fun _ _ _ q9 => q9.elim)
      obtain ⟨r13, ms12, rfl, rfl, w⟩ := q9
      exact jr_iret (pc := 115) F M dX3_word_115 (hQ _ _ w)
    obtain ⟨w9, w⟩ := w
    rcases Decidable.em (x3 = 5) with e9 | e9_5
    · have w := w9 e9
      refine jr_tabIn (pc := 26) (tgt := 116) (off := 90) F hx9 dX3_word_26 (by rw [e9]; decide) (by rw [e9]; decide) (by rw [e9]; rfl) rfl ?_
      refine jr_aload_n (pc := 116) F (j := 0) dX3_word_116 rfl ?_
      refine jr_iload_n (pc := 117) F (j := 1) dX3_word_117 rfl ?_
      refine jr_iload_n (pc := 118) F (j := 2) dX3_word_118 rfl ?_
      refine jr_callV (pc := 119) (As := [_, _]) F M (lw_V q3429 q3431 qs74 q143 q3432) dX3_word_119 hM_beginsParagraph rfl (Nat.le_of_ble_eq_true rfl) (Nat.le_of_ble_eq_true rfl) (Nat.le_of_ble_eq_true rfl) (jj_set_self _ _ _) rfl rfl (Nat.zero_le _) (cM_beginsParagraph S hs w) (fun v9 h9 q9 => ?_) (fun _ _ _ q9 => q9.elim)
      obtain ⟨r15, ms14, rfl, rfl, w⟩ := q9
      obtain ⟨hx9, w1, w2⟩ := w
      refine jr_if_eq (pc := 122) (tgt := 129) F hx9 dX3_word_122 rfl (fun c9 => ?_) (fun c9 => ?_)
      · have w := w1 c9
        refine jr_iconst (pc := 129) F dX3_word_129 ?_
        exact jr_iret (pc := 130) F M dX3_word_130 (hQ _ _ w)
      · have w := w2 c9
        refine jr_iconst (pc := 125) F dX3_word_125 ?_
        refine jr_goto (pc := 126) (tgt := 130) F dX3_word_126 rfl ?_
        exact jr_iret (pc := 130) F M dX3_word_130 (hQ _ _ w)
    have c9 : x3 < 0 ∨ 5 < x3 := by omega
    have w := w c9
    refine jr_tabOut (pc := 26) (tgt := 131) F hx9 dX3_word_26 c9 rfl ?_
    refine jr_aload_n (pc := 131) F (j := 0) dX3_word_131 rfl ?_
    refine jr_iconst (pc := 132) F dX3_word_132 ?_
    refine jr_callV (pc := 133) (As := [_]) F M (lw_V q3276 q3278 qs46 q143 q3279) dX3_word_133 hM_fail rfl (Nat.le_of_ble_eq_true rfl) (Nat.le_of_ble_eq_true rfl) (Nat.le_of_ble_eq_true rfl) (jj_set_self _ _ _) rfl rfl (Nat.zero_le _) (cM_fail S hs w) (fun v9 h9 q9 => ?_) (fun _ _ _ q9 => q9.elim)
    obtain ⟨r17, ms16, rfl, rfl, w⟩ := q9
    exact jr_iret (pc := 136) F M dX3_word_136 (hQ _ _ w)
  · have w := w2 c9
    refine jr_aload_n (pc := 14) F (j := 0) dX3_word_14 rfl ?_
    refine jr_iconst (pc := 15) F dX3_word_15 ?_
    refine jr_callV (pc := 16) (As := [_]) F M (lw_V q3276 q3278 qs46 q143 q3279) dX3_word_16 hM_fail rfl (Nat.le_of_ble_eq_true rfl) (Nat.le_of_ble_eq_true rfl) (Nat.le_of_ble_eq_true rfl) (jj_set_self _ _ _) rfl rfl (Nat.zero_le _) (cM_fail S hs w) (fun v9 h9 q9 => ?_) (fun _ _ _ q9 => q9.elim)
    obtain ⟨r19, ms18, rfl, rfl, w⟩ := q9
    exact jr_iret (pc := 19) F M dX3_word_19 (hQ _ _ w)

theorem cM_word {G : jj_G} {l : Launch} (S : jj_GS G l) {h0 : jj_H} {m0 : Nat} (hs : jj_hs G h0 m0) {x1 : Int} {x2 : Int} {x3 : Int} {ms : jj_MS} {Q : Int → jj_MS → Prop} (w : fM_word x1 x2 x3 Q ms) : jj_Ct G l yX3_word (ws_ yX3_word cX3_word 4 (some (.int))) 3 69 [.inr (.inr (.inl (some m0))), .inl x1, .inl x2, .inl x3] (jj_mh h0 m0 ms) 0 (jm_Ni h0 m0 Q) jj_F0 := by
  refine jj_Ct.of S.1 (by decide +kernel) (Nat.le_of_ble_eq_true rfl) rfl (fun X hG hl F M O hnm => ?_)
  subst hG; subst hl
  exact sM_word F M S hs (fun r ms q => ⟨r, ms, rfl, rfl, q⟩) _ _ _ _ w
theorem hM_word : yX3_word.cls = RX3 ∧ yX3_word.cls ≠ "java/lang/invoke/MethodHandle" ∧ yX3_word.cls ≠ "java/lang/invoke/VarHandle" ∧ (parseMethodDescriptor yX3_word.desc).map (fun d => d.parameters.length) = some 3 := by decide +kernel
/-! letterOf(JI)I -/
def fM_letterOf_l10 (x2 : Int) (Q : Int → jj_MS → Prop) : Nat → Int → Int → jj_MS → Prop
  | 0, _, _, _ => False
  | n + 1, x3, x5, ms =>
  jj_r x5 ∧ jj_r x2 ∧ (x5 ≤ x2 → (
    Q ((jj_l2i (jj_lrem x3 27)) + 96) ms)) ∧
  (¬ x5 ≤ x2 → (
    ∀ v1, v1 = jj_ldiv x3 27 →
    ∀ v2, v2 = x5 + (-1) →
    fM_letterOf_l10 x2 Q n v1 v2 ms))

def fM_letterOf (x0 : Int) (x2 : Int) (Q : Int → jj_MS → Prop) (ms : jj_MS) : Prop :=
  fM_lettersOf x0 (fun r4 ms3 =>
  ∀ v5, v5 = r4 - 1 →
  ∃ n9, fM_letterOf_l10 x2 Q n9 x0 v5 ms3) ms

theorem sM_letterOf_l10 {X : jj_X} {h0 : jj_H} {m0 k : Nat} {N : Option jj_AV → jj_H → Prop} {XN : String → Nat → jj_H → Prop} (F : jj_F X RX3 cX3_letterOf 6) (M : jj_M X (some (.int)) 1 24 N XN) (S : jj_GS X.1 X.2.2.1) (hs : jj_hs X.1 h0 m0) {Q : Int → jj_MS → Prop} (hQ : ∀ r ms, Q r ms → N (some (.inl r)) (jj_mh h0 m0 ms)) (x2 : Int) : ∀ (n : Nat) (x3 : Int) (x5 : Int) (ms : jj_MS), fM_letterOf_l10 x2 Q n x3 x5 ms → jj_J X 6 10 [(2, .inl x2), (3, .inr (.inl x3)), (5, .inl x5)] [] (jj_mh h0 m0 ms) k := by
  intro n
  induction n with
  | zero =>
    intro x3 x5 ms w
    exact (show False from w).elim
  | succ n ih =>
    intro x3 x5 ms w
    rw [fM_letterOf_l10] at w
    refine jr_iload (pc := 10) F (j := 2) dX3_letterOf_10 rfl ?_
    refine jr_iload_n (pc := 12) F (j := 0) dX3_letterOf_12 rfl ?_
    obtain ⟨hx9, hy9, w1, w2⟩ := w
    refine jr_icmp_le (pc := 13) (tgt := 28) F hx9 hy9 dX3_letterOf_13 rfl (fun c9 => ?_) (fun c9 => ?_)
    · have w := w1 c9
      refine jr_lload_n (pc := 28) F (j := 1) dX3_letterOf_28 rfl ?_
      refine jr_ldc2 (pc := 29) F (x := 27) q3401 dX3_letterOf_29 (by decide +kernel) ?_
      refine jr_lrem (pc := 32) F dX3_letterOf_32 ⟨⟨by decide, by decide⟩, by decide⟩ ?_
      refine jr_l2i (pc := 33) F dX3_letterOf_33 ?_
      refine jr_bipush (pc := 34) F dX3_letterOf_34 (by decide +kernel) ?_
      refine jr_iadd (pc := 36) F dX3_letterOf_36 ?_
      exact jr_iret (pc := 37) F M dX3_letterOf_37 (hQ _ _ w)
    · have w := w2 c9
      refine jr_lload_n (pc := 16) F (j := 1) dX3_letterOf_16 rfl ?_
      refine jr_ldc2 (pc := 17) F (x := 27) q3401 dX3_letterOf_17 (by decide +kernel) ?_
      refine jr_ldiv (pc := 20) F dX3_letterOf_20 ⟨⟨by decide, by decide⟩, by decide⟩ ?_
      have w := w _ rfl
      refine jr_lstore_n (pc := 21) F (vs' := [(3, .inr (.inl _)), (2, .inl _), (5, .inl _)]) dX3_letterOf_21 (Nat.le_of_ble_eq_true rfl) rfl ?_
      have w := w _ rfl
      refine jr_iinc (pc := 22) F (j := 2) (vs' := [(5, .inl _), (3, .inr (.inl _)), (2, .inl _)]) dX3_letterOf_22 rfl rfl (Nat.le_of_ble_eq_true rfl) rfl ?_
      refine jr_goto (pc := 25) (tgt := 10) F dX3_letterOf_25 rfl ?_
      refine jj_J.sub [2, 1, 0] rfl ?_
      exact ih _ _ _ w

theorem sM_letterOf {X : jj_X} {h0 : jj_H} {m0 k : Nat} {N : Option jj_AV → jj_H → Prop} {XN : String → Nat → jj_H → Prop} (F : jj_F X RX3 cX3_letterOf 6) (M : jj_M X (some (.int)) 1 24 N XN) (S : jj_GS X.1 X.2.2.1) (hs : jj_hs X.1 h0 m0) {Q : Int → jj_MS → Prop} (hQ : ∀ r ms, Q r ms → N (some (.inl r)) (jj_mh h0 m0 ms)) : ∀ (x0 : Int) (x2 : Int) (ms : jj_MS), fM_letterOf x0 x2 Q ms → jj_J X 6 0 [(0, .inr (.inl x0)), (2, .inl x2)] [] (jj_mh h0 m0 ms) k := by
  intro x0 x2 ms w
  unfold fM_letterOf at w
  refine jr_lload_n (pc := 0) F (j := 0) dX3_letterOf_0 rfl ?_
  refine jr_lstore_n (pc := 1) F (vs' := [(3, .inr (.inl _)), (0, .inr (.inl _)), (2, .inl _)]) dX3_letterOf_1 (Nat.le_of_ble_eq_true rfl) rfl ?_
  refine jr_lload_n (pc := 2) F (j := 1) dX3_letterOf_2 rfl ?_
  refine jr_callS (pc := 3) (As := [_]) F M (lw_S q3426 q3427 q143 q3428) dX3_letterOf_3 hM_lettersOf.2 rfl (Nat.le_of_ble_eq_true rfl) (Nat.le_of_ble_eq_true rfl) (Nat.le_of_ble_eq_true rfl) (Nat.zero_le _) (cM_lettersOf S hs w) (fun v9 h9 q9 => ?_) (fun _ _ _ q9 => q9.elim)
  obtain ⟨r4, ms3, rfl, rfl, w⟩ := q9
  refine jr_iconst (pc := 6) F dX3_letterOf_6 ?_
  refine jr_isub (pc := 7) F dX3_letterOf_7 ?_
  have w := w _ rfl
  refine jr_istore (pc := 8) F (vs' := [(5, .inl _), (3, .inr (.inl _)), (0, .inr (.inl _)), (2, .inl _)]) dX3_letterOf_8 (Nat.le_of_ble_eq_true rfl) rfl ?_
  refine jj_J.sub [3, 1, 0] rfl ?_
  obtain ⟨n9, w⟩ := w
  exact sM_letterOf_l10 F M S hs hQ _ n9 _ _ _ w

theorem cM_letterOf {G : jj_G} {l : Launch} (S : jj_GS G l) {h0 : jj_H} {m0 : Nat} (hs : jj_hs G h0 m0) {x0 : Int} {x2 : Int} {ms : jj_MS} {Q : Int → jj_MS → Prop} (w : fM_letterOf x0 x2 Q ms) : jj_Ct G l yX3_letterOf (ws_ yX3_letterOf cX3_letterOf 6 (some (.int))) 1 24 [.inr (.inl x0), .inl x2] (jj_mh h0 m0 ms) 0 (jm_Ni h0 m0 Q) jj_F0 := by
  refine jj_Ct.of S.1 (by decide +kernel) (Nat.le_of_ble_eq_true rfl) rfl (fun X hG hl F M O hnm => ?_)
  subst hG; subst hl
  exact sM_letterOf F M S hs (fun r ms q => ⟨r, ms, rfl, rfl, q⟩) _ _ _ w
theorem hM_letterOf : yX3_letterOf.cls = RX3 ∧ yX3_letterOf.cls ≠ "java/lang/invoke/MethodHandle" ∧ yX3_letterOf.cls ≠ "java/lang/invoke/VarHandle" ∧ (parseMethodDescriptor yX3_letterOf.desc).map (fun d => d.parameters.length) = some 2 := by decide +kernel
/-! letter(III)I -/
def fM_letter_j33 (Q : Int → jj_MS → Prop) (ms : jj_MS) : Prop :=
  fM_fail 1 (fun r2 ms1 =>
  Q r2 ms1) ms

def fM_letter (x1 : Int) (x2 : Int) (x3 : Int) (Q : Int → jj_MS → Prop) (ms : jj_MS) : Prop :=
  ∀ ms3, ms3 = jj_mI ms 7 0 →
  fM_isWordOf x1 x2 (fun r5 ms4 =>
  jj_r r5 ∧ (r5 = 0 → (
    fM_letter_j33 Q ms4)) ∧
  (¬ r5 = 0 → (
    fM_wordOf x1 x2 (fun r7 ms6 =>
    fM_lettersOf r7 (fun r9 ms8 =>
    fM_isBetween x3 0 (r9 - 1) (fun r11 ms10 =>
    jj_r r11 ∧ (¬ r11 = 0 → (
      fM_wordOf x1 x2 (fun r13 ms12 =>
      fM_letterOf r13 x3 (fun r15 ms14 =>
      Q r15 ms14) ms12) ms10)) ∧
    (r11 = 0 → (
      fM_letter_j33 Q ms10))) ms8) ms6) ms4))) ms3

theorem sM_letter_j33 {X : jj_X} {h0 : jj_H} {m0 k : Nat} {N : Option jj_AV → jj_H → Prop} {XN : String → Nat → jj_H → Prop} (F : jj_F X RX3 cX3_letter 4) (M : jj_M X (some (.int)) 3 65 N XN) (S : jj_GS X.1 X.2.2.1) (hs : jj_hs X.1 h0 m0) {Q : Int → jj_MS → Prop} (hQ : ∀ r ms, Q r ms → N (some (.inl r)) (jj_mh h0 m0 ms)) : ∀ (ms : jj_MS), fM_letter_j33 Q ms → jj_J X 4 33 [(0, .inr (.inr (.inl (some m0))))] [] (jj_mh h0 m0 ms) k := by
  intro  ms w
  unfold fM_letter_j33 at w
  refine jr_aload_n (pc := 33) F (j := 0) dX3_letter_33 rfl ?_
  refine jr_iconst (pc := 34) F dX3_letter_34 ?_
  refine jr_callV (pc := 35) (As := [_]) F M (lw_V q3276 q3278 qs46 q143 q3279) dX3_letter_35 hM_fail rfl (Nat.le_of_ble_eq_true rfl) (Nat.le_of_ble_eq_true rfl) (Nat.le_of_ble_eq_true rfl) (jj_set_self _ _ _) rfl rfl (Nat.zero_le _) (cM_fail S hs w) (fun v9 h9 q9 => ?_) (fun _ _ _ q9 => q9.elim)
  obtain ⟨r2, ms1, rfl, rfl, w⟩ := q9
  exact jr_iret (pc := 38) F M dX3_letter_38 (hQ _ _ w)

theorem sM_letter {X : jj_X} {h0 : jj_H} {m0 k : Nat} {N : Option jj_AV → jj_H → Prop} {XN : String → Nat → jj_H → Prop} (F : jj_F X RX3 cX3_letter 4) (M : jj_M X (some (.int)) 3 65 N XN) (S : jj_GS X.1 X.2.2.1) (hs : jj_hs X.1 h0 m0) {Q : Int → jj_MS → Prop} (hQ : ∀ r ms, Q r ms → N (some (.inl r)) (jj_mh h0 m0 ms)) : ∀ (x1 : Int) (x2 : Int) (x3 : Int) (ms : jj_MS), fM_letter x1 x2 x3 Q ms → jj_J X 4 0 [(0, .inr (.inr (.inl (some m0)))), (1, .inl x1), (2, .inl x2), (3, .inl x3)] [] (jj_mh h0 m0 ms) k := by
  intro x1 x2 x3 ms w
  unfold fM_letter at w
  refine jr_aload_n (pc := 0) F (j := 0) dX3_letter_0 rfl ?_
  refine jr_iconst (pc := 1) F dX3_letter_1 ?_
  have w := w _ rfl
  refine jm_put (pc := 2) (f := 7) F (Nat.le_of_ble_eq_true rfl) q3137 rfl rfl rfl rfl rfl rfl dX3_letter_2 ?_
  refine jr_aload_n (pc := 5) F (j := 0) dX3_letter_5 rfl ?_
  refine jr_iload_n (pc := 6) F (j := 1) dX3_letter_6 rfl ?_
  refine jr_iload_n (pc := 7) F (j := 2) dX3_letter_7 rfl ?_
  refine jr_callV (pc := 8) (As := [_, _]) F M (lw_V q3449 q3451 qs77 q143 q3452) dX3_letter_8 hM_isWordOf rfl (Nat.le_of_ble_eq_true rfl) (Nat.le_of_ble_eq_true rfl) (Nat.le_of_ble_eq_true rfl) (jj_set_self _ _ _) rfl rfl (Nat.zero_le _) (cM_isWordOf S hs w) (fun v9 h9 q9 => ?_) (fun _ _ _ q9 => q9.elim)
  obtain ⟨r5, ms4, rfl, rfl, w⟩ := q9
  obtain ⟨hx9, w1, w2⟩ := w
  refine jr_if_eq (pc := 11) (tgt := 33) F hx9 dX3_letter_11 rfl (fun c9 => ?_) (fun c9 => ?_)
  · have w := w1 c9
    refine jj_J.sub [0] rfl ?_
    exact sM_letter_j33 F M S hs hQ _ w
  · have w := w2 c9
    refine jr_iload_n (pc := 14) F (j := 3) dX3_letter_14 rfl ?_
    refine jr_iconst (pc := 15) F dX3_letter_15 ?_
    refine jr_aload_n (pc := 16) F (j := 0) dX3_letter_16 rfl ?_
    refine jr_iload_n (pc := 17) F (j := 1) dX3_letter_17 rfl ?_
    refine jr_iload_n (pc := 18) F (j := 2) dX3_letter_18 rfl ?_
    refine jr_callV (pc := 19) (As := [_, _]) F M (lw_V q3323 q3325 qs55 q143 q3326) dX3_letter_19 hM_wordOf rfl (Nat.le_of_ble_eq_true rfl) (Nat.le_of_ble_eq_true rfl) (Nat.le_of_ble_eq_true rfl) (jj_set_self _ _ _) rfl rfl (Nat.zero_le _) (cM_wordOf S hs w) (fun v9 h9 q9 => ?_) (fun _ _ _ q9 => q9.elim)
    obtain ⟨r7, ms6, rfl, rfl, w⟩ := q9
    refine jr_callS (pc := 22) (As := [_]) F M (lw_S q3426 q3427 q143 q3428) dX3_letter_22 hM_lettersOf.2 rfl (Nat.le_of_ble_eq_true rfl) (Nat.le_of_ble_eq_true rfl) (Nat.le_of_ble_eq_true rfl) (Nat.zero_le _) (cM_lettersOf S hs w) (fun v9 h9 q9 => ?_) (fun _ _ _ q9 => q9.elim)
    obtain ⟨r9, ms8, rfl, rfl, w⟩ := q9
    refine jr_iconst (pc := 25) F dX3_letter_25 ?_
    refine jr_isub (pc := 26) F dX3_letter_26 ?_
    refine jr_callS (pc := 27) (As := [_, _, _]) F M (lw_S q3284 q3285 q143 q3286) dX3_letter_27 hM_isBetween.2 rfl (Nat.le_of_ble_eq_true rfl) (Nat.le_of_ble_eq_true rfl) (Nat.le_of_ble_eq_true rfl) (Nat.zero_le _) (cM_isBetween S hs w) (fun v9 h9 q9 => ?_) (fun _ _ _ q9 => q9.elim)
    obtain ⟨r11, ms10, rfl, rfl, w⟩ := q9
    obtain ⟨hx9, w1, w2⟩ := w
    refine jr_if_ne (pc := 30) (tgt := 39) F hx9 dX3_letter_30 rfl (fun c9 => ?_) (fun c9 => ?_)
    · have w := w1 c9
      refine jr_aload_n (pc := 39) F (j := 0) dX3_letter_39 rfl ?_
      refine jr_iload_n (pc := 40) F (j := 1) dX3_letter_40 rfl ?_
      refine jr_iload_n (pc := 41) F (j := 2) dX3_letter_41 rfl ?_
      refine jr_callV (pc := 42) (As := [_, _]) F M (lw_V q3323 q3325 qs55 q143 q3326) dX3_letter_42 hM_wordOf rfl (Nat.le_of_ble_eq_true rfl) (Nat.le_of_ble_eq_true rfl) (Nat.le_of_ble_eq_true rfl) (jj_set_self _ _ _) rfl rfl (Nat.zero_le _) (cM_wordOf S hs w) (fun v9 h9 q9 => ?_) (fun _ _ _ q9 => q9.elim)
      obtain ⟨r13, ms12, rfl, rfl, w⟩ := q9
      refine jr_iload_n (pc := 45) F (j := 3) dX3_letter_45 rfl ?_
      refine jr_callS (pc := 46) (As := [_, _]) F M (lw_S q3457 q3458 q143 q3459) dX3_letter_46 hM_letterOf.2 rfl (Nat.le_of_ble_eq_true rfl) (Nat.le_of_ble_eq_true rfl) (Nat.le_of_ble_eq_true rfl) (Nat.zero_le _) (cM_letterOf S hs w) (fun v9 h9 q9 => ?_) (fun _ _ _ q9 => q9.elim)
      obtain ⟨r15, ms14, rfl, rfl, w⟩ := q9
      exact jr_iret (pc := 49) F M dX3_letter_49 (hQ _ _ w)
    · have w := w2 c9
      refine jj_J.sub [0] rfl ?_
      exact sM_letter_j33 F M S hs hQ _ w

theorem cM_letter {G : jj_G} {l : Launch} (S : jj_GS G l) {h0 : jj_H} {m0 : Nat} (hs : jj_hs G h0 m0) {x1 : Int} {x2 : Int} {x3 : Int} {ms : jj_MS} {Q : Int → jj_MS → Prop} (w : fM_letter x1 x2 x3 Q ms) : jj_Ct G l yX3_letter (ws_ yX3_letter cX3_letter 4 (some (.int))) 3 65 [.inr (.inr (.inl (some m0))), .inl x1, .inl x2, .inl x3] (jj_mh h0 m0 ms) 0 (jm_Ni h0 m0 Q) jj_F0 := by
  refine jj_Ct.of S.1 (by decide +kernel) (Nat.le_of_ble_eq_true rfl) rfl (fun X hG hl F M O hnm => ?_)
  subst hG; subst hl
  exact sM_letter F M S hs (fun r ms q => ⟨r, ms, rfl, rfl, q⟩) _ _ _ _ w
theorem hM_letter : yX3_letter.cls = RX3 ∧ yX3_letter.cls ≠ "java/lang/invoke/MethodHandle" ∧ yX3_letter.cls ≠ "java/lang/invoke/VarHandle" ∧ (parseMethodDescriptor yX3_letter.desc).map (fun d => d.parameters.length) = some 3 := by decide +kernel
/-! followInsertion(II)V -/
def fM_followInsertion_j54 (K2 : Int → jj_MS → Prop) (x1 : Int) (x2 : Int) (x3 : Int) (y1 : Int) (y2 : Int) (y3 : Int) (Q : jj_MS → Prop) (ms : jj_MS) : Prop :=
  0 ≤ y1 ∧ y1 < 614 ∧
  ∀ ms1, ms1 = jj_mA ms 0 y1 (y2 + y3) →
  0 ≤ ((374 + (6 * x3)) + 3) ∧ ((374 + (6 * x3)) + 3) < 614 ∧
  fM_ofNote x3 3 (fun r3 ms2 =>
  jj_r r3 ∧ jj_r x2 ∧ (r3 < x2 → (
    0 ≤ ((374 + (6 * x3)) + 3) ∧ ((374 + (6 * x3)) + 3) < 614 ∧
    ∀ ms4, ms4 = jj_mA ms2 0 ((374 + (6 * x3)) + 3) ((ms1.2 0 ((374 + (6 * x3)) + 3)) + 0) →
    ∀ v5, v5 = x3 + 1 →
    K2 v5 ms4)) ∧
  (¬ r3 < x2 → (
    0 ≤ ((374 + (6 * x3)) + 3) ∧ ((374 + (6 * x3)) + 3) < 614 ∧
    ∀ ms6, ms6 = jj_mA ms2 0 ((374 + (6 * x3)) + 3) ((ms1.2 0 ((374 + (6 * x3)) + 3)) + 1) →
    ∀ v7, v7 = x3 + 1 →
    K2 v7 ms6))) ms1

def fM_followInsertion_l2 (x1 : Int) (x2 : Int) (Q : jj_MS → Prop) : Nat → Int → jj_MS → Prop
  | 0, _, _ => False
  | n + 1, x3, ms =>
  fM_notes (fun r9 ms8 =>
  jj_r x3 ∧ jj_r r9 ∧ (r9 ≤ x3 → (
    Q ms8)) ∧
  (¬ r9 ≤ x3 → (
    fM_ofNote x3 2 (fun r11 ms10 =>
    jj_r r11 ∧ jj_r x1 ∧ (r11 = x1 → (
      0 ≤ ((374 + (6 * x3)) + 4) ∧ ((374 + (6 * x3)) + 4) < 614 ∧
      fM_ofNote x3 4 (fun r13 ms12 =>
      jj_r r13 ∧ jj_r x2 ∧ (r13 < x2 → (
        fM_followInsertion_j54 (fM_followInsertion_l2 x1 x2 Q n) x1 x2 x3 ((374 + (6 * x3)) + 4) (ms10.2 0 ((374 + (6 * x3)) + 4)) 0 Q ms12)) ∧
      (¬ r13 < x2 → (
        fM_followInsertion_j54 (fM_followInsertion_l2 x1 x2 Q n) x1 x2 x3 ((374 + (6 * x3)) + 4) (ms10.2 0 ((374 + (6 * x3)) + 4)) 1 Q ms12))) ms10)) ∧
    (¬ r11 = x1 → (
      ∀ v14, v14 = x3 + 1 →
      fM_followInsertion_l2 x1 x2 Q n v14 ms10))) ms8))) ms

def fM_followInsertion (x1 : Int) (x2 : Int) (Q : jj_MS → Prop) (ms : jj_MS) : Prop :=
  ∃ n9, fM_followInsertion_l2 x1 x2 Q n9 0 ms

theorem sM_followInsertion_j54 {X : jj_X} {h0 : jj_H} {m0 k : Nat} {N : Option jj_AV → jj_H → Prop} {XN : String → Nat → jj_H → Prop} (F : jj_F X RX3 cX3_followInsertion 4) (M : jj_M X (none) 1 22 N XN) (S : jj_GS X.1 X.2.2.1) (hs : jj_hs X.1 h0 m0) {Q : jj_MS → Prop} (hQ : ∀ ms, Q ms → N none (jj_mh h0 m0 ms)) (x1 : Int) (x2 : Int) {K2 : Int → jj_MS → Prop} (hK2 : ∀ (z3 : Int) (ms : jj_MS), K2 z3 ms → jj_J X 4 2 [(0, .inr (.inr (.inl (some m0)))), (1, .inl x1), (2, .inl x2), (3, .inl z3)] [] (jj_mh h0 m0 ms) k) : ∀ (x3 : Int) (y1 : Int) (y2 : Int) (y3 : Int) (ms : jj_MS), fM_followInsertion_j54 K2 x1 x2 x3 y1 y2 y3 Q ms → jj_J X 4 54 [(0, .inr (.inr (.inl (some m0)))), (1, .inl x1), (2, .inl x2), (3, .inl x3)] [.inl y3, .inl y2, .inl y1, .inr (.inr (.inl (some (m0 + 1 + 0))))] (jj_mh h0 m0 ms) k := by
  intro x3 y1 y2 y3 ms w
  unfold fM_followInsertion_j54 at w
  refine jr_iadd (pc := 54) F dX3_followInsertion_54 ?_
  obtain ⟨hi1, hi2, w⟩ := w
  have w := w _ rfl
  refine jm_iast (pc := 55) (f := 0) (o := 0) F (Nat.le_of_ble_eq_true rfl) rfl (by decide) hi1 hi2 dX3_followInsertion_55 ?_
  refine jr_aload_n (pc := 56) F (j := 0) dX3_followInsertion_56 rfl ?_
  refine jm_get (pc := 57) (f := 0) (v := .inr (.inr (.inl (some (m0 + 1 + 0))))) F (Nat.le_of_ble_eq_true rfl) q3130 rfl rfl dX3_followInsertion_57 ?_
  refine jr_sipush (pc := 60) F dX3_followInsertion_60 (by decide +kernel) ?_
  refine jr_bipush (pc := 63) F dX3_followInsertion_63 (by decide +kernel) ?_
  refine jr_iload_n (pc := 65) F (j := 3) dX3_followInsertion_65 rfl ?_
  refine jr_imul (pc := 66) F dX3_followInsertion_66 ?_
  refine jr_iadd (pc := 67) F dX3_followInsertion_67 ?_
  refine jr_iconst (pc := 68) F dX3_followInsertion_68 ?_
  refine jr_iadd (pc := 69) F dX3_followInsertion_69 ?_
  refine jr_dup2 (pc := 70) F dX3_followInsertion_70 rfl rfl ?_
  obtain ⟨hi1, hi2, w⟩ := w
  refine jm_iald (pc := 71) (f := 0) (o := 0) F rfl (by decide) hi1 hi2 dX3_followInsertion_71 ?_
  refine jr_aload_n (pc := 72) F (j := 0) dX3_followInsertion_72 rfl ?_
  refine jr_iload_n (pc := 73) F (j := 3) dX3_followInsertion_73 rfl ?_
  refine jr_iconst (pc := 74) F dX3_followInsertion_74 ?_
  refine jr_callV (pc := 75) (As := [_, _]) F M (lw_V q3338 q3340 qs57 q143 q3341) dX3_followInsertion_75 hM_ofNote rfl (Nat.le_of_ble_eq_true rfl) (Nat.le_of_ble_eq_true rfl) (Nat.le_of_ble_eq_true rfl) (jj_set_self _ _ _) rfl rfl (Nat.zero_le _) (cM_ofNote S hs w) (fun v9 h9 q9 => ?_) (fun _ _ _ q9 => q9.elim)
  obtain ⟨r3, ms2, rfl, rfl, w⟩ := q9
  refine jr_iload_n (pc := 78) F (j := 2) dX3_followInsertion_78 rfl ?_
  obtain ⟨hx9, hy9, w1, w2⟩ := w
  refine jr_icmp_lt (pc := 79) (tgt := 86) F hx9 hy9 dX3_followInsertion_79 rfl (fun c9 => ?_) (fun c9 => ?_)
  · have w := w1 c9
    refine jr_iconst (pc := 86) F dX3_followInsertion_86 ?_
    refine jr_iadd (pc := 87) F dX3_followInsertion_87 ?_
    obtain ⟨hi1, hi2, w⟩ := w
    have w := w _ rfl
    refine jm_iast (pc := 88) (f := 0) (o := 0) F (Nat.le_of_ble_eq_true rfl) rfl (by decide) hi1 hi2 dX3_followInsertion_88 ?_
    have w := w _ rfl
    refine jr_iinc (pc := 89) F (j := 3) (vs' := [(3, .inl _), (0, .inr (.inr (.inl _))), (1, .inl _), (2, .inl _)]) dX3_followInsertion_89 rfl rfl (Nat.le_of_ble_eq_true rfl) rfl ?_
    refine jr_goto (pc := 92) (tgt := 2) F dX3_followInsertion_92 rfl ?_
    refine jj_J.sub [1, 2, 3, 0] rfl ?_
    exact hK2 _ _ w
  · have w := w2 c9
    refine jr_iconst (pc := 82) F dX3_followInsertion_82 ?_
    refine jr_goto (pc := 83) (tgt := 87) F dX3_followInsertion_83 rfl ?_
    refine jr_iadd (pc := 87) F dX3_followInsertion_87 ?_
    obtain ⟨hi1, hi2, w⟩ := w
    have w := w _ rfl
    refine jm_iast (pc := 88) (f := 0) (o := 0) F (Nat.le_of_ble_eq_true rfl) rfl (by decide) hi1 hi2 dX3_followInsertion_88 ?_
    have w := w _ rfl
    refine jr_iinc (pc := 89) F (j := 3) (vs' := [(3, .inl _), (0, .inr (.inr (.inl _))), (1, .inl _), (2, .inl _)]) dX3_followInsertion_89 rfl rfl (Nat.le_of_ble_eq_true rfl) rfl ?_
    refine jr_goto (pc := 92) (tgt := 2) F dX3_followInsertion_92 rfl ?_
    refine jj_J.sub [1, 2, 3, 0] rfl ?_
    exact hK2 _ _ w

theorem sM_followInsertion_l2 {X : jj_X} {h0 : jj_H} {m0 k : Nat} {N : Option jj_AV → jj_H → Prop} {XN : String → Nat → jj_H → Prop} (F : jj_F X RX3 cX3_followInsertion 4) (M : jj_M X (none) 1 22 N XN) (S : jj_GS X.1 X.2.2.1) (hs : jj_hs X.1 h0 m0) {Q : jj_MS → Prop} (hQ : ∀ ms, Q ms → N none (jj_mh h0 m0 ms)) (x1 : Int) (x2 : Int) : ∀ (n : Nat) (x3 : Int) (ms : jj_MS), fM_followInsertion_l2 x1 x2 Q n x3 ms → jj_J X 4 2 [(0, .inr (.inr (.inl (some m0)))), (1, .inl x1), (2, .inl x2), (3, .inl x3)] [] (jj_mh h0 m0 ms) k := by
  intro n
  induction n with
  | zero =>
    intro x3 ms w
    exact (show False from w).elim
  | succ n ih =>
    intro x3 ms w
    rw [fM_followInsertion_l2] at w
    refine jr_iload_n (pc := 2) F (j := 3) dX3_followInsertion_2 rfl ?_
    refine jr_aload_n (pc := 3) F (j := 0) dX3_followInsertion_3 rfl ?_
    refine jr_callV (pc := 4) (As := []) F M (lw_V q3334 q3336 qs56 q143 q3337) dX3_followInsertion_4 hM_notes rfl (Nat.le_of_ble_eq_true rfl) (Nat.le_of_ble_eq_true rfl) (Nat.le_of_ble_eq_true rfl) (jj_set_self _ _ _) rfl rfl (Nat.zero_le _) (cM_notes S hs w) (fun v9 h9 q9 => ?_) (fun _ _ _ q9 => q9.elim)
    obtain ⟨r9, ms8, rfl, rfl, w⟩ := q9
    obtain ⟨hx9, hy9, w1, w2⟩ := w
    refine jr_icmp_ge (pc := 7) (tgt := 95) F hx9 hy9 dX3_followInsertion_7 rfl (fun c9 => ?_) (fun c9 => ?_)
    · have w := w1 c9
      exact jr_vret (pc := 95) F M dX3_followInsertion_95 (hQ _ w)
    · have w := w2 c9
      refine jr_aload_n (pc := 10) F (j := 0) dX3_followInsertion_10 rfl ?_
      refine jr_iload_n (pc := 11) F (j := 3) dX3_followInsertion_11 rfl ?_
      refine jr_iconst (pc := 12) F dX3_followInsertion_12 ?_
      refine jr_callV (pc := 13) (As := [_, _]) F M (lw_V q3338 q3340 qs57 q143 q3341) dX3_followInsertion_13 hM_ofNote rfl (Nat.le_of_ble_eq_true rfl) (Nat.le_of_ble_eq_true rfl) (Nat.le_of_ble_eq_true rfl) (jj_set_self _ _ _) rfl rfl (Nat.zero_le _) (cM_ofNote S hs w) (fun v9 h9 q9 => ?_) (fun _ _ _ q9 => q9.elim)
      obtain ⟨r11, ms10, rfl, rfl, w⟩ := q9
      refine jr_iload_n (pc := 16) F (j := 1) dX3_followInsertion_16 rfl ?_
      obtain ⟨hx9, hy9, w1, w2⟩ := w
      refine jr_icmp_eq (pc := 17) (tgt := 23) F hx9 hy9 dX3_followInsertion_17 rfl (fun c9 => ?_) (fun c9 => ?_)
      · have w := w1 c9
        refine jr_aload_n (pc := 23) F (j := 0) dX3_followInsertion_23 rfl ?_
        refine jm_get (pc := 24) (f := 0) (v := .inr (.inr (.inl (some (m0 + 1 + 0))))) F (Nat.le_of_ble_eq_true rfl) q3130 rfl rfl dX3_followInsertion_24 ?_
        refine jr_sipush (pc := 27) F dX3_followInsertion_27 (by decide +kernel) ?_
        refine jr_bipush (pc := 30) F dX3_followInsertion_30 (by decide +kernel) ?_
        refine jr_iload_n (pc := 32) F (j := 3) dX3_followInsertion_32 rfl ?_
        refine jr_imul (pc := 33) F dX3_followInsertion_33 ?_
        refine jr_iadd (pc := 34) F dX3_followInsertion_34 ?_
        refine jr_iconst (pc := 35) F dX3_followInsertion_35 ?_
        refine jr_iadd (pc := 36) F dX3_followInsertion_36 ?_
        refine jr_dup2 (pc := 37) F dX3_followInsertion_37 rfl rfl ?_
        obtain ⟨hi1, hi2, w⟩ := w
        refine jm_iald (pc := 38) (f := 0) (o := 0) F rfl (by decide) hi1 hi2 dX3_followInsertion_38 ?_
        refine jr_aload_n (pc := 39) F (j := 0) dX3_followInsertion_39 rfl ?_
        refine jr_iload_n (pc := 40) F (j := 3) dX3_followInsertion_40 rfl ?_
        refine jr_iconst (pc := 41) F dX3_followInsertion_41 ?_
        refine jr_callV (pc := 42) (As := [_, _]) F M (lw_V q3338 q3340 qs57 q143 q3341) dX3_followInsertion_42 hM_ofNote rfl (Nat.le_of_ble_eq_true rfl) (Nat.le_of_ble_eq_true rfl) (Nat.le_of_ble_eq_true rfl) (jj_set_self _ _ _) rfl rfl (Nat.zero_le _) (cM_ofNote S hs w) (fun v9 h9 q9 => ?_) (fun _ _ _ q9 => q9.elim)
        obtain ⟨r13, ms12, rfl, rfl, w⟩ := q9
        refine jr_iload_n (pc := 45) F (j := 2) dX3_followInsertion_45 rfl ?_
        obtain ⟨hx9, hy9, w1, w2⟩ := w
        refine jr_icmp_lt (pc := 46) (tgt := 53) F hx9 hy9 dX3_followInsertion_46 rfl (fun c9 => ?_) (fun c9 => ?_)
        · have w := w1 c9
          refine jr_iconst (pc := 53) F dX3_followInsertion_53 ?_
          exact sM_followInsertion_j54 F M S hs hQ _ _ ih _ _ _ _ _ w
        · have w := w2 c9
          refine jr_iconst (pc := 49) F dX3_followInsertion_49 ?_
          refine jr_goto (pc := 50) (tgt := 54) F dX3_followInsertion_50 rfl ?_
          exact sM_followInsertion_j54 F M S hs hQ _ _ ih _ _ _ _ _ w
      · have w := w2 c9
        refine jr_goto (pc := 20) (tgt := 89) F dX3_followInsertion_20 rfl ?_
        have w := w _ rfl
        refine jr_iinc (pc := 89) F (j := 3) (vs' := [(3, .inl _), (0, .inr (.inr (.inl _))), (1, .inl _), (2, .inl _)]) dX3_followInsertion_89 rfl rfl (Nat.le_of_ble_eq_true rfl) rfl ?_
        refine jr_goto (pc := 92) (tgt := 2) F dX3_followInsertion_92 rfl ?_
        refine jj_J.sub [1, 2, 3, 0] rfl ?_
        exact ih _ _ w

theorem sM_followInsertion {X : jj_X} {h0 : jj_H} {m0 k : Nat} {N : Option jj_AV → jj_H → Prop} {XN : String → Nat → jj_H → Prop} (F : jj_F X RX3 cX3_followInsertion 4) (M : jj_M X (none) 1 22 N XN) (S : jj_GS X.1 X.2.2.1) (hs : jj_hs X.1 h0 m0) {Q : jj_MS → Prop} (hQ : ∀ ms, Q ms → N none (jj_mh h0 m0 ms)) : ∀ (x1 : Int) (x2 : Int) (ms : jj_MS), fM_followInsertion x1 x2 Q ms → jj_J X 4 0 [(0, .inr (.inr (.inl (some m0)))), (1, .inl x1), (2, .inl x2)] [] (jj_mh h0 m0 ms) k := by
  intro x1 x2 ms w
  unfold fM_followInsertion at w
  refine jr_iconst (pc := 0) F dX3_followInsertion_0 ?_
  refine jr_istore_n (pc := 1) F (vs' := [(3, .inl _), (0, .inr (.inr (.inl _))), (1, .inl _), (2, .inl _)]) dX3_followInsertion_1 (Nat.le_of_ble_eq_true rfl) rfl ?_
  refine jj_J.sub [1, 2, 3, 0] rfl ?_
  obtain ⟨n9, w⟩ := w
  exact sM_followInsertion_l2 F M S hs hQ _ _ n9 _ _ w

theorem cM_followInsertion {G : jj_G} {l : Launch} (S : jj_GS G l) {h0 : jj_H} {m0 : Nat} (hs : jj_hs G h0 m0) {x1 : Int} {x2 : Int} {ms : jj_MS} {Q : jj_MS → Prop} (w : fM_followInsertion x1 x2 Q ms) : jj_Ct G l yX3_followInsertion (ws_ yX3_followInsertion cX3_followInsertion 4 (none)) 1 22 [.inr (.inr (.inl (some m0))), .inl x1, .inl x2] (jj_mh h0 m0 ms) 0 (jm_Nv h0 m0 Q) jj_F0 := by
  refine jj_Ct.of S.1 (by decide +kernel) (Nat.le_of_ble_eq_true rfl) rfl (fun X hG hl F M O hnm => ?_)
  subst hG; subst hl
  exact sM_followInsertion F M S hs (fun ms q => ⟨ms, rfl, rfl, q⟩) _ _ _ w
theorem hM_followInsertion : yX3_followInsertion.cls = RX3 ∧ yX3_followInsertion.cls ≠ "java/lang/invoke/MethodHandle" ∧ yX3_followInsertion.cls ≠ "java/lang/invoke/VarHandle" ∧ (parseMethodDescriptor yX3_followInsertion.desc).map (fun d => d.parameters.length) = some 2 := by decide +kernel
/-! openPlace(II)V -/
def fM_openPlace_l6 (x1 : Int) (x2 : Int) (Q : jj_MS → Prop) : Nat → Int → jj_MS → Prop
  | 0, _, _ => False
  | n + 1, x3, ms =>
  jj_r x3 ∧ jj_r x2 ∧ (x3 ≤ x2 → (
    0 ≤ ((5 + (3 * x1)) + 0) ∧ ((5 + (3 * x1)) + 0) < 614 ∧
    0 ≤ ((5 + (3 * x1)) + 0) ∧ ((5 + (3 * x1)) + 0) < 614 ∧
    ∀ ms1, ms1 = jj_mA ms 0 ((5 + (3 * x1)) + 0) ((ms.2 0 ((5 + (3 * x1)) + 0)) + 1) →
    Q ms1)) ∧
  (¬ x3 ≤ x2 → (
    fM_wordPlace x1 x3 (fun r3 ms2 =>
    fM_wordOf x1 (x3 - 1) (fun r5 ms4 =>
    0 ≤ r3 ∧ r3 < 606 ∧
    ∀ ms6, ms6 = jj_mA ms4 3 r3 r5 →
    fM_wordPlace x1 x3 (fun r8 ms7 =>
    fM_wordPlace x1 (x3 - 1) (fun r10 ms9 =>
    0 ≤ (14 + r10) ∧ (14 + r10) < 614 ∧
    0 ≤ (14 + r8) ∧ (14 + r8) < 614 ∧
    ∀ ms11, ms11 = jj_mA ms9 0 (14 + r8) (ms9.2 0 (14 + r10)) →
    ∀ v12, v12 = x3 + (-1) →
    fM_openPlace_l6 x1 x2 Q n v12 ms11) ms7) ms6) ms2) ms))

def fM_openPlace (x1 : Int) (x2 : Int) (Q : jj_MS → Prop) (ms : jj_MS) : Prop :=
  fM_sizeOf x1 (fun r14 ms13 =>
  ∃ n9, fM_openPlace_l6 x1 x2 Q n9 r14 ms13) ms

theorem sM_openPlace_l6 {X : jj_X} {h0 : jj_H} {m0 k : Nat} {N : Option jj_AV → jj_H → Prop} {XN : String → Nat → jj_H → Prop} (F : jj_F X RX3 cX3_openPlace 4) (M : jj_M X (none) 2 43 N XN) (S : jj_GS X.1 X.2.2.1) (hs : jj_hs X.1 h0 m0) {Q : jj_MS → Prop} (hQ : ∀ ms, Q ms → N none (jj_mh h0 m0 ms)) (x1 : Int) (x2 : Int) : ∀ (n : Nat) (x3 : Int) (ms : jj_MS), fM_openPlace_l6 x1 x2 Q n x3 ms → jj_J X 4 6 [(0, .inr (.inr (.inl (some m0)))), (1, .inl x1), (2, .inl x2), (3, .inl x3)] [] (jj_mh h0 m0 ms) k := by
  intro n
  induction n with
  | zero =>
    intro x3 ms w
    exact (show False from w).elim
  | succ n ih =>
    intro x3 ms w
    rw [fM_openPlace_l6] at w
    refine jr_iload_n (pc := 6) F (j := 3) dX3_openPlace_6 rfl ?_
    refine jr_iload_n (pc := 7) F (j := 2) dX3_openPlace_7 rfl ?_
    obtain ⟨hx9, hy9, w1, w2⟩ := w
    refine jr_icmp_le (pc := 8) (tgt := 63) F hx9 hy9 dX3_openPlace_8 rfl (fun c9 => ?_) (fun c9 => ?_)
    · have w := w1 c9
      refine jr_aload_n (pc := 63) F (j := 0) dX3_openPlace_63 rfl ?_
      refine jm_get (pc := 64) (f := 0) (v := .inr (.inr (.inl (some (m0 + 1 + 0))))) F (Nat.le_of_ble_eq_true rfl) q3130 rfl rfl dX3_openPlace_64 ?_
      refine jr_iconst (pc := 67) F dX3_openPlace_67 ?_
      refine jr_iconst (pc := 68) F dX3_openPlace_68 ?_
      refine jr_iload_n (pc := 69) F (j := 1) dX3_openPlace_69 rfl ?_
      refine jr_imul (pc := 70) F dX3_openPlace_70 ?_
      refine jr_iadd (pc := 71) F dX3_openPlace_71 ?_
      refine jr_iconst (pc := 72) F dX3_openPlace_72 ?_
      refine jr_iadd (pc := 73) F dX3_openPlace_73 ?_
      refine jr_dup2 (pc := 74) F dX3_openPlace_74 rfl rfl ?_
      obtain ⟨hi1, hi2, w⟩ := w
      refine jm_iald (pc := 75) (f := 0) (o := 0) F rfl (by decide) hi1 hi2 dX3_openPlace_75 ?_
      refine jr_iconst (pc := 76) F dX3_openPlace_76 ?_
      refine jr_iadd (pc := 77) F dX3_openPlace_77 ?_
      obtain ⟨hi1, hi2, w⟩ := w
      have w := w _ rfl
      refine jm_iast (pc := 78) (f := 0) (o := 0) F (Nat.le_of_ble_eq_true rfl) rfl (by decide) hi1 hi2 dX3_openPlace_78 ?_
      exact jr_vret (pc := 79) F M dX3_openPlace_79 (hQ _ w)
    · have w := w2 c9
      refine jr_aload_n (pc := 11) F (j := 0) dX3_openPlace_11 rfl ?_
      refine jm_get (pc := 12) (f := 3) (v := .inr (.inr (.inl (some (m0 + 1 + 3))))) F (Nat.le_of_ble_eq_true rfl) q3133 rfl rfl dX3_openPlace_12 ?_
      refine jr_iload_n (pc := 15) F (j := 1) dX3_openPlace_15 rfl ?_
      refine jr_iload_n (pc := 16) F (j := 3) dX3_openPlace_16 rfl ?_
      refine jr_callS (pc := 17) (As := [_, _]) F M (lw_S q3327 q3328 q143 q3329) dX3_openPlace_17 hM_wordPlace.2 rfl (Nat.le_of_ble_eq_true rfl) (Nat.le_of_ble_eq_true rfl) (Nat.le_of_ble_eq_true rfl) (Nat.zero_le _) (cM_wordPlace S hs w) (fun v9 h9 q9 => ?_) (fun _ _ _ q9 => q9.elim)
      obtain ⟨r3, ms2, rfl, rfl, w⟩ := q9
      refine jr_aload_n (pc := 20) F (j := 0) dX3_openPlace_20 rfl ?_
      refine jr_iload_n (pc := 21) F (j := 1) dX3_openPlace_21 rfl ?_
      refine jr_iload_n (pc := 22) F (j := 3) dX3_openPlace_22 rfl ?_
      refine jr_iconst (pc := 23) F dX3_openPlace_23 ?_
      refine jr_isub (pc := 24) F dX3_openPlace_24 ?_
      refine jr_callV (pc := 25) (As := [_, _]) F M (lw_V q3323 q3325 qs55 q143 q3326) dX3_openPlace_25 hM_wordOf rfl (Nat.le_of_ble_eq_true rfl) (Nat.le_of_ble_eq_true rfl) (Nat.le_of_ble_eq_true rfl) (jj_set_self _ _ _) rfl rfl (Nat.zero_le _) (cM_wordOf S hs w) (fun v9 h9 q9 => ?_) (fun _ _ _ q9 => q9.elim)
      obtain ⟨r5, ms4, rfl, rfl, w⟩ := q9
      obtain ⟨hi1, hi2, w⟩ := w
      have w := w _ rfl
      refine jm_last (pc := 28) (f := 3) (o := 3) F (Nat.le_of_ble_eq_true rfl) rfl (by decide) hi1 hi2 dX3_openPlace_28 ?_
      refine jr_aload_n (pc := 29) F (j := 0) dX3_openPlace_29 rfl ?_
      refine jm_get (pc := 30) (f := 0) (v := .inr (.inr (.inl (some (m0 + 1 + 0))))) F (Nat.le_of_ble_eq_true rfl) q3130 rfl rfl dX3_openPlace_30 ?_
      refine jr_bipush (pc := 33) F dX3_openPlace_33 (by decide +kernel) ?_
      refine jr_iload_n (pc := 35) F (j := 1) dX3_openPlace_35 rfl ?_
      refine jr_iload_n (pc := 36) F (j := 3) dX3_openPlace_36 rfl ?_
      refine jr_callS (pc := 37) (As := [_, _]) F M (lw_S q3327 q3328 q143 q3329) dX3_openPlace_37 hM_wordPlace.2 rfl (Nat.le_of_ble_eq_true rfl) (Nat.le_of_ble_eq_true rfl) (Nat.le_of_ble_eq_true rfl) (Nat.zero_le _) (cM_wordPlace S hs w) (fun v9 h9 q9 => ?_) (fun _ _ _ q9 => q9.elim)
      obtain ⟨r8, ms7, rfl, rfl, w⟩ := q9
      refine jr_iadd (pc := 40) F dX3_openPlace_40 ?_
      refine jr_aload_n (pc := 41) F (j := 0) dX3_openPlace_41 rfl ?_
      refine jm_get (pc := 42) (f := 0) (v := .inr (.inr (.inl (some (m0 + 1 + 0))))) F (Nat.le_of_ble_eq_true rfl) q3130 rfl rfl dX3_openPlace_42 ?_
      refine jr_bipush (pc := 45) F dX3_openPlace_45 (by decide +kernel) ?_
      refine jr_iload_n (pc := 47) F (j := 1) dX3_openPlace_47 rfl ?_
      refine jr_iload_n (pc := 48) F (j := 3) dX3_openPlace_48 rfl ?_
      refine jr_iconst (pc := 49) F dX3_openPlace_49 ?_
      refine jr_isub (pc := 50) F dX3_openPlace_50 ?_
      refine jr_callS (pc := 51) (As := [_, _]) F M (lw_S q3327 q3328 q143 q3329) dX3_openPlace_51 hM_wordPlace.2 rfl (Nat.le_of_ble_eq_true rfl) (Nat.le_of_ble_eq_true rfl) (Nat.le_of_ble_eq_true rfl) (Nat.zero_le _) (cM_wordPlace S hs w) (fun v9 h9 q9 => ?_) (fun _ _ _ q9 => q9.elim)
      obtain ⟨r10, ms9, rfl, rfl, w⟩ := q9
      refine jr_iadd (pc := 54) F dX3_openPlace_54 ?_
      obtain ⟨hi1, hi2, w⟩ := w
      refine jm_iald (pc := 55) (f := 0) (o := 0) F rfl (by decide) hi1 hi2 dX3_openPlace_55 ?_
      obtain ⟨hi1, hi2, w⟩ := w
      have w := w _ rfl
      refine jm_iast (pc := 56) (f := 0) (o := 0) F (Nat.le_of_ble_eq_true rfl) rfl (by decide) hi1 hi2 dX3_openPlace_56 ?_
      have w := w _ rfl
      refine jr_iinc (pc := 57) F (j := 3) (vs' := [(3, .inl _), (0, .inr (.inr (.inl _))), (1, .inl _), (2, .inl _)]) dX3_openPlace_57 rfl rfl (Nat.le_of_ble_eq_true rfl) rfl ?_
      refine jr_goto (pc := 60) (tgt := 6) F dX3_openPlace_60 rfl ?_
      refine jj_J.sub [1, 2, 3, 0] rfl ?_
      exact ih _ _ w

theorem sM_openPlace {X : jj_X} {h0 : jj_H} {m0 k : Nat} {N : Option jj_AV → jj_H → Prop} {XN : String → Nat → jj_H → Prop} (F : jj_F X RX3 cX3_openPlace 4) (M : jj_M X (none) 2 43 N XN) (S : jj_GS X.1 X.2.2.1) (hs : jj_hs X.1 h0 m0) {Q : jj_MS → Prop} (hQ : ∀ ms, Q ms → N none (jj_mh h0 m0 ms)) : ∀ (x1 : Int) (x2 : Int) (ms : jj_MS), fM_openPlace x1 x2 Q ms → jj_J X 4 0 [(0, .inr (.inr (.inl (some m0)))), (1, .inl x1), (2, .inl x2)] [] (jj_mh h0 m0 ms) k := by
  intro x1 x2 ms w
  unfold fM_openPlace at w
  refine jr_aload_n (pc := 0) F (j := 0) dX3_openPlace_0 rfl ?_
  refine jr_iload_n (pc := 1) F (j := 1) dX3_openPlace_1 rfl ?_
  refine jr_callV (pc := 2) (As := [_]) F M (lw_V q3307 q3309 qs51 q143 q3310) dX3_openPlace_2 hM_sizeOf rfl (Nat.le_of_ble_eq_true rfl) (Nat.le_of_ble_eq_true rfl) (Nat.le_of_ble_eq_true rfl) (jj_set_self _ _ _) rfl rfl (Nat.zero_le _) (cM_sizeOf S hs w) (fun v9 h9 q9 => ?_) (fun _ _ _ q9 => q9.elim)
  obtain ⟨r14, ms13, rfl, rfl, w⟩ := q9
  refine jr_istore_n (pc := 5) F (vs' := [(3, .inl _), (0, .inr (.inr (.inl _))), (1, .inl _), (2, .inl _)]) dX3_openPlace_5 (Nat.le_of_ble_eq_true rfl) rfl ?_
  refine jj_J.sub [1, 2, 3, 0] rfl ?_
  obtain ⟨n9, w⟩ := w
  exact sM_openPlace_l6 F M S hs hQ _ _ n9 _ _ w

theorem cM_openPlace {G : jj_G} {l : Launch} (S : jj_GS G l) {h0 : jj_H} {m0 : Nat} (hs : jj_hs G h0 m0) {x1 : Int} {x2 : Int} {ms : jj_MS} {Q : jj_MS → Prop} (w : fM_openPlace x1 x2 Q ms) : jj_Ct G l yX3_openPlace (ws_ yX3_openPlace cX3_openPlace 4 (none)) 2 43 [.inr (.inr (.inl (some m0))), .inl x1, .inl x2] (jj_mh h0 m0 ms) 0 (jm_Nv h0 m0 Q) jj_F0 := by
  refine jj_Ct.of S.1 (by decide +kernel) (Nat.le_of_ble_eq_true rfl) rfl (fun X hG hl F M O hnm => ?_)
  subst hG; subst hl
  exact sM_openPlace F M S hs (fun ms q => ⟨ms, rfl, rfl, q⟩) _ _ _ w
theorem hM_openPlace : yX3_openPlace.cls = RX3 ∧ yX3_openPlace.cls ≠ "java/lang/invoke/MethodHandle" ∧ yX3_openPlace.cls ≠ "java/lang/invoke/VarHandle" ∧ (parseMethodDescriptor yX3_openPlace.desc).map (fun d => d.parameters.length) = some 2 := by decide +kernel
/-! insertWord(II)I -/
def fM_insertWord_j125 (x1 : Int) (x2 : Int) (Q : Int → jj_MS → Prop) (ms : jj_MS) : Prop :=
  fM_followInsertion x1 x2 (fun ms1 =>
  ∀ ms3, ms3 = jj_mI ms1 9 0 →
  fM_sizeOf x1 (fun r5 ms4 =>
  Q r5 ms4) ms3) ms

def fM_insertWord_j106 (x1 : Int) (x2 : Int) (y1 : Int) (y2 : Int) (Q : Int → jj_MS → Prop) (ms : jj_MS) : Prop :=
  0 ≤ y1 ∧ y1 < 614 ∧
  ∀ ms6, ms6 = jj_mA ms 0 y1 y2 →
  jj_r x2 ∧ (¬ x2 = 0 → (
    fM_insertWord_j125 x1 x2 Q ms6)) ∧
  (x2 = 0 → (
    fM_wordPlace x1 1 (fun r8 ms7 =>
    0 ≤ (14 + r8) ∧ (14 + r8) < 614 ∧
    ∀ ms9, ms9 = jj_mA ms7 0 (14 + r8) 0 →
    fM_insertWord_j125 x1 x2 Q ms9) ms6))

def fM_insertWord_j26 (Q : Int → jj_MS → Prop) (ms : jj_MS) : Prop :=
  fM_fail 1 (fun r11 ms10 =>
  Q r11 ms10) ms

def fM_insertWord (x1 : Int) (x2 : Int) (Q : Int → jj_MS → Prop) (ms : jj_MS) : Prop :=
  ∀ ms12, ms12 = jj_mI ms 7 0 →
  fM_isEdition x1 (fun r14 ms13 =>
  jj_r r14 ∧ (r14 = 0 → (
    fM_insertWord_j26 Q ms13)) ∧
  (¬ r14 = 0 → (
    fM_sizeOf x1 (fun r16 ms15 =>
    fM_isBetween x2 0 r16 (fun r18 ms17 =>
    jj_r r18 ∧ (¬ r18 = 0 → (
      fM_hasWords 1 1 (fun r20 ms19 =>
      jj_r r20 ∧ (¬ r20 = 0 → (
        fM_sizeOf x1 (fun r22 ms21 =>
        jj_r r22 ∧ (¬ r22 = 120 → (
          fM_openPlace x1 x2 (fun ms23 =>
          fM_wordPlace x1 x2 (fun r26 ms25 =>
          0 ≤ r26 ∧ r26 < 606 ∧
          ∀ ms27, ms27 = jj_mA ms25 3 r26 (ms25.2 10 0) →
          fM_wordPlace x1 x2 (fun r29 ms28 =>
          jj_r x2 ∧ (¬ x2 = 0 → (
            fM_insertWord_j106 x1 x2 (14 + r29) 0 Q ms28)) ∧
          (x2 = 0 → (
            fM_insertWord_j106 x1 x2 (14 + r29) 1 Q ms28))) ms27) ms23) ms21)) ∧
        (r22 = 120 → (
          fM_fail 3 (fun r31 ms30 =>
          Q r31 ms30) ms21))) ms19)) ∧
      (r20 = 0 → (
        fM_fail 2 (fun r33 ms32 =>
        Q r33 ms32) ms19))) ms17)) ∧
    (r18 = 0 → (
      fM_insertWord_j26 Q ms17))) ms15) ms13))) ms12

theorem sM_insertWord_j125 {X : jj_X} {h0 : jj_H} {m0 k : Nat} {N : Option jj_AV → jj_H → Prop} {XN : String → Nat → jj_H → Prop} (F : jj_F X RX3 cX3_insertWord 3) (M : jj_M X (some (.int)) 3 69 N XN) (S : jj_GS X.1 X.2.2.1) (hs : jj_hs X.1 h0 m0) {Q : Int → jj_MS → Prop} (hQ : ∀ r ms, Q r ms → N (some (.inl r)) (jj_mh h0 m0 ms)) : ∀ (x1 : Int) (x2 : Int) (ms : jj_MS), fM_insertWord_j125 x1 x2 Q ms → jj_J X 3 125 [(0, .inr (.inr (.inl (some m0)))), (1, .inl x1), (2, .inl x2)] [] (jj_mh h0 m0 ms) k := by
  intro x1 x2 ms w
  unfold fM_insertWord_j125 at w
  refine jr_aload_n (pc := 125) F (j := 0) dX3_insertWord_125 rfl ?_
  refine jr_iload_n (pc := 126) F (j := 1) dX3_insertWord_126 rfl ?_
  refine jr_iload_n (pc := 127) F (j := 2) dX3_insertWord_127 rfl ?_
  refine jr_callV (pc := 128) (As := [_, _]) F M (lw_V q3468 q3470 qs79 q143 q3471) dX3_insertWord_128 hM_followInsertion rfl (Nat.le_of_ble_eq_true rfl) (Nat.le_of_ble_eq_true rfl) (Nat.le_of_ble_eq_true rfl) (jj_set_self _ _ _) rfl rfl (Nat.zero_le _) (cM_followInsertion S hs w) (fun v9 h9 q9 => ?_) (fun _ _ _ q9 => q9.elim)
  obtain ⟨ms1, rfl, rfl, w⟩ := q9
  refine jr_aload_n (pc := 131) F (j := 0) dX3_insertWord_131 rfl ?_
  refine jr_iconst (pc := 132) F dX3_insertWord_132 ?_
  have w := w _ rfl
  refine jm_put (pc := 133) (f := 9) F (Nat.le_of_ble_eq_true rfl) q3139 rfl rfl rfl rfl rfl rfl dX3_insertWord_133 ?_
  refine jr_aload_n (pc := 136) F (j := 0) dX3_insertWord_136 rfl ?_
  refine jr_iload_n (pc := 137) F (j := 1) dX3_insertWord_137 rfl ?_
  refine jr_callV (pc := 138) (As := [_]) F M (lw_V q3307 q3309 qs51 q143 q3310) dX3_insertWord_138 hM_sizeOf rfl (Nat.le_of_ble_eq_true rfl) (Nat.le_of_ble_eq_true rfl) (Nat.le_of_ble_eq_true rfl) (jj_set_self _ _ _) rfl rfl (Nat.zero_le _) (cM_sizeOf S hs w) (fun v9 h9 q9 => ?_) (fun _ _ _ q9 => q9.elim)
  obtain ⟨r5, ms4, rfl, rfl, w⟩ := q9
  exact jr_iret (pc := 141) F M dX3_insertWord_141 (hQ _ _ w)

theorem sM_insertWord_j106 {X : jj_X} {h0 : jj_H} {m0 k : Nat} {N : Option jj_AV → jj_H → Prop} {XN : String → Nat → jj_H → Prop} (F : jj_F X RX3 cX3_insertWord 3) (M : jj_M X (some (.int)) 3 69 N XN) (S : jj_GS X.1 X.2.2.1) (hs : jj_hs X.1 h0 m0) {Q : Int → jj_MS → Prop} (hQ : ∀ r ms, Q r ms → N (some (.inl r)) (jj_mh h0 m0 ms)) : ∀ (x1 : Int) (x2 : Int) (y1 : Int) (y2 : Int) (ms : jj_MS), fM_insertWord_j106 x1 x2 y1 y2 Q ms → jj_J X 3 106 [(0, .inr (.inr (.inl (some m0)))), (1, .inl x1), (2, .inl x2)] [.inl y2, .inl y1, .inr (.inr (.inl (some (m0 + 1 + 0))))] (jj_mh h0 m0 ms) k := by
  intro x1 x2 y1 y2 ms w
  unfold fM_insertWord_j106 at w
  obtain ⟨hi1, hi2, w⟩ := w
  have w := w _ rfl
  refine jm_iast (pc := 106) (f := 0) (o := 0) F (Nat.le_of_ble_eq_true rfl) rfl (by decide) hi1 hi2 dX3_insertWord_106 ?_
  refine jr_iload_n (pc := 107) F (j := 2) dX3_insertWord_107 rfl ?_
  obtain ⟨hx9, w1, w2⟩ := w
  refine jr_if_ne (pc := 108) (tgt := 125) F hx9 dX3_insertWord_108 rfl (fun c9 => ?_) (fun c9 => ?_)
  · have w := w1 c9
    exact sM_insertWord_j125 F M S hs hQ _ _ _ w
  · have w := w2 c9
    refine jr_aload_n (pc := 111) F (j := 0) dX3_insertWord_111 rfl ?_
    refine jm_get (pc := 112) (f := 0) (v := .inr (.inr (.inl (some (m0 + 1 + 0))))) F (Nat.le_of_ble_eq_true rfl) q3130 rfl rfl dX3_insertWord_112 ?_
    refine jr_bipush (pc := 115) F dX3_insertWord_115 (by decide +kernel) ?_
    refine jr_iload_n (pc := 117) F (j := 1) dX3_insertWord_117 rfl ?_
    refine jr_iconst (pc := 118) F dX3_insertWord_118 ?_
    refine jr_callS (pc := 119) (As := [_, _]) F M (lw_S q3327 q3328 q143 q3329) dX3_insertWord_119 hM_wordPlace.2 rfl (Nat.le_of_ble_eq_true rfl) (Nat.le_of_ble_eq_true rfl) (Nat.le_of_ble_eq_true rfl) (Nat.zero_le _) (cM_wordPlace S hs w) (fun v9 h9 q9 => ?_) (fun _ _ _ q9 => q9.elim)
    obtain ⟨r8, ms7, rfl, rfl, w⟩ := q9
    refine jr_iadd (pc := 122) F dX3_insertWord_122 ?_
    refine jr_iconst (pc := 123) F dX3_insertWord_123 ?_
    obtain ⟨hi1, hi2, w⟩ := w
    have w := w _ rfl
    refine jm_iast (pc := 124) (f := 0) (o := 0) F (Nat.le_of_ble_eq_true rfl) rfl (by decide) hi1 hi2 dX3_insertWord_124 ?_
    exact sM_insertWord_j125 F M S hs hQ _ _ _ w

theorem sM_insertWord_j26 {X : jj_X} {h0 : jj_H} {m0 k : Nat} {N : Option jj_AV → jj_H → Prop} {XN : String → Nat → jj_H → Prop} (F : jj_F X RX3 cX3_insertWord 3) (M : jj_M X (some (.int)) 3 69 N XN) (S : jj_GS X.1 X.2.2.1) (hs : jj_hs X.1 h0 m0) {Q : Int → jj_MS → Prop} (hQ : ∀ r ms, Q r ms → N (some (.inl r)) (jj_mh h0 m0 ms)) : ∀ (ms : jj_MS), fM_insertWord_j26 Q ms → jj_J X 3 26 [(0, .inr (.inr (.inl (some m0))))] [] (jj_mh h0 m0 ms) k := by
  intro  ms w
  unfold fM_insertWord_j26 at w
  refine jr_aload_n (pc := 26) F (j := 0) dX3_insertWord_26 rfl ?_
  refine jr_iconst (pc := 27) F dX3_insertWord_27 ?_
  refine jr_callV (pc := 28) (As := [_]) F M (lw_V q3276 q3278 qs46 q143 q3279) dX3_insertWord_28 hM_fail rfl (Nat.le_of_ble_eq_true rfl) (Nat.le_of_ble_eq_true rfl) (Nat.le_of_ble_eq_true rfl) (jj_set_self _ _ _) rfl rfl (Nat.zero_le _) (cM_fail S hs w) (fun v9 h9 q9 => ?_) (fun _ _ _ q9 => q9.elim)
  obtain ⟨r11, ms10, rfl, rfl, w⟩ := q9
  exact jr_iret (pc := 31) F M dX3_insertWord_31 (hQ _ _ w)

theorem sM_insertWord {X : jj_X} {h0 : jj_H} {m0 k : Nat} {N : Option jj_AV → jj_H → Prop} {XN : String → Nat → jj_H → Prop} (F : jj_F X RX3 cX3_insertWord 3) (M : jj_M X (some (.int)) 3 69 N XN) (S : jj_GS X.1 X.2.2.1) (hs : jj_hs X.1 h0 m0) {Q : Int → jj_MS → Prop} (hQ : ∀ r ms, Q r ms → N (some (.inl r)) (jj_mh h0 m0 ms)) : ∀ (x1 : Int) (x2 : Int) (ms : jj_MS), fM_insertWord x1 x2 Q ms → jj_J X 3 0 [(0, .inr (.inr (.inl (some m0)))), (1, .inl x1), (2, .inl x2)] [] (jj_mh h0 m0 ms) k := by
  intro x1 x2 ms w
  unfold fM_insertWord at w
  refine jr_aload_n (pc := 0) F (j := 0) dX3_insertWord_0 rfl ?_
  refine jr_iconst (pc := 1) F dX3_insertWord_1 ?_
  have w := w _ rfl
  refine jm_put (pc := 2) (f := 7) F (Nat.le_of_ble_eq_true rfl) q3137 rfl rfl rfl rfl rfl rfl dX3_insertWord_2 ?_
  refine jr_aload_n (pc := 5) F (j := 0) dX3_insertWord_5 rfl ?_
  refine jr_iload_n (pc := 6) F (j := 1) dX3_insertWord_6 rfl ?_
  refine jr_callV (pc := 7) (As := [_]) F M (lw_V q3418 q3420 qs72 q143 q3421) dX3_insertWord_7 hM_isEdition rfl (Nat.le_of_ble_eq_true rfl) (Nat.le_of_ble_eq_true rfl) (Nat.le_of_ble_eq_true rfl) (jj_set_self _ _ _) rfl rfl (Nat.zero_le _) (cM_isEdition S hs w) (fun v9 h9 q9 => ?_) (fun _ _ _ q9 => q9.elim)
  obtain ⟨r14, ms13, rfl, rfl, w⟩ := q9
  obtain ⟨hx9, w1, w2⟩ := w
  refine jr_if_eq (pc := 10) (tgt := 26) F hx9 dX3_insertWord_10 rfl (fun c9 => ?_) (fun c9 => ?_)
  · have w := w1 c9
    refine jj_J.sub [0] rfl ?_
    exact sM_insertWord_j26 F M S hs hQ _ w
  · have w := w2 c9
    refine jr_iload_n (pc := 13) F (j := 2) dX3_insertWord_13 rfl ?_
    refine jr_iconst (pc := 14) F dX3_insertWord_14 ?_
    refine jr_aload_n (pc := 15) F (j := 0) dX3_insertWord_15 rfl ?_
    refine jr_iload_n (pc := 16) F (j := 1) dX3_insertWord_16 rfl ?_
    refine jr_callV (pc := 17) (As := [_]) F M (lw_V q3307 q3309 qs51 q143 q3310) dX3_insertWord_17 hM_sizeOf rfl (Nat.le_of_ble_eq_true rfl) (Nat.le_of_ble_eq_true rfl) (Nat.le_of_ble_eq_true rfl) (jj_set_self _ _ _) rfl rfl (Nat.zero_le _) (cM_sizeOf S hs w) (fun v9 h9 q9 => ?_) (fun _ _ _ q9 => q9.elim)
    obtain ⟨r16, ms15, rfl, rfl, w⟩ := q9
    refine jr_callS (pc := 20) (As := [_, _, _]) F M (lw_S q3284 q3285 q143 q3286) dX3_insertWord_20 hM_isBetween.2 rfl (Nat.le_of_ble_eq_true rfl) (Nat.le_of_ble_eq_true rfl) (Nat.le_of_ble_eq_true rfl) (Nat.zero_le _) (cM_isBetween S hs w) (fun v9 h9 q9 => ?_) (fun _ _ _ q9 => q9.elim)
    obtain ⟨r18, ms17, rfl, rfl, w⟩ := q9
    obtain ⟨hx9, w1, w2⟩ := w
    refine jr_if_ne (pc := 23) (tgt := 32) F hx9 dX3_insertWord_23 rfl (fun c9 => ?_) (fun c9 => ?_)
    · have w := w1 c9
      refine jr_aload_n (pc := 32) F (j := 0) dX3_insertWord_32 rfl ?_
      refine jr_iconst (pc := 33) F dX3_insertWord_33 ?_
      refine jr_iconst (pc := 34) F dX3_insertWord_34 ?_
      refine jr_callV (pc := 35) (As := [_, _]) F M (lw_V q3390 q3392 qs68 q143 q3393) dX3_insertWord_35 hM_hasWords rfl (Nat.le_of_ble_eq_true rfl) (Nat.le_of_ble_eq_true rfl) (Nat.le_of_ble_eq_true rfl) (jj_set_self _ _ _) rfl rfl (Nat.zero_le _) (cM_hasWords S hs w) (fun v9 h9 q9 => ?_) (fun _ _ _ q9 => q9.elim)
      obtain ⟨r20, ms19, rfl, rfl, w⟩ := q9
      obtain ⟨hx9, w1, w2⟩ := w
      refine jr_if_ne (pc := 38) (tgt := 47) F hx9 dX3_insertWord_38 rfl (fun c9 => ?_) (fun c9 => ?_)
      · have w := w1 c9
        refine jr_aload_n (pc := 47) F (j := 0) dX3_insertWord_47 rfl ?_
        refine jr_iload_n (pc := 48) F (j := 1) dX3_insertWord_48 rfl ?_
        refine jr_callV (pc := 49) (As := [_]) F M (lw_V q3307 q3309 qs51 q143 q3310) dX3_insertWord_49 hM_sizeOf rfl (Nat.le_of_ble_eq_true rfl) (Nat.le_of_ble_eq_true rfl) (Nat.le_of_ble_eq_true rfl) (jj_set_self _ _ _) rfl rfl (Nat.zero_le _) (cM_sizeOf S hs w) (fun v9 h9 q9 => ?_) (fun _ _ _ q9 => q9.elim)
        obtain ⟨r22, ms21, rfl, rfl, w⟩ := q9
        refine jr_bipush (pc := 52) F dX3_insertWord_52 (by decide +kernel) ?_
        obtain ⟨hx9, w1, w2⟩ := w
        refine jr_icmp_ne (pc := 54) (tgt := 63) F hx9 ⟨by decide, by decide⟩ dX3_insertWord_54 rfl (fun c9 => ?_) (fun c9 => ?_)
        · have w := w1 c9
          refine jr_aload_n (pc := 63) F (j := 0) dX3_insertWord_63 rfl ?_
          refine jr_iload_n (pc := 64) F (j := 1) dX3_insertWord_64 rfl ?_
          refine jr_iload_n (pc := 65) F (j := 2) dX3_insertWord_65 rfl ?_
          refine jr_callV (pc := 66) (As := [_, _]) F M (lw_V q3464 q3466 qs78 q143 q3467) dX3_insertWord_66 hM_openPlace rfl (Nat.le_of_ble_eq_true rfl) (Nat.le_of_ble_eq_true rfl) (Nat.le_of_ble_eq_true rfl) (jj_set_self _ _ _) rfl rfl (Nat.zero_le _) (cM_openPlace S hs w) (fun v9 h9 q9 => ?_) (fun _ _ _ q9 => q9.elim)
          obtain ⟨ms23, rfl, rfl, w⟩ := q9
          refine jr_aload_n (pc := 69) F (j := 0) dX3_insertWord_69 rfl ?_
          refine jm_get (pc := 70) (f := 3) (v := .inr (.inr (.inl (some (m0 + 1 + 3))))) F (Nat.le_of_ble_eq_true rfl) q3133 rfl rfl dX3_insertWord_70 ?_
          refine jr_iload_n (pc := 73) F (j := 1) dX3_insertWord_73 rfl ?_
          refine jr_iload_n (pc := 74) F (j := 2) dX3_insertWord_74 rfl ?_
          refine jr_callS (pc := 75) (As := [_, _]) F M (lw_S q3327 q3328 q143 q3329) dX3_insertWord_75 hM_wordPlace.2 rfl (Nat.le_of_ble_eq_true rfl) (Nat.le_of_ble_eq_true rfl) (Nat.le_of_ble_eq_true rfl) (Nat.zero_le _) (cM_wordPlace S hs w) (fun v9 h9 q9 => ?_) (fun _ _ _ q9 => q9.elim)
          obtain ⟨r26, ms25, rfl, rfl, w⟩ := q9
          refine jr_aload_n (pc := 78) F (j := 0) dX3_insertWord_78 rfl ?_
          refine jm_get (pc := 79) (f := 10) (v := .inr (.inr (.inl (some (m0 + 1 + 8))))) F (Nat.le_of_ble_eq_true rfl) q3140 rfl rfl dX3_insertWord_79 ?_
          refine jr_iconst (pc := 82) F dX3_insertWord_82 ?_
          refine jm_lald (pc := 83) (f := 10) (o := 8) F rfl (by decide) (by decide) (by decide) dX3_insertWord_83 ?_
          obtain ⟨hi1, hi2, w⟩ := w
          have w := w _ rfl
          refine jm_last (pc := 84) (f := 3) (o := 3) F (Nat.le_of_ble_eq_true rfl) rfl (by decide) hi1 hi2 dX3_insertWord_84 ?_
          refine jr_aload_n (pc := 85) F (j := 0) dX3_insertWord_85 rfl ?_
          refine jm_get (pc := 86) (f := 0) (v := .inr (.inr (.inl (some (m0 + 1 + 0))))) F (Nat.le_of_ble_eq_true rfl) q3130 rfl rfl dX3_insertWord_86 ?_
          refine jr_bipush (pc := 89) F dX3_insertWord_89 (by decide +kernel) ?_
          refine jr_iload_n (pc := 91) F (j := 1) dX3_insertWord_91 rfl ?_
          refine jr_iload_n (pc := 92) F (j := 2) dX3_insertWord_92 rfl ?_
          refine jr_callS (pc := 93) (As := [_, _]) F M (lw_S q3327 q3328 q143 q3329) dX3_insertWord_93 hM_wordPlace.2 rfl (Nat.le_of_ble_eq_true rfl) (Nat.le_of_ble_eq_true rfl) (Nat.le_of_ble_eq_true rfl) (Nat.zero_le _) (cM_wordPlace S hs w) (fun v9 h9 q9 => ?_) (fun _ _ _ q9 => q9.elim)
          obtain ⟨r29, ms28, rfl, rfl, w⟩ := q9
          refine jr_iadd (pc := 96) F dX3_insertWord_96 ?_
          refine jr_iload_n (pc := 97) F (j := 2) dX3_insertWord_97 rfl ?_
          obtain ⟨hx9, w1, w2⟩ := w
          refine jr_if_ne (pc := 98) (tgt := 105) F hx9 dX3_insertWord_98 rfl (fun c9 => ?_) (fun c9 => ?_)
          · have w := w1 c9
            refine jr_iconst (pc := 105) F dX3_insertWord_105 ?_
            exact sM_insertWord_j106 F M S hs hQ _ _ _ _ _ w
          · have w := w2 c9
            refine jr_iconst (pc := 101) F dX3_insertWord_101 ?_
            refine jr_goto (pc := 102) (tgt := 106) F dX3_insertWord_102 rfl ?_
            exact sM_insertWord_j106 F M S hs hQ _ _ _ _ _ w
        · have w := w2 c9
          refine jr_aload_n (pc := 57) F (j := 0) dX3_insertWord_57 rfl ?_
          refine jr_iconst (pc := 58) F dX3_insertWord_58 ?_
          refine jr_callV (pc := 59) (As := [_]) F M (lw_V q3276 q3278 qs46 q143 q3279) dX3_insertWord_59 hM_fail rfl (Nat.le_of_ble_eq_true rfl) (Nat.le_of_ble_eq_true rfl) (Nat.le_of_ble_eq_true rfl) (jj_set_self _ _ _) rfl rfl (Nat.zero_le _) (cM_fail S hs w) (fun v9 h9 q9 => ?_) (fun _ _ _ q9 => q9.elim)
          obtain ⟨r31, ms30, rfl, rfl, w⟩ := q9
          exact jr_iret (pc := 62) F M dX3_insertWord_62 (hQ _ _ w)
      · have w := w2 c9
        refine jr_aload_n (pc := 41) F (j := 0) dX3_insertWord_41 rfl ?_
        refine jr_iconst (pc := 42) F dX3_insertWord_42 ?_
        refine jr_callV (pc := 43) (As := [_]) F M (lw_V q3276 q3278 qs46 q143 q3279) dX3_insertWord_43 hM_fail rfl (Nat.le_of_ble_eq_true rfl) (Nat.le_of_ble_eq_true rfl) (Nat.le_of_ble_eq_true rfl) (jj_set_self _ _ _) rfl rfl (Nat.zero_le _) (cM_fail S hs w) (fun v9 h9 q9 => ?_) (fun _ _ _ q9 => q9.elim)
        obtain ⟨r33, ms32, rfl, rfl, w⟩ := q9
        exact jr_iret (pc := 46) F M dX3_insertWord_46 (hQ _ _ w)
    · have w := w2 c9
      refine jj_J.sub [0] rfl ?_
      exact sM_insertWord_j26 F M S hs hQ _ w

theorem cM_insertWord {G : jj_G} {l : Launch} (S : jj_GS G l) {h0 : jj_H} {m0 : Nat} (hs : jj_hs G h0 m0) {x1 : Int} {x2 : Int} {ms : jj_MS} {Q : Int → jj_MS → Prop} (w : fM_insertWord x1 x2 Q ms) : jj_Ct G l yX3_insertWord (ws_ yX3_insertWord cX3_insertWord 3 (some (.int))) 3 69 [.inr (.inr (.inl (some m0))), .inl x1, .inl x2] (jj_mh h0 m0 ms) 0 (jm_Ni h0 m0 Q) jj_F0 := by
  refine jj_Ct.of S.1 (by decide +kernel) (Nat.le_of_ble_eq_true rfl) rfl (fun X hG hl F M O hnm => ?_)
  subst hG; subst hl
  exact sM_insertWord F M S hs (fun r ms q => ⟨r, ms, rfl, rfl, q⟩) _ _ _ w
theorem hM_insertWord : yX3_insertWord.cls = RX3 ∧ yX3_insertWord.cls ≠ "java/lang/invoke/MethodHandle" ∧ yX3_insertWord.cls ≠ "java/lang/invoke/VarHandle" ∧ (parseMethodDescriptor yX3_insertWord.desc).map (fun d => d.parameters.length) = some 2 := by decide +kernel
/-! followDeletion(II)V -/
def fM_followDeletion_j110 (K2 : Int → jj_MS → Prop) (x1 : Int) (x2 : Int) (x3 : Int) (x5 : Int) (x6 : Int) (x7 : Int) (y1 : Int) (y2 : Int) (Q : jj_MS → Prop) (ms : jj_MS) : Prop :=
  0 ≤ y1 ∧ y1 < 614 ∧
  ∀ ms1, ms1 = jj_mA ms 0 y1 y2 →
  jj_r x6 ∧ (x6 = 0 → (
    jj_r x5 ∧ jj_r x2 ∧ (x5 < x2 → (
      0 ≤ ((374 + (6 * x3)) + 4) ∧ ((374 + (6 * x3)) + 4) < 614 ∧
      ∀ ms2, ms2 = jj_mA ms1 0 ((374 + (6 * x3)) + 4) x5 →
      ∀ v3, v3 = x3 + 1 →
      K2 v3 ms2)) ∧
    (¬ x5 < x2 → (
      0 ≤ ((374 + (6 * x3)) + 4) ∧ ((374 + (6 * x3)) + 4) < 614 ∧
      ∀ ms4, ms4 = jj_mA ms1 0 ((374 + (6 * x3)) + 4) (x5 - 1) →
      ∀ v5, v5 = x3 + 1 →
      K2 v5 ms4)))) ∧
  (¬ x6 = 0 → (
    0 ≤ ((374 + (6 * x3)) + 4) ∧ ((374 + (6 * x3)) + 4) < 614 ∧
    ∀ ms6, ms6 = jj_mA ms1 0 ((374 + (6 * x3)) + 4) x7 →
    ∀ v7, v7 = x3 + 1 →
    K2 v7 ms6))

def fM_followDeletion_j56 (K2 : Int → jj_MS → Prop) (x1 : Int) (x2 : Int) (x3 : Int) (x4 : Int) (x5 : Int) (y0 : Int) (Q : jj_MS → Prop) (ms : jj_MS) : Prop :=
  fM_sizeOf x1 (fun r9 ms8 =>
  jj_r x2 ∧ jj_r (r9 - 1) ∧
  ∀ v10, v10 = min x2 (r9 - 1) →
  jj_r y0 ∧ (y0 = 0 → (
    jj_r x4 ∧ jj_r x2 ∧ (x4 ≤ x2 → (
      fM_followDeletion_j110 K2 x1 x2 x3 x5 y0 v10 ((374 + (6 * x3)) + 3) x4 Q ms8)) ∧
    (¬ x4 ≤ x2 → (
      fM_followDeletion_j110 K2 x1 x2 x3 x5 y0 v10 ((374 + (6 * x3)) + 3) (x4 - 1) Q ms8)))) ∧
  (¬ y0 = 0 → (
    fM_followDeletion_j110 K2 x1 x2 x3 x5 y0 v10 ((374 + (6 * x3)) + 3) v10 Q ms8))) ms

def fM_followDeletion_j55 (K2 : Int → jj_MS → Prop) (x1 : Int) (x2 : Int) (x3 : Int) (x4 : Int) (x5 : Int) (Q : jj_MS → Prop) (ms : jj_MS) : Prop :=
  fM_followDeletion_j56 K2 x1 x2 x3 x4 x5 0 Q ms

def fM_followDeletion_l2 (x1 : Int) (x2 : Int) (Q : jj_MS → Prop) : Nat → Int → jj_MS → Prop
  | 0, _, _ => False
  | n + 1, x3, ms =>
  fM_notes (fun r12 ms11 =>
  jj_r x3 ∧ jj_r r12 ∧ (r12 ≤ x3 → (
    Q ms11)) ∧
  (¬ r12 ≤ x3 → (
    fM_ofNote x3 2 (fun r14 ms13 =>
    jj_r r14 ∧ jj_r x1 ∧ (r14 = x1 → (
      fM_ofNote x3 3 (fun r16 ms15 =>
      fM_ofNote x3 4 (fun r18 ms17 =>
      jj_r r16 ∧ jj_r x2 ∧ (¬ r16 = x2 → (
        fM_followDeletion_j55 (fM_followDeletion_l2 x1 x2 Q n) x1 x2 x3 r16 r18 Q ms17)) ∧
      (r16 = x2 → (
        jj_r r18 ∧ jj_r x2 ∧ (¬ r18 = x2 → (
          fM_followDeletion_j55 (fM_followDeletion_l2 x1 x2 Q n) x1 x2 x3 r16 r18 Q ms17)) ∧
        (r18 = x2 → (
          fM_followDeletion_j56 (fM_followDeletion_l2 x1 x2 Q n) x1 x2 x3 r16 r18 1 Q ms17))))) ms15) ms13)) ∧
    (¬ r14 = x1 → (
      ∀ v19, v19 = x3 + 1 →
      fM_followDeletion_l2 x1 x2 Q n v19 ms13))) ms11))) ms

def fM_followDeletion (x1 : Int) (x2 : Int) (Q : jj_MS → Prop) (ms : jj_MS) : Prop :=
  ∃ n9, fM_followDeletion_l2 x1 x2 Q n9 0 ms

theorem sM_followDeletion_j110 {X : jj_X} {h0 : jj_H} {m0 k : Nat} {N : Option jj_AV → jj_H → Prop} {XN : String → Nat → jj_H → Prop} (F : jj_F X RX3 cX3_followDeletion 8) (M : jj_M X (none) 2 43 N XN) (S : jj_GS X.1 X.2.2.1) (hs : jj_hs X.1 h0 m0) {Q : jj_MS → Prop} (hQ : ∀ ms, Q ms → N none (jj_mh h0 m0 ms)) (x1 : Int) (x2 : Int) {K2 : Int → jj_MS → Prop} (hK2 : ∀ (z3 : Int) (ms : jj_MS), K2 z3 ms → jj_J X 8 2 [(0, .inr (.inr (.inl (some m0)))), (1, .inl x1), (2, .inl x2), (3, .inl z3)] [] (jj_mh h0 m0 ms) k) : ∀ (x3 : Int) (x5 : Int) (x6 : Int) (x7 : Int) (y1 : Int) (y2 : Int) (ms : jj_MS), fM_followDeletion_j110 K2 x1 x2 x3 x5 x6 x7 y1 y2 Q ms → jj_J X 8 110 [(0, .inr (.inr (.inl (some m0)))), (1, .inl x1), (2, .inl x2), (3, .inl x3), (5, .inl x5), (6, .inl x6), (7, .inl x7)] [.inl y2, .inl y1, .inr (.inr (.inl (some (m0 + 1 + 0))))] (jj_mh h0 m0 ms) k := by
  intro x3 x5 x6 x7 y1 y2 ms w
  unfold fM_followDeletion_j110 at w
  obtain ⟨hi1, hi2, w⟩ := w
  have w := w _ rfl
  refine jm_iast (pc := 110) (f := 0) (o := 0) F (Nat.le_of_ble_eq_true rfl) rfl (by decide) hi1 hi2 dX3_followDeletion_110 ?_
  refine jr_aload_n (pc := 111) F (j := 0) dX3_followDeletion_111 rfl ?_
  refine jm_get (pc := 112) (f := 0) (v := .inr (.inr (.inl (some (m0 + 1 + 0))))) F (Nat.le_of_ble_eq_true rfl) q3130 rfl rfl dX3_followDeletion_112 ?_
  refine jr_sipush (pc := 115) F dX3_followDeletion_115 (by decide +kernel) ?_
  refine jr_bipush (pc := 118) F dX3_followDeletion_118 (by decide +kernel) ?_
  refine jr_iload_n (pc := 120) F (j := 3) dX3_followDeletion_120 rfl ?_
  refine jr_imul (pc := 121) F dX3_followDeletion_121 ?_
  refine jr_iadd (pc := 122) F dX3_followDeletion_122 ?_
  refine jr_iconst (pc := 123) F dX3_followDeletion_123 ?_
  refine jr_iadd (pc := 124) F dX3_followDeletion_124 ?_
  refine jr_iload (pc := 125) F (j := 5) dX3_followDeletion_125 rfl ?_
  obtain ⟨hx9, w1, w2⟩ := w
  refine jr_if_eq (pc := 127) (tgt := 135) F hx9 dX3_followDeletion_127 rfl (fun c9 => ?_) (fun c9 => ?_)
  · have w := w1 c9
    refine jr_iload (pc := 135) F (j := 4) dX3_followDeletion_135 rfl ?_
    refine jr_iload_n (pc := 137) F (j := 2) dX3_followDeletion_137 rfl ?_
    obtain ⟨hx9, hy9, w1, w2⟩ := w
    refine jr_icmp_lt (pc := 138) (tgt := 148) F hx9 hy9 dX3_followDeletion_138 rfl (fun c9 => ?_) (fun c9 => ?_)
    · have w := w1 c9
      refine jr_iload (pc := 148) F (j := 4) dX3_followDeletion_148 rfl ?_
      obtain ⟨hi1, hi2, w⟩ := w
      have w := w _ rfl
      refine jm_iast (pc := 150) (f := 0) (o := 0) F (Nat.le_of_ble_eq_true rfl) rfl (by decide) hi1 hi2 dX3_followDeletion_150 ?_
      have w := w _ rfl
      refine jr_iinc (pc := 151) F (j := 3) (vs' := [(3, .inl _), (0, .inr (.inr (.inl _))), (1, .inl _), (2, .inl _), (5, .inl _), (6, .inl _), (7, .inl _)]) dX3_followDeletion_151 rfl rfl (Nat.le_of_ble_eq_true rfl) rfl ?_
      refine jr_goto (pc := 154) (tgt := 2) F dX3_followDeletion_154 rfl ?_
      refine jj_J.sub [1, 2, 3, 0] rfl ?_
      exact hK2 _ _ w
    · have w := w2 c9
      refine jr_iload (pc := 141) F (j := 4) dX3_followDeletion_141 rfl ?_
      refine jr_iconst (pc := 143) F dX3_followDeletion_143 ?_
      refine jr_isub (pc := 144) F dX3_followDeletion_144 ?_
      refine jr_goto (pc := 145) (tgt := 150) F dX3_followDeletion_145 rfl ?_
      obtain ⟨hi1, hi2, w⟩ := w
      have w := w _ rfl
      refine jm_iast (pc := 150) (f := 0) (o := 0) F (Nat.le_of_ble_eq_true rfl) rfl (by decide) hi1 hi2 dX3_followDeletion_150 ?_
      have w := w _ rfl
      refine jr_iinc (pc := 151) F (j := 3) (vs' := [(3, .inl _), (0, .inr (.inr (.inl _))), (1, .inl _), (2, .inl _), (5, .inl _), (6, .inl _), (7, .inl _)]) dX3_followDeletion_151 rfl rfl (Nat.le_of_ble_eq_true rfl) rfl ?_
      refine jr_goto (pc := 154) (tgt := 2) F dX3_followDeletion_154 rfl ?_
      refine jj_J.sub [1, 2, 3, 0] rfl ?_
      exact hK2 _ _ w
  · have w := w2 c9
    refine jr_iload (pc := 130) F (j := 6) dX3_followDeletion_130 rfl ?_
    refine jr_goto (pc := 132) (tgt := 150) F dX3_followDeletion_132 rfl ?_
    obtain ⟨hi1, hi2, w⟩ := w
    have w := w _ rfl
    refine jm_iast (pc := 150) (f := 0) (o := 0) F (Nat.le_of_ble_eq_true rfl) rfl (by decide) hi1 hi2 dX3_followDeletion_150 ?_
    have w := w _ rfl
    refine jr_iinc (pc := 151) F (j := 3) (vs' := [(3, .inl _), (0, .inr (.inr (.inl _))), (1, .inl _), (2, .inl _), (5, .inl _), (6, .inl _), (7, .inl _)]) dX3_followDeletion_151 rfl rfl (Nat.le_of_ble_eq_true rfl) rfl ?_
    refine jr_goto (pc := 154) (tgt := 2) F dX3_followDeletion_154 rfl ?_
    refine jj_J.sub [1, 2, 3, 0] rfl ?_
    exact hK2 _ _ w

theorem sM_followDeletion_j56 {X : jj_X} {h0 : jj_H} {m0 k : Nat} {N : Option jj_AV → jj_H → Prop} {XN : String → Nat → jj_H → Prop} (F : jj_F X RX3 cX3_followDeletion 8) (M : jj_M X (none) 2 43 N XN) (S : jj_GS X.1 X.2.2.1) (hs : jj_hs X.1 h0 m0) {Q : jj_MS → Prop} (hQ : ∀ ms, Q ms → N none (jj_mh h0 m0 ms)) (x1 : Int) (x2 : Int) {K2 : Int → jj_MS → Prop} (hK2 : ∀ (z3 : Int) (ms : jj_MS), K2 z3 ms → jj_J X 8 2 [(0, .inr (.inr (.inl (some m0)))), (1, .inl x1), (2, .inl x2), (3, .inl z3)] [] (jj_mh h0 m0 ms) k) : ∀ (x3 : Int) (x4 : Int) (x5 : Int) (y0 : Int) (ms : jj_MS), fM_followDeletion_j56 K2 x1 x2 x3 x4 x5 y0 Q ms → jj_J X 8 56 [(0, .inr (.inr (.inl (some m0)))), (1, .inl x1), (2, .inl x2), (3, .inl x3), (4, .inl x4), (5, .inl x5)] [.inl y0] (jj_mh h0 m0 ms) k := by
  intro x3 x4 x5 y0 ms w
  unfold fM_followDeletion_j56 at w
  refine jr_istore (pc := 56) F (vs' := [(6, .inl _), (0, .inr (.inr (.inl _))), (1, .inl _), (2, .inl _), (3, .inl _), (4, .inl _), (5, .inl _)]) dX3_followDeletion_56 (Nat.le_of_ble_eq_true rfl) rfl ?_
  refine jr_iload_n (pc := 58) F (j := 3) dX3_followDeletion_58 rfl ?_
  refine jr_aload_n (pc := 59) F (j := 1) dX3_followDeletion_59 rfl ?_
  refine jr_iload_n (pc := 60) F (j := 2) dX3_followDeletion_60 rfl ?_
  refine jr_callV (pc := 61) (As := [_]) F M (lw_V q3307 q3309 qs51 q143 q3310) dX3_followDeletion_61 hM_sizeOf rfl (Nat.le_of_ble_eq_true rfl) (Nat.le_of_ble_eq_true rfl) (Nat.le_of_ble_eq_true rfl) (jj_set_self _ _ _) rfl rfl (Nat.zero_le _) (cM_sizeOf S hs w) (fun v9 h9 q9 => ?_) (fun _ _ _ q9 => q9.elim)
  obtain ⟨r9, ms8, rfl, rfl, w⟩ := q9
  refine jr_iconst (pc := 64) F dX3_followDeletion_64 ?_
  refine jr_isub (pc := 65) F dX3_followDeletion_65 ?_
  obtain ⟨hx9, hy9, w⟩ := w
  refine jr_mmin (pc := 66) F M hx9 hy9 q3358 (Nat.le_of_ble_eq_true rfl) (Nat.le_of_ble_eq_true rfl) (Nat.le_of_ble_eq_true rfl) dX3_followDeletion_66 ?_
  have w := w _ rfl
  refine jr_istore (pc := 69) F (vs' := [(7, .inl _), (6, .inl _), (0, .inr (.inr (.inl _))), (1, .inl _), (2, .inl _), (3, .inl _), (4, .inl _), (5, .inl _)]) dX3_followDeletion_69 (Nat.le_of_ble_eq_true rfl) rfl ?_
  refine jr_aload_n (pc := 71) F (j := 2) dX3_followDeletion_71 rfl ?_
  refine jm_get (pc := 72) (f := 0) (v := .inr (.inr (.inl (some (m0 + 1 + 0))))) F (Nat.le_of_ble_eq_true rfl) q3130 rfl rfl dX3_followDeletion_72 ?_
  refine jr_sipush (pc := 75) F dX3_followDeletion_75 (by decide +kernel) ?_
  refine jr_bipush (pc := 78) F dX3_followDeletion_78 (by decide +kernel) ?_
  refine jr_iload_n (pc := 80) F (j := 5) dX3_followDeletion_80 rfl ?_
  refine jr_imul (pc := 81) F dX3_followDeletion_81 ?_
  refine jr_iadd (pc := 82) F dX3_followDeletion_82 ?_
  refine jr_iconst (pc := 83) F dX3_followDeletion_83 ?_
  refine jr_iadd (pc := 84) F dX3_followDeletion_84 ?_
  refine jr_iload (pc := 85) F (j := 1) dX3_followDeletion_85 rfl ?_
  obtain ⟨hx9, w1, w2⟩ := w
  refine jr_if_eq (pc := 87) (tgt := 95) F hx9 dX3_followDeletion_87 rfl (fun c9 => ?_) (fun c9 => ?_)
  · have w := w1 c9
    refine jr_iload (pc := 95) F (j := 6) dX3_followDeletion_95 rfl ?_
    refine jr_iload_n (pc := 97) F (j := 4) dX3_followDeletion_97 rfl ?_
    obtain ⟨hx9, hy9, w1, w2⟩ := w
    refine jr_icmp_le (pc := 98) (tgt := 108) F hx9 hy9 dX3_followDeletion_98 rfl (fun c9 => ?_) (fun c9 => ?_)
    · have w := w1 c9
      refine jr_iload (pc := 108) F (j := 6) dX3_followDeletion_108 rfl ?_
      refine jj_J.sub [2, 3, 4, 5, 7, 1, 0] rfl ?_
      exact sM_followDeletion_j110 F M S hs hQ _ _ hK2 _ _ _ _ _ _ _ w
    · have w := w2 c9
      refine jr_iload (pc := 101) F (j := 6) dX3_followDeletion_101 rfl ?_
      refine jr_iconst (pc := 103) F dX3_followDeletion_103 ?_
      refine jr_isub (pc := 104) F dX3_followDeletion_104 ?_
      refine jr_goto (pc := 105) (tgt := 110) F dX3_followDeletion_105 rfl ?_
      refine jj_J.sub [2, 3, 4, 5, 7, 1, 0] rfl ?_
      exact sM_followDeletion_j110 F M S hs hQ _ _ hK2 _ _ _ _ _ _ _ w
  · have w := w2 c9
    refine jr_iload (pc := 90) F (j := 0) dX3_followDeletion_90 rfl ?_
    refine jr_goto (pc := 92) (tgt := 110) F dX3_followDeletion_92 rfl ?_
    refine jj_J.sub [2, 3, 4, 5, 7, 1, 0] rfl ?_
    exact sM_followDeletion_j110 F M S hs hQ _ _ hK2 _ _ _ _ _ _ _ w

theorem sM_followDeletion_j55 {X : jj_X} {h0 : jj_H} {m0 k : Nat} {N : Option jj_AV → jj_H → Prop} {XN : String → Nat → jj_H → Prop} (F : jj_F X RX3 cX3_followDeletion 8) (M : jj_M X (none) 2 43 N XN) (S : jj_GS X.1 X.2.2.1) (hs : jj_hs X.1 h0 m0) {Q : jj_MS → Prop} (hQ : ∀ ms, Q ms → N none (jj_mh h0 m0 ms)) (x1 : Int) (x2 : Int) {K2 : Int → jj_MS → Prop} (hK2 : ∀ (z3 : Int) (ms : jj_MS), K2 z3 ms → jj_J X 8 2 [(0, .inr (.inr (.inl (some m0)))), (1, .inl x1), (2, .inl x2), (3, .inl z3)] [] (jj_mh h0 m0 ms) k) : ∀ (x3 : Int) (x4 : Int) (x5 : Int) (ms : jj_MS), fM_followDeletion_j55 K2 x1 x2 x3 x4 x5 Q ms → jj_J X 8 55 [(0, .inr (.inr (.inl (some m0)))), (1, .inl x1), (2, .inl x2), (3, .inl x3), (4, .inl x4), (5, .inl x5)] [] (jj_mh h0 m0 ms) k := by
  intro x3 x4 x5 ms w
  unfold fM_followDeletion_j55 at w
  refine jr_iconst (pc := 55) F dX3_followDeletion_55 ?_
  exact sM_followDeletion_j56 F M S hs hQ _ _ hK2 _ _ _ _ _ w

theorem sM_followDeletion_l2 {X : jj_X} {h0 : jj_H} {m0 k : Nat} {N : Option jj_AV → jj_H → Prop} {XN : String → Nat → jj_H → Prop} (F : jj_F X RX3 cX3_followDeletion 8) (M : jj_M X (none) 2 43 N XN) (S : jj_GS X.1 X.2.2.1) (hs : jj_hs X.1 h0 m0) {Q : jj_MS → Prop} (hQ : ∀ ms, Q ms → N none (jj_mh h0 m0 ms)) (x1 : Int) (x2 : Int) : ∀ (n : Nat) (x3 : Int) (ms : jj_MS), fM_followDeletion_l2 x1 x2 Q n x3 ms → jj_J X 8 2 [(0, .inr (.inr (.inl (some m0)))), (1, .inl x1), (2, .inl x2), (3, .inl x3)] [] (jj_mh h0 m0 ms) k := by
  intro n
  induction n with
  | zero =>
    intro x3 ms w
    exact (show False from w).elim
  | succ n ih =>
    intro x3 ms w
    rw [fM_followDeletion_l2] at w
    refine jr_iload_n (pc := 2) F (j := 3) dX3_followDeletion_2 rfl ?_
    refine jr_aload_n (pc := 3) F (j := 0) dX3_followDeletion_3 rfl ?_
    refine jr_callV (pc := 4) (As := []) F M (lw_V q3334 q3336 qs56 q143 q3337) dX3_followDeletion_4 hM_notes rfl (Nat.le_of_ble_eq_true rfl) (Nat.le_of_ble_eq_true rfl) (Nat.le_of_ble_eq_true rfl) (jj_set_self _ _ _) rfl rfl (Nat.zero_le _) (cM_notes S hs w) (fun v9 h9 q9 => ?_) (fun _ _ _ q9 => q9.elim)
    obtain ⟨r12, ms11, rfl, rfl, w⟩ := q9
    obtain ⟨hx9, hy9, w1, w2⟩ := w
    refine jr_icmp_ge (pc := 7) (tgt := 157) F hx9 hy9 dX3_followDeletion_7 rfl (fun c9 => ?_) (fun c9 => ?_)
    · have w := w1 c9
      exact jr_vret (pc := 157) F M dX3_followDeletion_157 (hQ _ w)
    · have w := w2 c9
      refine jr_aload_n (pc := 10) F (j := 0) dX3_followDeletion_10 rfl ?_
      refine jr_iload_n (pc := 11) F (j := 3) dX3_followDeletion_11 rfl ?_
      refine jr_iconst (pc := 12) F dX3_followDeletion_12 ?_
      refine jr_callV (pc := 13) (As := [_, _]) F M (lw_V q3338 q3340 qs57 q143 q3341) dX3_followDeletion_13 hM_ofNote rfl (Nat.le_of_ble_eq_true rfl) (Nat.le_of_ble_eq_true rfl) (Nat.le_of_ble_eq_true rfl) (jj_set_self _ _ _) rfl rfl (Nat.zero_le _) (cM_ofNote S hs w) (fun v9 h9 q9 => ?_) (fun _ _ _ q9 => q9.elim)
      obtain ⟨r14, ms13, rfl, rfl, w⟩ := q9
      refine jr_iload_n (pc := 16) F (j := 1) dX3_followDeletion_16 rfl ?_
      obtain ⟨hx9, hy9, w1, w2⟩ := w
      refine jr_icmp_eq (pc := 17) (tgt := 23) F hx9 hy9 dX3_followDeletion_17 rfl (fun c9 => ?_) (fun c9 => ?_)
      · have w := w1 c9
        refine jr_aload_n (pc := 23) F (j := 0) dX3_followDeletion_23 rfl ?_
        refine jr_iload_n (pc := 24) F (j := 3) dX3_followDeletion_24 rfl ?_
        refine jr_iconst (pc := 25) F dX3_followDeletion_25 ?_
        refine jr_callV (pc := 26) (As := [_, _]) F M (lw_V q3338 q3340 qs57 q143 q3341) dX3_followDeletion_26 hM_ofNote rfl (Nat.le_of_ble_eq_true rfl) (Nat.le_of_ble_eq_true rfl) (Nat.le_of_ble_eq_true rfl) (jj_set_self _ _ _) rfl rfl (Nat.zero_le _) (cM_ofNote S hs w) (fun v9 h9 q9 => ?_) (fun _ _ _ q9 => q9.elim)
        obtain ⟨r16, ms15, rfl, rfl, w⟩ := q9
        refine jr_istore (pc := 29) F (vs' := [(4, .inl _), (0, .inr (.inr (.inl _))), (1, .inl _), (2, .inl _), (3, .inl _)]) dX3_followDeletion_29 (Nat.le_of_ble_eq_true rfl) rfl ?_
        refine jr_aload_n (pc := 31) F (j := 1) dX3_followDeletion_31 rfl ?_
        refine jr_iload_n (pc := 32) F (j := 4) dX3_followDeletion_32 rfl ?_
        refine jr_iconst (pc := 33) F dX3_followDeletion_33 ?_
        refine jr_callV (pc := 34) (As := [_, _]) F M (lw_V q3338 q3340 qs57 q143 q3341) dX3_followDeletion_34 hM_ofNote rfl (Nat.le_of_ble_eq_true rfl) (Nat.le_of_ble_eq_true rfl) (Nat.le_of_ble_eq_true rfl) (jj_set_self _ _ _) rfl rfl (Nat.zero_le _) (cM_ofNote S hs w) (fun v9 h9 q9 => ?_) (fun _ _ _ q9 => q9.elim)
        obtain ⟨r18, ms17, rfl, rfl, w⟩ := q9
        refine jr_istore (pc := 37) F (vs' := [(5, .inl _), (4, .inl _), (0, .inr (.inr (.inl _))), (1, .inl _), (2, .inl _), (3, .inl _)]) dX3_followDeletion_37 (Nat.le_of_ble_eq_true rfl) rfl ?_
        refine jr_iload (pc := 39) F (j := 1) dX3_followDeletion_39 rfl ?_
        refine jr_iload_n (pc := 41) F (j := 4) dX3_followDeletion_41 rfl ?_
        obtain ⟨hx9, hy9, w1, w2⟩ := w
        refine jr_icmp_ne (pc := 42) (tgt := 55) F hx9 hy9 dX3_followDeletion_42 rfl (fun c9 => ?_) (fun c9 => ?_)
        · have w := w1 c9
          refine jj_J.sub [2, 3, 4, 5, 1, 0] rfl ?_
          exact sM_followDeletion_j55 F M S hs hQ _ _ ih _ _ _ _ w
        · have w := w2 c9
          refine jr_iload (pc := 45) F (j := 0) dX3_followDeletion_45 rfl ?_
          refine jr_iload_n (pc := 47) F (j := 4) dX3_followDeletion_47 rfl ?_
          obtain ⟨hx9, hy9, w1, w2⟩ := w
          refine jr_icmp_ne (pc := 48) (tgt := 55) F hx9 hy9 dX3_followDeletion_48 rfl (fun c9 => ?_) (fun c9 => ?_)
          · have w := w1 c9
            refine jj_J.sub [2, 3, 4, 5, 1, 0] rfl ?_
            exact sM_followDeletion_j55 F M S hs hQ _ _ ih _ _ _ _ w
          · have w := w2 c9
            refine jr_iconst (pc := 51) F dX3_followDeletion_51 ?_
            refine jr_goto (pc := 52) (tgt := 56) F dX3_followDeletion_52 rfl ?_
            refine jj_J.sub [2, 3, 4, 5, 1, 0] rfl ?_
            exact sM_followDeletion_j56 F M S hs hQ _ _ ih _ _ _ _ _ w
      · have w := w2 c9
        refine jr_goto (pc := 20) (tgt := 151) F dX3_followDeletion_20 rfl ?_
        have w := w _ rfl
        refine jr_iinc (pc := 151) F (j := 3) (vs' := [(3, .inl _), (0, .inr (.inr (.inl _))), (1, .inl _), (2, .inl _)]) dX3_followDeletion_151 rfl rfl (Nat.le_of_ble_eq_true rfl) rfl ?_
        refine jr_goto (pc := 154) (tgt := 2) F dX3_followDeletion_154 rfl ?_
        refine jj_J.sub [1, 2, 3, 0] rfl ?_
        exact ih _ _ w

theorem sM_followDeletion {X : jj_X} {h0 : jj_H} {m0 k : Nat} {N : Option jj_AV → jj_H → Prop} {XN : String → Nat → jj_H → Prop} (F : jj_F X RX3 cX3_followDeletion 8) (M : jj_M X (none) 2 43 N XN) (S : jj_GS X.1 X.2.2.1) (hs : jj_hs X.1 h0 m0) {Q : jj_MS → Prop} (hQ : ∀ ms, Q ms → N none (jj_mh h0 m0 ms)) : ∀ (x1 : Int) (x2 : Int) (ms : jj_MS), fM_followDeletion x1 x2 Q ms → jj_J X 8 0 [(0, .inr (.inr (.inl (some m0)))), (1, .inl x1), (2, .inl x2)] [] (jj_mh h0 m0 ms) k := by
  intro x1 x2 ms w
  unfold fM_followDeletion at w
  refine jr_iconst (pc := 0) F dX3_followDeletion_0 ?_
  refine jr_istore_n (pc := 1) F (vs' := [(3, .inl _), (0, .inr (.inr (.inl _))), (1, .inl _), (2, .inl _)]) dX3_followDeletion_1 (Nat.le_of_ble_eq_true rfl) rfl ?_
  refine jj_J.sub [1, 2, 3, 0] rfl ?_
  obtain ⟨n9, w⟩ := w
  exact sM_followDeletion_l2 F M S hs hQ _ _ n9 _ _ w

theorem cM_followDeletion {G : jj_G} {l : Launch} (S : jj_GS G l) {h0 : jj_H} {m0 : Nat} (hs : jj_hs G h0 m0) {x1 : Int} {x2 : Int} {ms : jj_MS} {Q : jj_MS → Prop} (w : fM_followDeletion x1 x2 Q ms) : jj_Ct G l yX3_followDeletion (ws_ yX3_followDeletion cX3_followDeletion 8 (none)) 2 43 [.inr (.inr (.inl (some m0))), .inl x1, .inl x2] (jj_mh h0 m0 ms) 0 (jm_Nv h0 m0 Q) jj_F0 := by
  refine jj_Ct.of S.1 (by decide +kernel) (Nat.le_of_ble_eq_true rfl) rfl (fun X hG hl F M O hnm => ?_)
  subst hG; subst hl
  exact sM_followDeletion F M S hs (fun ms q => ⟨ms, rfl, rfl, q⟩) _ _ _ w
theorem hM_followDeletion : yX3_followDeletion.cls = RX3 ∧ yX3_followDeletion.cls ≠ "java/lang/invoke/MethodHandle" ∧ yX3_followDeletion.cls ≠ "java/lang/invoke/VarHandle" ∧ (parseMethodDescriptor yX3_followDeletion.desc).map (fun d => d.parameters.length) = some 2 := by decide +kernel
/-! deleteWord(II)I -/
def fM_deleteWord_l37 (x1 : Int) (x2 : Int) (Q : Int → jj_MS → Prop) : Nat → Int → jj_MS → Prop
  | 0, _, _ => False
  | n + 1, x3, ms =>
  fM_sizeOf x1 (fun r2 ms1 =>
  jj_r x3 ∧ jj_r (r2 - 1) ∧ ((r2 - 1) ≤ x3 → (
    0 ≤ ((5 + (3 * x1)) + 0) ∧ ((5 + (3 * x1)) + 0) < 614 ∧
    0 ≤ ((5 + (3 * x1)) + 0) ∧ ((5 + (3 * x1)) + 0) < 614 ∧
    ∀ ms3, ms3 = jj_mA ms1 0 ((5 + (3 * x1)) + 0) ((ms1.2 0 ((5 + (3 * x1)) + 0)) - 1) →
    fM_wordPlace x1 0 (fun r5 ms4 =>
    0 ≤ (14 + r5) ∧ (14 + r5) < 614 ∧
    ∀ ms6, ms6 = jj_mA ms4 0 (14 + r5) 1 →
    fM_followDeletion x1 x2 (fun ms7 =>
    fM_sizeOf x1 (fun r10 ms9 =>
    Q r10 ms9) ms7) ms6) ms3)) ∧
  (¬ (r2 - 1) ≤ x3 → (
    fM_wordPlace x1 x3 (fun r12 ms11 =>
    fM_wordOf x1 (x3 + 1) (fun r14 ms13 =>
    0 ≤ r12 ∧ r12 < 606 ∧
    ∀ ms15, ms15 = jj_mA ms13 3 r12 r14 →
    fM_wordPlace x1 x3 (fun r17 ms16 =>
    fM_wordPlace x1 (x3 + 1) (fun r19 ms18 =>
    0 ≤ (14 + r19) ∧ (14 + r19) < 614 ∧
    0 ≤ (14 + r17) ∧ (14 + r17) < 614 ∧
    ∀ ms20, ms20 = jj_mA ms18 0 (14 + r17) (ms18.2 0 (14 + r19)) →
    ∀ v21, v21 = x3 + 1 →
    fM_deleteWord_l37 x1 x2 Q n v21 ms20) ms16) ms15) ms11) ms1))) ms

def fM_deleteWord (x1 : Int) (x2 : Int) (Q : Int → jj_MS → Prop) (ms : jj_MS) : Prop :=
  ∀ ms22, ms22 = jj_mI ms 7 0 →
  fM_isWordOf x1 x2 (fun r24 ms23 =>
  jj_r r24 ∧ (¬ r24 = 0 → (
    fM_sizeOf x1 (fun r26 ms25 =>
    jj_r r26 ∧ (¬ r26 = 1 → (
      ∃ n9, fM_deleteWord_l37 x1 x2 Q n9 x2 ms25)) ∧
    (r26 = 1 → (
      fM_fail 2 (fun r28 ms27 =>
      Q r28 ms27) ms25))) ms23)) ∧
  (r24 = 0 → (
    fM_fail 1 (fun r30 ms29 =>
    Q r30 ms29) ms23))) ms22

theorem sM_deleteWord_l37 {X : jj_X} {h0 : jj_H} {m0 k : Nat} {N : Option jj_AV → jj_H → Prop} {XN : String → Nat → jj_H → Prop} (F : jj_F X RX3 cX3_deleteWord 4) (M : jj_M X (some (.int)) 3 70 N XN) (S : jj_GS X.1 X.2.2.1) (hs : jj_hs X.1 h0 m0) {Q : Int → jj_MS → Prop} (hQ : ∀ r ms, Q r ms → N (some (.inl r)) (jj_mh h0 m0 ms)) (x1 : Int) (x2 : Int) : ∀ (n : Nat) (x3 : Int) (ms : jj_MS), fM_deleteWord_l37 x1 x2 Q n x3 ms → jj_J X 4 37 [(0, .inr (.inr (.inl (some m0)))), (1, .inl x1), (2, .inl x2), (3, .inl x3)] [] (jj_mh h0 m0 ms) k := by
  intro n
  induction n with
  | zero =>
    intro x3 ms w
    exact (show False from w).elim
  | succ n ih =>
    intro x3 ms w
    rw [fM_deleteWord_l37] at w
    refine jr_iload_n (pc := 37) F (j := 3) dX3_deleteWord_37 rfl ?_
    refine jr_aload_n (pc := 38) F (j := 0) dX3_deleteWord_38 rfl ?_
    refine jr_iload_n (pc := 39) F (j := 1) dX3_deleteWord_39 rfl ?_
    refine jr_callV (pc := 40) (As := [_]) F M (lw_V q3307 q3309 qs51 q143 q3310) dX3_deleteWord_40 hM_sizeOf rfl (Nat.le_of_ble_eq_true rfl) (Nat.le_of_ble_eq_true rfl) (Nat.le_of_ble_eq_true rfl) (jj_set_self _ _ _) rfl rfl (Nat.zero_le _) (cM_sizeOf S hs w) (fun v9 h9 q9 => ?_) (fun _ _ _ q9 => q9.elim)
    obtain ⟨r2, ms1, rfl, rfl, w⟩ := q9
    refine jr_iconst (pc := 43) F dX3_deleteWord_43 ?_
    refine jr_isub (pc := 44) F dX3_deleteWord_44 ?_
    obtain ⟨hx9, hy9, w1, w2⟩ := w
    refine jr_icmp_ge (pc := 45) (tgt := 100) F hx9 hy9 dX3_deleteWord_45 rfl (fun c9 => ?_) (fun c9 => ?_)
    · have w := w1 c9
      refine jr_aload_n (pc := 100) F (j := 0) dX3_deleteWord_100 rfl ?_
      refine jm_get (pc := 101) (f := 0) (v := .inr (.inr (.inl (some (m0 + 1 + 0))))) F (Nat.le_of_ble_eq_true rfl) q3130 rfl rfl dX3_deleteWord_101 ?_
      refine jr_iconst (pc := 104) F dX3_deleteWord_104 ?_
      refine jr_iconst (pc := 105) F dX3_deleteWord_105 ?_
      refine jr_iload_n (pc := 106) F (j := 1) dX3_deleteWord_106 rfl ?_
      refine jr_imul (pc := 107) F dX3_deleteWord_107 ?_
      refine jr_iadd (pc := 108) F dX3_deleteWord_108 ?_
      refine jr_iconst (pc := 109) F dX3_deleteWord_109 ?_
      refine jr_iadd (pc := 110) F dX3_deleteWord_110 ?_
      refine jr_dup2 (pc := 111) F dX3_deleteWord_111 rfl rfl ?_
      obtain ⟨hi1, hi2, w⟩ := w
      refine jm_iald (pc := 112) (f := 0) (o := 0) F rfl (by decide) hi1 hi2 dX3_deleteWord_112 ?_
      refine jr_iconst (pc := 113) F dX3_deleteWord_113 ?_
      refine jr_isub (pc := 114) F dX3_deleteWord_114 ?_
      obtain ⟨hi1, hi2, w⟩ := w
      have w := w _ rfl
      refine jm_iast (pc := 115) (f := 0) (o := 0) F (Nat.le_of_ble_eq_true rfl) rfl (by decide) hi1 hi2 dX3_deleteWord_115 ?_
      refine jr_aload_n (pc := 116) F (j := 0) dX3_deleteWord_116 rfl ?_
      refine jm_get (pc := 117) (f := 0) (v := .inr (.inr (.inl (some (m0 + 1 + 0))))) F (Nat.le_of_ble_eq_true rfl) q3130 rfl rfl dX3_deleteWord_117 ?_
      refine jr_bipush (pc := 120) F dX3_deleteWord_120 (by decide +kernel) ?_
      refine jr_iload_n (pc := 122) F (j := 1) dX3_deleteWord_122 rfl ?_
      refine jr_iconst (pc := 123) F dX3_deleteWord_123 ?_
      refine jr_callS (pc := 124) (As := [_, _]) F M (lw_S q3327 q3328 q143 q3329) dX3_deleteWord_124 hM_wordPlace.2 rfl (Nat.le_of_ble_eq_true rfl) (Nat.le_of_ble_eq_true rfl) (Nat.le_of_ble_eq_true rfl) (Nat.zero_le _) (cM_wordPlace S hs w) (fun v9 h9 q9 => ?_) (fun _ _ _ q9 => q9.elim)
      obtain ⟨r5, ms4, rfl, rfl, w⟩ := q9
      refine jr_iadd (pc := 127) F dX3_deleteWord_127 ?_
      refine jr_iconst (pc := 128) F dX3_deleteWord_128 ?_
      obtain ⟨hi1, hi2, w⟩ := w
      have w := w _ rfl
      refine jm_iast (pc := 129) (f := 0) (o := 0) F (Nat.le_of_ble_eq_true rfl) rfl (by decide) hi1 hi2 dX3_deleteWord_129 ?_
      refine jr_aload_n (pc := 130) F (j := 0) dX3_deleteWord_130 rfl ?_
      refine jr_iload_n (pc := 131) F (j := 1) dX3_deleteWord_131 rfl ?_
      refine jr_iload_n (pc := 132) F (j := 2) dX3_deleteWord_132 rfl ?_
      refine jr_callV (pc := 133) (As := [_, _]) F M (lw_V q3476 q3478 qs80 q143 q3479) dX3_deleteWord_133 hM_followDeletion rfl (Nat.le_of_ble_eq_true rfl) (Nat.le_of_ble_eq_true rfl) (Nat.le_of_ble_eq_true rfl) (jj_set_self _ _ _) rfl rfl (Nat.zero_le _) (cM_followDeletion S hs w) (fun v9 h9 q9 => ?_) (fun _ _ _ q9 => q9.elim)
      obtain ⟨ms7, rfl, rfl, w⟩ := q9
      refine jr_aload_n (pc := 136) F (j := 0) dX3_deleteWord_136 rfl ?_
      refine jr_iload_n (pc := 137) F (j := 1) dX3_deleteWord_137 rfl ?_
      refine jr_callV (pc := 138) (As := [_]) F M (lw_V q3307 q3309 qs51 q143 q3310) dX3_deleteWord_138 hM_sizeOf rfl (Nat.le_of_ble_eq_true rfl) (Nat.le_of_ble_eq_true rfl) (Nat.le_of_ble_eq_true rfl) (jj_set_self _ _ _) rfl rfl (Nat.zero_le _) (cM_sizeOf S hs w) (fun v9 h9 q9 => ?_) (fun _ _ _ q9 => q9.elim)
      obtain ⟨r10, ms9, rfl, rfl, w⟩ := q9
      exact jr_iret (pc := 141) F M dX3_deleteWord_141 (hQ _ _ w)
    · have w := w2 c9
      refine jr_aload_n (pc := 48) F (j := 0) dX3_deleteWord_48 rfl ?_
      refine jm_get (pc := 49) (f := 3) (v := .inr (.inr (.inl (some (m0 + 1 + 3))))) F (Nat.le_of_ble_eq_true rfl) q3133 rfl rfl dX3_deleteWord_49 ?_
      refine jr_iload_n (pc := 52) F (j := 1) dX3_deleteWord_52 rfl ?_
      refine jr_iload_n (pc := 53) F (j := 3) dX3_deleteWord_53 rfl ?_
      refine jr_callS (pc := 54) (As := [_, _]) F M (lw_S q3327 q3328 q143 q3329) dX3_deleteWord_54 hM_wordPlace.2 rfl (Nat.le_of_ble_eq_true rfl) (Nat.le_of_ble_eq_true rfl) (Nat.le_of_ble_eq_true rfl) (Nat.zero_le _) (cM_wordPlace S hs w) (fun v9 h9 q9 => ?_) (fun _ _ _ q9 => q9.elim)
      obtain ⟨r12, ms11, rfl, rfl, w⟩ := q9
      refine jr_aload_n (pc := 57) F (j := 0) dX3_deleteWord_57 rfl ?_
      refine jr_iload_n (pc := 58) F (j := 1) dX3_deleteWord_58 rfl ?_
      refine jr_iload_n (pc := 59) F (j := 3) dX3_deleteWord_59 rfl ?_
      refine jr_iconst (pc := 60) F dX3_deleteWord_60 ?_
      refine jr_iadd (pc := 61) F dX3_deleteWord_61 ?_
      refine jr_callV (pc := 62) (As := [_, _]) F M (lw_V q3323 q3325 qs55 q143 q3326) dX3_deleteWord_62 hM_wordOf rfl (Nat.le_of_ble_eq_true rfl) (Nat.le_of_ble_eq_true rfl) (Nat.le_of_ble_eq_true rfl) (jj_set_self _ _ _) rfl rfl (Nat.zero_le _) (cM_wordOf S hs w) (fun v9 h9 q9 => ?_) (fun _ _ _ q9 => q9.elim)
      obtain ⟨r14, ms13, rfl, rfl, w⟩ := q9
      obtain ⟨hi1, hi2, w⟩ := w
      have w := w _ rfl
      refine jm_last (pc := 65) (f := 3) (o := 3) F (Nat.le_of_ble_eq_true rfl) rfl (by decide) hi1 hi2 dX3_deleteWord_65 ?_
      refine jr_aload_n (pc := 66) F (j := 0) dX3_deleteWord_66 rfl ?_
      refine jm_get (pc := 67) (f := 0) (v := .inr (.inr (.inl (some (m0 + 1 + 0))))) F (Nat.le_of_ble_eq_true rfl) q3130 rfl rfl dX3_deleteWord_67 ?_
      refine jr_bipush (pc := 70) F dX3_deleteWord_70 (by decide +kernel) ?_
      refine jr_iload_n (pc := 72) F (j := 1) dX3_deleteWord_72 rfl ?_
      refine jr_iload_n (pc := 73) F (j := 3) dX3_deleteWord_73 rfl ?_
      refine jr_callS (pc := 74) (As := [_, _]) F M (lw_S q3327 q3328 q143 q3329) dX3_deleteWord_74 hM_wordPlace.2 rfl (Nat.le_of_ble_eq_true rfl) (Nat.le_of_ble_eq_true rfl) (Nat.le_of_ble_eq_true rfl) (Nat.zero_le _) (cM_wordPlace S hs w) (fun v9 h9 q9 => ?_) (fun _ _ _ q9 => q9.elim)
      obtain ⟨r17, ms16, rfl, rfl, w⟩ := q9
      refine jr_iadd (pc := 77) F dX3_deleteWord_77 ?_
      refine jr_aload_n (pc := 78) F (j := 0) dX3_deleteWord_78 rfl ?_
      refine jm_get (pc := 79) (f := 0) (v := .inr (.inr (.inl (some (m0 + 1 + 0))))) F (Nat.le_of_ble_eq_true rfl) q3130 rfl rfl dX3_deleteWord_79 ?_
      refine jr_bipush (pc := 82) F dX3_deleteWord_82 (by decide +kernel) ?_
      refine jr_iload_n (pc := 84) F (j := 1) dX3_deleteWord_84 rfl ?_
      refine jr_iload_n (pc := 85) F (j := 3) dX3_deleteWord_85 rfl ?_
      refine jr_iconst (pc := 86) F dX3_deleteWord_86 ?_
      refine jr_iadd (pc := 87) F dX3_deleteWord_87 ?_
      refine jr_callS (pc := 88) (As := [_, _]) F M (lw_S q3327 q3328 q143 q3329) dX3_deleteWord_88 hM_wordPlace.2 rfl (Nat.le_of_ble_eq_true rfl) (Nat.le_of_ble_eq_true rfl) (Nat.le_of_ble_eq_true rfl) (Nat.zero_le _) (cM_wordPlace S hs w) (fun v9 h9 q9 => ?_) (fun _ _ _ q9 => q9.elim)
      obtain ⟨r19, ms18, rfl, rfl, w⟩ := q9
      refine jr_iadd (pc := 91) F dX3_deleteWord_91 ?_
      obtain ⟨hi1, hi2, w⟩ := w
      refine jm_iald (pc := 92) (f := 0) (o := 0) F rfl (by decide) hi1 hi2 dX3_deleteWord_92 ?_
      obtain ⟨hi1, hi2, w⟩ := w
      have w := w _ rfl
      refine jm_iast (pc := 93) (f := 0) (o := 0) F (Nat.le_of_ble_eq_true rfl) rfl (by decide) hi1 hi2 dX3_deleteWord_93 ?_
      have w := w _ rfl
      refine jr_iinc (pc := 94) F (j := 3) (vs' := [(3, .inl _), (0, .inr (.inr (.inl _))), (1, .inl _), (2, .inl _)]) dX3_deleteWord_94 rfl rfl (Nat.le_of_ble_eq_true rfl) rfl ?_
      refine jr_goto (pc := 97) (tgt := 37) F dX3_deleteWord_97 rfl ?_
      refine jj_J.sub [1, 2, 3, 0] rfl ?_
      exact ih _ _ w

theorem sM_deleteWord {X : jj_X} {h0 : jj_H} {m0 k : Nat} {N : Option jj_AV → jj_H → Prop} {XN : String → Nat → jj_H → Prop} (F : jj_F X RX3 cX3_deleteWord 4) (M : jj_M X (some (.int)) 3 70 N XN) (S : jj_GS X.1 X.2.2.1) (hs : jj_hs X.1 h0 m0) {Q : Int → jj_MS → Prop} (hQ : ∀ r ms, Q r ms → N (some (.inl r)) (jj_mh h0 m0 ms)) : ∀ (x1 : Int) (x2 : Int) (ms : jj_MS), fM_deleteWord x1 x2 Q ms → jj_J X 4 0 [(0, .inr (.inr (.inl (some m0)))), (1, .inl x1), (2, .inl x2)] [] (jj_mh h0 m0 ms) k := by
  intro x1 x2 ms w
  unfold fM_deleteWord at w
  refine jr_aload_n (pc := 0) F (j := 0) dX3_deleteWord_0 rfl ?_
  refine jr_iconst (pc := 1) F dX3_deleteWord_1 ?_
  have w := w _ rfl
  refine jm_put (pc := 2) (f := 7) F (Nat.le_of_ble_eq_true rfl) q3137 rfl rfl rfl rfl rfl rfl dX3_deleteWord_2 ?_
  refine jr_aload_n (pc := 5) F (j := 0) dX3_deleteWord_5 rfl ?_
  refine jr_iload_n (pc := 6) F (j := 1) dX3_deleteWord_6 rfl ?_
  refine jr_iload_n (pc := 7) F (j := 2) dX3_deleteWord_7 rfl ?_
  refine jr_callV (pc := 8) (As := [_, _]) F M (lw_V q3449 q3451 qs77 q143 q3452) dX3_deleteWord_8 hM_isWordOf rfl (Nat.le_of_ble_eq_true rfl) (Nat.le_of_ble_eq_true rfl) (Nat.le_of_ble_eq_true rfl) (jj_set_self _ _ _) rfl rfl (Nat.zero_le _) (cM_isWordOf S hs w) (fun v9 h9 q9 => ?_) (fun _ _ _ q9 => q9.elim)
  obtain ⟨r24, ms23, rfl, rfl, w⟩ := q9
  obtain ⟨hx9, w1, w2⟩ := w
  refine jr_if_ne (pc := 11) (tgt := 20) F hx9 dX3_deleteWord_11 rfl (fun c9 => ?_) (fun c9 => ?_)
  · have w := w1 c9
    refine jr_aload_n (pc := 20) F (j := 0) dX3_deleteWord_20 rfl ?_
    refine jr_iload_n (pc := 21) F (j := 1) dX3_deleteWord_21 rfl ?_
    refine jr_callV (pc := 22) (As := [_]) F M (lw_V q3307 q3309 qs51 q143 q3310) dX3_deleteWord_22 hM_sizeOf rfl (Nat.le_of_ble_eq_true rfl) (Nat.le_of_ble_eq_true rfl) (Nat.le_of_ble_eq_true rfl) (jj_set_self _ _ _) rfl rfl (Nat.zero_le _) (cM_sizeOf S hs w) (fun v9 h9 q9 => ?_) (fun _ _ _ q9 => q9.elim)
    obtain ⟨r26, ms25, rfl, rfl, w⟩ := q9
    refine jr_iconst (pc := 25) F dX3_deleteWord_25 ?_
    obtain ⟨hx9, w1, w2⟩ := w
    refine jr_icmp_ne (pc := 26) (tgt := 35) F hx9 ⟨by decide, by decide⟩ dX3_deleteWord_26 rfl (fun c9 => ?_) (fun c9 => ?_)
    · have w := w1 c9
      refine jr_iload_n (pc := 35) F (j := 2) dX3_deleteWord_35 rfl ?_
      refine jr_istore_n (pc := 36) F (vs' := [(3, .inl _), (0, .inr (.inr (.inl _))), (1, .inl _), (2, .inl _)]) dX3_deleteWord_36 (Nat.le_of_ble_eq_true rfl) rfl ?_
      refine jj_J.sub [1, 2, 3, 0] rfl ?_
      obtain ⟨n9, w⟩ := w
      exact sM_deleteWord_l37 F M S hs hQ _ _ n9 _ _ w
    · have w := w2 c9
      refine jr_aload_n (pc := 29) F (j := 0) dX3_deleteWord_29 rfl ?_
      refine jr_iconst (pc := 30) F dX3_deleteWord_30 ?_
      refine jr_callV (pc := 31) (As := [_]) F M (lw_V q3276 q3278 qs46 q143 q3279) dX3_deleteWord_31 hM_fail rfl (Nat.le_of_ble_eq_true rfl) (Nat.le_of_ble_eq_true rfl) (Nat.le_of_ble_eq_true rfl) (jj_set_self _ _ _) rfl rfl (Nat.zero_le _) (cM_fail S hs w) (fun v9 h9 q9 => ?_) (fun _ _ _ q9 => q9.elim)
      obtain ⟨r28, ms27, rfl, rfl, w⟩ := q9
      exact jr_iret (pc := 34) F M dX3_deleteWord_34 (hQ _ _ w)
  · have w := w2 c9
    refine jr_aload_n (pc := 14) F (j := 0) dX3_deleteWord_14 rfl ?_
    refine jr_iconst (pc := 15) F dX3_deleteWord_15 ?_
    refine jr_callV (pc := 16) (As := [_]) F M (lw_V q3276 q3278 qs46 q143 q3279) dX3_deleteWord_16 hM_fail rfl (Nat.le_of_ble_eq_true rfl) (Nat.le_of_ble_eq_true rfl) (Nat.le_of_ble_eq_true rfl) (jj_set_self _ _ _) rfl rfl (Nat.zero_le _) (cM_fail S hs w) (fun v9 h9 q9 => ?_) (fun _ _ _ q9 => q9.elim)
    obtain ⟨r30, ms29, rfl, rfl, w⟩ := q9
    exact jr_iret (pc := 19) F M dX3_deleteWord_19 (hQ _ _ w)

theorem cM_deleteWord {G : jj_G} {l : Launch} (S : jj_GS G l) {h0 : jj_H} {m0 : Nat} (hs : jj_hs G h0 m0) {x1 : Int} {x2 : Int} {ms : jj_MS} {Q : Int → jj_MS → Prop} (w : fM_deleteWord x1 x2 Q ms) : jj_Ct G l yX3_deleteWord (ws_ yX3_deleteWord cX3_deleteWord 4 (some (.int))) 3 70 [.inr (.inr (.inl (some m0))), .inl x1, .inl x2] (jj_mh h0 m0 ms) 0 (jm_Ni h0 m0 Q) jj_F0 := by
  refine jj_Ct.of S.1 (by decide +kernel) (Nat.le_of_ble_eq_true rfl) rfl (fun X hG hl F M O hnm => ?_)
  subst hG; subst hl
  exact sM_deleteWord F M S hs (fun r ms q => ⟨r, ms, rfl, rfl, q⟩) _ _ _ w
theorem hM_deleteWord : yX3_deleteWord.cls = RX3 ∧ yX3_deleteWord.cls ≠ "java/lang/invoke/MethodHandle" ∧ yX3_deleteWord.cls ≠ "java/lang/invoke/VarHandle" ∧ (parseMethodDescriptor yX3_deleteWord.desc).map (fun d => d.parameters.length) = some 2 := by decide +kernel
/-! setParagraph(IIZ)Z -/
def fM_setParagraph_j19 (x1 : Int) (x2 : Int) (x3 : Int) (y1 : Int) (Q : Int → jj_MS → Prop) (ms : jj_MS) : Prop :=
  ∀ ms1, ms1 = jj_mI ms 7 y1 →
  jj_r (ms1.1 7) ∧ ((ms1.1 7) = 0 → (
    fM_beginsParagraph x1 x2 (fun r3 ms2 =>
    fM_wordPlace x1 x2 (fun r5 ms4 =>
    jj_r x3 ∧ (x3 = 0 → (
      0 ≤ (14 + r5) ∧ (14 + r5) < 614 ∧
      ∀ ms6, ms6 = jj_mA ms4 0 (14 + r5) 0 →
      (r3 = 0 ∨ r3 = 1) ∧ Q r3 ms6)) ∧
    (¬ x3 = 0 → (
      0 ≤ (14 + r5) ∧ (14 + r5) < 614 ∧
      ∀ ms7, ms7 = jj_mA ms4 0 (14 + r5) 1 →
      (r3 = 0 ∨ r3 = 1) ∧ Q r3 ms7))) ms2) ms1)) ∧
  (¬ (ms1.1 7) = 0 → (
    Q 0 ms1))

def fM_setParagraph_j18 (x1 : Int) (x2 : Int) (x3 : Int) (Q : Int → jj_MS → Prop) (ms : jj_MS) : Prop :=
  fM_setParagraph_j19 x1 x2 x3 1 Q ms

def fM_setParagraph (x1 : Int) (x2 : Int) (x3 : Int) (Q : Int → jj_MS → Prop) (ms : jj_MS) : Prop :=
  fM_isWordOf x1 x2 (fun r9 ms8 =>
  jj_r r9 ∧ (r9 = 0 → (
    fM_setParagraph_j18 x1 x2 x3 Q ms8)) ∧
  (¬ r9 = 0 → (
    jj_r x2 ∧ (x2 ≤ 0 → (
      fM_setParagraph_j18 x1 x2 x3 Q ms8)) ∧
    (¬ x2 ≤ 0 → (
      fM_setParagraph_j19 x1 x2 x3 0 Q ms8))))) ms

theorem sM_setParagraph_j19 {X : jj_X} {h0 : jj_H} {m0 k : Nat} {N : Option jj_AV → jj_H → Prop} {XN : String → Nat → jj_H → Prop} (F : jj_F X RX3 cX3_setParagraph 5) (M : jj_M X (some (.boolean)) 3 65 N XN) (S : jj_GS X.1 X.2.2.1) (hs : jj_hs X.1 h0 m0) {Q : Int → jj_MS → Prop} (hQ : ∀ r ms, Q r ms → N (some (.inl r)) (jj_mh h0 m0 ms)) : ∀ (x1 : Int) (x2 : Int) (x3 : Int) (y1 : Int) (ms : jj_MS), fM_setParagraph_j19 x1 x2 x3 y1 Q ms → jj_J X 5 19 [(0, .inr (.inr (.inl (some m0)))), (1, .inl x1), (2, .inl x2), (3, .inl x3)] [.inl y1, .inr (.inr (.inl (some m0)))] (jj_mh h0 m0 ms) k := by
  intro x1 x2 x3 y1 ms w
  unfold fM_setParagraph_j19 at w
  have w := w _ rfl
  refine jm_put (pc := 19) (f := 7) F (Nat.le_of_ble_eq_true rfl) q3137 rfl rfl rfl rfl rfl rfl dX3_setParagraph_19 ?_
  refine jr_aload_n (pc := 22) F (j := 0) dX3_setParagraph_22 rfl ?_
  refine jm_get (pc := 23) (f := 7) (v := .inl _) F (Nat.le_of_ble_eq_true rfl) q3137 rfl rfl dX3_setParagraph_23 ?_
  obtain ⟨hx9, w1, w2⟩ := w
  refine jr_if_eq (pc := 26) (tgt := 31) F hx9 dX3_setParagraph_26 rfl (fun c9 => ?_) (fun c9 => ?_)
  · have w := w1 c9
    refine jr_aload_n (pc := 31) F (j := 0) dX3_setParagraph_31 rfl ?_
    refine jr_iload_n (pc := 32) F (j := 1) dX3_setParagraph_32 rfl ?_
    refine jr_iload_n (pc := 33) F (j := 2) dX3_setParagraph_33 rfl ?_
    refine jr_callV (pc := 34) (As := [_, _]) F M (lw_V q3429 q3431 qs74 q143 q3432) dX3_setParagraph_34 hM_beginsParagraph rfl (Nat.le_of_ble_eq_true rfl) (Nat.le_of_ble_eq_true rfl) (Nat.le_of_ble_eq_true rfl) (jj_set_self _ _ _) rfl rfl (Nat.zero_le _) (cM_beginsParagraph S hs w) (fun v9 h9 q9 => ?_) (fun _ _ _ q9 => q9.elim)
    obtain ⟨r3, ms2, rfl, rfl, w⟩ := q9
    refine jr_istore (pc := 37) F (vs' := [(4, .inl _), (0, .inr (.inr (.inl _))), (1, .inl _), (2, .inl _), (3, .inl _)]) dX3_setParagraph_37 (Nat.le_of_ble_eq_true rfl) rfl ?_
    refine jr_aload_n (pc := 39) F (j := 1) dX3_setParagraph_39 rfl ?_
    refine jm_get (pc := 40) (f := 0) (v := .inr (.inr (.inl (some (m0 + 1 + 0))))) F (Nat.le_of_ble_eq_true rfl) q3130 rfl rfl dX3_setParagraph_40 ?_
    refine jr_bipush (pc := 43) F dX3_setParagraph_43 (by decide +kernel) ?_
    refine jr_iload_n (pc := 45) F (j := 2) dX3_setParagraph_45 rfl ?_
    refine jr_iload_n (pc := 46) F (j := 3) dX3_setParagraph_46 rfl ?_
    refine jr_callS (pc := 47) (As := [_, _]) F M (lw_S q3327 q3328 q143 q3329) dX3_setParagraph_47 hM_wordPlace.2 rfl (Nat.le_of_ble_eq_true rfl) (Nat.le_of_ble_eq_true rfl) (Nat.le_of_ble_eq_true rfl) (Nat.zero_le _) (cM_wordPlace S hs w) (fun v9 h9 q9 => ?_) (fun _ _ _ q9 => q9.elim)
    obtain ⟨r5, ms4, rfl, rfl, w⟩ := q9
    refine jr_iadd (pc := 50) F dX3_setParagraph_50 ?_
    refine jr_iload_n (pc := 51) F (j := 4) dX3_setParagraph_51 rfl ?_
    obtain ⟨hx9, w1, w2⟩ := w
    refine jr_if_eq (pc := 52) (tgt := 59) F hx9 dX3_setParagraph_52 rfl (fun c9 => ?_) (fun c9 => ?_)
    · have w := w1 c9
      refine jr_iconst (pc := 59) F dX3_setParagraph_59 ?_
      obtain ⟨hi1, hi2, w⟩ := w
      have w := w _ rfl
      refine jm_iast (pc := 60) (f := 0) (o := 0) F (Nat.le_of_ble_eq_true rfl) rfl (by decide) hi1 hi2 dX3_setParagraph_60 ?_
      refine jr_iload (pc := 61) F (j := 0) dX3_setParagraph_61 rfl ?_
      exact jr_zret (pc := 63) F M dX3_setParagraph_63 w.1 (hQ _ _ w.2)
    · have w := w2 c9
      refine jr_iconst (pc := 55) F dX3_setParagraph_55 ?_
      refine jr_goto (pc := 56) (tgt := 60) F dX3_setParagraph_56 rfl ?_
      obtain ⟨hi1, hi2, w⟩ := w
      have w := w _ rfl
      refine jm_iast (pc := 60) (f := 0) (o := 0) F (Nat.le_of_ble_eq_true rfl) rfl (by decide) hi1 hi2 dX3_setParagraph_60 ?_
      refine jr_iload (pc := 61) F (j := 0) dX3_setParagraph_61 rfl ?_
      exact jr_zret (pc := 63) F M dX3_setParagraph_63 w.1 (hQ _ _ w.2)
  · have w := w2 c9
    refine jr_iconst (pc := 29) F dX3_setParagraph_29 ?_
    exact jr_zret (pc := 30) F M dX3_setParagraph_30 (by decide) (hQ _ _ w)

theorem sM_setParagraph_j18 {X : jj_X} {h0 : jj_H} {m0 k : Nat} {N : Option jj_AV → jj_H → Prop} {XN : String → Nat → jj_H → Prop} (F : jj_F X RX3 cX3_setParagraph 5) (M : jj_M X (some (.boolean)) 3 65 N XN) (S : jj_GS X.1 X.2.2.1) (hs : jj_hs X.1 h0 m0) {Q : Int → jj_MS → Prop} (hQ : ∀ r ms, Q r ms → N (some (.inl r)) (jj_mh h0 m0 ms)) : ∀ (x1 : Int) (x2 : Int) (x3 : Int) (ms : jj_MS), fM_setParagraph_j18 x1 x2 x3 Q ms → jj_J X 5 18 [(0, .inr (.inr (.inl (some m0)))), (1, .inl x1), (2, .inl x2), (3, .inl x3)] [.inr (.inr (.inl (some m0)))] (jj_mh h0 m0 ms) k := by
  intro x1 x2 x3 ms w
  unfold fM_setParagraph_j18 at w
  refine jr_iconst (pc := 18) F dX3_setParagraph_18 ?_
  exact sM_setParagraph_j19 F M S hs hQ _ _ _ _ _ w

theorem sM_setParagraph {X : jj_X} {h0 : jj_H} {m0 k : Nat} {N : Option jj_AV → jj_H → Prop} {XN : String → Nat → jj_H → Prop} (F : jj_F X RX3 cX3_setParagraph 5) (M : jj_M X (some (.boolean)) 3 65 N XN) (S : jj_GS X.1 X.2.2.1) (hs : jj_hs X.1 h0 m0) {Q : Int → jj_MS → Prop} (hQ : ∀ r ms, Q r ms → N (some (.inl r)) (jj_mh h0 m0 ms)) : ∀ (x1 : Int) (x2 : Int) (x3 : Int) (ms : jj_MS), fM_setParagraph x1 x2 x3 Q ms → jj_J X 5 0 [(0, .inr (.inr (.inl (some m0)))), (1, .inl x1), (2, .inl x2), (3, .inl x3)] [] (jj_mh h0 m0 ms) k := by
  intro x1 x2 x3 ms w
  unfold fM_setParagraph at w
  refine jr_aload_n (pc := 0) F (j := 0) dX3_setParagraph_0 rfl ?_
  refine jr_aload_n (pc := 1) F (j := 0) dX3_setParagraph_1 rfl ?_
  refine jr_iload_n (pc := 2) F (j := 1) dX3_setParagraph_2 rfl ?_
  refine jr_iload_n (pc := 3) F (j := 2) dX3_setParagraph_3 rfl ?_
  refine jr_callV (pc := 4) (As := [_, _]) F M (lw_V q3449 q3451 qs77 q143 q3452) dX3_setParagraph_4 hM_isWordOf rfl (Nat.le_of_ble_eq_true rfl) (Nat.le_of_ble_eq_true rfl) (Nat.le_of_ble_eq_true rfl) (jj_set_self _ _ _) rfl rfl (Nat.zero_le _) (cM_isWordOf S hs w) (fun v9 h9 q9 => ?_) (fun _ _ _ q9 => q9.elim)
  obtain ⟨r9, ms8, rfl, rfl, w⟩ := q9
  obtain ⟨hx9, w1, w2⟩ := w
  refine jr_if_eq (pc := 7) (tgt := 18) F hx9 dX3_setParagraph_7 rfl (fun c9 => ?_) (fun c9 => ?_)
  · have w := w1 c9
    exact sM_setParagraph_j18 F M S hs hQ _ _ _ _ w
  · have w := w2 c9
    refine jr_iload_n (pc := 10) F (j := 2) dX3_setParagraph_10 rfl ?_
    obtain ⟨hx9, w1, w2⟩ := w
    refine jr_if_le (pc := 11) (tgt := 18) F hx9 dX3_setParagraph_11 rfl (fun c9 => ?_) (fun c9 => ?_)
    · have w := w1 c9
      exact sM_setParagraph_j18 F M S hs hQ _ _ _ _ w
    · have w := w2 c9
      refine jr_iconst (pc := 14) F dX3_setParagraph_14 ?_
      refine jr_goto (pc := 15) (tgt := 19) F dX3_setParagraph_15 rfl ?_
      exact sM_setParagraph_j19 F M S hs hQ _ _ _ _ _ w

theorem cM_setParagraph {G : jj_G} {l : Launch} (S : jj_GS G l) {h0 : jj_H} {m0 : Nat} (hs : jj_hs G h0 m0) {x1 : Int} {x2 : Int} {x3 : Int} {ms : jj_MS} {Q : Int → jj_MS → Prop} (w : fM_setParagraph x1 x2 x3 Q ms) : jj_Ct G l yX3_setParagraph (ws_ yX3_setParagraph cX3_setParagraph 5 (some (.boolean))) 3 65 [.inr (.inr (.inl (some m0))), .inl x1, .inl x2, .inl x3] (jj_mh h0 m0 ms) 0 (jm_Ni h0 m0 Q) jj_F0 := by
  refine jj_Ct.of S.1 (by decide +kernel) (Nat.le_of_ble_eq_true rfl) rfl (fun X hG hl F M O hnm => ?_)
  subst hG; subst hl
  exact sM_setParagraph F M S hs (fun r ms q => ⟨r, ms, rfl, rfl, q⟩) _ _ _ _ w
theorem hM_setParagraph : yX3_setParagraph.cls = RX3 ∧ yX3_setParagraph.cls ≠ "java/lang/invoke/MethodHandle" ∧ yX3_setParagraph.cls ≠ "java/lang/invoke/VarHandle" ∧ (parseMethodDescriptor yX3_setParagraph.desc).map (fun d => d.parameters.length) = some 3 := by decide +kernel
/-! setTarget(I)I -/
def fM_setTarget (x1 : Int) (Q : Int → jj_MS → Prop) (ms : jj_MS) : Prop :=
  ∀ ms1, ms1 = jj_mI ms 7 0 →
  fM_isEdition x1 (fun r3 ms2 =>
  jj_r r3 ∧ (¬ r3 = 0 → (
    fM_target (fun r5 ms4 =>
    ∀ ms6, ms6 = jj_mA ms4 0 4 x1 →
    Q r5 ms6) ms2)) ∧
  (r3 = 0 → (
    fM_fail 1 (fun r8 ms7 =>
    Q r8 ms7) ms2))) ms1

theorem sM_setTarget {X : jj_X} {h0 : jj_H} {m0 k : Nat} {N : Option jj_AV → jj_H → Prop} {XN : String → Nat → jj_H → Prop} (F : jj_F X RX3 cX3_setTarget 3) (M : jj_M X (some (.int)) 2 43 N XN) (S : jj_GS X.1 X.2.2.1) (hs : jj_hs X.1 h0 m0) {Q : Int → jj_MS → Prop} (hQ : ∀ r ms, Q r ms → N (some (.inl r)) (jj_mh h0 m0 ms)) : ∀ (x1 : Int) (ms : jj_MS), fM_setTarget x1 Q ms → jj_J X 3 0 [(0, .inr (.inr (.inl (some m0)))), (1, .inl x1)] [] (jj_mh h0 m0 ms) k := by
  intro x1 ms w
  unfold fM_setTarget at w
  refine jr_aload_n (pc := 0) F (j := 0) dX3_setTarget_0 rfl ?_
  refine jr_iconst (pc := 1) F dX3_setTarget_1 ?_
  have w := w _ rfl
  refine jm_put (pc := 2) (f := 7) F (Nat.le_of_ble_eq_true rfl) q3137 rfl rfl rfl rfl rfl rfl dX3_setTarget_2 ?_
  refine jr_aload_n (pc := 5) F (j := 0) dX3_setTarget_5 rfl ?_
  refine jr_iload_n (pc := 6) F (j := 1) dX3_setTarget_6 rfl ?_
  refine jr_callV (pc := 7) (As := [_]) F M (lw_V q3418 q3420 qs72 q143 q3421) dX3_setTarget_7 hM_isEdition rfl (Nat.le_of_ble_eq_true rfl) (Nat.le_of_ble_eq_true rfl) (Nat.le_of_ble_eq_true rfl) (jj_set_self _ _ _) rfl rfl (Nat.zero_le _) (cM_isEdition S hs w) (fun v9 h9 q9 => ?_) (fun _ _ _ q9 => q9.elim)
  obtain ⟨r3, ms2, rfl, rfl, w⟩ := q9
  obtain ⟨hx9, w1, w2⟩ := w
  refine jr_if_ne (pc := 10) (tgt := 19) F hx9 dX3_setTarget_10 rfl (fun c9 => ?_) (fun c9 => ?_)
  · have w := w1 c9
    refine jr_aload_n (pc := 19) F (j := 0) dX3_setTarget_19 rfl ?_
    refine jr_callV (pc := 20) (As := []) F M (lw_V q3315 q3317 qs53 q143 q3318) dX3_setTarget_20 hM_target rfl (Nat.le_of_ble_eq_true rfl) (Nat.le_of_ble_eq_true rfl) (Nat.le_of_ble_eq_true rfl) (jj_set_self _ _ _) rfl rfl (Nat.zero_le _) (cM_target S hs w) (fun v9 h9 q9 => ?_) (fun _ _ _ q9 => q9.elim)
    obtain ⟨r5, ms4, rfl, rfl, w⟩ := q9
    refine jr_istore_n (pc := 23) F (vs' := [(2, .inl _), (0, .inr (.inr (.inl _))), (1, .inl _)]) dX3_setTarget_23 (Nat.le_of_ble_eq_true rfl) rfl ?_
    refine jr_aload_n (pc := 24) F (j := 1) dX3_setTarget_24 rfl ?_
    refine jm_get (pc := 25) (f := 0) (v := .inr (.inr (.inl (some (m0 + 1 + 0))))) F (Nat.le_of_ble_eq_true rfl) q3130 rfl rfl dX3_setTarget_25 ?_
    refine jr_iconst (pc := 28) F dX3_setTarget_28 ?_
    refine jr_iload_n (pc := 29) F (j := 2) dX3_setTarget_29 rfl ?_
    have w := w _ rfl
    refine jm_iast (pc := 30) (f := 0) (o := 0) F (Nat.le_of_ble_eq_true rfl) rfl (by decide) (by decide) (by decide) dX3_setTarget_30 ?_
    refine jr_iload_n (pc := 31) F (j := 0) dX3_setTarget_31 rfl ?_
    exact jr_iret (pc := 32) F M dX3_setTarget_32 (hQ _ _ w)
  · have w := w2 c9
    refine jr_aload_n (pc := 13) F (j := 0) dX3_setTarget_13 rfl ?_
    refine jr_iconst (pc := 14) F dX3_setTarget_14 ?_
    refine jr_callV (pc := 15) (As := [_]) F M (lw_V q3276 q3278 qs46 q143 q3279) dX3_setTarget_15 hM_fail rfl (Nat.le_of_ble_eq_true rfl) (Nat.le_of_ble_eq_true rfl) (Nat.le_of_ble_eq_true rfl) (jj_set_self _ _ _) rfl rfl (Nat.zero_le _) (cM_fail S hs w) (fun v9 h9 q9 => ?_) (fun _ _ _ q9 => q9.elim)
    obtain ⟨r8, ms7, rfl, rfl, w⟩ := q9
    exact jr_iret (pc := 18) F M dX3_setTarget_18 (hQ _ _ w)

theorem cM_setTarget {G : jj_G} {l : Launch} (S : jj_GS G l) {h0 : jj_H} {m0 : Nat} (hs : jj_hs G h0 m0) {x1 : Int} {ms : jj_MS} {Q : Int → jj_MS → Prop} (w : fM_setTarget x1 Q ms) : jj_Ct G l yX3_setTarget (ws_ yX3_setTarget cX3_setTarget 3 (some (.int))) 2 43 [.inr (.inr (.inl (some m0))), .inl x1] (jj_mh h0 m0 ms) 0 (jm_Ni h0 m0 Q) jj_F0 := by
  refine jj_Ct.of S.1 (by decide +kernel) (Nat.le_of_ble_eq_true rfl) rfl (fun X hG hl F M O hnm => ?_)
  subst hG; subst hl
  exact sM_setTarget F M S hs (fun r ms q => ⟨r, ms, rfl, rfl, q⟩) _ _ w
theorem hM_setTarget : yX3_setTarget.cls = RX3 ∧ yX3_setTarget.cls ≠ "java/lang/invoke/MethodHandle" ∧ yX3_setTarget.cls ≠ "java/lang/invoke/VarHandle" ∧ (parseMethodDescriptor yX3_setTarget.desc).map (fun d => d.parameters.length) = some 1 := by decide +kernel
/-! readers()I -/
def fM_readers (Q : Int → jj_MS → Prop) (ms : jj_MS) : Prop :=
  Q (ms.2 0 1) ms

theorem sM_readers {X : jj_X} {h0 : jj_H} {m0 k : Nat} {N : Option jj_AV → jj_H → Prop} {XN : String → Nat → jj_H → Prop} (F : jj_F X RX3 cX3_readers 1) (M : jj_M X (some (.int)) 0 0 N XN) (S : jj_GS X.1 X.2.2.1) (hs : jj_hs X.1 h0 m0) {Q : Int → jj_MS → Prop} (hQ : ∀ r ms, Q r ms → N (some (.inl r)) (jj_mh h0 m0 ms)) : ∀ (ms : jj_MS), fM_readers Q ms → jj_J X 1 0 [(0, .inr (.inr (.inl (some m0))))] [] (jj_mh h0 m0 ms) k := by
  intro  ms w
  unfold fM_readers at w
  refine jr_aload_n (pc := 0) F (j := 0) dX3_readers_0 rfl ?_
  refine jm_get (pc := 1) (f := 0) (v := .inr (.inr (.inl (some (m0 + 1 + 0))))) F (Nat.le_of_ble_eq_true rfl) q3130 rfl rfl dX3_readers_1 ?_
  refine jr_iconst (pc := 4) F dX3_readers_4 ?_
  refine jm_iald (pc := 5) (f := 0) (o := 0) F rfl (by decide) (by decide) (by decide) dX3_readers_5 ?_
  exact jr_iret (pc := 6) F M dX3_readers_6 (hQ _ _ w)

theorem cM_readers {G : jj_G} {l : Launch} (S : jj_GS G l) {h0 : jj_H} {m0 : Nat} (hs : jj_hs G h0 m0) {ms : jj_MS} {Q : Int → jj_MS → Prop} (w : fM_readers Q ms) : jj_Ct G l yX3_readers (ws_ yX3_readers cX3_readers 1 (some (.int))) 0 0 [.inr (.inr (.inl (some m0)))] (jj_mh h0 m0 ms) 0 (jm_Ni h0 m0 Q) jj_F0 := by
  refine jj_Ct.of S.1 (by decide +kernel) (Nat.le_of_ble_eq_true rfl) rfl (fun X hG hl F M O hnm => ?_)
  subst hG; subst hl
  exact sM_readers F M S hs (fun r ms q => ⟨r, ms, rfl, rfl, q⟩) _ w
theorem hM_readers : yX3_readers.cls = RX3 ∧ yX3_readers.cls ≠ "java/lang/invoke/MethodHandle" ∧ yX3_readers.cls ≠ "java/lang/invoke/VarHandle" ∧ (parseMethodDescriptor yX3_readers.desc).map (fun d => d.parameters.length) = some 0 := by decide +kernel
/-! appendReader(J)I -/
def fM_appendReader (x1 : Int) (Q : Int → jj_MS → Prop) (ms : jj_MS) : Prop :=
  fM_readers (fun r2 ms1 =>
  0 ≤ (360 + r2) ∧ (360 + r2) < 606 ∧
  ∀ ms3, ms3 = jj_mA ms1 3 (360 + r2) x1 →
  ∀ ms4, ms4 = jj_mA ms3 0 1 ((ms3.2 0 1) + 1) →
  fM_readers (fun r6 ms5 =>
  Q (r6 - 1) ms5) ms4) ms

theorem sM_appendReader {X : jj_X} {h0 : jj_H} {m0 k : Nat} {N : Option jj_AV → jj_H → Prop} {XN : String → Nat → jj_H → Prop} (F : jj_F X RX3 cX3_appendReader 3) (M : jj_M X (some (.int)) 1 20 N XN) (S : jj_GS X.1 X.2.2.1) (hs : jj_hs X.1 h0 m0) {Q : Int → jj_MS → Prop} (hQ : ∀ r ms, Q r ms → N (some (.inl r)) (jj_mh h0 m0 ms)) : ∀ (x1 : Int) (ms : jj_MS), fM_appendReader x1 Q ms → jj_J X 3 0 [(0, .inr (.inr (.inl (some m0)))), (1, .inr (.inl x1))] [] (jj_mh h0 m0 ms) k := by
  intro x1 ms w
  unfold fM_appendReader at w
  refine jr_aload_n (pc := 0) F (j := 0) dX3_appendReader_0 rfl ?_
  refine jm_get (pc := 1) (f := 3) (v := .inr (.inr (.inl (some (m0 + 1 + 3))))) F (Nat.le_of_ble_eq_true rfl) q3133 rfl rfl dX3_appendReader_1 ?_
  refine jr_sipush (pc := 4) F dX3_appendReader_4 (by decide +kernel) ?_
  refine jr_aload_n (pc := 7) F (j := 0) dX3_appendReader_7 rfl ?_
  refine jr_callV (pc := 8) (As := []) F M (lw_V q3496 q3498 qs82 q143 q3499) dX3_appendReader_8 hM_readers rfl (Nat.le_of_ble_eq_true rfl) (Nat.le_of_ble_eq_true rfl) (Nat.le_of_ble_eq_true rfl) (jj_set_self _ _ _) rfl rfl (Nat.zero_le _) (cM_readers S hs w) (fun v9 h9 q9 => ?_) (fun _ _ _ q9 => q9.elim)
  obtain ⟨r2, ms1, rfl, rfl, w⟩ := q9
  refine jr_iadd (pc := 11) F dX3_appendReader_11 ?_
  refine jr_lload_n (pc := 12) F (j := 1) dX3_appendReader_12 rfl ?_
  obtain ⟨hi1, hi2, w⟩ := w
  have w := w _ rfl
  refine jm_last (pc := 13) (f := 3) (o := 3) F (Nat.le_of_ble_eq_true rfl) rfl (by decide) hi1 hi2 dX3_appendReader_13 ?_
  refine jr_aload_n (pc := 14) F (j := 0) dX3_appendReader_14 rfl ?_
  refine jm_get (pc := 15) (f := 0) (v := .inr (.inr (.inl (some (m0 + 1 + 0))))) F (Nat.le_of_ble_eq_true rfl) q3130 rfl rfl dX3_appendReader_15 ?_
  refine jr_iconst (pc := 18) F dX3_appendReader_18 ?_
  refine jr_dup2 (pc := 19) F dX3_appendReader_19 rfl rfl ?_
  refine jm_iald (pc := 20) (f := 0) (o := 0) F rfl (by decide) (by decide) (by decide) dX3_appendReader_20 ?_
  refine jr_iconst (pc := 21) F dX3_appendReader_21 ?_
  refine jr_iadd (pc := 22) F dX3_appendReader_22 ?_
  have w := w _ rfl
  refine jm_iast (pc := 23) (f := 0) (o := 0) F (Nat.le_of_ble_eq_true rfl) rfl (by decide) (by decide) (by decide) dX3_appendReader_23 ?_
  refine jr_aload_n (pc := 24) F (j := 0) dX3_appendReader_24 rfl ?_
  refine jr_callV (pc := 25) (As := []) F M (lw_V q3496 q3498 qs82 q143 q3499) dX3_appendReader_25 hM_readers rfl (Nat.le_of_ble_eq_true rfl) (Nat.le_of_ble_eq_true rfl) (Nat.le_of_ble_eq_true rfl) (jj_set_self _ _ _) rfl rfl (Nat.zero_le _) (cM_readers S hs w) (fun v9 h9 q9 => ?_) (fun _ _ _ q9 => q9.elim)
  obtain ⟨r6, ms5, rfl, rfl, w⟩ := q9
  refine jr_iconst (pc := 28) F dX3_appendReader_28 ?_
  refine jr_isub (pc := 29) F dX3_appendReader_29 ?_
  exact jr_iret (pc := 30) F M dX3_appendReader_30 (hQ _ _ w)

theorem cM_appendReader {G : jj_G} {l : Launch} (S : jj_GS G l) {h0 : jj_H} {m0 : Nat} (hs : jj_hs G h0 m0) {x1 : Int} {ms : jj_MS} {Q : Int → jj_MS → Prop} (w : fM_appendReader x1 Q ms) : jj_Ct G l yX3_appendReader (ws_ yX3_appendReader cX3_appendReader 3 (some (.int))) 1 20 [.inr (.inr (.inl (some m0))), .inr (.inl x1)] (jj_mh h0 m0 ms) 0 (jm_Ni h0 m0 Q) jj_F0 := by
  refine jj_Ct.of S.1 (by decide +kernel) (Nat.le_of_ble_eq_true rfl) rfl (fun X hG hl F M O hnm => ?_)
  subst hG; subst hl
  exact sM_appendReader F M S hs (fun r ms q => ⟨r, ms, rfl, rfl, q⟩) _ _ w
theorem hM_appendReader : yX3_appendReader.cls = RX3 ∧ yX3_appendReader.cls ≠ "java/lang/invoke/MethodHandle" ∧ yX3_appendReader.cls ≠ "java/lang/invoke/VarHandle" ∧ (parseMethodDescriptor yX3_appendReader.desc).map (fun d => d.parameters.length) = some 1 := by decide +kernel
/-! readerNamed(J)I -/
def fM_readerNamed_l2 (x1 : Int) (Q : Int → jj_MS → Prop) : Nat → Int → jj_MS → Prop
  | 0, _, _ => False
  | n + 1, x3, ms =>
  fM_readers (fun r2 ms1 =>
  jj_r x3 ∧ jj_r r2 ∧ (r2 ≤ x3 → (
    Q ((-1)) ms1)) ∧
  (¬ r2 ≤ x3 → (
    0 ≤ (360 + x3) ∧ (360 + x3) < 606 ∧
    jj_rl (ms1.2 3 (360 + x3)) ∧ jj_rl x1 ∧ (¬ (ms1.2 3 (360 + x3)) = x1 → (
      ∀ v3, v3 = x3 + 1 →
      fM_readerNamed_l2 x1 Q n v3 ms1)) ∧
    ((ms1.2 3 (360 + x3)) = x1 → (
      Q x3 ms1))))) ms

def fM_readerNamed (x1 : Int) (Q : Int → jj_MS → Prop) (ms : jj_MS) : Prop :=
  ∃ n9, fM_readerNamed_l2 x1 Q n9 0 ms

theorem sM_readerNamed_l2 {X : jj_X} {h0 : jj_H} {m0 k : Nat} {N : Option jj_AV → jj_H → Prop} {XN : String → Nat → jj_H → Prop} (F : jj_F X RX3 cX3_readerNamed 4) (M : jj_M X (some (.int)) 1 20 N XN) (S : jj_GS X.1 X.2.2.1) (hs : jj_hs X.1 h0 m0) {Q : Int → jj_MS → Prop} (hQ : ∀ r ms, Q r ms → N (some (.inl r)) (jj_mh h0 m0 ms)) (x1 : Int) : ∀ (n : Nat) (x3 : Int) (ms : jj_MS), fM_readerNamed_l2 x1 Q n x3 ms → jj_J X 4 2 [(0, .inr (.inr (.inl (some m0)))), (1, .inr (.inl x1)), (3, .inl x3)] [] (jj_mh h0 m0 ms) k := by
  intro n
  induction n with
  | zero =>
    intro x3 ms w
    exact (show False from w).elim
  | succ n ih =>
    intro x3 ms w
    rw [fM_readerNamed_l2] at w
    refine jr_iload_n (pc := 2) F (j := 2) dX3_readerNamed_2 rfl ?_
    refine jr_aload_n (pc := 3) F (j := 0) dX3_readerNamed_3 rfl ?_
    refine jr_callV (pc := 4) (As := []) F M (lw_V q3496 q3498 qs82 q143 q3499) dX3_readerNamed_4 hM_readers rfl (Nat.le_of_ble_eq_true rfl) (Nat.le_of_ble_eq_true rfl) (Nat.le_of_ble_eq_true rfl) (jj_set_self _ _ _) rfl rfl (Nat.zero_le _) (cM_readers S hs w) (fun v9 h9 q9 => ?_) (fun _ _ _ q9 => q9.elim)
    obtain ⟨r2, ms1, rfl, rfl, w⟩ := q9
    obtain ⟨hx9, hy9, w1, w2⟩ := w
    refine jr_icmp_ge (pc := 7) (tgt := 33) F hx9 hy9 dX3_readerNamed_7 rfl (fun c9 => ?_) (fun c9 => ?_)
    · have w := w1 c9
      refine jr_iconst (pc := 33) F dX3_readerNamed_33 ?_
      exact jr_iret (pc := 34) F M dX3_readerNamed_34 (hQ _ _ w)
    · have w := w2 c9
      refine jr_aload_n (pc := 10) F (j := 0) dX3_readerNamed_10 rfl ?_
      refine jm_get (pc := 11) (f := 3) (v := .inr (.inr (.inl (some (m0 + 1 + 3))))) F (Nat.le_of_ble_eq_true rfl) q3133 rfl rfl dX3_readerNamed_11 ?_
      refine jr_sipush (pc := 14) F dX3_readerNamed_14 (by decide +kernel) ?_
      refine jr_iload_n (pc := 17) F (j := 2) dX3_readerNamed_17 rfl ?_
      refine jr_iadd (pc := 18) F dX3_readerNamed_18 ?_
      obtain ⟨hi1, hi2, w⟩ := w
      refine jm_lald (pc := 19) (f := 3) (o := 3) F rfl (by decide) hi1 hi2 dX3_readerNamed_19 ?_
      refine jr_lload_n (pc := 20) F (j := 1) dX3_readerNamed_20 rfl ?_
      obtain ⟨hx9, hy9, w1, w2⟩ := w
      refine jr_lc_ne (pc := 21) (tgt := 27) F hx9 hy9 dX3_readerNamed_21 dX3_readerNamed_22 rfl (fun c9 => ?_) (fun c9 => ?_)
      · have w := w1 c9
        have w := w _ rfl
        refine jr_iinc (pc := 27) F (j := 2) (vs' := [(3, .inl _), (0, .inr (.inr (.inl _))), (1, .inr (.inl _))]) dX3_readerNamed_27 rfl rfl (Nat.le_of_ble_eq_true rfl) rfl ?_
        refine jr_goto (pc := 30) (tgt := 2) F dX3_readerNamed_30 rfl ?_
        refine jj_J.sub [1, 2, 0] rfl ?_
        exact ih _ _ w
      · have w := w2 c9
        refine jr_iload_n (pc := 25) F (j := 2) dX3_readerNamed_25 rfl ?_
        exact jr_iret (pc := 26) F M dX3_readerNamed_26 (hQ _ _ w)

theorem sM_readerNamed {X : jj_X} {h0 : jj_H} {m0 k : Nat} {N : Option jj_AV → jj_H → Prop} {XN : String → Nat → jj_H → Prop} (F : jj_F X RX3 cX3_readerNamed 4) (M : jj_M X (some (.int)) 1 20 N XN) (S : jj_GS X.1 X.2.2.1) (hs : jj_hs X.1 h0 m0) {Q : Int → jj_MS → Prop} (hQ : ∀ r ms, Q r ms → N (some (.inl r)) (jj_mh h0 m0 ms)) : ∀ (x1 : Int) (ms : jj_MS), fM_readerNamed x1 Q ms → jj_J X 4 0 [(0, .inr (.inr (.inl (some m0)))), (1, .inr (.inl x1))] [] (jj_mh h0 m0 ms) k := by
  intro x1 ms w
  unfold fM_readerNamed at w
  refine jr_iconst (pc := 0) F dX3_readerNamed_0 ?_
  refine jr_istore_n (pc := 1) F (vs' := [(3, .inl _), (0, .inr (.inr (.inl _))), (1, .inr (.inl _))]) dX3_readerNamed_1 (Nat.le_of_ble_eq_true rfl) rfl ?_
  refine jj_J.sub [1, 2, 0] rfl ?_
  obtain ⟨n9, w⟩ := w
  exact sM_readerNamed_l2 F M S hs hQ _ n9 _ _ w

theorem cM_readerNamed {G : jj_G} {l : Launch} (S : jj_GS G l) {h0 : jj_H} {m0 : Nat} (hs : jj_hs G h0 m0) {x1 : Int} {ms : jj_MS} {Q : Int → jj_MS → Prop} (w : fM_readerNamed x1 Q ms) : jj_Ct G l yX3_readerNamed (ws_ yX3_readerNamed cX3_readerNamed 4 (some (.int))) 1 20 [.inr (.inr (.inl (some m0))), .inr (.inl x1)] (jj_mh h0 m0 ms) 0 (jm_Ni h0 m0 Q) jj_F0 := by
  refine jj_Ct.of S.1 (by decide +kernel) (Nat.le_of_ble_eq_true rfl) rfl (fun X hG hl F M O hnm => ?_)
  subst hG; subst hl
  exact sM_readerNamed F M S hs (fun r ms q => ⟨r, ms, rfl, rfl, q⟩) _ _ w
theorem hM_readerNamed : yX3_readerNamed.cls = RX3 ∧ yX3_readerNamed.cls ≠ "java/lang/invoke/MethodHandle" ∧ yX3_readerNamed.cls ≠ "java/lang/invoke/VarHandle" ∧ (parseMethodDescriptor yX3_readerNamed.desc).map (fun d => d.parameters.length) = some 1 := by decide +kernel
/-! addReader()I -/
def fM_addReader_j28 (Q : Int → jj_MS → Prop) (ms : jj_MS) : Prop :=
  fM_fail 1 (fun r2 ms1 =>
  Q r2 ms1) ms

def fM_addReader (Q : Int → jj_MS → Prop) (ms : jj_MS) : Prop :=
  ∀ ms3, ms3 = jj_mI ms 7 0 →
  fM_hasWords 1 1 (fun r5 ms4 =>
  jj_r r5 ∧ (r5 = 0 → (
    fM_addReader_j28 Q ms4)) ∧
  (¬ r5 = 0 → (
    fM_readerNamed (ms4.2 10 0) (fun r7 ms6 =>
    jj_r r7 ∧ (r7 = ((-1)) → (
      fM_readers (fun r9 ms8 =>
      jj_r r9 ∧ (¬ r9 = 6 → (
        ∀ ms10, ms10 = jj_mI ms8 9 0 →
        fM_appendReader (ms10.2 10 0) (fun r12 ms11 =>
        Q r12 ms11) ms10)) ∧
      (r9 = 6 → (
        fM_fail 2 (fun r14 ms13 =>
        Q r14 ms13) ms8))) ms6)) ∧
    (¬ r7 = ((-1)) → (
      fM_addReader_j28 Q ms6))) ms4))) ms3

theorem sM_addReader_j28 {X : jj_X} {h0 : jj_H} {m0 k : Nat} {N : Option jj_AV → jj_H → Prop} {XN : String → Nat → jj_H → Prop} (F : jj_F X RX3 cX3_addReader 1) (M : jj_M X (some (.int)) 3 69 N XN) (S : jj_GS X.1 X.2.2.1) (hs : jj_hs X.1 h0 m0) {Q : Int → jj_MS → Prop} (hQ : ∀ r ms, Q r ms → N (some (.inl r)) (jj_mh h0 m0 ms)) : ∀ (ms : jj_MS), fM_addReader_j28 Q ms → jj_J X 1 28 [(0, .inr (.inr (.inl (some m0))))] [] (jj_mh h0 m0 ms) k := by
  intro  ms w
  unfold fM_addReader_j28 at w
  refine jr_aload_n (pc := 28) F (j := 0) dX3_addReader_28 rfl ?_
  refine jr_iconst (pc := 29) F dX3_addReader_29 ?_
  refine jr_callV (pc := 30) (As := [_]) F M (lw_V q3276 q3278 qs46 q143 q3279) dX3_addReader_30 hM_fail rfl (Nat.le_of_ble_eq_true rfl) (Nat.le_of_ble_eq_true rfl) (Nat.le_of_ble_eq_true rfl) (jj_set_self _ _ _) rfl rfl (Nat.zero_le _) (cM_fail S hs w) (fun v9 h9 q9 => ?_) (fun _ _ _ q9 => q9.elim)
  obtain ⟨r2, ms1, rfl, rfl, w⟩ := q9
  exact jr_iret (pc := 33) F M dX3_addReader_33 (hQ _ _ w)

theorem sM_addReader {X : jj_X} {h0 : jj_H} {m0 k : Nat} {N : Option jj_AV → jj_H → Prop} {XN : String → Nat → jj_H → Prop} (F : jj_F X RX3 cX3_addReader 1) (M : jj_M X (some (.int)) 3 69 N XN) (S : jj_GS X.1 X.2.2.1) (hs : jj_hs X.1 h0 m0) {Q : Int → jj_MS → Prop} (hQ : ∀ r ms, Q r ms → N (some (.inl r)) (jj_mh h0 m0 ms)) : ∀ (ms : jj_MS), fM_addReader Q ms → jj_J X 1 0 [(0, .inr (.inr (.inl (some m0))))] [] (jj_mh h0 m0 ms) k := by
  intro  ms w
  unfold fM_addReader at w
  refine jr_aload_n (pc := 0) F (j := 0) dX3_addReader_0 rfl ?_
  refine jr_iconst (pc := 1) F dX3_addReader_1 ?_
  have w := w _ rfl
  refine jm_put (pc := 2) (f := 7) F (Nat.le_of_ble_eq_true rfl) q3137 rfl rfl rfl rfl rfl rfl dX3_addReader_2 ?_
  refine jr_aload_n (pc := 5) F (j := 0) dX3_addReader_5 rfl ?_
  refine jr_iconst (pc := 6) F dX3_addReader_6 ?_
  refine jr_iconst (pc := 7) F dX3_addReader_7 ?_
  refine jr_callV (pc := 8) (As := [_, _]) F M (lw_V q3390 q3392 qs68 q143 q3393) dX3_addReader_8 hM_hasWords rfl (Nat.le_of_ble_eq_true rfl) (Nat.le_of_ble_eq_true rfl) (Nat.le_of_ble_eq_true rfl) (jj_set_self _ _ _) rfl rfl (Nat.zero_le _) (cM_hasWords S hs w) (fun v9 h9 q9 => ?_) (fun _ _ _ q9 => q9.elim)
  obtain ⟨r5, ms4, rfl, rfl, w⟩ := q9
  obtain ⟨hx9, w1, w2⟩ := w
  refine jr_if_eq (pc := 11) (tgt := 28) F hx9 dX3_addReader_11 rfl (fun c9 => ?_) (fun c9 => ?_)
  · have w := w1 c9
    exact sM_addReader_j28 F M S hs hQ _ w
  · have w := w2 c9
    refine jr_aload_n (pc := 14) F (j := 0) dX3_addReader_14 rfl ?_
    refine jr_aload_n (pc := 15) F (j := 0) dX3_addReader_15 rfl ?_
    refine jm_get (pc := 16) (f := 10) (v := .inr (.inr (.inl (some (m0 + 1 + 8))))) F (Nat.le_of_ble_eq_true rfl) q3140 rfl rfl dX3_addReader_16 ?_
    refine jr_iconst (pc := 19) F dX3_addReader_19 ?_
    refine jm_lald (pc := 20) (f := 10) (o := 8) F rfl (by decide) (by decide) (by decide) dX3_addReader_20 ?_
    refine jr_callV (pc := 21) (As := [_]) F M (lw_V q3492 q3494 qs81 q143 q3495) dX3_addReader_21 hM_readerNamed rfl (Nat.le_of_ble_eq_true rfl) (Nat.le_of_ble_eq_true rfl) (Nat.le_of_ble_eq_true rfl) (jj_set_self _ _ _) rfl rfl (Nat.zero_le _) (cM_readerNamed S hs w) (fun v9 h9 q9 => ?_) (fun _ _ _ q9 => q9.elim)
    obtain ⟨r7, ms6, rfl, rfl, w⟩ := q9
    refine jr_iconst (pc := 24) F dX3_addReader_24 ?_
    obtain ⟨hx9, w1, w2⟩ := w
    refine jr_icmp_eq (pc := 25) (tgt := 34) F hx9 ⟨by decide, by decide⟩ dX3_addReader_25 rfl (fun c9 => ?_) (fun c9 => ?_)
    · have w := w1 c9
      refine jr_aload_n (pc := 34) F (j := 0) dX3_addReader_34 rfl ?_
      refine jr_callV (pc := 35) (As := []) F M (lw_V q3496 q3498 qs82 q143 q3499) dX3_addReader_35 hM_readers rfl (Nat.le_of_ble_eq_true rfl) (Nat.le_of_ble_eq_true rfl) (Nat.le_of_ble_eq_true rfl) (jj_set_self _ _ _) rfl rfl (Nat.zero_le _) (cM_readers S hs w) (fun v9 h9 q9 => ?_) (fun _ _ _ q9 => q9.elim)
      obtain ⟨r9, ms8, rfl, rfl, w⟩ := q9
      refine jr_bipush (pc := 38) F dX3_addReader_38 (by decide +kernel) ?_
      obtain ⟨hx9, w1, w2⟩ := w
      refine jr_icmp_ne (pc := 40) (tgt := 49) F hx9 ⟨by decide, by decide⟩ dX3_addReader_40 rfl (fun c9 => ?_) (fun c9 => ?_)
      · have w := w1 c9
        refine jr_aload_n (pc := 49) F (j := 0) dX3_addReader_49 rfl ?_
        refine jr_iconst (pc := 50) F dX3_addReader_50 ?_
        have w := w _ rfl
        refine jm_put (pc := 51) (f := 9) F (Nat.le_of_ble_eq_true rfl) q3139 rfl rfl rfl rfl rfl rfl dX3_addReader_51 ?_
        refine jr_aload_n (pc := 54) F (j := 0) dX3_addReader_54 rfl ?_
        refine jr_aload_n (pc := 55) F (j := 0) dX3_addReader_55 rfl ?_
        refine jm_get (pc := 56) (f := 10) (v := .inr (.inr (.inl (some (m0 + 1 + 8))))) F (Nat.le_of_ble_eq_true rfl) q3140 rfl rfl dX3_addReader_56 ?_
        refine jr_iconst (pc := 59) F dX3_addReader_59 ?_
        refine jm_lald (pc := 60) (f := 10) (o := 8) F rfl (by decide) (by decide) (by decide) dX3_addReader_60 ?_
        refine jr_callV (pc := 61) (As := [_]) F M (lw_V q3500 q3502 qs83 q143 q3503) dX3_addReader_61 hM_appendReader rfl (Nat.le_of_ble_eq_true rfl) (Nat.le_of_ble_eq_true rfl) (Nat.le_of_ble_eq_true rfl) (jj_set_self _ _ _) rfl rfl (Nat.zero_le _) (cM_appendReader S hs w) (fun v9 h9 q9 => ?_) (fun _ _ _ q9 => q9.elim)
        obtain ⟨r12, ms11, rfl, rfl, w⟩ := q9
        exact jr_iret (pc := 64) F M dX3_addReader_64 (hQ _ _ w)
      · have w := w2 c9
        refine jr_aload_n (pc := 43) F (j := 0) dX3_addReader_43 rfl ?_
        refine jr_iconst (pc := 44) F dX3_addReader_44 ?_
        refine jr_callV (pc := 45) (As := [_]) F M (lw_V q3276 q3278 qs46 q143 q3279) dX3_addReader_45 hM_fail rfl (Nat.le_of_ble_eq_true rfl) (Nat.le_of_ble_eq_true rfl) (Nat.le_of_ble_eq_true rfl) (jj_set_self _ _ _) rfl rfl (Nat.zero_le _) (cM_fail S hs w) (fun v9 h9 q9 => ?_) (fun _ _ _ q9 => q9.elim)
        obtain ⟨r14, ms13, rfl, rfl, w⟩ := q9
        exact jr_iret (pc := 48) F M dX3_addReader_48 (hQ _ _ w)
    · have w := w2 c9
      exact sM_addReader_j28 F M S hs hQ _ w

theorem cM_addReader {G : jj_G} {l : Launch} (S : jj_GS G l) {h0 : jj_H} {m0 : Nat} (hs : jj_hs G h0 m0) {ms : jj_MS} {Q : Int → jj_MS → Prop} (w : fM_addReader Q ms) : jj_Ct G l yX3_addReader (ws_ yX3_addReader cX3_addReader 1 (some (.int))) 3 69 [.inr (.inr (.inl (some m0)))] (jj_mh h0 m0 ms) 0 (jm_Ni h0 m0 Q) jj_F0 := by
  refine jj_Ct.of S.1 (by decide +kernel) (Nat.le_of_ble_eq_true rfl) rfl (fun X hG hl F M O hnm => ?_)
  subst hG; subst hl
  exact sM_addReader F M S hs (fun r ms q => ⟨r, ms, rfl, rfl, q⟩) _ w
theorem hM_addReader : yX3_addReader.cls = RX3 ∧ yX3_addReader.cls ≠ "java/lang/invoke/MethodHandle" ∧ yX3_addReader.cls ≠ "java/lang/invoke/VarHandle" ∧ (parseMethodDescriptor yX3_addReader.desc).map (fun d => d.parameters.length) = some 0 := by decide +kernel
/-! appendNote(IIIII)I -/
def fM_appendNote (x1 : Int) (x2 : Int) (x3 : Int) (x4 : Int) (x5 : Int) (Q : Int → jj_MS → Prop) (ms : jj_MS) : Prop :=
  fM_notes (fun r2 ms1 =>
  ∀ v3, v3 = 374 + (6 * r2) →
  0 ≤ (v3 + 0) ∧ (v3 + 0) < 614 ∧
  ∀ ms4, ms4 = jj_mA ms1 0 (v3 + 0) x1 →
  0 ≤ (v3 + 1) ∧ (v3 + 1) < 614 ∧
  ∀ ms5, ms5 = jj_mA ms4 0 (v3 + 1) x2 →
  0 ≤ (v3 + 2) ∧ (v3 + 2) < 614 ∧
  ∀ ms6, ms6 = jj_mA ms5 0 (v3 + 2) x3 →
  0 ≤ (v3 + 3) ∧ (v3 + 3) < 614 ∧
  ∀ ms7, ms7 = jj_mA ms6 0 (v3 + 3) x4 →
  0 ≤ (v3 + 4) ∧ (v3 + 4) < 614 ∧
  ∀ ms8, ms8 = jj_mA ms7 0 (v3 + 4) x5 →
  0 ≤ (v3 + 5) ∧ (v3 + 5) < 614 ∧
  ∀ ms9, ms9 = jj_mA ms8 0 (v3 + 5) 0 →
  ∀ ms10, ms10 = jj_mA ms9 0 2 ((ms9.2 0 2) + 1) →
  fM_notes (fun r12 ms11 =>
  Q (r12 - 1) ms11) ms10) ms

theorem sM_appendNote {X : jj_X} {h0 : jj_H} {m0 k : Nat} {N : Option jj_AV → jj_H → Prop} {XN : String → Nat → jj_H → Prop} (F : jj_F X RX3 cX3_appendNote 7) (M : jj_M X (some (.int)) 1 20 N XN) (S : jj_GS X.1 X.2.2.1) (hs : jj_hs X.1 h0 m0) {Q : Int → jj_MS → Prop} (hQ : ∀ r ms, Q r ms → N (some (.inl r)) (jj_mh h0 m0 ms)) : ∀ (x1 : Int) (x2 : Int) (x3 : Int) (x4 : Int) (x5 : Int) (ms : jj_MS), fM_appendNote x1 x2 x3 x4 x5 Q ms → jj_J X 7 0 [(0, .inr (.inr (.inl (some m0)))), (1, .inl x1), (2, .inl x2), (3, .inl x3), (4, .inl x4), (5, .inl x5)] [] (jj_mh h0 m0 ms) k := by
  intro x1 x2 x3 x4 x5 ms w
  unfold fM_appendNote at w
  refine jr_sipush (pc := 0) F dX3_appendNote_0 (by decide +kernel) ?_
  refine jr_bipush (pc := 3) F dX3_appendNote_3 (by decide +kernel) ?_
  refine jr_aload_n (pc := 5) F (j := 0) dX3_appendNote_5 rfl ?_
  refine jr_callV (pc := 6) (As := []) F M (lw_V q3334 q3336 qs56 q143 q3337) dX3_appendNote_6 hM_notes rfl (Nat.le_of_ble_eq_true rfl) (Nat.le_of_ble_eq_true rfl) (Nat.le_of_ble_eq_true rfl) (jj_set_self _ _ _) rfl rfl (Nat.zero_le _) (cM_notes S hs w) (fun v9 h9 q9 => ?_) (fun _ _ _ q9 => q9.elim)
  obtain ⟨r2, ms1, rfl, rfl, w⟩ := q9
  refine jr_imul (pc := 9) F dX3_appendNote_9 ?_
  refine jr_iadd (pc := 10) F dX3_appendNote_10 ?_
  have w := w _ rfl
  refine jr_istore (pc := 11) F (vs' := [(6, .inl _), (0, .inr (.inr (.inl _))), (1, .inl _), (2, .inl _), (3, .inl _), (4, .inl _), (5, .inl _)]) dX3_appendNote_11 (Nat.le_of_ble_eq_true rfl) rfl ?_
  refine jr_aload_n (pc := 13) F (j := 1) dX3_appendNote_13 rfl ?_
  refine jm_get (pc := 14) (f := 0) (v := .inr (.inr (.inl (some (m0 + 1 + 0))))) F (Nat.le_of_ble_eq_true rfl) q3130 rfl rfl dX3_appendNote_14 ?_
  refine jr_iload (pc := 17) F (j := 0) dX3_appendNote_17 rfl ?_
  refine jr_iconst (pc := 19) F dX3_appendNote_19 ?_
  refine jr_iadd (pc := 20) F dX3_appendNote_20 ?_
  refine jr_iload_n (pc := 21) F (j := 2) dX3_appendNote_21 rfl ?_
  obtain ⟨hi1, hi2, w⟩ := w
  have w := w _ rfl
  refine jm_iast (pc := 22) (f := 0) (o := 0) F (Nat.le_of_ble_eq_true rfl) rfl (by decide) hi1 hi2 dX3_appendNote_22 ?_
  refine jr_aload_n (pc := 23) F (j := 1) dX3_appendNote_23 rfl ?_
  refine jm_get (pc := 24) (f := 0) (v := .inr (.inr (.inl (some (m0 + 1 + 0))))) F (Nat.le_of_ble_eq_true rfl) q3130 rfl rfl dX3_appendNote_24 ?_
  refine jr_iload (pc := 27) F (j := 0) dX3_appendNote_27 rfl ?_
  refine jr_iconst (pc := 29) F dX3_appendNote_29 ?_
  refine jr_iadd (pc := 30) F dX3_appendNote_30 ?_
  refine jr_iload_n (pc := 31) F (j := 3) dX3_appendNote_31 rfl ?_
  obtain ⟨hi1, hi2, w⟩ := w
  have w := w _ rfl
  refine jm_iast (pc := 32) (f := 0) (o := 0) F (Nat.le_of_ble_eq_true rfl) rfl (by decide) hi1 hi2 dX3_appendNote_32 ?_
  refine jr_aload_n (pc := 33) F (j := 1) dX3_appendNote_33 rfl ?_
  refine jm_get (pc := 34) (f := 0) (v := .inr (.inr (.inl (some (m0 + 1 + 0))))) F (Nat.le_of_ble_eq_true rfl) q3130 rfl rfl dX3_appendNote_34 ?_
  refine jr_iload (pc := 37) F (j := 0) dX3_appendNote_37 rfl ?_
  refine jr_iconst (pc := 39) F dX3_appendNote_39 ?_
  refine jr_iadd (pc := 40) F dX3_appendNote_40 ?_
  refine jr_iload_n (pc := 41) F (j := 4) dX3_appendNote_41 rfl ?_
  obtain ⟨hi1, hi2, w⟩ := w
  have w := w _ rfl
  refine jm_iast (pc := 42) (f := 0) (o := 0) F (Nat.le_of_ble_eq_true rfl) rfl (by decide) hi1 hi2 dX3_appendNote_42 ?_
  refine jr_aload_n (pc := 43) F (j := 1) dX3_appendNote_43 rfl ?_
  refine jm_get (pc := 44) (f := 0) (v := .inr (.inr (.inl (some (m0 + 1 + 0))))) F (Nat.le_of_ble_eq_true rfl) q3130 rfl rfl dX3_appendNote_44 ?_
  refine jr_iload (pc := 47) F (j := 0) dX3_appendNote_47 rfl ?_
  refine jr_iconst (pc := 49) F dX3_appendNote_49 ?_
  refine jr_iadd (pc := 50) F dX3_appendNote_50 ?_
  refine jr_iload (pc := 51) F (j := 5) dX3_appendNote_51 rfl ?_
  obtain ⟨hi1, hi2, w⟩ := w
  have w := w _ rfl
  refine jm_iast (pc := 53) (f := 0) (o := 0) F (Nat.le_of_ble_eq_true rfl) rfl (by decide) hi1 hi2 dX3_appendNote_53 ?_
  refine jr_aload_n (pc := 54) F (j := 1) dX3_appendNote_54 rfl ?_
  refine jm_get (pc := 55) (f := 0) (v := .inr (.inr (.inl (some (m0 + 1 + 0))))) F (Nat.le_of_ble_eq_true rfl) q3130 rfl rfl dX3_appendNote_55 ?_
  refine jr_iload (pc := 58) F (j := 0) dX3_appendNote_58 rfl ?_
  refine jr_iconst (pc := 60) F dX3_appendNote_60 ?_
  refine jr_iadd (pc := 61) F dX3_appendNote_61 ?_
  refine jr_iload (pc := 62) F (j := 6) dX3_appendNote_62 rfl ?_
  obtain ⟨hi1, hi2, w⟩ := w
  have w := w _ rfl
  refine jm_iast (pc := 64) (f := 0) (o := 0) F (Nat.le_of_ble_eq_true rfl) rfl (by decide) hi1 hi2 dX3_appendNote_64 ?_
  refine jr_aload_n (pc := 65) F (j := 1) dX3_appendNote_65 rfl ?_
  refine jm_get (pc := 66) (f := 0) (v := .inr (.inr (.inl (some (m0 + 1 + 0))))) F (Nat.le_of_ble_eq_true rfl) q3130 rfl rfl dX3_appendNote_66 ?_
  refine jr_iload (pc := 69) F (j := 0) dX3_appendNote_69 rfl ?_
  refine jr_iconst (pc := 71) F dX3_appendNote_71 ?_
  refine jr_iadd (pc := 72) F dX3_appendNote_72 ?_
  refine jr_iconst (pc := 73) F dX3_appendNote_73 ?_
  obtain ⟨hi1, hi2, w⟩ := w
  have w := w _ rfl
  refine jm_iast (pc := 74) (f := 0) (o := 0) F (Nat.le_of_ble_eq_true rfl) rfl (by decide) hi1 hi2 dX3_appendNote_74 ?_
  refine jr_aload_n (pc := 75) F (j := 1) dX3_appendNote_75 rfl ?_
  refine jm_get (pc := 76) (f := 0) (v := .inr (.inr (.inl (some (m0 + 1 + 0))))) F (Nat.le_of_ble_eq_true rfl) q3130 rfl rfl dX3_appendNote_76 ?_
  refine jr_iconst (pc := 79) F dX3_appendNote_79 ?_
  refine jr_dup2 (pc := 80) F dX3_appendNote_80 rfl rfl ?_
  refine jm_iald (pc := 81) (f := 0) (o := 0) F rfl (by decide) (by decide) (by decide) dX3_appendNote_81 ?_
  refine jr_iconst (pc := 82) F dX3_appendNote_82 ?_
  refine jr_iadd (pc := 83) F dX3_appendNote_83 ?_
  have w := w _ rfl
  refine jm_iast (pc := 84) (f := 0) (o := 0) F (Nat.le_of_ble_eq_true rfl) rfl (by decide) (by decide) (by decide) dX3_appendNote_84 ?_
  refine jr_aload_n (pc := 85) F (j := 1) dX3_appendNote_85 rfl ?_
  refine jr_callV (pc := 86) (As := []) F M (lw_V q3334 q3336 qs56 q143 q3337) dX3_appendNote_86 hM_notes rfl (Nat.le_of_ble_eq_true rfl) (Nat.le_of_ble_eq_true rfl) (Nat.le_of_ble_eq_true rfl) (jj_set_self _ _ _) rfl rfl (Nat.zero_le _) (cM_notes S hs w) (fun v9 h9 q9 => ?_) (fun _ _ _ q9 => q9.elim)
  obtain ⟨r12, ms11, rfl, rfl, w⟩ := q9
  refine jr_iconst (pc := 89) F dX3_appendNote_89 ?_
  refine jr_isub (pc := 90) F dX3_appendNote_90 ?_
  exact jr_iret (pc := 91) F M dX3_appendNote_91 (hQ _ _ w)

theorem cM_appendNote {G : jj_G} {l : Launch} (S : jj_GS G l) {h0 : jj_H} {m0 : Nat} (hs : jj_hs G h0 m0) {x1 : Int} {x2 : Int} {x3 : Int} {x4 : Int} {x5 : Int} {ms : jj_MS} {Q : Int → jj_MS → Prop} (w : fM_appendNote x1 x2 x3 x4 x5 Q ms) : jj_Ct G l yX3_appendNote (ws_ yX3_appendNote cX3_appendNote 7 (some (.int))) 1 20 [.inr (.inr (.inl (some m0))), .inl x1, .inl x2, .inl x3, .inl x4, .inl x5] (jj_mh h0 m0 ms) 0 (jm_Ni h0 m0 Q) jj_F0 := by
  refine jj_Ct.of S.1 (by decide +kernel) (Nat.le_of_ble_eq_true rfl) rfl (fun X hG hl F M O hnm => ?_)
  subst hG; subst hl
  exact sM_appendNote F M S hs (fun r ms q => ⟨r, ms, rfl, rfl, q⟩) _ _ _ _ _ _ w
theorem hM_appendNote : yX3_appendNote.cls = RX3 ∧ yX3_appendNote.cls ≠ "java/lang/invoke/MethodHandle" ∧ yX3_appendNote.cls ≠ "java/lang/invoke/VarHandle" ∧ (parseMethodDescriptor yX3_appendNote.desc).map (fun d => d.parameters.length) = some 5 := by decide +kernel
/-! isReader(I)Z -/
def fM_isReader (x1 : Int) (Q : Int → jj_MS → Prop) (ms : jj_MS) : Prop :=
  fM_readers (fun r2 ms1 =>
  fM_isBetween x1 0 (r2 - 1) (fun r4 ms3 =>
  (r4 = 0 ∨ r4 = 1) ∧ Q r4 ms3) ms1) ms

theorem sM_isReader {X : jj_X} {h0 : jj_H} {m0 k : Nat} {N : Option jj_AV → jj_H → Prop} {XN : String → Nat → jj_H → Prop} (F : jj_F X RX3 cX3_isReader 2) (M : jj_M X (some (.boolean)) 1 22 N XN) (S : jj_GS X.1 X.2.2.1) (hs : jj_hs X.1 h0 m0) {Q : Int → jj_MS → Prop} (hQ : ∀ r ms, Q r ms → N (some (.inl r)) (jj_mh h0 m0 ms)) : ∀ (x1 : Int) (ms : jj_MS), fM_isReader x1 Q ms → jj_J X 2 0 [(0, .inr (.inr (.inl (some m0)))), (1, .inl x1)] [] (jj_mh h0 m0 ms) k := by
  intro x1 ms w
  unfold fM_isReader at w
  refine jr_iload_n (pc := 0) F (j := 1) dX3_isReader_0 rfl ?_
  refine jr_iconst (pc := 1) F dX3_isReader_1 ?_
  refine jr_aload_n (pc := 2) F (j := 0) dX3_isReader_2 rfl ?_
  refine jr_callV (pc := 3) (As := []) F M (lw_V q3496 q3498 qs82 q143 q3499) dX3_isReader_3 hM_readers rfl (Nat.le_of_ble_eq_true rfl) (Nat.le_of_ble_eq_true rfl) (Nat.le_of_ble_eq_true rfl) (jj_set_self _ _ _) rfl rfl (Nat.zero_le _) (cM_readers S hs w) (fun v9 h9 q9 => ?_) (fun _ _ _ q9 => q9.elim)
  obtain ⟨r2, ms1, rfl, rfl, w⟩ := q9
  refine jr_iconst (pc := 6) F dX3_isReader_6 ?_
  refine jr_isub (pc := 7) F dX3_isReader_7 ?_
  refine jr_callS (pc := 8) (As := [_, _, _]) F M (lw_S q3284 q3285 q143 q3286) dX3_isReader_8 hM_isBetween.2 rfl (Nat.le_of_ble_eq_true rfl) (Nat.le_of_ble_eq_true rfl) (Nat.le_of_ble_eq_true rfl) (Nat.zero_le _) (cM_isBetween S hs w) (fun v9 h9 q9 => ?_) (fun _ _ _ q9 => q9.elim)
  obtain ⟨r4, ms3, rfl, rfl, w⟩ := q9
  exact jr_zret (pc := 11) F M dX3_isReader_11 w.1 (hQ _ _ w.2)

theorem cM_isReader {G : jj_G} {l : Launch} (S : jj_GS G l) {h0 : jj_H} {m0 : Nat} (hs : jj_hs G h0 m0) {x1 : Int} {ms : jj_MS} {Q : Int → jj_MS → Prop} (w : fM_isReader x1 Q ms) : jj_Ct G l yX3_isReader (ws_ yX3_isReader cX3_isReader 2 (some (.boolean))) 1 22 [.inr (.inr (.inl (some m0))), .inl x1] (jj_mh h0 m0 ms) 0 (jm_Ni h0 m0 Q) jj_F0 := by
  refine jj_Ct.of S.1 (by decide +kernel) (Nat.le_of_ble_eq_true rfl) rfl (fun X hG hl F M O hnm => ?_)
  subst hG; subst hl
  exact sM_isReader F M S hs (fun r ms q => ⟨r, ms, rfl, rfl, q⟩) _ _ w
theorem hM_isReader : yX3_isReader.cls = RX3 ∧ yX3_isReader.cls ≠ "java/lang/invoke/MethodHandle" ∧ yX3_isReader.cls ≠ "java/lang/invoke/VarHandle" ∧ (parseMethodDescriptor yX3_isReader.desc).map (fun d => d.parameters.length) = some 1 := by decide +kernel
/-! say(IJ)V -/
def fM_say (x1 : Int) (x2 : Int) (Q : jj_MS → Prop) (ms : jj_MS) : Prop :=
  fM_ofNote x1 5 (fun r2 ms1 =>
  0 ≤ ((366 + (6 * x1)) + r2) ∧ ((366 + (6 * x1)) + r2) < 606 ∧
  ∀ ms3, ms3 = jj_mA ms1 3 ((366 + (6 * x1)) + r2) x2 →
  0 ≤ ((374 + (6 * x1)) + 5) ∧ ((374 + (6 * x1)) + 5) < 614 ∧
  0 ≤ ((374 + (6 * x1)) + 5) ∧ ((374 + (6 * x1)) + 5) < 614 ∧
  ∀ ms4, ms4 = jj_mA ms3 0 ((374 + (6 * x1)) + 5) ((ms3.2 0 ((374 + (6 * x1)) + 5)) + 1) →
  Q ms4) ms

theorem sM_say {X : jj_X} {h0 : jj_H} {m0 k : Nat} {N : Option jj_AV → jj_H → Prop} {XN : String → Nat → jj_H → Prop} (F : jj_F X RX3 cX3_say 4) (M : jj_M X (none) 1 22 N XN) (S : jj_GS X.1 X.2.2.1) (hs : jj_hs X.1 h0 m0) {Q : jj_MS → Prop} (hQ : ∀ ms, Q ms → N none (jj_mh h0 m0 ms)) : ∀ (x1 : Int) (x2 : Int) (ms : jj_MS), fM_say x1 x2 Q ms → jj_J X 4 0 [(0, .inr (.inr (.inl (some m0)))), (1, .inl x1), (2, .inr (.inl x2))] [] (jj_mh h0 m0 ms) k := by
  intro x1 x2 ms w
  unfold fM_say at w
  refine jr_aload_n (pc := 0) F (j := 0) dX3_say_0 rfl ?_
  refine jm_get (pc := 1) (f := 3) (v := .inr (.inr (.inl (some (m0 + 1 + 3))))) F (Nat.le_of_ble_eq_true rfl) q3133 rfl rfl dX3_say_1 ?_
  refine jr_sipush (pc := 4) F dX3_say_4 (by decide +kernel) ?_
  refine jr_bipush (pc := 7) F dX3_say_7 (by decide +kernel) ?_
  refine jr_iload_n (pc := 9) F (j := 1) dX3_say_9 rfl ?_
  refine jr_imul (pc := 10) F dX3_say_10 ?_
  refine jr_iadd (pc := 11) F dX3_say_11 ?_
  refine jr_aload_n (pc := 12) F (j := 0) dX3_say_12 rfl ?_
  refine jr_iload_n (pc := 13) F (j := 1) dX3_say_13 rfl ?_
  refine jr_iconst (pc := 14) F dX3_say_14 ?_
  refine jr_callV (pc := 15) (As := [_, _]) F M (lw_V q3338 q3340 qs57 q143 q3341) dX3_say_15 hM_ofNote rfl (Nat.le_of_ble_eq_true rfl) (Nat.le_of_ble_eq_true rfl) (Nat.le_of_ble_eq_true rfl) (jj_set_self _ _ _) rfl rfl (Nat.zero_le _) (cM_ofNote S hs w) (fun v9 h9 q9 => ?_) (fun _ _ _ q9 => q9.elim)
  obtain ⟨r2, ms1, rfl, rfl, w⟩ := q9
  refine jr_iadd (pc := 18) F dX3_say_18 ?_
  refine jr_lload_n (pc := 19) F (j := 2) dX3_say_19 rfl ?_
  obtain ⟨hi1, hi2, w⟩ := w
  have w := w _ rfl
  refine jm_last (pc := 20) (f := 3) (o := 3) F (Nat.le_of_ble_eq_true rfl) rfl (by decide) hi1 hi2 dX3_say_20 ?_
  refine jr_aload_n (pc := 21) F (j := 0) dX3_say_21 rfl ?_
  refine jm_get (pc := 22) (f := 0) (v := .inr (.inr (.inl (some (m0 + 1 + 0))))) F (Nat.le_of_ble_eq_true rfl) q3130 rfl rfl dX3_say_22 ?_
  refine jr_sipush (pc := 25) F dX3_say_25 (by decide +kernel) ?_
  refine jr_bipush (pc := 28) F dX3_say_28 (by decide +kernel) ?_
  refine jr_iload_n (pc := 30) F (j := 1) dX3_say_30 rfl ?_
  refine jr_imul (pc := 31) F dX3_say_31 ?_
  refine jr_iadd (pc := 32) F dX3_say_32 ?_
  refine jr_iconst (pc := 33) F dX3_say_33 ?_
  refine jr_iadd (pc := 34) F dX3_say_34 ?_
  refine jr_dup2 (pc := 35) F dX3_say_35 rfl rfl ?_
  obtain ⟨hi1, hi2, w⟩ := w
  refine jm_iald (pc := 36) (f := 0) (o := 0) F rfl (by decide) hi1 hi2 dX3_say_36 ?_
  refine jr_iconst (pc := 37) F dX3_say_37 ?_
  refine jr_iadd (pc := 38) F dX3_say_38 ?_
  obtain ⟨hi1, hi2, w⟩ := w
  have w := w _ rfl
  refine jm_iast (pc := 39) (f := 0) (o := 0) F (Nat.le_of_ble_eq_true rfl) rfl (by decide) hi1 hi2 dX3_say_39 ?_
  exact jr_vret (pc := 40) F M dX3_say_40 (hQ _ w)

theorem cM_say {G : jj_G} {l : Launch} (S : jj_GS G l) {h0 : jj_H} {m0 : Nat} (hs : jj_hs G h0 m0) {x1 : Int} {x2 : Int} {ms : jj_MS} {Q : jj_MS → Prop} (w : fM_say x1 x2 Q ms) : jj_Ct G l yX3_say (ws_ yX3_say cX3_say 4 (none)) 1 22 [.inr (.inr (.inl (some m0))), .inl x1, .inr (.inl x2)] (jj_mh h0 m0 ms) 0 (jm_Nv h0 m0 Q) jj_F0 := by
  refine jj_Ct.of S.1 (by decide +kernel) (Nat.le_of_ble_eq_true rfl) rfl (fun X hG hl F M O hnm => ?_)
  subst hG; subst hl
  exact sM_say F M S hs (fun ms q => ⟨ms, rfl, rfl, q⟩) _ _ _ w
theorem hM_say : yX3_say.cls = RX3 ∧ yX3_say.cls ≠ "java/lang/invoke/MethodHandle" ∧ yX3_say.cls ≠ "java/lang/invoke/VarHandle" ∧ (parseMethodDescriptor yX3_say.desc).map (fun d => d.parameters.length) = some 2 := by decide +kernel
/-! addNote(IIIII)I -/
def fM_addNote_l102 (x6 : Int) (Q : Int → jj_MS → Prop) : Nat → Int → jj_MS → Prop
  | 0, _, _ => False
  | n + 1, x7, ms =>
  jj_r x7 ∧ jj_r (ms.1 11) ∧ ((ms.1 11) ≤ x7 → (
    ∀ ms1, ms1 = jj_mI ms 9 0 →
    Q x6 ms1)) ∧
  (¬ (ms.1 11) ≤ x7 → (
    0 ≤ x7 ∧ x7 < 500 ∧
    fM_say x6 (ms.2 10 x7) (fun ms2 =>
    ∀ v4, v4 = x7 + 1 →
    fM_addNote_l102 x6 Q n v4 ms2) ms))

def fM_addNote_j65 (Q : Int → jj_MS → Prop) (ms : jj_MS) : Prop :=
  fM_fail 2 (fun r6 ms5 =>
  Q r6 ms5) ms

def fM_addNote_j40 (Q : Int → jj_MS → Prop) (ms : jj_MS) : Prop :=
  fM_fail 1 (fun r8 ms7 =>
  Q r8 ms7) ms

def fM_addNote (x1 : Int) (x2 : Int) (x3 : Int) (x4 : Int) (x5 : Int) (Q : Int → jj_MS → Prop) (ms : jj_MS) : Prop :=
  ∀ ms9, ms9 = jj_mI ms 7 0 →
  fM_isReader x1 (fun r11 ms10 =>
  jj_r r11 ∧ (r11 = 0 → (
    fM_addNote_j40 Q ms10)) ∧
  (¬ r11 = 0 → (
    fM_isWordOf x3 x4 (fun r13 ms12 =>
    jj_r r13 ∧ (r13 = 0 → (
      fM_addNote_j40 Q ms12)) ∧
    (¬ r13 = 0 → (
      fM_isWordOf x3 x5 (fun r15 ms14 =>
      jj_r r15 ∧ (r15 = 0 → (
        fM_addNote_j40 Q ms14)) ∧
      (¬ r15 = 0 → (
        jj_r x4 ∧ jj_r x5 ∧ (x4 ≤ x5 → (
          fM_isBetween x2 0 3 (fun r17 ms16 =>
          jj_r r17 ∧ (r17 = 0 → (
            fM_addNote_j65 Q ms16)) ∧
          (¬ r17 = 0 → (
            fM_hasWords 0 6 (fun r19 ms18 =>
            jj_r r19 ∧ (¬ r19 = 0 → (
              fM_notes (fun r21 ms20 =>
              jj_r r21 ∧ (¬ r21 = 40 → (
                fM_appendNote x1 x2 x3 x4 x5 (fun r23 ms22 =>
                ∃ n9, fM_addNote_l102 r23 Q n9 0 ms22) ms20)) ∧
              (r21 = 40 → (
                fM_fail 3 (fun r25 ms24 =>
                Q r25 ms24) ms20))) ms18)) ∧
            (r19 = 0 → (
              fM_addNote_j65 Q ms18))) ms16))) ms14)) ∧
        (¬ x4 ≤ x5 → (
          fM_addNote_j40 Q ms14))))) ms12))) ms10))) ms9

theorem sM_addNote_l102 {X : jj_X} {h0 : jj_H} {m0 k : Nat} {N : Option jj_AV → jj_H → Prop} {XN : String → Nat → jj_H → Prop} (F : jj_F X RX3 cX3_addNote 8) (M : jj_M X (some (.int)) 3 69 N XN) (S : jj_GS X.1 X.2.2.1) (hs : jj_hs X.1 h0 m0) {Q : Int → jj_MS → Prop} (hQ : ∀ r ms, Q r ms → N (some (.inl r)) (jj_mh h0 m0 ms)) (x6 : Int) : ∀ (n : Nat) (x7 : Int) (ms : jj_MS), fM_addNote_l102 x6 Q n x7 ms → jj_J X 8 102 [(0, .inr (.inr (.inl (some m0)))), (6, .inl x6), (7, .inl x7)] [] (jj_mh h0 m0 ms) k := by
  intro n
  induction n with
  | zero =>
    intro x7 ms w
    exact (show False from w).elim
  | succ n ih =>
    intro x7 ms w
    rw [fM_addNote_l102] at w
    refine jr_iload (pc := 102) F (j := 2) dX3_addNote_102 rfl ?_
    refine jr_aload_n (pc := 104) F (j := 0) dX3_addNote_104 rfl ?_
    refine jm_get (pc := 105) (f := 11) (v := .inl _) F (Nat.le_of_ble_eq_true rfl) q3141 rfl rfl dX3_addNote_105 ?_
    obtain ⟨hx9, hy9, w1, w2⟩ := w
    refine jr_icmp_ge (pc := 108) (tgt := 130) F hx9 hy9 dX3_addNote_108 rfl (fun c9 => ?_) (fun c9 => ?_)
    · have w := w1 c9
      refine jr_aload_n (pc := 130) F (j := 0) dX3_addNote_130 rfl ?_
      refine jr_iconst (pc := 131) F dX3_addNote_131 ?_
      have w := w _ rfl
      refine jm_put (pc := 132) (f := 9) F (Nat.le_of_ble_eq_true rfl) q3139 rfl rfl rfl rfl rfl rfl dX3_addNote_132 ?_
      refine jr_iload (pc := 135) F (j := 1) dX3_addNote_135 rfl ?_
      exact jr_iret (pc := 137) F M dX3_addNote_137 (hQ _ _ w)
    · have w := w2 c9
      refine jr_aload_n (pc := 111) F (j := 0) dX3_addNote_111 rfl ?_
      refine jr_iload (pc := 112) F (j := 1) dX3_addNote_112 rfl ?_
      refine jr_aload_n (pc := 114) F (j := 0) dX3_addNote_114 rfl ?_
      refine jm_get (pc := 115) (f := 10) (v := .inr (.inr (.inl (some (m0 + 1 + 8))))) F (Nat.le_of_ble_eq_true rfl) q3140 rfl rfl dX3_addNote_115 ?_
      refine jr_iload (pc := 118) F (j := 2) dX3_addNote_118 rfl ?_
      obtain ⟨hi1, hi2, w⟩ := w
      refine jm_lald (pc := 120) (f := 10) (o := 8) F rfl (by decide) hi1 hi2 dX3_addNote_120 ?_
      refine jr_callV (pc := 121) (As := [_, _]) F M (lw_V q3516 q3518 qs86 q143 q3519) dX3_addNote_121 hM_say rfl (Nat.le_of_ble_eq_true rfl) (Nat.le_of_ble_eq_true rfl) (Nat.le_of_ble_eq_true rfl) (jj_set_self _ _ _) rfl rfl (Nat.zero_le _) (cM_say S hs w) (fun v9 h9 q9 => ?_) (fun _ _ _ q9 => q9.elim)
      obtain ⟨ms2, rfl, rfl, w⟩ := q9
      have w := w _ rfl
      refine jr_iinc (pc := 124) F (j := 2) (vs' := [(7, .inl _), (0, .inr (.inr (.inl _))), (6, .inl _)]) dX3_addNote_124 rfl rfl (Nat.le_of_ble_eq_true rfl) rfl ?_
      refine jr_goto (pc := 127) (tgt := 102) F dX3_addNote_127 rfl ?_
      refine jj_J.sub [1, 2, 0] rfl ?_
      exact ih _ _ w

theorem sM_addNote_j65 {X : jj_X} {h0 : jj_H} {m0 k : Nat} {N : Option jj_AV → jj_H → Prop} {XN : String → Nat → jj_H → Prop} (F : jj_F X RX3 cX3_addNote 8) (M : jj_M X (some (.int)) 3 69 N XN) (S : jj_GS X.1 X.2.2.1) (hs : jj_hs X.1 h0 m0) {Q : Int → jj_MS → Prop} (hQ : ∀ r ms, Q r ms → N (some (.inl r)) (jj_mh h0 m0 ms)) : ∀ (ms : jj_MS), fM_addNote_j65 Q ms → jj_J X 8 65 [(0, .inr (.inr (.inl (some m0))))] [] (jj_mh h0 m0 ms) k := by
  intro  ms w
  unfold fM_addNote_j65 at w
  refine jr_aload_n (pc := 65) F (j := 0) dX3_addNote_65 rfl ?_
  refine jr_iconst (pc := 66) F dX3_addNote_66 ?_
  refine jr_callV (pc := 67) (As := [_]) F M (lw_V q3276 q3278 qs46 q143 q3279) dX3_addNote_67 hM_fail rfl (Nat.le_of_ble_eq_true rfl) (Nat.le_of_ble_eq_true rfl) (Nat.le_of_ble_eq_true rfl) (jj_set_self _ _ _) rfl rfl (Nat.zero_le _) (cM_fail S hs w) (fun v9 h9 q9 => ?_) (fun _ _ _ q9 => q9.elim)
  obtain ⟨r6, ms5, rfl, rfl, w⟩ := q9
  exact jr_iret (pc := 70) F M dX3_addNote_70 (hQ _ _ w)

theorem sM_addNote_j40 {X : jj_X} {h0 : jj_H} {m0 k : Nat} {N : Option jj_AV → jj_H → Prop} {XN : String → Nat → jj_H → Prop} (F : jj_F X RX3 cX3_addNote 8) (M : jj_M X (some (.int)) 3 69 N XN) (S : jj_GS X.1 X.2.2.1) (hs : jj_hs X.1 h0 m0) {Q : Int → jj_MS → Prop} (hQ : ∀ r ms, Q r ms → N (some (.inl r)) (jj_mh h0 m0 ms)) : ∀ (ms : jj_MS), fM_addNote_j40 Q ms → jj_J X 8 40 [(0, .inr (.inr (.inl (some m0))))] [] (jj_mh h0 m0 ms) k := by
  intro  ms w
  unfold fM_addNote_j40 at w
  refine jr_aload_n (pc := 40) F (j := 0) dX3_addNote_40 rfl ?_
  refine jr_iconst (pc := 41) F dX3_addNote_41 ?_
  refine jr_callV (pc := 42) (As := [_]) F M (lw_V q3276 q3278 qs46 q143 q3279) dX3_addNote_42 hM_fail rfl (Nat.le_of_ble_eq_true rfl) (Nat.le_of_ble_eq_true rfl) (Nat.le_of_ble_eq_true rfl) (jj_set_self _ _ _) rfl rfl (Nat.zero_le _) (cM_fail S hs w) (fun v9 h9 q9 => ?_) (fun _ _ _ q9 => q9.elim)
  obtain ⟨r8, ms7, rfl, rfl, w⟩ := q9
  exact jr_iret (pc := 45) F M dX3_addNote_45 (hQ _ _ w)

theorem sM_addNote {X : jj_X} {h0 : jj_H} {m0 k : Nat} {N : Option jj_AV → jj_H → Prop} {XN : String → Nat → jj_H → Prop} (F : jj_F X RX3 cX3_addNote 8) (M : jj_M X (some (.int)) 3 69 N XN) (S : jj_GS X.1 X.2.2.1) (hs : jj_hs X.1 h0 m0) {Q : Int → jj_MS → Prop} (hQ : ∀ r ms, Q r ms → N (some (.inl r)) (jj_mh h0 m0 ms)) : ∀ (x1 : Int) (x2 : Int) (x3 : Int) (x4 : Int) (x5 : Int) (ms : jj_MS), fM_addNote x1 x2 x3 x4 x5 Q ms → jj_J X 8 0 [(0, .inr (.inr (.inl (some m0)))), (1, .inl x1), (2, .inl x2), (3, .inl x3), (4, .inl x4), (5, .inl x5)] [] (jj_mh h0 m0 ms) k := by
  intro x1 x2 x3 x4 x5 ms w
  unfold fM_addNote at w
  refine jr_aload_n (pc := 0) F (j := 0) dX3_addNote_0 rfl ?_
  refine jr_iconst (pc := 1) F dX3_addNote_1 ?_
  have w := w _ rfl
  refine jm_put (pc := 2) (f := 7) F (Nat.le_of_ble_eq_true rfl) q3137 rfl rfl rfl rfl rfl rfl dX3_addNote_2 ?_
  refine jr_aload_n (pc := 5) F (j := 0) dX3_addNote_5 rfl ?_
  refine jr_iload_n (pc := 6) F (j := 1) dX3_addNote_6 rfl ?_
  refine jr_callV (pc := 7) (As := [_]) F M (lw_V q3508 q3510 qs84 q143 q3511) dX3_addNote_7 hM_isReader rfl (Nat.le_of_ble_eq_true rfl) (Nat.le_of_ble_eq_true rfl) (Nat.le_of_ble_eq_true rfl) (jj_set_self _ _ _) rfl rfl (Nat.zero_le _) (cM_isReader S hs w) (fun v9 h9 q9 => ?_) (fun _ _ _ q9 => q9.elim)
  obtain ⟨r11, ms10, rfl, rfl, w⟩ := q9
  obtain ⟨hx9, w1, w2⟩ := w
  refine jr_if_eq (pc := 10) (tgt := 40) F hx9 dX3_addNote_10 rfl (fun c9 => ?_) (fun c9 => ?_)
  · have w := w1 c9
    refine jj_J.sub [0] rfl ?_
    exact sM_addNote_j40 F M S hs hQ _ w
  · have w := w2 c9
    refine jr_aload_n (pc := 13) F (j := 0) dX3_addNote_13 rfl ?_
    refine jr_iload_n (pc := 14) F (j := 3) dX3_addNote_14 rfl ?_
    refine jr_iload (pc := 15) F (j := 4) dX3_addNote_15 rfl ?_
    refine jr_callV (pc := 17) (As := [_, _]) F M (lw_V q3449 q3451 qs77 q143 q3452) dX3_addNote_17 hM_isWordOf rfl (Nat.le_of_ble_eq_true rfl) (Nat.le_of_ble_eq_true rfl) (Nat.le_of_ble_eq_true rfl) (jj_set_self _ _ _) rfl rfl (Nat.zero_le _) (cM_isWordOf S hs w) (fun v9 h9 q9 => ?_) (fun _ _ _ q9 => q9.elim)
    obtain ⟨r13, ms12, rfl, rfl, w⟩ := q9
    obtain ⟨hx9, w1, w2⟩ := w
    refine jr_if_eq (pc := 20) (tgt := 40) F hx9 dX3_addNote_20 rfl (fun c9 => ?_) (fun c9 => ?_)
    · have w := w1 c9
      refine jj_J.sub [0] rfl ?_
      exact sM_addNote_j40 F M S hs hQ _ w
    · have w := w2 c9
      refine jr_aload_n (pc := 23) F (j := 0) dX3_addNote_23 rfl ?_
      refine jr_iload_n (pc := 24) F (j := 3) dX3_addNote_24 rfl ?_
      refine jr_iload (pc := 25) F (j := 5) dX3_addNote_25 rfl ?_
      refine jr_callV (pc := 27) (As := [_, _]) F M (lw_V q3449 q3451 qs77 q143 q3452) dX3_addNote_27 hM_isWordOf rfl (Nat.le_of_ble_eq_true rfl) (Nat.le_of_ble_eq_true rfl) (Nat.le_of_ble_eq_true rfl) (jj_set_self _ _ _) rfl rfl (Nat.zero_le _) (cM_isWordOf S hs w) (fun v9 h9 q9 => ?_) (fun _ _ _ q9 => q9.elim)
      obtain ⟨r15, ms14, rfl, rfl, w⟩ := q9
      obtain ⟨hx9, w1, w2⟩ := w
      refine jr_if_eq (pc := 30) (tgt := 40) F hx9 dX3_addNote_30 rfl (fun c9 => ?_) (fun c9 => ?_)
      · have w := w1 c9
        refine jj_J.sub [0] rfl ?_
        exact sM_addNote_j40 F M S hs hQ _ w
      · have w := w2 c9
        refine jr_iload (pc := 33) F (j := 4) dX3_addNote_33 rfl ?_
        refine jr_iload (pc := 35) F (j := 5) dX3_addNote_35 rfl ?_
        obtain ⟨hx9, hy9, w1, w2⟩ := w
        refine jr_icmp_le (pc := 37) (tgt := 46) F hx9 hy9 dX3_addNote_37 rfl (fun c9 => ?_) (fun c9 => ?_)
        · have w := w1 c9
          refine jr_iload_n (pc := 46) F (j := 2) dX3_addNote_46 rfl ?_
          refine jr_iconst (pc := 47) F dX3_addNote_47 ?_
          refine jr_iconst (pc := 48) F dX3_addNote_48 ?_
          refine jr_callS (pc := 49) (As := [_, _, _]) F M (lw_S q3284 q3285 q143 q3286) dX3_addNote_49 hM_isBetween.2 rfl (Nat.le_of_ble_eq_true rfl) (Nat.le_of_ble_eq_true rfl) (Nat.le_of_ble_eq_true rfl) (Nat.zero_le _) (cM_isBetween S hs w) (fun v9 h9 q9 => ?_) (fun _ _ _ q9 => q9.elim)
          obtain ⟨r17, ms16, rfl, rfl, w⟩ := q9
          obtain ⟨hx9, w1, w2⟩ := w
          refine jr_if_eq (pc := 52) (tgt := 65) F hx9 dX3_addNote_52 rfl (fun c9 => ?_) (fun c9 => ?_)
          · have w := w1 c9
            refine jj_J.sub [0] rfl ?_
            exact sM_addNote_j65 F M S hs hQ _ w
          · have w := w2 c9
            refine jr_aload_n (pc := 55) F (j := 0) dX3_addNote_55 rfl ?_
            refine jr_iconst (pc := 56) F dX3_addNote_56 ?_
            refine jr_bipush (pc := 57) F dX3_addNote_57 (by decide +kernel) ?_
            refine jr_callV (pc := 59) (As := [_, _]) F M (lw_V q3390 q3392 qs68 q143 q3393) dX3_addNote_59 hM_hasWords rfl (Nat.le_of_ble_eq_true rfl) (Nat.le_of_ble_eq_true rfl) (Nat.le_of_ble_eq_true rfl) (jj_set_self _ _ _) rfl rfl (Nat.zero_le _) (cM_hasWords S hs w) (fun v9 h9 q9 => ?_) (fun _ _ _ q9 => q9.elim)
            obtain ⟨r19, ms18, rfl, rfl, w⟩ := q9
            obtain ⟨hx9, w1, w2⟩ := w
            refine jr_if_ne (pc := 62) (tgt := 71) F hx9 dX3_addNote_62 rfl (fun c9 => ?_) (fun c9 => ?_)
            · have w := w1 c9
              refine jr_aload_n (pc := 71) F (j := 0) dX3_addNote_71 rfl ?_
              refine jr_callV (pc := 72) (As := []) F M (lw_V q3334 q3336 qs56 q143 q3337) dX3_addNote_72 hM_notes rfl (Nat.le_of_ble_eq_true rfl) (Nat.le_of_ble_eq_true rfl) (Nat.le_of_ble_eq_true rfl) (jj_set_self _ _ _) rfl rfl (Nat.zero_le _) (cM_notes S hs w) (fun v9 h9 q9 => ?_) (fun _ _ _ q9 => q9.elim)
              obtain ⟨r21, ms20, rfl, rfl, w⟩ := q9
              refine jr_bipush (pc := 75) F dX3_addNote_75 (by decide +kernel) ?_
              obtain ⟨hx9, w1, w2⟩ := w
              refine jr_icmp_ne (pc := 77) (tgt := 86) F hx9 ⟨by decide, by decide⟩ dX3_addNote_77 rfl (fun c9 => ?_) (fun c9 => ?_)
              · have w := w1 c9
                refine jr_aload_n (pc := 86) F (j := 0) dX3_addNote_86 rfl ?_
                refine jr_iload_n (pc := 87) F (j := 1) dX3_addNote_87 rfl ?_
                refine jr_iload_n (pc := 88) F (j := 2) dX3_addNote_88 rfl ?_
                refine jr_iload_n (pc := 89) F (j := 3) dX3_addNote_89 rfl ?_
                refine jr_iload (pc := 90) F (j := 4) dX3_addNote_90 rfl ?_
                refine jr_iload (pc := 92) F (j := 5) dX3_addNote_92 rfl ?_
                refine jr_callV (pc := 94) (As := [_, _, _, _, _]) F M (lw_V q3512 q3514 qs85 q143 q3515) dX3_addNote_94 hM_appendNote rfl (Nat.le_of_ble_eq_true rfl) (Nat.le_of_ble_eq_true rfl) (Nat.le_of_ble_eq_true rfl) (jj_set_self _ _ _) rfl rfl (Nat.zero_le _) (cM_appendNote S hs w) (fun v9 h9 q9 => ?_) (fun _ _ _ q9 => q9.elim)
                obtain ⟨r23, ms22, rfl, rfl, w⟩ := q9
                refine jr_istore (pc := 97) F (vs' := [(6, .inl _), (0, .inr (.inr (.inl _))), (1, .inl _), (2, .inl _), (3, .inl _), (4, .inl _), (5, .inl _)]) dX3_addNote_97 (Nat.le_of_ble_eq_true rfl) rfl ?_
                refine jr_iconst (pc := 99) F dX3_addNote_99 ?_
                refine jr_istore (pc := 100) F (vs' := [(7, .inl _), (6, .inl _), (0, .inr (.inr (.inl _))), (1, .inl _), (2, .inl _), (3, .inl _), (4, .inl _), (5, .inl _)]) dX3_addNote_100 (Nat.le_of_ble_eq_true rfl) rfl ?_
                refine jj_J.sub [2, 1, 0] rfl ?_
                obtain ⟨n9, w⟩ := w
                exact sM_addNote_l102 F M S hs hQ _ n9 _ _ w
              · have w := w2 c9
                refine jr_aload_n (pc := 80) F (j := 0) dX3_addNote_80 rfl ?_
                refine jr_iconst (pc := 81) F dX3_addNote_81 ?_
                refine jr_callV (pc := 82) (As := [_]) F M (lw_V q3276 q3278 qs46 q143 q3279) dX3_addNote_82 hM_fail rfl (Nat.le_of_ble_eq_true rfl) (Nat.le_of_ble_eq_true rfl) (Nat.le_of_ble_eq_true rfl) (jj_set_self _ _ _) rfl rfl (Nat.zero_le _) (cM_fail S hs w) (fun v9 h9 q9 => ?_) (fun _ _ _ q9 => q9.elim)
                obtain ⟨r25, ms24, rfl, rfl, w⟩ := q9
                exact jr_iret (pc := 85) F M dX3_addNote_85 (hQ _ _ w)
            · have w := w2 c9
              refine jj_J.sub [0] rfl ?_
              exact sM_addNote_j65 F M S hs hQ _ w
        · have w := w2 c9
          refine jj_J.sub [0] rfl ?_
          exact sM_addNote_j40 F M S hs hQ _ w

theorem cM_addNote {G : jj_G} {l : Launch} (S : jj_GS G l) {h0 : jj_H} {m0 : Nat} (hs : jj_hs G h0 m0) {x1 : Int} {x2 : Int} {x3 : Int} {x4 : Int} {x5 : Int} {ms : jj_MS} {Q : Int → jj_MS → Prop} (w : fM_addNote x1 x2 x3 x4 x5 Q ms) : jj_Ct G l yX3_addNote (ws_ yX3_addNote cX3_addNote 8 (some (.int))) 3 69 [.inr (.inr (.inl (some m0))), .inl x1, .inl x2, .inl x3, .inl x4, .inl x5] (jj_mh h0 m0 ms) 0 (jm_Ni h0 m0 Q) jj_F0 := by
  refine jj_Ct.of S.1 (by decide +kernel) (Nat.le_of_ble_eq_true rfl) rfl (fun X hG hl F M O hnm => ?_)
  subst hG; subst hl
  exact sM_addNote F M S hs (fun r ms q => ⟨r, ms, rfl, rfl, q⟩) _ _ _ _ _ _ w
theorem hM_addNote : yX3_addNote.cls = RX3 ∧ yX3_addNote.cls ≠ "java/lang/invoke/MethodHandle" ∧ yX3_addNote.cls ≠ "java/lang/invoke/VarHandle" ∧ (parseMethodDescriptor yX3_addNote.desc).map (fun d => d.parameters.length) = some 5 := by decide +kernel
/-! isNote(I)Z -/
def fM_isNote (x1 : Int) (Q : Int → jj_MS → Prop) (ms : jj_MS) : Prop :=
  fM_notes (fun r2 ms1 =>
  fM_isBetween x1 0 (r2 - 1) (fun r4 ms3 =>
  (r4 = 0 ∨ r4 = 1) ∧ Q r4 ms3) ms1) ms

theorem sM_isNote {X : jj_X} {h0 : jj_H} {m0 k : Nat} {N : Option jj_AV → jj_H → Prop} {XN : String → Nat → jj_H → Prop} (F : jj_F X RX3 cX3_isNote 2) (M : jj_M X (some (.boolean)) 1 22 N XN) (S : jj_GS X.1 X.2.2.1) (hs : jj_hs X.1 h0 m0) {Q : Int → jj_MS → Prop} (hQ : ∀ r ms, Q r ms → N (some (.inl r)) (jj_mh h0 m0 ms)) : ∀ (x1 : Int) (ms : jj_MS), fM_isNote x1 Q ms → jj_J X 2 0 [(0, .inr (.inr (.inl (some m0)))), (1, .inl x1)] [] (jj_mh h0 m0 ms) k := by
  intro x1 ms w
  unfold fM_isNote at w
  refine jr_iload_n (pc := 0) F (j := 1) dX3_isNote_0 rfl ?_
  refine jr_iconst (pc := 1) F dX3_isNote_1 ?_
  refine jr_aload_n (pc := 2) F (j := 0) dX3_isNote_2 rfl ?_
  refine jr_callV (pc := 3) (As := []) F M (lw_V q3334 q3336 qs56 q143 q3337) dX3_isNote_3 hM_notes rfl (Nat.le_of_ble_eq_true rfl) (Nat.le_of_ble_eq_true rfl) (Nat.le_of_ble_eq_true rfl) (jj_set_self _ _ _) rfl rfl (Nat.zero_le _) (cM_notes S hs w) (fun v9 h9 q9 => ?_) (fun _ _ _ q9 => q9.elim)
  obtain ⟨r2, ms1, rfl, rfl, w⟩ := q9
  refine jr_iconst (pc := 6) F dX3_isNote_6 ?_
  refine jr_isub (pc := 7) F dX3_isNote_7 ?_
  refine jr_callS (pc := 8) (As := [_, _, _]) F M (lw_S q3284 q3285 q143 q3286) dX3_isNote_8 hM_isBetween.2 rfl (Nat.le_of_ble_eq_true rfl) (Nat.le_of_ble_eq_true rfl) (Nat.le_of_ble_eq_true rfl) (Nat.zero_le _) (cM_isBetween S hs w) (fun v9 h9 q9 => ?_) (fun _ _ _ q9 => q9.elim)
  obtain ⟨r4, ms3, rfl, rfl, w⟩ := q9
  exact jr_zret (pc := 11) F M dX3_isNote_11 w.1 (hQ _ _ w.2)

theorem cM_isNote {G : jj_G} {l : Launch} (S : jj_GS G l) {h0 : jj_H} {m0 : Nat} (hs : jj_hs G h0 m0) {x1 : Int} {ms : jj_MS} {Q : Int → jj_MS → Prop} (w : fM_isNote x1 Q ms) : jj_Ct G l yX3_isNote (ws_ yX3_isNote cX3_isNote 2 (some (.boolean))) 1 22 [.inr (.inr (.inl (some m0))), .inl x1] (jj_mh h0 m0 ms) 0 (jm_Ni h0 m0 Q) jj_F0 := by
  refine jj_Ct.of S.1 (by decide +kernel) (Nat.le_of_ble_eq_true rfl) rfl (fun X hG hl F M O hnm => ?_)
  subst hG; subst hl
  exact sM_isNote F M S hs (fun r ms q => ⟨r, ms, rfl, rfl, q⟩) _ _ w
theorem hM_isNote : yX3_isNote.cls = RX3 ∧ yX3_isNote.cls ≠ "java/lang/invoke/MethodHandle" ∧ yX3_isNote.cls ≠ "java/lang/invoke/VarHandle" ∧ (parseMethodDescriptor yX3_isNote.desc).map (fun d => d.parameters.length) = some 1 := by decide +kernel
/-! note(II)I -/
def fM_note (x1 : Int) (x2 : Int) (Q : Int → jj_MS → Prop) (ms : jj_MS) : Prop :=
  ∀ ms1, ms1 = jj_mI ms 7 0 →
  fM_isNote x1 (fun r3 ms2 =>
  jj_r r3 ∧ (¬ r3 = 0 → (
    fM_isBetween x2 0 5 (fun r5 ms4 =>
    jj_r r5 ∧ (r5 = 0 → (
      fM_fail 2 (fun r7 ms6 =>
      Q r7 ms6) ms4)) ∧
    (¬ r5 = 0 → (
      fM_ofNote x1 x2 (fun r9 ms8 =>
      Q r9 ms8) ms4))) ms2)) ∧
  (r3 = 0 → (
    fM_fail 1 (fun r11 ms10 =>
    Q r11 ms10) ms2))) ms1

theorem sM_note {X : jj_X} {h0 : jj_H} {m0 k : Nat} {N : Option jj_AV → jj_H → Prop} {XN : String → Nat → jj_H → Prop} (F : jj_F X RX3 cX3_note 3) (M : jj_M X (some (.int)) 2 43 N XN) (S : jj_GS X.1 X.2.2.1) (hs : jj_hs X.1 h0 m0) {Q : Int → jj_MS → Prop} (hQ : ∀ r ms, Q r ms → N (some (.inl r)) (jj_mh h0 m0 ms)) : ∀ (x1 : Int) (x2 : Int) (ms : jj_MS), fM_note x1 x2 Q ms → jj_J X 3 0 [(0, .inr (.inr (.inl (some m0)))), (1, .inl x1), (2, .inl x2)] [] (jj_mh h0 m0 ms) k := by
  intro x1 x2 ms w
  unfold fM_note at w
  refine jr_aload_n (pc := 0) F (j := 0) dX3_note_0 rfl ?_
  refine jr_iconst (pc := 1) F dX3_note_1 ?_
  have w := w _ rfl
  refine jm_put (pc := 2) (f := 7) F (Nat.le_of_ble_eq_true rfl) q3137 rfl rfl rfl rfl rfl rfl dX3_note_2 ?_
  refine jr_aload_n (pc := 5) F (j := 0) dX3_note_5 rfl ?_
  refine jr_iload_n (pc := 6) F (j := 1) dX3_note_6 rfl ?_
  refine jr_callV (pc := 7) (As := [_]) F M (lw_V q3524 q3526 qs87 q143 q3527) dX3_note_7 hM_isNote rfl (Nat.le_of_ble_eq_true rfl) (Nat.le_of_ble_eq_true rfl) (Nat.le_of_ble_eq_true rfl) (jj_set_self _ _ _) rfl rfl (Nat.zero_le _) (cM_isNote S hs w) (fun v9 h9 q9 => ?_) (fun _ _ _ q9 => q9.elim)
  obtain ⟨r3, ms2, rfl, rfl, w⟩ := q9
  obtain ⟨hx9, w1, w2⟩ := w
  refine jr_if_ne (pc := 10) (tgt := 19) F hx9 dX3_note_10 rfl (fun c9 => ?_) (fun c9 => ?_)
  · have w := w1 c9
    refine jr_iload_n (pc := 19) F (j := 2) dX3_note_19 rfl ?_
    refine jr_iconst (pc := 20) F dX3_note_20 ?_
    refine jr_iconst (pc := 21) F dX3_note_21 ?_
    refine jr_callS (pc := 22) (As := [_, _, _]) F M (lw_S q3284 q3285 q143 q3286) dX3_note_22 hM_isBetween.2 rfl (Nat.le_of_ble_eq_true rfl) (Nat.le_of_ble_eq_true rfl) (Nat.le_of_ble_eq_true rfl) (Nat.zero_le _) (cM_isBetween S hs w) (fun v9 h9 q9 => ?_) (fun _ _ _ q9 => q9.elim)
    obtain ⟨r5, ms4, rfl, rfl, w⟩ := q9
    obtain ⟨hx9, w1, w2⟩ := w
    refine jr_if_eq (pc := 25) (tgt := 37) F hx9 dX3_note_25 rfl (fun c9 => ?_) (fun c9 => ?_)
    · have w := w1 c9
      refine jr_aload_n (pc := 37) F (j := 0) dX3_note_37 rfl ?_
      refine jr_iconst (pc := 38) F dX3_note_38 ?_
      refine jr_callV (pc := 39) (As := [_]) F M (lw_V q3276 q3278 qs46 q143 q3279) dX3_note_39 hM_fail rfl (Nat.le_of_ble_eq_true rfl) (Nat.le_of_ble_eq_true rfl) (Nat.le_of_ble_eq_true rfl) (jj_set_self _ _ _) rfl rfl (Nat.zero_le _) (cM_fail S hs w) (fun v9 h9 q9 => ?_) (fun _ _ _ q9 => q9.elim)
      obtain ⟨r7, ms6, rfl, rfl, w⟩ := q9
      exact jr_iret (pc := 42) F M dX3_note_42 (hQ _ _ w)
    · have w := w2 c9
      refine jr_aload_n (pc := 28) F (j := 0) dX3_note_28 rfl ?_
      refine jr_iload_n (pc := 29) F (j := 1) dX3_note_29 rfl ?_
      refine jr_iload_n (pc := 30) F (j := 2) dX3_note_30 rfl ?_
      refine jr_callV (pc := 31) (As := [_, _]) F M (lw_V q3338 q3340 qs57 q143 q3341) dX3_note_31 hM_ofNote rfl (Nat.le_of_ble_eq_true rfl) (Nat.le_of_ble_eq_true rfl) (Nat.le_of_ble_eq_true rfl) (jj_set_self _ _ _) rfl rfl (Nat.zero_le _) (cM_ofNote S hs w) (fun v9 h9 q9 => ?_) (fun _ _ _ q9 => q9.elim)
      obtain ⟨r9, ms8, rfl, rfl, w⟩ := q9
      refine jr_goto (pc := 34) (tgt := 42) F dX3_note_34 rfl ?_
      exact jr_iret (pc := 42) F M dX3_note_42 (hQ _ _ w)
  · have w := w2 c9
    refine jr_aload_n (pc := 13) F (j := 0) dX3_note_13 rfl ?_
    refine jr_iconst (pc := 14) F dX3_note_14 ?_
    refine jr_callV (pc := 15) (As := [_]) F M (lw_V q3276 q3278 qs46 q143 q3279) dX3_note_15 hM_fail rfl (Nat.le_of_ble_eq_true rfl) (Nat.le_of_ble_eq_true rfl) (Nat.le_of_ble_eq_true rfl) (jj_set_self _ _ _) rfl rfl (Nat.zero_le _) (cM_fail S hs w) (fun v9 h9 q9 => ?_) (fun _ _ _ q9 => q9.elim)
    obtain ⟨r11, ms10, rfl, rfl, w⟩ := q9
    exact jr_iret (pc := 18) F M dX3_note_18 (hQ _ _ w)

theorem cM_note {G : jj_G} {l : Launch} (S : jj_GS G l) {h0 : jj_H} {m0 : Nat} (hs : jj_hs G h0 m0) {x1 : Int} {x2 : Int} {ms : jj_MS} {Q : Int → jj_MS → Prop} (w : fM_note x1 x2 Q ms) : jj_Ct G l yX3_note (ws_ yX3_note cX3_note 3 (some (.int))) 2 43 [.inr (.inr (.inl (some m0))), .inl x1, .inl x2] (jj_mh h0 m0 ms) 0 (jm_Ni h0 m0 Q) jj_F0 := by
  refine jj_Ct.of S.1 (by decide +kernel) (Nat.le_of_ble_eq_true rfl) rfl (fun X hG hl F M O hnm => ?_)
  subst hG; subst hl
  exact sM_note F M S hs (fun r ms q => ⟨r, ms, rfl, rfl, q⟩) _ _ _ w
theorem hM_note : yX3_note.cls = RX3 ∧ yX3_note.cls ≠ "java/lang/invoke/MethodHandle" ∧ yX3_note.cls ≠ "java/lang/invoke/VarHandle" ∧ (parseMethodDescriptor yX3_note.desc).map (fun d => d.parameters.length) = some 2 := by decide +kernel
/-! removeNote()I -/
def fM_removeNote (Q : Int → jj_MS → Prop) (ms : jj_MS) : Prop :=
  ∀ ms1, ms1 = jj_mI ms 7 0 →
  fM_notes (fun r3 ms2 =>
  jj_r r3 ∧ (¬ r3 = 0 → (
    ∀ ms4, ms4 = jj_mA ms2 0 2 ((ms2.2 0 2) - 1) →
    fM_notes (fun r6 ms5 =>
    Q r6 ms5) ms4)) ∧
  (r3 = 0 → (
    fM_fail 1 (fun r8 ms7 =>
    Q r8 ms7) ms2))) ms1

theorem sM_removeNote {X : jj_X} {h0 : jj_H} {m0 k : Nat} {N : Option jj_AV → jj_H → Prop} {XN : String → Nat → jj_H → Prop} (F : jj_F X RX3 cX3_removeNote 1) (M : jj_M X (some (.int)) 1 21 N XN) (S : jj_GS X.1 X.2.2.1) (hs : jj_hs X.1 h0 m0) {Q : Int → jj_MS → Prop} (hQ : ∀ r ms, Q r ms → N (some (.inl r)) (jj_mh h0 m0 ms)) : ∀ (ms : jj_MS), fM_removeNote Q ms → jj_J X 1 0 [(0, .inr (.inr (.inl (some m0))))] [] (jj_mh h0 m0 ms) k := by
  intro  ms w
  unfold fM_removeNote at w
  refine jr_aload_n (pc := 0) F (j := 0) dX3_removeNote_0 rfl ?_
  refine jr_iconst (pc := 1) F dX3_removeNote_1 ?_
  have w := w _ rfl
  refine jm_put (pc := 2) (f := 7) F (Nat.le_of_ble_eq_true rfl) q3137 rfl rfl rfl rfl rfl rfl dX3_removeNote_2 ?_
  refine jr_aload_n (pc := 5) F (j := 0) dX3_removeNote_5 rfl ?_
  refine jr_callV (pc := 6) (As := []) F M (lw_V q3334 q3336 qs56 q143 q3337) dX3_removeNote_6 hM_notes rfl (Nat.le_of_ble_eq_true rfl) (Nat.le_of_ble_eq_true rfl) (Nat.le_of_ble_eq_true rfl) (jj_set_self _ _ _) rfl rfl (Nat.zero_le _) (cM_notes S hs w) (fun v9 h9 q9 => ?_) (fun _ _ _ q9 => q9.elim)
  obtain ⟨r3, ms2, rfl, rfl, w⟩ := q9
  obtain ⟨hx9, w1, w2⟩ := w
  refine jr_if_ne (pc := 9) (tgt := 18) F hx9 dX3_removeNote_9 rfl (fun c9 => ?_) (fun c9 => ?_)
  · have w := w1 c9
    refine jr_aload_n (pc := 18) F (j := 0) dX3_removeNote_18 rfl ?_
    refine jm_get (pc := 19) (f := 0) (v := .inr (.inr (.inl (some (m0 + 1 + 0))))) F (Nat.le_of_ble_eq_true rfl) q3130 rfl rfl dX3_removeNote_19 ?_
    refine jr_iconst (pc := 22) F dX3_removeNote_22 ?_
    refine jr_dup2 (pc := 23) F dX3_removeNote_23 rfl rfl ?_
    refine jm_iald (pc := 24) (f := 0) (o := 0) F rfl (by decide) (by decide) (by decide) dX3_removeNote_24 ?_
    refine jr_iconst (pc := 25) F dX3_removeNote_25 ?_
    refine jr_isub (pc := 26) F dX3_removeNote_26 ?_
    have w := w _ rfl
    refine jm_iast (pc := 27) (f := 0) (o := 0) F (Nat.le_of_ble_eq_true rfl) rfl (by decide) (by decide) (by decide) dX3_removeNote_27 ?_
    refine jr_aload_n (pc := 28) F (j := 0) dX3_removeNote_28 rfl ?_
    refine jr_callV (pc := 29) (As := []) F M (lw_V q3334 q3336 qs56 q143 q3337) dX3_removeNote_29 hM_notes rfl (Nat.le_of_ble_eq_true rfl) (Nat.le_of_ble_eq_true rfl) (Nat.le_of_ble_eq_true rfl) (jj_set_self _ _ _) rfl rfl (Nat.zero_le _) (cM_notes S hs w) (fun v9 h9 q9 => ?_) (fun _ _ _ q9 => q9.elim)
    obtain ⟨r6, ms5, rfl, rfl, w⟩ := q9
    exact jr_iret (pc := 32) F M dX3_removeNote_32 (hQ _ _ w)
  · have w := w2 c9
    refine jr_aload_n (pc := 12) F (j := 0) dX3_removeNote_12 rfl ?_
    refine jr_iconst (pc := 13) F dX3_removeNote_13 ?_
    refine jr_callV (pc := 14) (As := [_]) F M (lw_V q3276 q3278 qs46 q143 q3279) dX3_removeNote_14 hM_fail rfl (Nat.le_of_ble_eq_true rfl) (Nat.le_of_ble_eq_true rfl) (Nat.le_of_ble_eq_true rfl) (jj_set_self _ _ _) rfl rfl (Nat.zero_le _) (cM_fail S hs w) (fun v9 h9 q9 => ?_) (fun _ _ _ q9 => q9.elim)
    obtain ⟨r8, ms7, rfl, rfl, w⟩ := q9
    exact jr_iret (pc := 17) F M dX3_removeNote_17 (hQ _ _ w)

theorem cM_removeNote {G : jj_G} {l : Launch} (S : jj_GS G l) {h0 : jj_H} {m0 : Nat} (hs : jj_hs G h0 m0) {ms : jj_MS} {Q : Int → jj_MS → Prop} (w : fM_removeNote Q ms) : jj_Ct G l yX3_removeNote (ws_ yX3_removeNote cX3_removeNote 1 (some (.int))) 1 21 [.inr (.inr (.inl (some m0)))] (jj_mh h0 m0 ms) 0 (jm_Ni h0 m0 Q) jj_F0 := by
  refine jj_Ct.of S.1 (by decide +kernel) (Nat.le_of_ble_eq_true rfl) rfl (fun X hG hl F M O hnm => ?_)
  subst hG; subst hl
  exact sM_removeNote F M S hs (fun r ms q => ⟨r, ms, rfl, rfl, q⟩) _ w
theorem hM_removeNote : yX3_removeNote.cls = RX3 ∧ yX3_removeNote.cls ≠ "java/lang/invoke/MethodHandle" ∧ yX3_removeNote.cls ≠ "java/lang/invoke/VarHandle" ∧ (parseMethodDescriptor yX3_removeNote.desc).map (fun d => d.parameters.length) = some 0 := by decide +kernel
/-! partner(II)I -/
def fM_partner (x1 : Int) (x2 : Int) (Q : Int → jj_MS → Prop) (ms : jj_MS) : Prop :=
  ∀ ms1, ms1 = jj_mI ms 7 0 →
  fM_isWordOf x1 x2 (fun r3 ms2 =>
  jj_r r3 ∧ (¬ r3 = 0 → (
    fM_align x1 (fun ms4 =>
    0 ≤ x2 ∧ x2 < 120 ∧
    Q (ms4.2 16 x2) ms4) ms2)) ∧
  (r3 = 0 → (
    fM_fail 1 (fun r7 ms6 =>
    Q r7 ms6) ms2))) ms1

theorem sM_partner {X : jj_X} {h0 : jj_H} {m0 k : Nat} {N : Option jj_AV → jj_H → Prop} {XN : String → Nat → jj_H → Prop} (F : jj_F X RX3 cX3_partner 3) (M : jj_M X (some (.int)) 4 94 N XN) (S : jj_GS X.1 X.2.2.1) (hs : jj_hs X.1 h0 m0) {Q : Int → jj_MS → Prop} (hQ : ∀ r ms, Q r ms → N (some (.inl r)) (jj_mh h0 m0 ms)) : ∀ (x1 : Int) (x2 : Int) (ms : jj_MS), fM_partner x1 x2 Q ms → jj_J X 3 0 [(0, .inr (.inr (.inl (some m0)))), (1, .inl x1), (2, .inl x2)] [] (jj_mh h0 m0 ms) k := by
  intro x1 x2 ms w
  unfold fM_partner at w
  refine jr_aload_n (pc := 0) F (j := 0) dX3_partner_0 rfl ?_
  refine jr_iconst (pc := 1) F dX3_partner_1 ?_
  have w := w _ rfl
  refine jm_put (pc := 2) (f := 7) F (Nat.le_of_ble_eq_true rfl) q3137 rfl rfl rfl rfl rfl rfl dX3_partner_2 ?_
  refine jr_aload_n (pc := 5) F (j := 0) dX3_partner_5 rfl ?_
  refine jr_iload_n (pc := 6) F (j := 1) dX3_partner_6 rfl ?_
  refine jr_iload_n (pc := 7) F (j := 2) dX3_partner_7 rfl ?_
  refine jr_callV (pc := 8) (As := [_, _]) F M (lw_V q3449 q3451 qs77 q143 q3452) dX3_partner_8 hM_isWordOf rfl (Nat.le_of_ble_eq_true rfl) (Nat.le_of_ble_eq_true rfl) (Nat.le_of_ble_eq_true rfl) (jj_set_self _ _ _) rfl rfl (Nat.zero_le _) (cM_isWordOf S hs w) (fun v9 h9 q9 => ?_) (fun _ _ _ q9 => q9.elim)
  obtain ⟨r3, ms2, rfl, rfl, w⟩ := q9
  obtain ⟨hx9, w1, w2⟩ := w
  refine jr_if_ne (pc := 11) (tgt := 20) F hx9 dX3_partner_11 rfl (fun c9 => ?_) (fun c9 => ?_)
  · have w := w1 c9
    refine jr_aload_n (pc := 20) F (j := 0) dX3_partner_20 rfl ?_
    refine jr_iload_n (pc := 21) F (j := 1) dX3_partner_21 rfl ?_
    refine jr_callV (pc := 22) (As := [_]) F M (lw_V q3303 q3305 qs50 q143 q3306) dX3_partner_22 hM_align rfl (Nat.le_of_ble_eq_true rfl) (Nat.le_of_ble_eq_true rfl) (Nat.le_of_ble_eq_true rfl) (jj_set_self _ _ _) rfl rfl (Nat.zero_le _) (cM_align S hs w) (fun v9 h9 q9 => ?_) (fun _ _ _ q9 => q9.elim)
    obtain ⟨ms4, rfl, rfl, w⟩ := q9
    refine jr_aload_n (pc := 25) F (j := 0) dX3_partner_25 rfl ?_
    refine jm_get (pc := 26) (f := 16) (v := .inr (.inr (.inl (some (m0 + 1 + 13))))) F (Nat.le_of_ble_eq_true rfl) q3146 rfl rfl dX3_partner_26 ?_
    refine jr_iload_n (pc := 29) F (j := 2) dX3_partner_29 rfl ?_
    obtain ⟨hi1, hi2, w⟩ := w
    refine jm_iald (pc := 30) (f := 16) (o := 13) F rfl (by decide) hi1 hi2 dX3_partner_30 ?_
    exact jr_iret (pc := 31) F M dX3_partner_31 (hQ _ _ w)
  · have w := w2 c9
    refine jr_aload_n (pc := 14) F (j := 0) dX3_partner_14 rfl ?_
    refine jr_iconst (pc := 15) F dX3_partner_15 ?_
    refine jr_callV (pc := 16) (As := [_]) F M (lw_V q3276 q3278 qs46 q143 q3279) dX3_partner_16 hM_fail rfl (Nat.le_of_ble_eq_true rfl) (Nat.le_of_ble_eq_true rfl) (Nat.le_of_ble_eq_true rfl) (jj_set_self _ _ _) rfl rfl (Nat.zero_le _) (cM_fail S hs w) (fun v9 h9 q9 => ?_) (fun _ _ _ q9 => q9.elim)
    obtain ⟨r7, ms6, rfl, rfl, w⟩ := q9
    exact jr_iret (pc := 19) F M dX3_partner_19 (hQ _ _ w)

theorem cM_partner {G : jj_G} {l : Launch} (S : jj_GS G l) {h0 : jj_H} {m0 : Nat} (hs : jj_hs G h0 m0) {x1 : Int} {x2 : Int} {ms : jj_MS} {Q : Int → jj_MS → Prop} (w : fM_partner x1 x2 Q ms) : jj_Ct G l yX3_partner (ws_ yX3_partner cX3_partner 3 (some (.int))) 4 94 [.inr (.inr (.inl (some m0))), .inl x1, .inl x2] (jj_mh h0 m0 ms) 0 (jm_Ni h0 m0 Q) jj_F0 := by
  refine jj_Ct.of S.1 (by decide +kernel) (Nat.le_of_ble_eq_true rfl) rfl (fun X hG hl F M O hnm => ?_)
  subst hG; subst hl
  exact sM_partner F M S hs (fun r ms q => ⟨r, ms, rfl, rfl, q⟩) _ _ _ w
theorem hM_partner : yX3_partner.cls = RX3 ∧ yX3_partner.cls ≠ "java/lang/invoke/MethodHandle" ∧ yX3_partner.cls ≠ "java/lang/invoke/VarHandle" ∧ (parseMethodDescriptor yX3_partner.desc).map (fun d => d.parameters.length) = some 2 := by decide +kernel
/-! partners(I)I -/
def fM_partners_l28 (x1 : Int) (Q : Int → jj_MS → Prop) : Nat → Int → Int → jj_MS → Prop
  | 0, _, _, _ => False
  | n + 1, x2, x3, ms =>
  fM_sizeOf x1 (fun r2 ms1 =>
  jj_r x3 ∧ jj_r r2 ∧ (r2 ≤ x3 → (
    Q x2 ms1)) ∧
  (¬ r2 ≤ x3 → (
    0 ≤ x3 ∧ x3 < 120 ∧
    jj_r (ms1.2 16 x3) ∧ ((ms1.2 16 x3) = ((-1)) → (
      ∀ v3, v3 = x2 + 0 →
      ∀ v4, v4 = x3 + 1 →
      fM_partners_l28 x1 Q n v3 v4 ms1)) ∧
    (¬ (ms1.2 16 x3) = ((-1)) → (
      ∀ v5, v5 = x2 + 1 →
      ∀ v6, v6 = x3 + 1 →
      fM_partners_l28 x1 Q n v5 v6 ms1))))) ms

def fM_partners (x1 : Int) (Q : Int → jj_MS → Prop) (ms : jj_MS) : Prop :=
  ∀ ms7, ms7 = jj_mI ms 7 0 →
  fM_isEdition x1 (fun r9 ms8 =>
  jj_r r9 ∧ (¬ r9 = 0 → (
    fM_align x1 (fun ms10 =>
    ∃ n9, fM_partners_l28 x1 Q n9 0 0 ms10) ms8)) ∧
  (r9 = 0 → (
    fM_fail 1 (fun r13 ms12 =>
    Q r13 ms12) ms8))) ms7

theorem sM_partners_l28 {X : jj_X} {h0 : jj_H} {m0 k : Nat} {N : Option jj_AV → jj_H → Prop} {XN : String → Nat → jj_H → Prop} (F : jj_F X RX3 cX3_partners 4) (M : jj_M X (some (.int)) 4 94 N XN) (S : jj_GS X.1 X.2.2.1) (hs : jj_hs X.1 h0 m0) {Q : Int → jj_MS → Prop} (hQ : ∀ r ms, Q r ms → N (some (.inl r)) (jj_mh h0 m0 ms)) (x1 : Int) : ∀ (n : Nat) (x2 : Int) (x3 : Int) (ms : jj_MS), fM_partners_l28 x1 Q n x2 x3 ms → jj_J X 4 28 [(0, .inr (.inr (.inl (some m0)))), (1, .inl x1), (2, .inl x2), (3, .inl x3)] [] (jj_mh h0 m0 ms) k := by
  intro n
  induction n with
  | zero =>
    intro x2 x3 ms w
    exact (show False from w).elim
  | succ n ih =>
    intro x2 x3 ms w
    rw [fM_partners_l28] at w
    refine jr_iload_n (pc := 28) F (j := 3) dX3_partners_28 rfl ?_
    refine jr_aload_n (pc := 29) F (j := 0) dX3_partners_29 rfl ?_
    refine jr_iload_n (pc := 30) F (j := 1) dX3_partners_30 rfl ?_
    refine jr_callV (pc := 31) (As := [_]) F M (lw_V q3307 q3309 qs51 q143 q3310) dX3_partners_31 hM_sizeOf rfl (Nat.le_of_ble_eq_true rfl) (Nat.le_of_ble_eq_true rfl) (Nat.le_of_ble_eq_true rfl) (jj_set_self _ _ _) rfl rfl (Nat.zero_le _) (cM_sizeOf S hs w) (fun v9 h9 q9 => ?_) (fun _ _ _ q9 => q9.elim)
    obtain ⟨r2, ms1, rfl, rfl, w⟩ := q9
    obtain ⟨hx9, hy9, w1, w2⟩ := w
    refine jr_icmp_ge (pc := 34) (tgt := 61) F hx9 hy9 dX3_partners_34 rfl (fun c9 => ?_) (fun c9 => ?_)
    · have w := w1 c9
      refine jr_iload_n (pc := 61) F (j := 2) dX3_partners_61 rfl ?_
      exact jr_iret (pc := 62) F M dX3_partners_62 (hQ _ _ w)
    · have w := w2 c9
      refine jr_iload_n (pc := 37) F (j := 2) dX3_partners_37 rfl ?_
      refine jr_aload_n (pc := 38) F (j := 0) dX3_partners_38 rfl ?_
      refine jm_get (pc := 39) (f := 16) (v := .inr (.inr (.inl (some (m0 + 1 + 13))))) F (Nat.le_of_ble_eq_true rfl) q3146 rfl rfl dX3_partners_39 ?_
      refine jr_iload_n (pc := 42) F (j := 3) dX3_partners_42 rfl ?_
      obtain ⟨hi1, hi2, w⟩ := w
      refine jm_iald (pc := 43) (f := 16) (o := 13) F rfl (by decide) hi1 hi2 dX3_partners_43 ?_
      refine jr_iconst (pc := 44) F dX3_partners_44 ?_
      obtain ⟨hx9, w1, w2⟩ := w
      refine jr_icmp_eq (pc := 45) (tgt := 52) F hx9 ⟨by decide, by decide⟩ dX3_partners_45 rfl (fun c9 => ?_) (fun c9 => ?_)
      · have w := w1 c9
        refine jr_iconst (pc := 52) F dX3_partners_52 ?_
        refine jr_iadd (pc := 53) F dX3_partners_53 ?_
        have w := w _ rfl
        refine jr_istore_n (pc := 54) F (vs' := [(2, .inl _), (0, .inr (.inr (.inl _))), (1, .inl _), (3, .inl _)]) dX3_partners_54 (Nat.le_of_ble_eq_true rfl) rfl ?_
        have w := w _ rfl
        refine jr_iinc (pc := 55) F (j := 3) (vs' := [(3, .inl _), (2, .inl _), (0, .inr (.inr (.inl _))), (1, .inl _)]) dX3_partners_55 rfl rfl (Nat.le_of_ble_eq_true rfl) rfl ?_
        refine jr_goto (pc := 58) (tgt := 28) F dX3_partners_58 rfl ?_
        refine jj_J.sub [2, 3, 1, 0] rfl ?_
        exact ih _ _ _ w
      · have w := w2 c9
        refine jr_iconst (pc := 48) F dX3_partners_48 ?_
        refine jr_goto (pc := 49) (tgt := 53) F dX3_partners_49 rfl ?_
        refine jr_iadd (pc := 53) F dX3_partners_53 ?_
        have w := w _ rfl
        refine jr_istore_n (pc := 54) F (vs' := [(2, .inl _), (0, .inr (.inr (.inl _))), (1, .inl _), (3, .inl _)]) dX3_partners_54 (Nat.le_of_ble_eq_true rfl) rfl ?_
        have w := w _ rfl
        refine jr_iinc (pc := 55) F (j := 3) (vs' := [(3, .inl _), (2, .inl _), (0, .inr (.inr (.inl _))), (1, .inl _)]) dX3_partners_55 rfl rfl (Nat.le_of_ble_eq_true rfl) rfl ?_
        refine jr_goto (pc := 58) (tgt := 28) F dX3_partners_58 rfl ?_
        refine jj_J.sub [2, 3, 1, 0] rfl ?_
        exact ih _ _ _ w

theorem sM_partners {X : jj_X} {h0 : jj_H} {m0 k : Nat} {N : Option jj_AV → jj_H → Prop} {XN : String → Nat → jj_H → Prop} (F : jj_F X RX3 cX3_partners 4) (M : jj_M X (some (.int)) 4 94 N XN) (S : jj_GS X.1 X.2.2.1) (hs : jj_hs X.1 h0 m0) {Q : Int → jj_MS → Prop} (hQ : ∀ r ms, Q r ms → N (some (.inl r)) (jj_mh h0 m0 ms)) : ∀ (x1 : Int) (ms : jj_MS), fM_partners x1 Q ms → jj_J X 4 0 [(0, .inr (.inr (.inl (some m0)))), (1, .inl x1)] [] (jj_mh h0 m0 ms) k := by
  intro x1 ms w
  unfold fM_partners at w
  refine jr_aload_n (pc := 0) F (j := 0) dX3_partners_0 rfl ?_
  refine jr_iconst (pc := 1) F dX3_partners_1 ?_
  have w := w _ rfl
  refine jm_put (pc := 2) (f := 7) F (Nat.le_of_ble_eq_true rfl) q3137 rfl rfl rfl rfl rfl rfl dX3_partners_2 ?_
  refine jr_aload_n (pc := 5) F (j := 0) dX3_partners_5 rfl ?_
  refine jr_iload_n (pc := 6) F (j := 1) dX3_partners_6 rfl ?_
  refine jr_callV (pc := 7) (As := [_]) F M (lw_V q3418 q3420 qs72 q143 q3421) dX3_partners_7 hM_isEdition rfl (Nat.le_of_ble_eq_true rfl) (Nat.le_of_ble_eq_true rfl) (Nat.le_of_ble_eq_true rfl) (jj_set_self _ _ _) rfl rfl (Nat.zero_le _) (cM_isEdition S hs w) (fun v9 h9 q9 => ?_) (fun _ _ _ q9 => q9.elim)
  obtain ⟨r9, ms8, rfl, rfl, w⟩ := q9
  obtain ⟨hx9, w1, w2⟩ := w
  refine jr_if_ne (pc := 10) (tgt := 19) F hx9 dX3_partners_10 rfl (fun c9 => ?_) (fun c9 => ?_)
  · have w := w1 c9
    refine jr_aload_n (pc := 19) F (j := 0) dX3_partners_19 rfl ?_
    refine jr_iload_n (pc := 20) F (j := 1) dX3_partners_20 rfl ?_
    refine jr_callV (pc := 21) (As := [_]) F M (lw_V q3303 q3305 qs50 q143 q3306) dX3_partners_21 hM_align rfl (Nat.le_of_ble_eq_true rfl) (Nat.le_of_ble_eq_true rfl) (Nat.le_of_ble_eq_true rfl) (jj_set_self _ _ _) rfl rfl (Nat.zero_le _) (cM_align S hs w) (fun v9 h9 q9 => ?_) (fun _ _ _ q9 => q9.elim)
    obtain ⟨ms10, rfl, rfl, w⟩ := q9
    refine jr_iconst (pc := 24) F dX3_partners_24 ?_
    refine jr_istore_n (pc := 25) F (vs' := [(2, .inl _), (0, .inr (.inr (.inl _))), (1, .inl _)]) dX3_partners_25 (Nat.le_of_ble_eq_true rfl) rfl ?_
    refine jr_iconst (pc := 26) F dX3_partners_26 ?_
    refine jr_istore_n (pc := 27) F (vs' := [(3, .inl _), (2, .inl _), (0, .inr (.inr (.inl _))), (1, .inl _)]) dX3_partners_27 (Nat.le_of_ble_eq_true rfl) rfl ?_
    refine jj_J.sub [2, 3, 1, 0] rfl ?_
    obtain ⟨n9, w⟩ := w
    exact sM_partners_l28 F M S hs hQ _ n9 _ _ _ w
  · have w := w2 c9
    refine jr_aload_n (pc := 13) F (j := 0) dX3_partners_13 rfl ?_
    refine jr_iconst (pc := 14) F dX3_partners_14 ?_
    refine jr_callV (pc := 15) (As := [_]) F M (lw_V q3276 q3278 qs46 q143 q3279) dX3_partners_15 hM_fail rfl (Nat.le_of_ble_eq_true rfl) (Nat.le_of_ble_eq_true rfl) (Nat.le_of_ble_eq_true rfl) (jj_set_self _ _ _) rfl rfl (Nat.zero_le _) (cM_fail S hs w) (fun v9 h9 q9 => ?_) (fun _ _ _ q9 => q9.elim)
    obtain ⟨r13, ms12, rfl, rfl, w⟩ := q9
    exact jr_iret (pc := 18) F M dX3_partners_18 (hQ _ _ w)

theorem cM_partners {G : jj_G} {l : Launch} (S : jj_GS G l) {h0 : jj_H} {m0 : Nat} (hs : jj_hs G h0 m0) {x1 : Int} {ms : jj_MS} {Q : Int → jj_MS → Prop} (w : fM_partners x1 Q ms) : jj_Ct G l yX3_partners (ws_ yX3_partners cX3_partners 4 (some (.int))) 4 94 [.inr (.inr (.inl (some m0))), .inl x1] (jj_mh h0 m0 ms) 0 (jm_Ni h0 m0 Q) jj_F0 := by
  refine jj_Ct.of S.1 (by decide +kernel) (Nat.le_of_ble_eq_true rfl) rfl (fun X hG hl F M O hnm => ?_)
  subst hG; subst hl
  exact sM_partners F M S hs (fun r ms q => ⟨r, ms, rfl, rfl, q⟩) _ _ w
theorem hM_partners : yX3_partners.cls = RX3 ∧ yX3_partners.cls ≠ "java/lang/invoke/MethodHandle" ∧ yX3_partners.cls ≠ "java/lang/invoke/VarHandle" ∧ (parseMethodDescriptor yX3_partners.desc).map (fun d => d.parameters.length) = some 1 := by decide +kernel
/-! anchor(II)I -/
def fM_anchor (x1 : Int) (x2 : Int) (Q : Int → jj_MS → Prop) (ms : jj_MS) : Prop :=
  ∀ ms1, ms1 = jj_mI ms 7 0 →
  fM_isNote x1 (fun r3 ms2 =>
  jj_r r3 ∧ (¬ r3 = 0 → (
    fM_layAnchors (fun ms4 =>
    jj_r x2 ∧
    (x2 = 0 → (
      0 ≤ x1 ∧ x1 < 40 ∧
      Q (ms4.2 17 x1) ms4)) ∧
    (x2 = 1 → (
      0 ≤ x1 ∧ x1 < 40 ∧
      Q (ms4.2 18 x1) ms4)) ∧
    (x2 = 2 → (
      0 ≤ x1 ∧ x1 < 40 ∧
      Q (ms4.2 19 x1) ms4)) ∧
    (x2 = 3 → (
      0 ≤ x1 ∧ x1 < 40 ∧
      Q (ms4.2 20 x1) ms4)) ∧
    ((x2 < 0 ∨ 3 < x2) → (
      fM_fail 2 (fun r7 ms6 =>
      Q r7 ms6) ms4))) ms2)) ∧
  (r3 = 0 → (
    fM_fail 1 (fun r9 ms8 =>
    Q r9 ms8) ms2))) ms1

theorem sM_anchor {X : jj_X} {h0 : jj_H} {m0 k : Nat} {N : Option jj_AV → jj_H → Prop} {XN : String → Nat → jj_H → Prop} (F : jj_F X RX3 cX3_anchor 3) (M : jj_M X (some (.int)) 5 121 N XN) (S : jj_GS X.1 X.2.2.1) (hs : jj_hs X.1 h0 m0) {Q : Int → jj_MS → Prop} (hQ : ∀ r ms, Q r ms → N (some (.inl r)) (jj_mh h0 m0 ms)) : ∀ (x1 : Int) (x2 : Int) (ms : jj_MS), fM_anchor x1 x2 Q ms → jj_J X 3 0 [(0, .inr (.inr (.inl (some m0)))), (1, .inl x1), (2, .inl x2)] [] (jj_mh h0 m0 ms) k := by
  intro x1 x2 ms w
  unfold fM_anchor at w
  refine jr_aload_n (pc := 0) F (j := 0) dX3_anchor_0 rfl ?_
  refine jr_iconst (pc := 1) F dX3_anchor_1 ?_
  have w := w _ rfl
  refine jm_put (pc := 2) (f := 7) F (Nat.le_of_ble_eq_true rfl) q3137 rfl rfl rfl rfl rfl rfl dX3_anchor_2 ?_
  refine jr_aload_n (pc := 5) F (j := 0) dX3_anchor_5 rfl ?_
  refine jr_iload_n (pc := 6) F (j := 1) dX3_anchor_6 rfl ?_
  refine jr_callV (pc := 7) (As := [_]) F M (lw_V q3524 q3526 qs87 q143 q3527) dX3_anchor_7 hM_isNote rfl (Nat.le_of_ble_eq_true rfl) (Nat.le_of_ble_eq_true rfl) (Nat.le_of_ble_eq_true rfl) (jj_set_self _ _ _) rfl rfl (Nat.zero_le _) (cM_isNote S hs w) (fun v9 h9 q9 => ?_) (fun _ _ _ q9 => q9.elim)
  obtain ⟨r3, ms2, rfl, rfl, w⟩ := q9
  obtain ⟨hx9, w1, w2⟩ := w
  refine jr_if_ne (pc := 10) (tgt := 19) F hx9 dX3_anchor_10 rfl (fun c9 => ?_) (fun c9 => ?_)
  · have w := w1 c9
    refine jr_aload_n (pc := 19) F (j := 0) dX3_anchor_19 rfl ?_
    refine jr_callV (pc := 20) (As := []) F M (lw_V q3295 q3297 qs48 q143 q3298) dX3_anchor_20 hM_layAnchors rfl (Nat.le_of_ble_eq_true rfl) (Nat.le_of_ble_eq_true rfl) (Nat.le_of_ble_eq_true rfl) (jj_set_self _ _ _) rfl rfl (Nat.zero_le _) (cM_layAnchors S hs w) (fun v9 h9 q9 => ?_) (fun _ _ _ q9 => q9.elim)
    obtain ⟨ms4, rfl, rfl, w⟩ := q9
    refine jr_iload_n (pc := 23) F (j := 2) dX3_anchor_23 rfl ?_
    obtain ⟨hx9, w⟩ := w
    obtain ⟨w9, w⟩ := w
    rcases Decidable.em (x2 = 0) with e9 | e9_0
    · have w := w9 e9
      refine jr_tabIn (pc := 24) (tgt := 56) (off := 32) F hx9 dX3_anchor_24 (by rw [e9]; decide) (by rw [e9]; decide) (by rw [e9]; rfl) rfl ?_
      refine jr_aload_n (pc := 56) F (j := 0) dX3_anchor_56 rfl ?_
      refine jm_get (pc := 57) (f := 17) (v := .inr (.inr (.inl (some (m0 + 1 + 14))))) F (Nat.le_of_ble_eq_true rfl) q3147 rfl rfl dX3_anchor_57 ?_
      refine jr_iload_n (pc := 60) F (j := 1) dX3_anchor_60 rfl ?_
      obtain ⟨hi1, hi2, w⟩ := w
      refine jm_iald (pc := 61) (f := 17) (o := 14) F rfl (by decide) hi1 hi2 dX3_anchor_61 ?_
      exact jr_iret (pc := 62) F M dX3_anchor_62 (hQ _ _ w)
    obtain ⟨w9, w⟩ := w
    rcases Decidable.em (x2 = 1) with e9 | e9_1
    · have w := w9 e9
      refine jr_tabIn (pc := 24) (tgt := 63) (off := 39) F hx9 dX3_anchor_24 (by rw [e9]; decide) (by rw [e9]; decide) (by rw [e9]; rfl) rfl ?_
      refine jr_aload_n (pc := 63) F (j := 0) dX3_anchor_63 rfl ?_
      refine jm_get (pc := 64) (f := 18) (v := .inr (.inr (.inl (some (m0 + 1 + 15))))) F (Nat.le_of_ble_eq_true rfl) q3148 rfl rfl dX3_anchor_64 ?_
      refine jr_iload_n (pc := 67) F (j := 1) dX3_anchor_67 rfl ?_
      obtain ⟨hi1, hi2, w⟩ := w
      refine jm_iald (pc := 68) (f := 18) (o := 15) F rfl (by decide) hi1 hi2 dX3_anchor_68 ?_
      exact jr_iret (pc := 69) F M dX3_anchor_69 (hQ _ _ w)
    obtain ⟨w9, w⟩ := w
    rcases Decidable.em (x2 = 2) with e9 | e9_2
    · have w := w9 e9
      refine jr_tabIn (pc := 24) (tgt := 70) (off := 46) F hx9 dX3_anchor_24 (by rw [e9]; decide) (by rw [e9]; decide) (by rw [e9]; rfl) rfl ?_
      refine jr_aload_n (pc := 70) F (j := 0) dX3_anchor_70 rfl ?_
      refine jm_get (pc := 71) (f := 19) (v := .inr (.inr (.inl (some (m0 + 1 + 16))))) F (Nat.le_of_ble_eq_true rfl) q3149 rfl rfl dX3_anchor_71 ?_
      refine jr_iload_n (pc := 74) F (j := 1) dX3_anchor_74 rfl ?_
      obtain ⟨hi1, hi2, w⟩ := w
      refine jm_iald (pc := 75) (f := 19) (o := 16) F rfl (by decide) hi1 hi2 dX3_anchor_75 ?_
      exact jr_iret (pc := 76) F M dX3_anchor_76 (hQ _ _ w)
    obtain ⟨w9, w⟩ := w
    rcases Decidable.em (x2 = 3) with e9 | e9_3
    · have w := w9 e9
      refine jr_tabIn (pc := 24) (tgt := 77) (off := 53) F hx9 dX3_anchor_24 (by rw [e9]; decide) (by rw [e9]; decide) (by rw [e9]; rfl) rfl ?_
      refine jr_aload_n (pc := 77) F (j := 0) dX3_anchor_77 rfl ?_
      refine jm_get (pc := 78) (f := 20) (v := .inr (.inr (.inl (some (m0 + 1 + 17))))) F (Nat.le_of_ble_eq_true rfl) q3150 rfl rfl dX3_anchor_78 ?_
      refine jr_iload_n (pc := 81) F (j := 1) dX3_anchor_81 rfl ?_
      obtain ⟨hi1, hi2, w⟩ := w
      refine jm_iald (pc := 82) (f := 20) (o := 17) F rfl (by decide) hi1 hi2 dX3_anchor_82 ?_
      exact jr_iret (pc := 83) F M dX3_anchor_83 (hQ _ _ w)
    have c9 : x2 < 0 ∨ 3 < x2 := by omega
    have w := w c9
    refine jr_tabOut (pc := 24) (tgt := 84) F hx9 dX3_anchor_24 c9 rfl ?_
    refine jr_aload_n (pc := 84) F (j := 0) dX3_anchor_84 rfl ?_
    refine jr_iconst (pc := 85) F dX3_anchor_85 ?_
    refine jr_callV (pc := 86) (As := [_]) F M (lw_V q3276 q3278 qs46 q143 q3279) dX3_anchor_86 hM_fail rfl (Nat.le_of_ble_eq_true rfl) (Nat.le_of_ble_eq_true rfl) (Nat.le_of_ble_eq_true rfl) (jj_set_self _ _ _) rfl rfl (Nat.zero_le _) (cM_fail S hs w) (fun v9 h9 q9 => ?_) (fun _ _ _ q9 => q9.elim)
    obtain ⟨r7, ms6, rfl, rfl, w⟩ := q9
    exact jr_iret (pc := 89) F M dX3_anchor_89 (hQ _ _ w)
  · have w := w2 c9
    refine jr_aload_n (pc := 13) F (j := 0) dX3_anchor_13 rfl ?_
    refine jr_iconst (pc := 14) F dX3_anchor_14 ?_
    refine jr_callV (pc := 15) (As := [_]) F M (lw_V q3276 q3278 qs46 q143 q3279) dX3_anchor_15 hM_fail rfl (Nat.le_of_ble_eq_true rfl) (Nat.le_of_ble_eq_true rfl) (Nat.le_of_ble_eq_true rfl) (jj_set_self _ _ _) rfl rfl (Nat.zero_le _) (cM_fail S hs w) (fun v9 h9 q9 => ?_) (fun _ _ _ q9 => q9.elim)
    obtain ⟨r9, ms8, rfl, rfl, w⟩ := q9
    exact jr_iret (pc := 18) F M dX3_anchor_18 (hQ _ _ w)

theorem cM_anchor {G : jj_G} {l : Launch} (S : jj_GS G l) {h0 : jj_H} {m0 : Nat} (hs : jj_hs G h0 m0) {x1 : Int} {x2 : Int} {ms : jj_MS} {Q : Int → jj_MS → Prop} (w : fM_anchor x1 x2 Q ms) : jj_Ct G l yX3_anchor (ws_ yX3_anchor cX3_anchor 3 (some (.int))) 5 121 [.inr (.inr (.inl (some m0))), .inl x1, .inl x2] (jj_mh h0 m0 ms) 0 (jm_Ni h0 m0 Q) jj_F0 := by
  refine jj_Ct.of S.1 (by decide +kernel) (Nat.le_of_ble_eq_true rfl) rfl (fun X hG hl F M O hnm => ?_)
  subst hG; subst hl
  exact sM_anchor F M S hs (fun r ms q => ⟨r, ms, rfl, rfl, q⟩) _ _ _ w
theorem hM_anchor : yX3_anchor.cls = RX3 ∧ yX3_anchor.cls ≠ "java/lang/invoke/MethodHandle" ∧ yX3_anchor.cls ≠ "java/lang/invoke/VarHandle" ∧ (parseMethodDescriptor yX3_anchor.desc).map (fun d => d.parameters.length) = some 2 := by decide +kernel
/-! anchors(I)I -/
def fM_anchors_l28 (x1 : Int) (Q : Int → jj_MS → Prop) : Nat → Int → Int → jj_MS → Prop
  | 0, _, _, _ => False
  | n + 1, x2, x3, ms =>
  fM_notes (fun r2 ms1 =>
  jj_r x3 ∧ jj_r r2 ∧ (r2 ≤ x3 → (
    Q x2 ms1)) ∧
  (¬ r2 ≤ x3 → (
    0 ≤ x3 ∧ x3 < 40 ∧
    jj_r (ms1.2 17 x3) ∧ jj_r x1 ∧ (¬ (ms1.2 17 x3) = x1 → (
      ∀ v3, v3 = x2 + 0 →
      ∀ v4, v4 = x3 + 1 →
      fM_anchors_l28 x1 Q n v3 v4 ms1)) ∧
    ((ms1.2 17 x3) = x1 → (
      ∀ v5, v5 = x2 + 1 →
      ∀ v6, v6 = x3 + 1 →
      fM_anchors_l28 x1 Q n v5 v6 ms1))))) ms

def fM_anchors (x1 : Int) (Q : Int → jj_MS → Prop) (ms : jj_MS) : Prop :=
  ∀ ms7, ms7 = jj_mI ms 7 0 →
  fM_isBetween x1 0 3 (fun r9 ms8 =>
  jj_r r9 ∧ (¬ r9 = 0 → (
    fM_layAnchors (fun ms10 =>
    ∃ n9, fM_anchors_l28 x1 Q n9 0 0 ms10) ms8)) ∧
  (r9 = 0 → (
    fM_fail 1 (fun r13 ms12 =>
    Q r13 ms12) ms8))) ms7

theorem sM_anchors_l28 {X : jj_X} {h0 : jj_H} {m0 k : Nat} {N : Option jj_AV → jj_H → Prop} {XN : String → Nat → jj_H → Prop} (F : jj_F X RX3 cX3_anchors 4) (M : jj_M X (some (.int)) 5 121 N XN) (S : jj_GS X.1 X.2.2.1) (hs : jj_hs X.1 h0 m0) {Q : Int → jj_MS → Prop} (hQ : ∀ r ms, Q r ms → N (some (.inl r)) (jj_mh h0 m0 ms)) (x1 : Int) : ∀ (n : Nat) (x2 : Int) (x3 : Int) (ms : jj_MS), fM_anchors_l28 x1 Q n x2 x3 ms → jj_J X 4 28 [(0, .inr (.inr (.inl (some m0)))), (1, .inl x1), (2, .inl x2), (3, .inl x3)] [] (jj_mh h0 m0 ms) k := by
  intro n
  induction n with
  | zero =>
    intro x2 x3 ms w
    exact (show False from w).elim
  | succ n ih =>
    intro x2 x3 ms w
    rw [fM_anchors_l28] at w
    refine jr_iload_n (pc := 28) F (j := 3) dX3_anchors_28 rfl ?_
    refine jr_aload_n (pc := 29) F (j := 0) dX3_anchors_29 rfl ?_
    refine jr_callV (pc := 30) (As := []) F M (lw_V q3334 q3336 qs56 q143 q3337) dX3_anchors_30 hM_notes rfl (Nat.le_of_ble_eq_true rfl) (Nat.le_of_ble_eq_true rfl) (Nat.le_of_ble_eq_true rfl) (jj_set_self _ _ _) rfl rfl (Nat.zero_le _) (cM_notes S hs w) (fun v9 h9 q9 => ?_) (fun _ _ _ q9 => q9.elim)
    obtain ⟨r2, ms1, rfl, rfl, w⟩ := q9
    obtain ⟨hx9, hy9, w1, w2⟩ := w
    refine jr_icmp_ge (pc := 33) (tgt := 60) F hx9 hy9 dX3_anchors_33 rfl (fun c9 => ?_) (fun c9 => ?_)
    · have w := w1 c9
      refine jr_iload_n (pc := 60) F (j := 2) dX3_anchors_60 rfl ?_
      exact jr_iret (pc := 61) F M dX3_anchors_61 (hQ _ _ w)
    · have w := w2 c9
      refine jr_iload_n (pc := 36) F (j := 2) dX3_anchors_36 rfl ?_
      refine jr_aload_n (pc := 37) F (j := 0) dX3_anchors_37 rfl ?_
      refine jm_get (pc := 38) (f := 17) (v := .inr (.inr (.inl (some (m0 + 1 + 14))))) F (Nat.le_of_ble_eq_true rfl) q3147 rfl rfl dX3_anchors_38 ?_
      refine jr_iload_n (pc := 41) F (j := 3) dX3_anchors_41 rfl ?_
      obtain ⟨hi1, hi2, w⟩ := w
      refine jm_iald (pc := 42) (f := 17) (o := 14) F rfl (by decide) hi1 hi2 dX3_anchors_42 ?_
      refine jr_iload_n (pc := 43) F (j := 1) dX3_anchors_43 rfl ?_
      obtain ⟨hx9, hy9, w1, w2⟩ := w
      refine jr_icmp_ne (pc := 44) (tgt := 51) F hx9 hy9 dX3_anchors_44 rfl (fun c9 => ?_) (fun c9 => ?_)
      · have w := w1 c9
        refine jr_iconst (pc := 51) F dX3_anchors_51 ?_
        refine jr_iadd (pc := 52) F dX3_anchors_52 ?_
        have w := w _ rfl
        refine jr_istore_n (pc := 53) F (vs' := [(2, .inl _), (0, .inr (.inr (.inl _))), (1, .inl _), (3, .inl _)]) dX3_anchors_53 (Nat.le_of_ble_eq_true rfl) rfl ?_
        have w := w _ rfl
        refine jr_iinc (pc := 54) F (j := 3) (vs' := [(3, .inl _), (2, .inl _), (0, .inr (.inr (.inl _))), (1, .inl _)]) dX3_anchors_54 rfl rfl (Nat.le_of_ble_eq_true rfl) rfl ?_
        refine jr_goto (pc := 57) (tgt := 28) F dX3_anchors_57 rfl ?_
        refine jj_J.sub [2, 3, 1, 0] rfl ?_
        exact ih _ _ _ w
      · have w := w2 c9
        refine jr_iconst (pc := 47) F dX3_anchors_47 ?_
        refine jr_goto (pc := 48) (tgt := 52) F dX3_anchors_48 rfl ?_
        refine jr_iadd (pc := 52) F dX3_anchors_52 ?_
        have w := w _ rfl
        refine jr_istore_n (pc := 53) F (vs' := [(2, .inl _), (0, .inr (.inr (.inl _))), (1, .inl _), (3, .inl _)]) dX3_anchors_53 (Nat.le_of_ble_eq_true rfl) rfl ?_
        have w := w _ rfl
        refine jr_iinc (pc := 54) F (j := 3) (vs' := [(3, .inl _), (2, .inl _), (0, .inr (.inr (.inl _))), (1, .inl _)]) dX3_anchors_54 rfl rfl (Nat.le_of_ble_eq_true rfl) rfl ?_
        refine jr_goto (pc := 57) (tgt := 28) F dX3_anchors_57 rfl ?_
        refine jj_J.sub [2, 3, 1, 0] rfl ?_
        exact ih _ _ _ w

theorem sM_anchors {X : jj_X} {h0 : jj_H} {m0 k : Nat} {N : Option jj_AV → jj_H → Prop} {XN : String → Nat → jj_H → Prop} (F : jj_F X RX3 cX3_anchors 4) (M : jj_M X (some (.int)) 5 121 N XN) (S : jj_GS X.1 X.2.2.1) (hs : jj_hs X.1 h0 m0) {Q : Int → jj_MS → Prop} (hQ : ∀ r ms, Q r ms → N (some (.inl r)) (jj_mh h0 m0 ms)) : ∀ (x1 : Int) (ms : jj_MS), fM_anchors x1 Q ms → jj_J X 4 0 [(0, .inr (.inr (.inl (some m0)))), (1, .inl x1)] [] (jj_mh h0 m0 ms) k := by
  intro x1 ms w
  unfold fM_anchors at w
  refine jr_aload_n (pc := 0) F (j := 0) dX3_anchors_0 rfl ?_
  refine jr_iconst (pc := 1) F dX3_anchors_1 ?_
  have w := w _ rfl
  refine jm_put (pc := 2) (f := 7) F (Nat.le_of_ble_eq_true rfl) q3137 rfl rfl rfl rfl rfl rfl dX3_anchors_2 ?_
  refine jr_iload_n (pc := 5) F (j := 1) dX3_anchors_5 rfl ?_
  refine jr_iconst (pc := 6) F dX3_anchors_6 ?_
  refine jr_iconst (pc := 7) F dX3_anchors_7 ?_
  refine jr_callS (pc := 8) (As := [_, _, _]) F M (lw_S q3284 q3285 q143 q3286) dX3_anchors_8 hM_isBetween.2 rfl (Nat.le_of_ble_eq_true rfl) (Nat.le_of_ble_eq_true rfl) (Nat.le_of_ble_eq_true rfl) (Nat.zero_le _) (cM_isBetween S hs w) (fun v9 h9 q9 => ?_) (fun _ _ _ q9 => q9.elim)
  obtain ⟨r9, ms8, rfl, rfl, w⟩ := q9
  obtain ⟨hx9, w1, w2⟩ := w
  refine jr_if_ne (pc := 11) (tgt := 20) F hx9 dX3_anchors_11 rfl (fun c9 => ?_) (fun c9 => ?_)
  · have w := w1 c9
    refine jr_aload_n (pc := 20) F (j := 0) dX3_anchors_20 rfl ?_
    refine jr_callV (pc := 21) (As := []) F M (lw_V q3295 q3297 qs48 q143 q3298) dX3_anchors_21 hM_layAnchors rfl (Nat.le_of_ble_eq_true rfl) (Nat.le_of_ble_eq_true rfl) (Nat.le_of_ble_eq_true rfl) (jj_set_self _ _ _) rfl rfl (Nat.zero_le _) (cM_layAnchors S hs w) (fun v9 h9 q9 => ?_) (fun _ _ _ q9 => q9.elim)
    obtain ⟨ms10, rfl, rfl, w⟩ := q9
    refine jr_iconst (pc := 24) F dX3_anchors_24 ?_
    refine jr_istore_n (pc := 25) F (vs' := [(2, .inl _), (0, .inr (.inr (.inl _))), (1, .inl _)]) dX3_anchors_25 (Nat.le_of_ble_eq_true rfl) rfl ?_
    refine jr_iconst (pc := 26) F dX3_anchors_26 ?_
    refine jr_istore_n (pc := 27) F (vs' := [(3, .inl _), (2, .inl _), (0, .inr (.inr (.inl _))), (1, .inl _)]) dX3_anchors_27 (Nat.le_of_ble_eq_true rfl) rfl ?_
    refine jj_J.sub [2, 3, 1, 0] rfl ?_
    obtain ⟨n9, w⟩ := w
    exact sM_anchors_l28 F M S hs hQ _ n9 _ _ _ w
  · have w := w2 c9
    refine jr_aload_n (pc := 14) F (j := 0) dX3_anchors_14 rfl ?_
    refine jr_iconst (pc := 15) F dX3_anchors_15 ?_
    refine jr_callV (pc := 16) (As := [_]) F M (lw_V q3276 q3278 qs46 q143 q3279) dX3_anchors_16 hM_fail rfl (Nat.le_of_ble_eq_true rfl) (Nat.le_of_ble_eq_true rfl) (Nat.le_of_ble_eq_true rfl) (jj_set_self _ _ _) rfl rfl (Nat.zero_le _) (cM_fail S hs w) (fun v9 h9 q9 => ?_) (fun _ _ _ q9 => q9.elim)
    obtain ⟨r13, ms12, rfl, rfl, w⟩ := q9
    exact jr_iret (pc := 19) F M dX3_anchors_19 (hQ _ _ w)

theorem cM_anchors {G : jj_G} {l : Launch} (S : jj_GS G l) {h0 : jj_H} {m0 : Nat} (hs : jj_hs G h0 m0) {x1 : Int} {ms : jj_MS} {Q : Int → jj_MS → Prop} (w : fM_anchors x1 Q ms) : jj_Ct G l yX3_anchors (ws_ yX3_anchors cX3_anchors 4 (some (.int))) 5 121 [.inr (.inr (.inl (some m0))), .inl x1] (jj_mh h0 m0 ms) 0 (jm_Ni h0 m0 Q) jj_F0 := by
  refine jj_Ct.of S.1 (by decide +kernel) (Nat.le_of_ble_eq_true rfl) rfl (fun X hG hl F M O hnm => ?_)
  subst hG; subst hl
  exact sM_anchors F M S hs (fun r ms q => ⟨r, ms, rfl, rfl, q⟩) _ _ w
theorem hM_anchors : yX3_anchors.cls = RX3 ∧ yX3_anchors.cls ≠ "java/lang/invoke/MethodHandle" ∧ yX3_anchors.cls ≠ "java/lang/invoke/VarHandle" ∧ (parseMethodDescriptor yX3_anchors.desc).map (fun d => d.parameters.length) = some 1 := by decide +kernel
/-! setThreshold(I)I -/
def fM_setThreshold (x1 : Int) (Q : Int → jj_MS → Prop) (ms : jj_MS) : Prop :=
  ∀ ms1, ms1 = jj_mI ms 7 0 →
  fM_isBetween x1 0 100 (fun r3 ms2 =>
  jj_r r3 ∧ (¬ r3 = 0 → (
    ∀ v4, v4 = ms2.2 0 3 →
    ∀ ms5, ms5 = jj_mA ms2 0 3 x1 →
    Q v4 ms5)) ∧
  (r3 = 0 → (
    fM_fail 1 (fun r7 ms6 =>
    Q r7 ms6) ms2))) ms1

theorem sM_setThreshold {X : jj_X} {h0 : jj_H} {m0 k : Nat} {N : Option jj_AV → jj_H → Prop} {XN : String → Nat → jj_H → Prop} (F : jj_F X RX3 cX3_setThreshold 3) (M : jj_M X (some (.int)) 1 22 N XN) (S : jj_GS X.1 X.2.2.1) (hs : jj_hs X.1 h0 m0) {Q : Int → jj_MS → Prop} (hQ : ∀ r ms, Q r ms → N (some (.inl r)) (jj_mh h0 m0 ms)) : ∀ (x1 : Int) (ms : jj_MS), fM_setThreshold x1 Q ms → jj_J X 3 0 [(0, .inr (.inr (.inl (some m0)))), (1, .inl x1)] [] (jj_mh h0 m0 ms) k := by
  intro x1 ms w
  unfold fM_setThreshold at w
  refine jr_aload_n (pc := 0) F (j := 0) dX3_setThreshold_0 rfl ?_
  refine jr_iconst (pc := 1) F dX3_setThreshold_1 ?_
  have w := w _ rfl
  refine jm_put (pc := 2) (f := 7) F (Nat.le_of_ble_eq_true rfl) q3137 rfl rfl rfl rfl rfl rfl dX3_setThreshold_2 ?_
  refine jr_iload_n (pc := 5) F (j := 1) dX3_setThreshold_5 rfl ?_
  refine jr_iconst (pc := 6) F dX3_setThreshold_6 ?_
  refine jr_bipush (pc := 7) F dX3_setThreshold_7 (by decide +kernel) ?_
  refine jr_callS (pc := 9) (As := [_, _, _]) F M (lw_S q3284 q3285 q143 q3286) dX3_setThreshold_9 hM_isBetween.2 rfl (Nat.le_of_ble_eq_true rfl) (Nat.le_of_ble_eq_true rfl) (Nat.le_of_ble_eq_true rfl) (Nat.zero_le _) (cM_isBetween S hs w) (fun v9 h9 q9 => ?_) (fun _ _ _ q9 => q9.elim)
  obtain ⟨r3, ms2, rfl, rfl, w⟩ := q9
  obtain ⟨hx9, w1, w2⟩ := w
  refine jr_if_ne (pc := 12) (tgt := 21) F hx9 dX3_setThreshold_12 rfl (fun c9 => ?_) (fun c9 => ?_)
  · have w := w1 c9
    refine jr_aload_n (pc := 21) F (j := 0) dX3_setThreshold_21 rfl ?_
    refine jm_get (pc := 22) (f := 0) (v := .inr (.inr (.inl (some (m0 + 1 + 0))))) F (Nat.le_of_ble_eq_true rfl) q3130 rfl rfl dX3_setThreshold_22 ?_
    refine jr_iconst (pc := 25) F dX3_setThreshold_25 ?_
    refine jm_iald (pc := 26) (f := 0) (o := 0) F rfl (by decide) (by decide) (by decide) dX3_setThreshold_26 ?_
    have w := w _ rfl
    refine jr_istore_n (pc := 27) F (vs' := [(2, .inl _), (0, .inr (.inr (.inl _))), (1, .inl _)]) dX3_setThreshold_27 (Nat.le_of_ble_eq_true rfl) rfl ?_
    refine jr_aload_n (pc := 28) F (j := 1) dX3_setThreshold_28 rfl ?_
    refine jm_get (pc := 29) (f := 0) (v := .inr (.inr (.inl (some (m0 + 1 + 0))))) F (Nat.le_of_ble_eq_true rfl) q3130 rfl rfl dX3_setThreshold_29 ?_
    refine jr_iconst (pc := 32) F dX3_setThreshold_32 ?_
    refine jr_iload_n (pc := 33) F (j := 2) dX3_setThreshold_33 rfl ?_
    have w := w _ rfl
    refine jm_iast (pc := 34) (f := 0) (o := 0) F (Nat.le_of_ble_eq_true rfl) rfl (by decide) (by decide) (by decide) dX3_setThreshold_34 ?_
    refine jr_iload_n (pc := 35) F (j := 0) dX3_setThreshold_35 rfl ?_
    exact jr_iret (pc := 36) F M dX3_setThreshold_36 (hQ _ _ w)
  · have w := w2 c9
    refine jr_aload_n (pc := 15) F (j := 0) dX3_setThreshold_15 rfl ?_
    refine jr_iconst (pc := 16) F dX3_setThreshold_16 ?_
    refine jr_callV (pc := 17) (As := [_]) F M (lw_V q3276 q3278 qs46 q143 q3279) dX3_setThreshold_17 hM_fail rfl (Nat.le_of_ble_eq_true rfl) (Nat.le_of_ble_eq_true rfl) (Nat.le_of_ble_eq_true rfl) (jj_set_self _ _ _) rfl rfl (Nat.zero_le _) (cM_fail S hs w) (fun v9 h9 q9 => ?_) (fun _ _ _ q9 => q9.elim)
    obtain ⟨r7, ms6, rfl, rfl, w⟩ := q9
    exact jr_iret (pc := 20) F M dX3_setThreshold_20 (hQ _ _ w)

theorem cM_setThreshold {G : jj_G} {l : Launch} (S : jj_GS G l) {h0 : jj_H} {m0 : Nat} (hs : jj_hs G h0 m0) {x1 : Int} {ms : jj_MS} {Q : Int → jj_MS → Prop} (w : fM_setThreshold x1 Q ms) : jj_Ct G l yX3_setThreshold (ws_ yX3_setThreshold cX3_setThreshold 3 (some (.int))) 1 22 [.inr (.inr (.inl (some m0))), .inl x1] (jj_mh h0 m0 ms) 0 (jm_Ni h0 m0 Q) jj_F0 := by
  refine jj_Ct.of S.1 (by decide +kernel) (Nat.le_of_ble_eq_true rfl) rfl (fun X hG hl F M O hnm => ?_)
  subst hG; subst hl
  exact sM_setThreshold F M S hs (fun r ms q => ⟨r, ms, rfl, rfl, q⟩) _ _ w
theorem hM_setThreshold : yX3_setThreshold.cls = RX3 ∧ yX3_setThreshold.cls ≠ "java/lang/invoke/MethodHandle" ∧ yX3_setThreshold.cls ≠ "java/lang/invoke/VarHandle" ∧ (parseMethodDescriptor yX3_setThreshold.desc).map (fun d => d.parameters.length) = some 1 := by decide +kernel
/-! areAlike(II)Z -/
def fM_areAlike_j22 (x1 : Int) (x2 : Int) (y1 : Int) (Q : Int → jj_MS → Prop) (ms : jj_MS) : Prop :=
  ∀ ms1, ms1 = jj_mI ms 7 y1 →
  jj_r (ms1.1 7) ∧ ((ms1.1 7) = 0 → (
    fM_layAnchors (fun ms2 =>
    fM_alike x1 x2 (fun r5 ms4 =>
    (r5 = 0 ∨ r5 = 1) ∧ Q r5 ms4) ms2) ms1)) ∧
  (¬ (ms1.1 7) = 0 → (
    Q 0 ms1))

def fM_areAlike_j21 (x1 : Int) (x2 : Int) (Q : Int → jj_MS → Prop) (ms : jj_MS) : Prop :=
  fM_areAlike_j22 x1 x2 1 Q ms

def fM_areAlike (x1 : Int) (x2 : Int) (Q : Int → jj_MS → Prop) (ms : jj_MS) : Prop :=
  fM_isNote x1 (fun r7 ms6 =>
  jj_r r7 ∧ (r7 = 0 → (
    fM_areAlike_j21 x1 x2 Q ms6)) ∧
  (¬ r7 = 0 → (
    fM_isNote x2 (fun r9 ms8 =>
    jj_r r9 ∧ (r9 = 0 → (
      fM_areAlike_j21 x1 x2 Q ms8)) ∧
    (¬ r9 = 0 → (
      fM_areAlike_j22 x1 x2 0 Q ms8))) ms6))) ms

theorem sM_areAlike_j22 {X : jj_X} {h0 : jj_H} {m0 k : Nat} {N : Option jj_AV → jj_H → Prop} {XN : String → Nat → jj_H → Prop} (F : jj_F X RX3 cX3_areAlike 3) (M : jj_M X (some (.boolean)) 5 125 N XN) (S : jj_GS X.1 X.2.2.1) (hs : jj_hs X.1 h0 m0) {Q : Int → jj_MS → Prop} (hQ : ∀ r ms, Q r ms → N (some (.inl r)) (jj_mh h0 m0 ms)) : ∀ (x1 : Int) (x2 : Int) (y1 : Int) (ms : jj_MS), fM_areAlike_j22 x1 x2 y1 Q ms → jj_J X 3 22 [(0, .inr (.inr (.inl (some m0)))), (1, .inl x1), (2, .inl x2)] [.inl y1, .inr (.inr (.inl (some m0)))] (jj_mh h0 m0 ms) k := by
  intro x1 x2 y1 ms w
  unfold fM_areAlike_j22 at w
  have w := w _ rfl
  refine jm_put (pc := 22) (f := 7) F (Nat.le_of_ble_eq_true rfl) q3137 rfl rfl rfl rfl rfl rfl dX3_areAlike_22 ?_
  refine jr_aload_n (pc := 25) F (j := 0) dX3_areAlike_25 rfl ?_
  refine jm_get (pc := 26) (f := 7) (v := .inl _) F (Nat.le_of_ble_eq_true rfl) q3137 rfl rfl dX3_areAlike_26 ?_
  obtain ⟨hx9, w1, w2⟩ := w
  refine jr_if_eq (pc := 29) (tgt := 34) F hx9 dX3_areAlike_29 rfl (fun c9 => ?_) (fun c9 => ?_)
  · have w := w1 c9
    refine jr_aload_n (pc := 34) F (j := 0) dX3_areAlike_34 rfl ?_
    refine jr_callV (pc := 35) (As := []) F M (lw_V q3295 q3297 qs48 q143 q3298) dX3_areAlike_35 hM_layAnchors rfl (Nat.le_of_ble_eq_true rfl) (Nat.le_of_ble_eq_true rfl) (Nat.le_of_ble_eq_true rfl) (jj_set_self _ _ _) rfl rfl (Nat.zero_le _) (cM_layAnchors S hs w) (fun v9 h9 q9 => ?_) (fun _ _ _ q9 => q9.elim)
    obtain ⟨ms2, rfl, rfl, w⟩ := q9
    refine jr_aload_n (pc := 38) F (j := 0) dX3_areAlike_38 rfl ?_
    refine jr_iload_n (pc := 39) F (j := 1) dX3_areAlike_39 rfl ?_
    refine jr_iload_n (pc := 40) F (j := 2) dX3_areAlike_40 rfl ?_
    refine jr_callV (pc := 41) (As := [_, _]) F M (lw_V q3354 q3356 qs61 q143 q3357) dX3_areAlike_41 hM_alike rfl (Nat.le_of_ble_eq_true rfl) (Nat.le_of_ble_eq_true rfl) (Nat.le_of_ble_eq_true rfl) (jj_set_self _ _ _) rfl rfl (Nat.zero_le _) (cM_alike S hs w) (fun v9 h9 q9 => ?_) (fun _ _ _ q9 => q9.elim)
    obtain ⟨r5, ms4, rfl, rfl, w⟩ := q9
    exact jr_zret (pc := 44) F M dX3_areAlike_44 w.1 (hQ _ _ w.2)
  · have w := w2 c9
    refine jr_iconst (pc := 32) F dX3_areAlike_32 ?_
    exact jr_zret (pc := 33) F M dX3_areAlike_33 (by decide) (hQ _ _ w)

theorem sM_areAlike_j21 {X : jj_X} {h0 : jj_H} {m0 k : Nat} {N : Option jj_AV → jj_H → Prop} {XN : String → Nat → jj_H → Prop} (F : jj_F X RX3 cX3_areAlike 3) (M : jj_M X (some (.boolean)) 5 125 N XN) (S : jj_GS X.1 X.2.2.1) (hs : jj_hs X.1 h0 m0) {Q : Int → jj_MS → Prop} (hQ : ∀ r ms, Q r ms → N (some (.inl r)) (jj_mh h0 m0 ms)) : ∀ (x1 : Int) (x2 : Int) (ms : jj_MS), fM_areAlike_j21 x1 x2 Q ms → jj_J X 3 21 [(0, .inr (.inr (.inl (some m0)))), (1, .inl x1), (2, .inl x2)] [.inr (.inr (.inl (some m0)))] (jj_mh h0 m0 ms) k := by
  intro x1 x2 ms w
  unfold fM_areAlike_j21 at w
  refine jr_iconst (pc := 21) F dX3_areAlike_21 ?_
  exact sM_areAlike_j22 F M S hs hQ _ _ _ _ w

theorem sM_areAlike {X : jj_X} {h0 : jj_H} {m0 k : Nat} {N : Option jj_AV → jj_H → Prop} {XN : String → Nat → jj_H → Prop} (F : jj_F X RX3 cX3_areAlike 3) (M : jj_M X (some (.boolean)) 5 125 N XN) (S : jj_GS X.1 X.2.2.1) (hs : jj_hs X.1 h0 m0) {Q : Int → jj_MS → Prop} (hQ : ∀ r ms, Q r ms → N (some (.inl r)) (jj_mh h0 m0 ms)) : ∀ (x1 : Int) (x2 : Int) (ms : jj_MS), fM_areAlike x1 x2 Q ms → jj_J X 3 0 [(0, .inr (.inr (.inl (some m0)))), (1, .inl x1), (2, .inl x2)] [] (jj_mh h0 m0 ms) k := by
  intro x1 x2 ms w
  unfold fM_areAlike at w
  refine jr_aload_n (pc := 0) F (j := 0) dX3_areAlike_0 rfl ?_
  refine jr_aload_n (pc := 1) F (j := 0) dX3_areAlike_1 rfl ?_
  refine jr_iload_n (pc := 2) F (j := 1) dX3_areAlike_2 rfl ?_
  refine jr_callV (pc := 3) (As := [_]) F M (lw_V q3524 q3526 qs87 q143 q3527) dX3_areAlike_3 hM_isNote rfl (Nat.le_of_ble_eq_true rfl) (Nat.le_of_ble_eq_true rfl) (Nat.le_of_ble_eq_true rfl) (jj_set_self _ _ _) rfl rfl (Nat.zero_le _) (cM_isNote S hs w) (fun v9 h9 q9 => ?_) (fun _ _ _ q9 => q9.elim)
  obtain ⟨r7, ms6, rfl, rfl, w⟩ := q9
  obtain ⟨hx9, w1, w2⟩ := w
  refine jr_if_eq (pc := 6) (tgt := 21) F hx9 dX3_areAlike_6 rfl (fun c9 => ?_) (fun c9 => ?_)
  · have w := w1 c9
    exact sM_areAlike_j21 F M S hs hQ _ _ _ w
  · have w := w2 c9
    refine jr_aload_n (pc := 9) F (j := 0) dX3_areAlike_9 rfl ?_
    refine jr_iload_n (pc := 10) F (j := 2) dX3_areAlike_10 rfl ?_
    refine jr_callV (pc := 11) (As := [_]) F M (lw_V q3524 q3526 qs87 q143 q3527) dX3_areAlike_11 hM_isNote rfl (Nat.le_of_ble_eq_true rfl) (Nat.le_of_ble_eq_true rfl) (Nat.le_of_ble_eq_true rfl) (jj_set_self _ _ _) rfl rfl (Nat.zero_le _) (cM_isNote S hs w) (fun v9 h9 q9 => ?_) (fun _ _ _ q9 => q9.elim)
    obtain ⟨r9, ms8, rfl, rfl, w⟩ := q9
    obtain ⟨hx9, w1, w2⟩ := w
    refine jr_if_eq (pc := 14) (tgt := 21) F hx9 dX3_areAlike_14 rfl (fun c9 => ?_) (fun c9 => ?_)
    · have w := w1 c9
      exact sM_areAlike_j21 F M S hs hQ _ _ _ w
    · have w := w2 c9
      refine jr_iconst (pc := 17) F dX3_areAlike_17 ?_
      refine jr_goto (pc := 18) (tgt := 22) F dX3_areAlike_18 rfl ?_
      exact sM_areAlike_j22 F M S hs hQ _ _ _ _ w

theorem cM_areAlike {G : jj_G} {l : Launch} (S : jj_GS G l) {h0 : jj_H} {m0 : Nat} (hs : jj_hs G h0 m0) {x1 : Int} {x2 : Int} {ms : jj_MS} {Q : Int → jj_MS → Prop} (w : fM_areAlike x1 x2 Q ms) : jj_Ct G l yX3_areAlike (ws_ yX3_areAlike cX3_areAlike 3 (some (.boolean))) 5 125 [.inr (.inr (.inl (some m0))), .inl x1, .inl x2] (jj_mh h0 m0 ms) 0 (jm_Ni h0 m0 Q) jj_F0 := by
  refine jj_Ct.of S.1 (by decide +kernel) (Nat.le_of_ble_eq_true rfl) rfl (fun X hG hl F M O hnm => ?_)
  subst hG; subst hl
  exact sM_areAlike F M S hs (fun r ms q => ⟨r, ms, rfl, rfl, q⟩) _ _ _ w
theorem hM_areAlike : yX3_areAlike.cls = RX3 ∧ yX3_areAlike.cls ≠ "java/lang/invoke/MethodHandle" ∧ yX3_areAlike.cls ≠ "java/lang/invoke/VarHandle" ∧ (parseMethodDescriptor yX3_areAlike.desc).map (fun d => d.parameters.length) = some 2 := by decide +kernel
/-! groupOf(I)I -/
def fM_groupOf (x1 : Int) (Q : Int → jj_MS → Prop) (ms : jj_MS) : Prop :=
  ∀ ms1, ms1 = jj_mI ms 7 0 →
  fM_isNote x1 (fun r3 ms2 =>
  jj_r r3 ∧ (¬ r3 = 0 → (
    fM_layGroups (fun ms4 =>
    0 ≤ x1 ∧ x1 < 40 ∧
    Q (ms4.2 21 x1) ms4) ms2)) ∧
  (r3 = 0 → (
    fM_fail 1 (fun r7 ms6 =>
    Q r7 ms6) ms2))) ms1

theorem sM_groupOf {X : jj_X} {h0 : jj_H} {m0 k : Nat} {N : Option jj_AV → jj_H → Prop} {XN : String → Nat → jj_H → Prop} (F : jj_F X RX3 cX3_groupOf 2) (M : jj_M X (some (.int)) 7 170 N XN) (S : jj_GS X.1 X.2.2.1) (hs : jj_hs X.1 h0 m0) {Q : Int → jj_MS → Prop} (hQ : ∀ r ms, Q r ms → N (some (.inl r)) (jj_mh h0 m0 ms)) : ∀ (x1 : Int) (ms : jj_MS), fM_groupOf x1 Q ms → jj_J X 2 0 [(0, .inr (.inr (.inl (some m0)))), (1, .inl x1)] [] (jj_mh h0 m0 ms) k := by
  intro x1 ms w
  unfold fM_groupOf at w
  refine jr_aload_n (pc := 0) F (j := 0) dX3_groupOf_0 rfl ?_
  refine jr_iconst (pc := 1) F dX3_groupOf_1 ?_
  have w := w _ rfl
  refine jm_put (pc := 2) (f := 7) F (Nat.le_of_ble_eq_true rfl) q3137 rfl rfl rfl rfl rfl rfl dX3_groupOf_2 ?_
  refine jr_aload_n (pc := 5) F (j := 0) dX3_groupOf_5 rfl ?_
  refine jr_iload_n (pc := 6) F (j := 1) dX3_groupOf_6 rfl ?_
  refine jr_callV (pc := 7) (As := [_]) F M (lw_V q3524 q3526 qs87 q143 q3527) dX3_groupOf_7 hM_isNote rfl (Nat.le_of_ble_eq_true rfl) (Nat.le_of_ble_eq_true rfl) (Nat.le_of_ble_eq_true rfl) (jj_set_self _ _ _) rfl rfl (Nat.zero_le _) (cM_isNote S hs w) (fun v9 h9 q9 => ?_) (fun _ _ _ q9 => q9.elim)
  obtain ⟨r3, ms2, rfl, rfl, w⟩ := q9
  obtain ⟨hx9, w1, w2⟩ := w
  refine jr_if_ne (pc := 10) (tgt := 19) F hx9 dX3_groupOf_10 rfl (fun c9 => ?_) (fun c9 => ?_)
  · have w := w1 c9
    refine jr_aload_n (pc := 19) F (j := 0) dX3_groupOf_19 rfl ?_
    refine jr_callV (pc := 20) (As := []) F M (lw_V q3291 q3293 qs47 q143 q3294) dX3_groupOf_20 hM_layGroups rfl (Nat.le_of_ble_eq_true rfl) (Nat.le_of_ble_eq_true rfl) (Nat.le_of_ble_eq_true rfl) (jj_set_self _ _ _) rfl rfl (Nat.zero_le _) (cM_layGroups S hs w) (fun v9 h9 q9 => ?_) (fun _ _ _ q9 => q9.elim)
    obtain ⟨ms4, rfl, rfl, w⟩ := q9
    refine jr_aload_n (pc := 23) F (j := 0) dX3_groupOf_23 rfl ?_
    refine jm_get (pc := 24) (f := 21) (v := .inr (.inr (.inl (some (m0 + 1 + 18))))) F (Nat.le_of_ble_eq_true rfl) q3151 rfl rfl dX3_groupOf_24 ?_
    refine jr_iload_n (pc := 27) F (j := 1) dX3_groupOf_27 rfl ?_
    obtain ⟨hi1, hi2, w⟩ := w
    refine jm_iald (pc := 28) (f := 21) (o := 18) F rfl (by decide) hi1 hi2 dX3_groupOf_28 ?_
    exact jr_iret (pc := 29) F M dX3_groupOf_29 (hQ _ _ w)
  · have w := w2 c9
    refine jr_aload_n (pc := 13) F (j := 0) dX3_groupOf_13 rfl ?_
    refine jr_iconst (pc := 14) F dX3_groupOf_14 ?_
    refine jr_callV (pc := 15) (As := [_]) F M (lw_V q3276 q3278 qs46 q143 q3279) dX3_groupOf_15 hM_fail rfl (Nat.le_of_ble_eq_true rfl) (Nat.le_of_ble_eq_true rfl) (Nat.le_of_ble_eq_true rfl) (jj_set_self _ _ _) rfl rfl (Nat.zero_le _) (cM_fail S hs w) (fun v9 h9 q9 => ?_) (fun _ _ _ q9 => q9.elim)
    obtain ⟨r7, ms6, rfl, rfl, w⟩ := q9
    exact jr_iret (pc := 18) F M dX3_groupOf_18 (hQ _ _ w)

theorem cM_groupOf {G : jj_G} {l : Launch} (S : jj_GS G l) {h0 : jj_H} {m0 : Nat} (hs : jj_hs G h0 m0) {x1 : Int} {ms : jj_MS} {Q : Int → jj_MS → Prop} (w : fM_groupOf x1 Q ms) : jj_Ct G l yX3_groupOf (ws_ yX3_groupOf cX3_groupOf 2 (some (.int))) 7 170 [.inr (.inr (.inl (some m0))), .inl x1] (jj_mh h0 m0 ms) 0 (jm_Ni h0 m0 Q) jj_F0 := by
  refine jj_Ct.of S.1 (by decide +kernel) (Nat.le_of_ble_eq_true rfl) rfl (fun X hG hl F M O hnm => ?_)
  subst hG; subst hl
  exact sM_groupOf F M S hs (fun r ms q => ⟨r, ms, rfl, rfl, q⟩) _ _ w
theorem hM_groupOf : yX3_groupOf.cls = RX3 ∧ yX3_groupOf.cls ≠ "java/lang/invoke/MethodHandle" ∧ yX3_groupOf.cls ≠ "java/lang/invoke/VarHandle" ∧ (parseMethodDescriptor yX3_groupOf.desc).map (fun d => d.parameters.length) = some 1 := by decide +kernel
/-! isGroup(I)Z -/
def fM_isGroup (x1 : Int) (Q : Int → jj_MS → Prop) (ms : jj_MS) : Prop :=
  fM_isBetween x1 0 ((ms.1 28) - 1) (fun r2 ms1 =>
  (r2 = 0 ∨ r2 = 1) ∧ Q r2 ms1) ms

theorem sM_isGroup {X : jj_X} {h0 : jj_H} {m0 k : Nat} {N : Option jj_AV → jj_H → Prop} {XN : String → Nat → jj_H → Prop} (F : jj_F X RX3 cX3_isGroup 2) (M : jj_M X (some (.boolean)) 1 22 N XN) (S : jj_GS X.1 X.2.2.1) (hs : jj_hs X.1 h0 m0) {Q : Int → jj_MS → Prop} (hQ : ∀ r ms, Q r ms → N (some (.inl r)) (jj_mh h0 m0 ms)) : ∀ (x1 : Int) (ms : jj_MS), fM_isGroup x1 Q ms → jj_J X 2 0 [(0, .inr (.inr (.inl (some m0)))), (1, .inl x1)] [] (jj_mh h0 m0 ms) k := by
  intro x1 ms w
  unfold fM_isGroup at w
  refine jr_iload_n (pc := 0) F (j := 1) dX3_isGroup_0 rfl ?_
  refine jr_iconst (pc := 1) F dX3_isGroup_1 ?_
  refine jr_aload_n (pc := 2) F (j := 0) dX3_isGroup_2 rfl ?_
  refine jm_get (pc := 3) (f := 28) (v := .inl _) F (Nat.le_of_ble_eq_true rfl) q3158 rfl rfl dX3_isGroup_3 ?_
  refine jr_iconst (pc := 6) F dX3_isGroup_6 ?_
  refine jr_isub (pc := 7) F dX3_isGroup_7 ?_
  refine jr_callS (pc := 8) (As := [_, _, _]) F M (lw_S q3284 q3285 q143 q3286) dX3_isGroup_8 hM_isBetween.2 rfl (Nat.le_of_ble_eq_true rfl) (Nat.le_of_ble_eq_true rfl) (Nat.le_of_ble_eq_true rfl) (Nat.zero_le _) (cM_isBetween S hs w) (fun v9 h9 q9 => ?_) (fun _ _ _ q9 => q9.elim)
  obtain ⟨r2, ms1, rfl, rfl, w⟩ := q9
  exact jr_zret (pc := 11) F M dX3_isGroup_11 w.1 (hQ _ _ w.2)

theorem cM_isGroup {G : jj_G} {l : Launch} (S : jj_GS G l) {h0 : jj_H} {m0 : Nat} (hs : jj_hs G h0 m0) {x1 : Int} {ms : jj_MS} {Q : Int → jj_MS → Prop} (w : fM_isGroup x1 Q ms) : jj_Ct G l yX3_isGroup (ws_ yX3_isGroup cX3_isGroup 2 (some (.boolean))) 1 22 [.inr (.inr (.inl (some m0))), .inl x1] (jj_mh h0 m0 ms) 0 (jm_Ni h0 m0 Q) jj_F0 := by
  refine jj_Ct.of S.1 (by decide +kernel) (Nat.le_of_ble_eq_true rfl) rfl (fun X hG hl F M O hnm => ?_)
  subst hG; subst hl
  exact sM_isGroup F M S hs (fun r ms q => ⟨r, ms, rfl, rfl, q⟩) _ _ w
theorem hM_isGroup : yX3_isGroup.cls = RX3 ∧ yX3_isGroup.cls ≠ "java/lang/invoke/MethodHandle" ∧ yX3_isGroup.cls ≠ "java/lang/invoke/VarHandle" ∧ (parseMethodDescriptor yX3_isGroup.desc).map (fun d => d.parameters.length) = some 1 := by decide +kernel
/-! group(II)I -/
def fM_group (x1 : Int) (x2 : Int) (Q : Int → jj_MS → Prop) (ms : jj_MS) : Prop :=
  ∀ ms1, ms1 = jj_mI ms 7 0 →
  fM_layGroups (fun ms2 =>
  fM_isGroup x1 (fun r5 ms4 =>
  jj_r r5 ∧ (¬ r5 = 0 → (
    jj_r x2 ∧
    (x2 = 0 → (
      0 ≤ x1 ∧ x1 < 40 ∧
      Q (ms4.2 26 x1) ms4)) ∧
    (x2 = 1 → (
      0 ≤ x1 ∧ x1 < 40 ∧
      Q (ms4.2 25 x1) ms4)) ∧
    (x2 = 2 → (
      0 ≤ x1 ∧ x1 < 40 ∧
      Q (ms4.2 27 x1) ms4)) ∧
    (x2 = 3 → (
      0 ≤ x1 ∧ x1 < 40 ∧
      Q (ms4.2 22 x1) ms4)) ∧
    (x2 = 4 → (
      0 ≤ x1 ∧ x1 < 40 ∧
      Q (ms4.2 23 x1) ms4)) ∧
    (x2 = 5 → (
      0 ≤ x1 ∧ x1 < 40 ∧
      Q (ms4.2 24 x1) ms4)) ∧
    ((x2 < 0 ∨ 5 < x2) → (
      fM_fail 2 (fun r7 ms6 =>
      Q r7 ms6) ms4)))) ∧
  (r5 = 0 → (
    fM_fail 1 (fun r9 ms8 =>
    Q r9 ms8) ms4))) ms2) ms1

theorem sM_group {X : jj_X} {h0 : jj_H} {m0 k : Nat} {N : Option jj_AV → jj_H → Prop} {XN : String → Nat → jj_H → Prop} (F : jj_F X RX3 cX3_group 3) (M : jj_M X (some (.int)) 7 170 N XN) (S : jj_GS X.1 X.2.2.1) (hs : jj_hs X.1 h0 m0) {Q : Int → jj_MS → Prop} (hQ : ∀ r ms, Q r ms → N (some (.inl r)) (jj_mh h0 m0 ms)) : ∀ (x1 : Int) (x2 : Int) (ms : jj_MS), fM_group x1 x2 Q ms → jj_J X 3 0 [(0, .inr (.inr (.inl (some m0)))), (1, .inl x1), (2, .inl x2)] [] (jj_mh h0 m0 ms) k := by
  intro x1 x2 ms w
  unfold fM_group at w
  refine jr_aload_n (pc := 0) F (j := 0) dX3_group_0 rfl ?_
  refine jr_iconst (pc := 1) F dX3_group_1 ?_
  have w := w _ rfl
  refine jm_put (pc := 2) (f := 7) F (Nat.le_of_ble_eq_true rfl) q3137 rfl rfl rfl rfl rfl rfl dX3_group_2 ?_
  refine jr_aload_n (pc := 5) F (j := 0) dX3_group_5 rfl ?_
  refine jr_callV (pc := 6) (As := []) F M (lw_V q3291 q3293 qs47 q143 q3294) dX3_group_6 hM_layGroups rfl (Nat.le_of_ble_eq_true rfl) (Nat.le_of_ble_eq_true rfl) (Nat.le_of_ble_eq_true rfl) (jj_set_self _ _ _) rfl rfl (Nat.zero_le _) (cM_layGroups S hs w) (fun v9 h9 q9 => ?_) (fun _ _ _ q9 => q9.elim)
  obtain ⟨ms2, rfl, rfl, w⟩ := q9
  refine jr_aload_n (pc := 9) F (j := 0) dX3_group_9 rfl ?_
  refine jr_iload_n (pc := 10) F (j := 1) dX3_group_10 rfl ?_
  refine jr_callV (pc := 11) (As := [_]) F M (lw_V q3564 q3566 qs88 q143 q3567) dX3_group_11 hM_isGroup rfl (Nat.le_of_ble_eq_true rfl) (Nat.le_of_ble_eq_true rfl) (Nat.le_of_ble_eq_true rfl) (jj_set_self _ _ _) rfl rfl (Nat.zero_le _) (cM_isGroup S hs w) (fun v9 h9 q9 => ?_) (fun _ _ _ q9 => q9.elim)
  obtain ⟨r5, ms4, rfl, rfl, w⟩ := q9
  obtain ⟨hx9, w1, w2⟩ := w
  refine jr_if_ne (pc := 14) (tgt := 23) F hx9 dX3_group_14 rfl (fun c9 => ?_) (fun c9 => ?_)
  · have w := w1 c9
    refine jr_iload_n (pc := 23) F (j := 2) dX3_group_23 rfl ?_
    obtain ⟨hx9, w⟩ := w
    obtain ⟨w9, w⟩ := w
    rcases Decidable.em (x2 = 0) with e9 | e9_0
    · have w := w9 e9
      refine jr_tabIn (pc := 24) (tgt := 64) (off := 40) F hx9 dX3_group_24 (by rw [e9]; decide) (by rw [e9]; decide) (by rw [e9]; rfl) rfl ?_
      refine jr_aload_n (pc := 64) F (j := 0) dX3_group_64 rfl ?_
      refine jm_get (pc := 65) (f := 26) (v := .inr (.inr (.inl (some (m0 + 1 + 23))))) F (Nat.le_of_ble_eq_true rfl) q3156 rfl rfl dX3_group_65 ?_
      refine jr_iload_n (pc := 68) F (j := 1) dX3_group_68 rfl ?_
      obtain ⟨hi1, hi2, w⟩ := w
      refine jm_iald (pc := 69) (f := 26) (o := 23) F rfl (by decide) hi1 hi2 dX3_group_69 ?_
      exact jr_iret (pc := 70) F M dX3_group_70 (hQ _ _ w)
    obtain ⟨w9, w⟩ := w
    rcases Decidable.em (x2 = 1) with e9 | e9_1
    · have w := w9 e9
      refine jr_tabIn (pc := 24) (tgt := 71) (off := 47) F hx9 dX3_group_24 (by rw [e9]; decide) (by rw [e9]; decide) (by rw [e9]; rfl) rfl ?_
      refine jr_aload_n (pc := 71) F (j := 0) dX3_group_71 rfl ?_
      refine jm_get (pc := 72) (f := 25) (v := .inr (.inr (.inl (some (m0 + 1 + 22))))) F (Nat.le_of_ble_eq_true rfl) q3155 rfl rfl dX3_group_72 ?_
      refine jr_iload_n (pc := 75) F (j := 1) dX3_group_75 rfl ?_
      obtain ⟨hi1, hi2, w⟩ := w
      refine jm_iald (pc := 76) (f := 25) (o := 22) F rfl (by decide) hi1 hi2 dX3_group_76 ?_
      exact jr_iret (pc := 77) F M dX3_group_77 (hQ _ _ w)
    obtain ⟨w9, w⟩ := w
    rcases Decidable.em (x2 = 2) with e9 | e9_2
    · have w := w9 e9
      refine jr_tabIn (pc := 24) (tgt := 78) (off := 54) F hx9 dX3_group_24 (by rw [e9]; decide) (by rw [e9]; decide) (by rw [e9]; rfl) rfl ?_
      refine jr_aload_n (pc := 78) F (j := 0) dX3_group_78 rfl ?_
      refine jm_get (pc := 79) (f := 27) (v := .inr (.inr (.inl (some (m0 + 1 + 24))))) F (Nat.le_of_ble_eq_true rfl) q3157 rfl rfl dX3_group_79 ?_
      refine jr_iload_n (pc := 82) F (j := 1) dX3_group_82 rfl ?_
      obtain ⟨hi1, hi2, w⟩ := w
      refine jm_iald (pc := 83) (f := 27) (o := 24) F rfl (by decide) hi1 hi2 dX3_group_83 ?_
      exact jr_iret (pc := 84) F M dX3_group_84 (hQ _ _ w)
    obtain ⟨w9, w⟩ := w
    rcases Decidable.em (x2 = 3) with e9 | e9_3
    · have w := w9 e9
      refine jr_tabIn (pc := 24) (tgt := 85) (off := 61) F hx9 dX3_group_24 (by rw [e9]; decide) (by rw [e9]; decide) (by rw [e9]; rfl) rfl ?_
      refine jr_aload_n (pc := 85) F (j := 0) dX3_group_85 rfl ?_
      refine jm_get (pc := 86) (f := 22) (v := .inr (.inr (.inl (some (m0 + 1 + 19))))) F (Nat.le_of_ble_eq_true rfl) q3152 rfl rfl dX3_group_86 ?_
      refine jr_iload_n (pc := 89) F (j := 1) dX3_group_89 rfl ?_
      obtain ⟨hi1, hi2, w⟩ := w
      refine jm_iald (pc := 90) (f := 22) (o := 19) F rfl (by decide) hi1 hi2 dX3_group_90 ?_
      exact jr_iret (pc := 91) F M dX3_group_91 (hQ _ _ w)
    obtain ⟨w9, w⟩ := w
    rcases Decidable.em (x2 = 4) with e9 | e9_4
    · have w := w9 e9
      refine jr_tabIn (pc := 24) (tgt := 92) (off := 68) F hx9 dX3_group_24 (by rw [e9]; decide) (by rw [e9]; decide) (by rw [e9]; rfl) rfl ?_
      refine jr_aload_n (pc := 92) F (j := 0) dX3_group_92 rfl ?_
      refine jm_get (pc := 93) (f := 23) (v := .inr (.inr (.inl (some (m0 + 1 + 20))))) F (Nat.le_of_ble_eq_true rfl) q3153 rfl rfl dX3_group_93 ?_
      refine jr_iload_n (pc := 96) F (j := 1) dX3_group_96 rfl ?_
      obtain ⟨hi1, hi2, w⟩ := w
      refine jm_iald (pc := 97) (f := 23) (o := 20) F rfl (by decide) hi1 hi2 dX3_group_97 ?_
      exact jr_iret (pc := 98) F M dX3_group_98 (hQ _ _ w)
    obtain ⟨w9, w⟩ := w
    rcases Decidable.em (x2 = 5) with e9 | e9_5
    · have w := w9 e9
      refine jr_tabIn (pc := 24) (tgt := 99) (off := 75) F hx9 dX3_group_24 (by rw [e9]; decide) (by rw [e9]; decide) (by rw [e9]; rfl) rfl ?_
      refine jr_aload_n (pc := 99) F (j := 0) dX3_group_99 rfl ?_
      refine jm_get (pc := 100) (f := 24) (v := .inr (.inr (.inl (some (m0 + 1 + 21))))) F (Nat.le_of_ble_eq_true rfl) q3154 rfl rfl dX3_group_100 ?_
      refine jr_iload_n (pc := 103) F (j := 1) dX3_group_103 rfl ?_
      obtain ⟨hi1, hi2, w⟩ := w
      refine jm_iald (pc := 104) (f := 24) (o := 21) F rfl (by decide) hi1 hi2 dX3_group_104 ?_
      exact jr_iret (pc := 105) F M dX3_group_105 (hQ _ _ w)
    have c9 : x2 < 0 ∨ 5 < x2 := by omega
    have w := w c9
    refine jr_tabOut (pc := 24) (tgt := 106) F hx9 dX3_group_24 c9 rfl ?_
    refine jr_aload_n (pc := 106) F (j := 0) dX3_group_106 rfl ?_
    refine jr_iconst (pc := 107) F dX3_group_107 ?_
    refine jr_callV (pc := 108) (As := [_]) F M (lw_V q3276 q3278 qs46 q143 q3279) dX3_group_108 hM_fail rfl (Nat.le_of_ble_eq_true rfl) (Nat.le_of_ble_eq_true rfl) (Nat.le_of_ble_eq_true rfl) (jj_set_self _ _ _) rfl rfl (Nat.zero_le _) (cM_fail S hs w) (fun v9 h9 q9 => ?_) (fun _ _ _ q9 => q9.elim)
    obtain ⟨r7, ms6, rfl, rfl, w⟩ := q9
    exact jr_iret (pc := 111) F M dX3_group_111 (hQ _ _ w)
  · have w := w2 c9
    refine jr_aload_n (pc := 17) F (j := 0) dX3_group_17 rfl ?_
    refine jr_iconst (pc := 18) F dX3_group_18 ?_
    refine jr_callV (pc := 19) (As := [_]) F M (lw_V q3276 q3278 qs46 q143 q3279) dX3_group_19 hM_fail rfl (Nat.le_of_ble_eq_true rfl) (Nat.le_of_ble_eq_true rfl) (Nat.le_of_ble_eq_true rfl) (jj_set_self _ _ _) rfl rfl (Nat.zero_le _) (cM_fail S hs w) (fun v9 h9 q9 => ?_) (fun _ _ _ q9 => q9.elim)
    obtain ⟨r9, ms8, rfl, rfl, w⟩ := q9
    exact jr_iret (pc := 22) F M dX3_group_22 (hQ _ _ w)

theorem cM_group {G : jj_G} {l : Launch} (S : jj_GS G l) {h0 : jj_H} {m0 : Nat} (hs : jj_hs G h0 m0) {x1 : Int} {x2 : Int} {ms : jj_MS} {Q : Int → jj_MS → Prop} (w : fM_group x1 x2 Q ms) : jj_Ct G l yX3_group (ws_ yX3_group cX3_group 3 (some (.int))) 7 170 [.inr (.inr (.inl (some m0))), .inl x1, .inl x2] (jj_mh h0 m0 ms) 0 (jm_Ni h0 m0 Q) jj_F0 := by
  refine jj_Ct.of S.1 (by decide +kernel) (Nat.le_of_ble_eq_true rfl) rfl (fun X hG hl F M O hnm => ?_)
  subst hG; subst hl
  exact sM_group F M S hs (fun r ms q => ⟨r, ms, rfl, rfl, q⟩) _ _ _ w
theorem hM_group : yX3_group.cls = RX3 ∧ yX3_group.cls ≠ "java/lang/invoke/MethodHandle" ∧ yX3_group.cls ≠ "java/lang/invoke/VarHandle" ∧ (parseMethodDescriptor yX3_group.desc).map (fun d => d.parameters.length) = some 2 := by decide +kernel
/-! bitsOf(I)I -/
def fM_bitsOf_l4 (x0 : Int) (Q : Int → jj_MS → Prop) : Nat → Int → Int → jj_MS → Prop
  | 0, _, _, _ => False
  | n + 1, x1, x2, ms =>
  jj_r x2 ∧ (6 ≤ x2 → (
    Q x1 ms)) ∧
  (¬ 6 ≤ x2 → (
    ∀ v1, v1 = x1 + (jj_and (jj_shr x0 x2) 1) →
    ∀ v2, v2 = x2 + 1 →
    fM_bitsOf_l4 x0 Q n v1 v2 ms))

def fM_bitsOf (x0 : Int) (Q : Int → jj_MS → Prop) (ms : jj_MS) : Prop :=
  ∃ n9, fM_bitsOf_l4 x0 Q n9 0 0 ms

theorem sM_bitsOf_l4 {X : jj_X} {h0 : jj_H} {m0 k : Nat} {N : Option jj_AV → jj_H → Prop} {XN : String → Nat → jj_H → Prop} (F : jj_F X RX3 cX3_bitsOf 3) (M : jj_M X (some (.int)) 0 0 N XN) (S : jj_GS X.1 X.2.2.1) (hs : jj_hs X.1 h0 m0) {Q : Int → jj_MS → Prop} (hQ : ∀ r ms, Q r ms → N (some (.inl r)) (jj_mh h0 m0 ms)) (x0 : Int) : ∀ (n : Nat) (x1 : Int) (x2 : Int) (ms : jj_MS), fM_bitsOf_l4 x0 Q n x1 x2 ms → jj_J X 3 4 [(0, .inl x0), (1, .inl x1), (2, .inl x2)] [] (jj_mh h0 m0 ms) k := by
  intro n
  induction n with
  | zero =>
    intro x1 x2 ms w
    exact (show False from w).elim
  | succ n ih =>
    intro x1 x2 ms w
    rw [fM_bitsOf_l4] at w
    refine jr_iload_n (pc := 4) F (j := 2) dX3_bitsOf_4 rfl ?_
    refine jr_bipush (pc := 5) F dX3_bitsOf_5 (by decide +kernel) ?_
    obtain ⟨hx9, w1, w2⟩ := w
    refine jr_icmp_ge (pc := 7) (tgt := 24) F hx9 ⟨by decide, by decide⟩ dX3_bitsOf_7 rfl (fun c9 => ?_) (fun c9 => ?_)
    · have w := w1 c9
      refine jr_iload_n (pc := 24) F (j := 1) dX3_bitsOf_24 rfl ?_
      exact jr_iret (pc := 25) F M dX3_bitsOf_25 (hQ _ _ w)
    · have w := w2 c9
      refine jr_iload_n (pc := 10) F (j := 1) dX3_bitsOf_10 rfl ?_
      refine jr_iload_n (pc := 11) F (j := 0) dX3_bitsOf_11 rfl ?_
      refine jr_iload_n (pc := 12) F (j := 2) dX3_bitsOf_12 rfl ?_
      refine jr_ishr (pc := 13) F dX3_bitsOf_13 ?_
      refine jr_iconst (pc := 14) F dX3_bitsOf_14 ?_
      refine jr_iand (pc := 15) F dX3_bitsOf_15 ?_
      refine jr_iadd (pc := 16) F dX3_bitsOf_16 ?_
      have w := w _ rfl
      refine jr_istore_n (pc := 17) F (vs' := [(1, .inl _), (0, .inl _), (2, .inl _)]) dX3_bitsOf_17 (Nat.le_of_ble_eq_true rfl) rfl ?_
      have w := w _ rfl
      refine jr_iinc (pc := 18) F (j := 2) (vs' := [(2, .inl _), (1, .inl _), (0, .inl _)]) dX3_bitsOf_18 rfl rfl (Nat.le_of_ble_eq_true rfl) rfl ?_
      refine jr_goto (pc := 21) (tgt := 4) F dX3_bitsOf_21 rfl ?_
      refine jj_J.sub [2, 1, 0] rfl ?_
      exact ih _ _ _ w

theorem sM_bitsOf {X : jj_X} {h0 : jj_H} {m0 k : Nat} {N : Option jj_AV → jj_H → Prop} {XN : String → Nat → jj_H → Prop} (F : jj_F X RX3 cX3_bitsOf 3) (M : jj_M X (some (.int)) 0 0 N XN) (S : jj_GS X.1 X.2.2.1) (hs : jj_hs X.1 h0 m0) {Q : Int → jj_MS → Prop} (hQ : ∀ r ms, Q r ms → N (some (.inl r)) (jj_mh h0 m0 ms)) : ∀ (x0 : Int) (ms : jj_MS), fM_bitsOf x0 Q ms → jj_J X 3 0 [(0, .inl x0)] [] (jj_mh h0 m0 ms) k := by
  intro x0 ms w
  unfold fM_bitsOf at w
  refine jr_iconst (pc := 0) F dX3_bitsOf_0 ?_
  refine jr_istore_n (pc := 1) F (vs' := [(1, .inl _), (0, .inl _)]) dX3_bitsOf_1 (Nat.le_of_ble_eq_true rfl) rfl ?_
  refine jr_iconst (pc := 2) F dX3_bitsOf_2 ?_
  refine jr_istore_n (pc := 3) F (vs' := [(2, .inl _), (1, .inl _), (0, .inl _)]) dX3_bitsOf_3 (Nat.le_of_ble_eq_true rfl) rfl ?_
  refine jj_J.sub [2, 1, 0] rfl ?_
  obtain ⟨n9, w⟩ := w
  exact sM_bitsOf_l4 F M S hs hQ _ n9 _ _ _ w

theorem cM_bitsOf {G : jj_G} {l : Launch} (S : jj_GS G l) {h0 : jj_H} {m0 : Nat} (hs : jj_hs G h0 m0) {x0 : Int} {ms : jj_MS} {Q : Int → jj_MS → Prop} (w : fM_bitsOf x0 Q ms) : jj_Ct G l yX3_bitsOf (ws_ yX3_bitsOf cX3_bitsOf 3 (some (.int))) 0 0 [.inl x0] (jj_mh h0 m0 ms) 0 (jm_Ni h0 m0 Q) jj_F0 := by
  refine jj_Ct.of S.1 (by decide +kernel) (Nat.le_of_ble_eq_true rfl) rfl (fun X hG hl F M O hnm => ?_)
  subst hG; subst hl
  exact sM_bitsOf F M S hs (fun r ms q => ⟨r, ms, rfl, rfl, q⟩) _ _ w
theorem hM_bitsOf : yX3_bitsOf.cls = RX3 ∧ yX3_bitsOf.cls ≠ "java/lang/invoke/MethodHandle" ∧ yX3_bitsOf.cls ≠ "java/lang/invoke/VarHandle" ∧ (parseMethodDescriptor yX3_bitsOf.desc).map (fun d => d.parameters.length) = some 1 := by decide +kernel
/-! strongestGroup()I -/
def fM_strongestGroup_j49 (K13 : Int → Int → jj_MS → Prop) (x1 : Int) (x2 : Int) (y0 : Int) (Q : Int → jj_MS → Prop) (ms : jj_MS) : Prop :=
  jj_r y0 ∧ (0 < y0 → (
    ∀ v1, v1 = x2 + 1 →
    K13 x2 v1 ms)) ∧
  (¬ 0 < y0 → (
    jj_r y0 ∧ (¬ y0 = 0 → (
      ∀ v2, v2 = x2 + 1 →
      K13 x1 v2 ms)) ∧
    (y0 = 0 → (
      0 ≤ x2 ∧ x2 < 40 ∧
      0 ≤ x1 ∧ x1 < 40 ∧
      jj_r (ms.2 26 x2) ∧ jj_r (ms.2 26 x1) ∧ ((ms.2 26 x2) ≤ (ms.2 26 x1) → (
        ∀ v3, v3 = x2 + 1 →
        K13 x1 v3 ms)) ∧
      (¬ (ms.2 26 x2) ≤ (ms.2 26 x1) → (
        ∀ v4, v4 = x2 + 1 →
        K13 x2 v4 ms))))))

def fM_strongestGroup_l13 (Q : Int → jj_MS → Prop) : Nat → Int → Int → jj_MS → Prop
  | 0, _, _, _ => False
  | n + 1, x1, x2, ms =>
  jj_r x2 ∧ jj_r (ms.1 28) ∧ ((ms.1 28) ≤ x2 → (
    Q x1 ms)) ∧
  (¬ (ms.1 28) ≤ x2 → (
    jj_r x1 ∧ (¬ x1 = ((-1)) → (
      0 ≤ x2 ∧ x2 < 40 ∧
      fM_bitsOf (ms.2 27 x2) (fun r6 ms5 =>
      0 ≤ x1 ∧ x1 < 40 ∧
      fM_bitsOf (ms5.2 27 x1) (fun r8 ms7 =>
      fM_strongestGroup_j49 (fM_strongestGroup_l13 Q n) x1 x2 (r6 - r8) Q ms7) ms5) ms)) ∧
    (x1 = ((-1)) → (
      fM_strongestGroup_j49 (fM_strongestGroup_l13 Q n) x1 x2 1 Q ms))))

def fM_strongestGroup (Q : Int → jj_MS → Prop) (ms : jj_MS) : Prop :=
  ∀ ms9, ms9 = jj_mI ms 7 0 →
  fM_layGroups (fun ms10 =>
  ∃ n9, fM_strongestGroup_l13 Q n9 ((-1)) 0 ms10) ms9

theorem sM_strongestGroup_j49 {X : jj_X} {h0 : jj_H} {m0 k : Nat} {N : Option jj_AV → jj_H → Prop} {XN : String → Nat → jj_H → Prop} (F : jj_F X RX3 cX3_strongestGroup 4) (M : jj_M X (some (.int)) 7 170 N XN) (S : jj_GS X.1 X.2.2.1) (hs : jj_hs X.1 h0 m0) {Q : Int → jj_MS → Prop} (hQ : ∀ r ms, Q r ms → N (some (.inl r)) (jj_mh h0 m0 ms)) {K13 : Int → Int → jj_MS → Prop} (hK13 : ∀ (z1 : Int) (z2 : Int) (ms : jj_MS), K13 z1 z2 ms → jj_J X 4 13 [(0, .inr (.inr (.inl (some m0)))), (1, .inl z1), (2, .inl z2)] [] (jj_mh h0 m0 ms) k) : ∀ (x1 : Int) (x2 : Int) (y0 : Int) (ms : jj_MS), fM_strongestGroup_j49 K13 x1 x2 y0 Q ms → jj_J X 4 49 [(0, .inr (.inr (.inl (some m0)))), (1, .inl x1), (2, .inl x2)] [.inl y0] (jj_mh h0 m0 ms) k := by
  intro x1 x2 y0 ms w
  unfold fM_strongestGroup_j49 at w
  refine jr_istore_n (pc := 49) F (vs' := [(3, .inl _), (0, .inr (.inr (.inl _))), (1, .inl _), (2, .inl _)]) dX3_strongestGroup_49 (Nat.le_of_ble_eq_true rfl) rfl ?_
  refine jr_iload_n (pc := 50) F (j := 0) dX3_strongestGroup_50 rfl ?_
  obtain ⟨hx9, w1, w2⟩ := w
  refine jr_if_gt (pc := 51) (tgt := 73) F hx9 dX3_strongestGroup_51 rfl (fun c9 => ?_) (fun c9 => ?_)
  · have w := w1 c9
    refine jr_iload_n (pc := 73) F (j := 3) dX3_strongestGroup_73 rfl ?_
    refine jr_istore_n (pc := 74) F (vs' := [(1, .inl _), (3, .inl _), (0, .inr (.inr (.inl _))), (2, .inl _)]) dX3_strongestGroup_74 (Nat.le_of_ble_eq_true rfl) rfl ?_
    have w := w _ rfl
    refine jr_iinc (pc := 75) F (j := 3) (vs' := [(2, .inl _), (1, .inl _), (3, .inl _), (0, .inr (.inr (.inl _)))]) dX3_strongestGroup_75 rfl rfl (Nat.le_of_ble_eq_true rfl) rfl ?_
    refine jr_goto (pc := 78) (tgt := 13) F dX3_strongestGroup_78 rfl ?_
    refine jj_J.sub [3, 1, 0] rfl ?_
    exact hK13 _ _ _ w
  · have w := w2 c9
    refine jr_iload_n (pc := 54) F (j := 0) dX3_strongestGroup_54 rfl ?_
    obtain ⟨hx9, w1, w2⟩ := w
    refine jr_if_ne (pc := 55) (tgt := 75) F hx9 dX3_strongestGroup_55 rfl (fun c9 => ?_) (fun c9 => ?_)
    · have w := w1 c9
      have w := w _ rfl
      refine jr_iinc (pc := 75) F (j := 3) (vs' := [(2, .inl _), (3, .inl _), (0, .inr (.inr (.inl _))), (1, .inl _)]) dX3_strongestGroup_75 rfl rfl (Nat.le_of_ble_eq_true rfl) rfl ?_
      refine jr_goto (pc := 78) (tgt := 13) F dX3_strongestGroup_78 rfl ?_
      refine jj_J.sub [2, 3, 0] rfl ?_
      exact hK13 _ _ _ w
    · have w := w2 c9
      refine jr_aload_n (pc := 58) F (j := 1) dX3_strongestGroup_58 rfl ?_
      refine jm_get (pc := 59) (f := 26) (v := .inr (.inr (.inl (some (m0 + 1 + 23))))) F (Nat.le_of_ble_eq_true rfl) q3156 rfl rfl dX3_strongestGroup_59 ?_
      refine jr_iload_n (pc := 62) F (j := 3) dX3_strongestGroup_62 rfl ?_
      obtain ⟨hi1, hi2, w⟩ := w
      refine jm_iald (pc := 63) (f := 26) (o := 23) F rfl (by decide) hi1 hi2 dX3_strongestGroup_63 ?_
      refine jr_aload_n (pc := 64) F (j := 1) dX3_strongestGroup_64 rfl ?_
      refine jm_get (pc := 65) (f := 26) (v := .inr (.inr (.inl (some (m0 + 1 + 23))))) F (Nat.le_of_ble_eq_true rfl) q3156 rfl rfl dX3_strongestGroup_65 ?_
      refine jr_iload_n (pc := 68) F (j := 2) dX3_strongestGroup_68 rfl ?_
      obtain ⟨hi1, hi2, w⟩ := w
      refine jm_iald (pc := 69) (f := 26) (o := 23) F rfl (by decide) hi1 hi2 dX3_strongestGroup_69 ?_
      obtain ⟨hx9, hy9, w1, w2⟩ := w
      refine jr_icmp_le (pc := 70) (tgt := 75) F hx9 hy9 dX3_strongestGroup_70 rfl (fun c9 => ?_) (fun c9 => ?_)
      · have w := w1 c9
        have w := w _ rfl
        refine jr_iinc (pc := 75) F (j := 3) (vs' := [(2, .inl _), (3, .inl _), (0, .inr (.inr (.inl _))), (1, .inl _)]) dX3_strongestGroup_75 rfl rfl (Nat.le_of_ble_eq_true rfl) rfl ?_
        refine jr_goto (pc := 78) (tgt := 13) F dX3_strongestGroup_78 rfl ?_
        refine jj_J.sub [2, 3, 0] rfl ?_
        exact hK13 _ _ _ w
      · have w := w2 c9
        refine jr_iload_n (pc := 73) F (j := 3) dX3_strongestGroup_73 rfl ?_
        refine jr_istore_n (pc := 74) F (vs' := [(1, .inl _), (3, .inl _), (0, .inr (.inr (.inl _))), (2, .inl _)]) dX3_strongestGroup_74 (Nat.le_of_ble_eq_true rfl) rfl ?_
        have w := w _ rfl
        refine jr_iinc (pc := 75) F (j := 3) (vs' := [(2, .inl _), (1, .inl _), (3, .inl _), (0, .inr (.inr (.inl _)))]) dX3_strongestGroup_75 rfl rfl (Nat.le_of_ble_eq_true rfl) rfl ?_
        refine jr_goto (pc := 78) (tgt := 13) F dX3_strongestGroup_78 rfl ?_
        refine jj_J.sub [3, 1, 0] rfl ?_
        exact hK13 _ _ _ w

theorem sM_strongestGroup_l13 {X : jj_X} {h0 : jj_H} {m0 k : Nat} {N : Option jj_AV → jj_H → Prop} {XN : String → Nat → jj_H → Prop} (F : jj_F X RX3 cX3_strongestGroup 4) (M : jj_M X (some (.int)) 7 170 N XN) (S : jj_GS X.1 X.2.2.1) (hs : jj_hs X.1 h0 m0) {Q : Int → jj_MS → Prop} (hQ : ∀ r ms, Q r ms → N (some (.inl r)) (jj_mh h0 m0 ms)) : ∀ (n : Nat) (x1 : Int) (x2 : Int) (ms : jj_MS), fM_strongestGroup_l13 Q n x1 x2 ms → jj_J X 4 13 [(0, .inr (.inr (.inl (some m0)))), (1, .inl x1), (2, .inl x2)] [] (jj_mh h0 m0 ms) k := by
  intro n
  induction n with
  | zero =>
    intro x1 x2 ms w
    exact (show False from w).elim
  | succ n ih =>
    intro x1 x2 ms w
    rw [fM_strongestGroup_l13] at w
    refine jr_iload_n (pc := 13) F (j := 2) dX3_strongestGroup_13 rfl ?_
    refine jr_aload_n (pc := 14) F (j := 0) dX3_strongestGroup_14 rfl ?_
    refine jm_get (pc := 15) (f := 28) (v := .inl _) F (Nat.le_of_ble_eq_true rfl) q3158 rfl rfl dX3_strongestGroup_15 ?_
    obtain ⟨hx9, hy9, w1, w2⟩ := w
    refine jr_icmp_ge (pc := 18) (tgt := 81) F hx9 hy9 dX3_strongestGroup_18 rfl (fun c9 => ?_) (fun c9 => ?_)
    · have w := w1 c9
      refine jr_iload_n (pc := 81) F (j := 1) dX3_strongestGroup_81 rfl ?_
      exact jr_iret (pc := 82) F M dX3_strongestGroup_82 (hQ _ _ w)
    · have w := w2 c9
      refine jr_iload_n (pc := 21) F (j := 1) dX3_strongestGroup_21 rfl ?_
      refine jr_iconst (pc := 22) F dX3_strongestGroup_22 ?_
      obtain ⟨hx9, w1, w2⟩ := w
      refine jr_icmp_ne (pc := 23) (tgt := 30) F hx9 ⟨by decide, by decide⟩ dX3_strongestGroup_23 rfl (fun c9 => ?_) (fun c9 => ?_)
      · have w := w1 c9
        refine jr_aload_n (pc := 30) F (j := 0) dX3_strongestGroup_30 rfl ?_
        refine jm_get (pc := 31) (f := 27) (v := .inr (.inr (.inl (some (m0 + 1 + 24))))) F (Nat.le_of_ble_eq_true rfl) q3157 rfl rfl dX3_strongestGroup_31 ?_
        refine jr_iload_n (pc := 34) F (j := 2) dX3_strongestGroup_34 rfl ?_
        obtain ⟨hi1, hi2, w⟩ := w
        refine jm_iald (pc := 35) (f := 27) (o := 24) F rfl (by decide) hi1 hi2 dX3_strongestGroup_35 ?_
        refine jr_callS (pc := 36) (As := [_]) F M (lw_S q3572 q3573 q143 q3574) dX3_strongestGroup_36 hM_bitsOf.2 rfl (Nat.le_of_ble_eq_true rfl) (Nat.le_of_ble_eq_true rfl) (Nat.le_of_ble_eq_true rfl) (Nat.zero_le _) (cM_bitsOf S hs w) (fun v9 h9 q9 => ?_) (fun _ _ _ q9 => q9.elim)
        obtain ⟨r6, ms5, rfl, rfl, w⟩ := q9
        refine jr_aload_n (pc := 39) F (j := 0) dX3_strongestGroup_39 rfl ?_
        refine jm_get (pc := 40) (f := 27) (v := .inr (.inr (.inl (some (m0 + 1 + 24))))) F (Nat.le_of_ble_eq_true rfl) q3157 rfl rfl dX3_strongestGroup_40 ?_
        refine jr_iload_n (pc := 43) F (j := 1) dX3_strongestGroup_43 rfl ?_
        obtain ⟨hi1, hi2, w⟩ := w
        refine jm_iald (pc := 44) (f := 27) (o := 24) F rfl (by decide) hi1 hi2 dX3_strongestGroup_44 ?_
        refine jr_callS (pc := 45) (As := [_]) F M (lw_S q3572 q3573 q143 q3574) dX3_strongestGroup_45 hM_bitsOf.2 rfl (Nat.le_of_ble_eq_true rfl) (Nat.le_of_ble_eq_true rfl) (Nat.le_of_ble_eq_true rfl) (Nat.zero_le _) (cM_bitsOf S hs w) (fun v9 h9 q9 => ?_) (fun _ _ _ q9 => q9.elim)
        obtain ⟨r8, ms7, rfl, rfl, w⟩ := q9
        refine jr_isub (pc := 48) F dX3_strongestGroup_48 ?_
        exact sM_strongestGroup_j49 F M S hs hQ ih _ _ _ _ w
      · have w := w2 c9
        refine jr_iconst (pc := 26) F dX3_strongestGroup_26 ?_
        refine jr_goto (pc := 27) (tgt := 49) F dX3_strongestGroup_27 rfl ?_
        exact sM_strongestGroup_j49 F M S hs hQ ih _ _ _ _ w

theorem sM_strongestGroup {X : jj_X} {h0 : jj_H} {m0 k : Nat} {N : Option jj_AV → jj_H → Prop} {XN : String → Nat → jj_H → Prop} (F : jj_F X RX3 cX3_strongestGroup 4) (M : jj_M X (some (.int)) 7 170 N XN) (S : jj_GS X.1 X.2.2.1) (hs : jj_hs X.1 h0 m0) {Q : Int → jj_MS → Prop} (hQ : ∀ r ms, Q r ms → N (some (.inl r)) (jj_mh h0 m0 ms)) : ∀ (ms : jj_MS), fM_strongestGroup Q ms → jj_J X 4 0 [(0, .inr (.inr (.inl (some m0))))] [] (jj_mh h0 m0 ms) k := by
  intro  ms w
  unfold fM_strongestGroup at w
  refine jr_aload_n (pc := 0) F (j := 0) dX3_strongestGroup_0 rfl ?_
  refine jr_iconst (pc := 1) F dX3_strongestGroup_1 ?_
  have w := w _ rfl
  refine jm_put (pc := 2) (f := 7) F (Nat.le_of_ble_eq_true rfl) q3137 rfl rfl rfl rfl rfl rfl dX3_strongestGroup_2 ?_
  refine jr_aload_n (pc := 5) F (j := 0) dX3_strongestGroup_5 rfl ?_
  refine jr_callV (pc := 6) (As := []) F M (lw_V q3291 q3293 qs47 q143 q3294) dX3_strongestGroup_6 hM_layGroups rfl (Nat.le_of_ble_eq_true rfl) (Nat.le_of_ble_eq_true rfl) (Nat.le_of_ble_eq_true rfl) (jj_set_self _ _ _) rfl rfl (Nat.zero_le _) (cM_layGroups S hs w) (fun v9 h9 q9 => ?_) (fun _ _ _ q9 => q9.elim)
  obtain ⟨ms10, rfl, rfl, w⟩ := q9
  refine jr_iconst (pc := 9) F dX3_strongestGroup_9 ?_
  refine jr_istore_n (pc := 10) F (vs' := [(1, .inl _), (0, .inr (.inr (.inl _)))]) dX3_strongestGroup_10 (Nat.le_of_ble_eq_true rfl) rfl ?_
  refine jr_iconst (pc := 11) F dX3_strongestGroup_11 ?_
  refine jr_istore_n (pc := 12) F (vs' := [(2, .inl _), (1, .inl _), (0, .inr (.inr (.inl _)))]) dX3_strongestGroup_12 (Nat.le_of_ble_eq_true rfl) rfl ?_
  refine jj_J.sub [2, 1, 0] rfl ?_
  obtain ⟨n9, w⟩ := w
  exact sM_strongestGroup_l13 F M S hs hQ n9 _ _ _ w

theorem cM_strongestGroup {G : jj_G} {l : Launch} (S : jj_GS G l) {h0 : jj_H} {m0 : Nat} (hs : jj_hs G h0 m0) {ms : jj_MS} {Q : Int → jj_MS → Prop} (w : fM_strongestGroup Q ms) : jj_Ct G l yX3_strongestGroup (ws_ yX3_strongestGroup cX3_strongestGroup 4 (some (.int))) 7 170 [.inr (.inr (.inl (some m0)))] (jj_mh h0 m0 ms) 0 (jm_Ni h0 m0 Q) jj_F0 := by
  refine jj_Ct.of S.1 (by decide +kernel) (Nat.le_of_ble_eq_true rfl) rfl (fun X hG hl F M O hnm => ?_)
  subst hG; subst hl
  exact sM_strongestGroup F M S hs (fun r ms q => ⟨r, ms, rfl, rfl, q⟩) _ w
theorem hM_strongestGroup : yX3_strongestGroup.cls = RX3 ∧ yX3_strongestGroup.cls ≠ "java/lang/invoke/MethodHandle" ∧ yX3_strongestGroup.cls ≠ "java/lang/invoke/VarHandle" ∧ (parseMethodDescriptor yX3_strongestGroup.desc).map (fun d => d.parameters.length) = some 0 := by decide +kernel
/-! heatOf(I)I -/
def fM_heatOf_j46 (K4 : Int → Int → jj_MS → Prop) (x1 : Int) (x2 : Int) (x3 : Int) (y0 : Int) (Q : Int → jj_MS → Prop) (ms : jj_MS) : Prop :=
  jj_r y0 ∧ (y0 = 0 → (
    ∀ v1, v1 = jj_or x2 0 →
    ∀ v2, v2 = x3 + 1 →
    K4 v1 v2 ms)) ∧
  (¬ y0 = 0 → (
    fM_ofNote x3 0 (fun r4 ms3 =>
    ∀ v5, v5 = jj_or x2 (jj_shl 1 r4) →
    ∀ v6, v6 = x3 + 1 →
    K4 v5 v6 ms3) ms))

def fM_heatOf_j45 (K4 : Int → Int → jj_MS → Prop) (x1 : Int) (x2 : Int) (x3 : Int) (Q : Int → jj_MS → Prop) (ms : jj_MS) : Prop :=
  fM_heatOf_j46 K4 x1 x2 x3 0 Q ms

def fM_heatOf_l4 (x1 : Int) (Q : Int → jj_MS → Prop) : Nat → Int → Int → jj_MS → Prop
  | 0, _, _, _ => False
  | n + 1, x2, x3, ms =>
  fM_notes (fun r8 ms7 =>
  jj_r x3 ∧ jj_r r8 ∧ (r8 ≤ x3 → (
    fM_bitsOf x2 (fun r10 ms9 =>
    Q r10 ms9) ms7)) ∧
  (¬ r8 ≤ x3 → (
    0 ≤ x3 ∧ x3 < 40 ∧
    jj_r (ms7.2 17 x3) ∧ ((ms7.2 17 x3) = 3 → (
      fM_heatOf_j45 (fM_heatOf_l4 x1 Q n) x1 x2 x3 Q ms7)) ∧
    (¬ (ms7.2 17 x3) = 3 → (
      0 ≤ x3 ∧ x3 < 40 ∧
      0 ≤ x3 ∧ x3 < 40 ∧
      fM_isBetween x1 (ms7.2 18 x3) (ms7.2 19 x3) (fun r12 ms11 =>
      jj_r r12 ∧ (r12 = 0 → (
        fM_heatOf_j45 (fM_heatOf_l4 x1 Q n) x1 x2 x3 Q ms11)) ∧
      (¬ r12 = 0 → (
        fM_heatOf_j46 (fM_heatOf_l4 x1 Q n) x1 x2 x3 1 Q ms11))) ms7))))) ms

def fM_heatOf (x1 : Int) (Q : Int → jj_MS → Prop) (ms : jj_MS) : Prop :=
  ∃ n9, fM_heatOf_l4 x1 Q n9 0 0 ms

theorem sM_heatOf_j46 {X : jj_X} {h0 : jj_H} {m0 k : Nat} {N : Option jj_AV → jj_H → Prop} {XN : String → Nat → jj_H → Prop} (F : jj_F X RX3 cX3_heatOf 5) (M : jj_M X (some (.int)) 1 22 N XN) (S : jj_GS X.1 X.2.2.1) (hs : jj_hs X.1 h0 m0) {Q : Int → jj_MS → Prop} (hQ : ∀ r ms, Q r ms → N (some (.inl r)) (jj_mh h0 m0 ms)) (x1 : Int) {K4 : Int → Int → jj_MS → Prop} (hK4 : ∀ (z2 : Int) (z3 : Int) (ms : jj_MS), K4 z2 z3 ms → jj_J X 5 4 [(0, .inr (.inr (.inl (some m0)))), (1, .inl x1), (2, .inl z2), (3, .inl z3)] [] (jj_mh h0 m0 ms) k) : ∀ (x2 : Int) (x3 : Int) (y0 : Int) (ms : jj_MS), fM_heatOf_j46 K4 x1 x2 x3 y0 Q ms → jj_J X 5 46 [(0, .inr (.inr (.inl (some m0)))), (1, .inl x1), (2, .inl x2), (3, .inl x3)] [.inl y0] (jj_mh h0 m0 ms) k := by
  intro x2 x3 y0 ms w
  unfold fM_heatOf_j46 at w
  refine jr_istore (pc := 46) F (vs' := [(4, .inl _), (0, .inr (.inr (.inl _))), (1, .inl _), (2, .inl _), (3, .inl _)]) dX3_heatOf_46 (Nat.le_of_ble_eq_true rfl) rfl ?_
  refine jr_iload_n (pc := 48) F (j := 3) dX3_heatOf_48 rfl ?_
  refine jr_iload (pc := 49) F (j := 0) dX3_heatOf_49 rfl ?_
  obtain ⟨hx9, w1, w2⟩ := w
  refine jr_if_eq (pc := 51) (tgt := 65) F hx9 dX3_heatOf_51 rfl (fun c9 => ?_) (fun c9 => ?_)
  · have w := w1 c9
    refine jr_iconst (pc := 65) F dX3_heatOf_65 ?_
    refine jr_ior (pc := 66) F dX3_heatOf_66 ?_
    have w := w _ rfl
    refine jr_istore_n (pc := 67) F (vs' := [(2, .inl _), (4, .inl _), (0, .inr (.inr (.inl _))), (1, .inl _), (3, .inl _)]) dX3_heatOf_67 (Nat.le_of_ble_eq_true rfl) rfl ?_
    have w := w _ rfl
    refine jr_iinc (pc := 68) F (j := 4) (vs' := [(3, .inl _), (2, .inl _), (4, .inl _), (0, .inr (.inr (.inl _))), (1, .inl _)]) dX3_heatOf_68 rfl rfl (Nat.le_of_ble_eq_true rfl) rfl ?_
    refine jr_goto (pc := 71) (tgt := 4) F dX3_heatOf_71 rfl ?_
    refine jj_J.sub [3, 4, 1, 0] rfl ?_
    exact hK4 _ _ _ w
  · have w := w2 c9
    refine jr_iconst (pc := 54) F dX3_heatOf_54 ?_
    refine jr_aload_n (pc := 55) F (j := 1) dX3_heatOf_55 rfl ?_
    refine jr_iload_n (pc := 56) F (j := 4) dX3_heatOf_56 rfl ?_
    refine jr_iconst (pc := 57) F dX3_heatOf_57 ?_
    refine jr_callV (pc := 58) (As := [_, _]) F M (lw_V q3338 q3340 qs57 q143 q3341) dX3_heatOf_58 hM_ofNote rfl (Nat.le_of_ble_eq_true rfl) (Nat.le_of_ble_eq_true rfl) (Nat.le_of_ble_eq_true rfl) (jj_set_self _ _ _) rfl rfl (Nat.zero_le _) (cM_ofNote S hs w) (fun v9 h9 q9 => ?_) (fun _ _ _ q9 => q9.elim)
    obtain ⟨r4, ms3, rfl, rfl, w⟩ := q9
    refine jr_ishl (pc := 61) F dX3_heatOf_61 ?_
    refine jr_goto (pc := 62) (tgt := 66) F dX3_heatOf_62 rfl ?_
    refine jr_ior (pc := 66) F dX3_heatOf_66 ?_
    have w := w _ rfl
    refine jr_istore_n (pc := 67) F (vs' := [(2, .inl _), (4, .inl _), (0, .inr (.inr (.inl _))), (1, .inl _), (3, .inl _)]) dX3_heatOf_67 (Nat.le_of_ble_eq_true rfl) rfl ?_
    have w := w _ rfl
    refine jr_iinc (pc := 68) F (j := 4) (vs' := [(3, .inl _), (2, .inl _), (4, .inl _), (0, .inr (.inr (.inl _))), (1, .inl _)]) dX3_heatOf_68 rfl rfl (Nat.le_of_ble_eq_true rfl) rfl ?_
    refine jr_goto (pc := 71) (tgt := 4) F dX3_heatOf_71 rfl ?_
    refine jj_J.sub [3, 4, 1, 0] rfl ?_
    exact hK4 _ _ _ w

theorem sM_heatOf_j45 {X : jj_X} {h0 : jj_H} {m0 k : Nat} {N : Option jj_AV → jj_H → Prop} {XN : String → Nat → jj_H → Prop} (F : jj_F X RX3 cX3_heatOf 5) (M : jj_M X (some (.int)) 1 22 N XN) (S : jj_GS X.1 X.2.2.1) (hs : jj_hs X.1 h0 m0) {Q : Int → jj_MS → Prop} (hQ : ∀ r ms, Q r ms → N (some (.inl r)) (jj_mh h0 m0 ms)) (x1 : Int) {K4 : Int → Int → jj_MS → Prop} (hK4 : ∀ (z2 : Int) (z3 : Int) (ms : jj_MS), K4 z2 z3 ms → jj_J X 5 4 [(0, .inr (.inr (.inl (some m0)))), (1, .inl x1), (2, .inl z2), (3, .inl z3)] [] (jj_mh h0 m0 ms) k) : ∀ (x2 : Int) (x3 : Int) (ms : jj_MS), fM_heatOf_j45 K4 x1 x2 x3 Q ms → jj_J X 5 45 [(0, .inr (.inr (.inl (some m0)))), (1, .inl x1), (2, .inl x2), (3, .inl x3)] [] (jj_mh h0 m0 ms) k := by
  intro x2 x3 ms w
  unfold fM_heatOf_j45 at w
  refine jr_iconst (pc := 45) F dX3_heatOf_45 ?_
  exact sM_heatOf_j46 F M S hs hQ _ hK4 _ _ _ _ w

theorem sM_heatOf_l4 {X : jj_X} {h0 : jj_H} {m0 k : Nat} {N : Option jj_AV → jj_H → Prop} {XN : String → Nat → jj_H → Prop} (F : jj_F X RX3 cX3_heatOf 5) (M : jj_M X (some (.int)) 1 22 N XN) (S : jj_GS X.1 X.2.2.1) (hs : jj_hs X.1 h0 m0) {Q : Int → jj_MS → Prop} (hQ : ∀ r ms, Q r ms → N (some (.inl r)) (jj_mh h0 m0 ms)) (x1 : Int) : ∀ (n : Nat) (x2 : Int) (x3 : Int) (ms : jj_MS), fM_heatOf_l4 x1 Q n x2 x3 ms → jj_J X 5 4 [(0, .inr (.inr (.inl (some m0)))), (1, .inl x1), (2, .inl x2), (3, .inl x3)] [] (jj_mh h0 m0 ms) k := by
  intro n
  induction n with
  | zero =>
    intro x2 x3 ms w
    exact (show False from w).elim
  | succ n ih =>
    intro x2 x3 ms w
    rw [fM_heatOf_l4] at w
    refine jr_iload_n (pc := 4) F (j := 3) dX3_heatOf_4 rfl ?_
    refine jr_aload_n (pc := 5) F (j := 0) dX3_heatOf_5 rfl ?_
    refine jr_callV (pc := 6) (As := []) F M (lw_V q3334 q3336 qs56 q143 q3337) dX3_heatOf_6 hM_notes rfl (Nat.le_of_ble_eq_true rfl) (Nat.le_of_ble_eq_true rfl) (Nat.le_of_ble_eq_true rfl) (jj_set_self _ _ _) rfl rfl (Nat.zero_le _) (cM_notes S hs w) (fun v9 h9 q9 => ?_) (fun _ _ _ q9 => q9.elim)
    obtain ⟨r8, ms7, rfl, rfl, w⟩ := q9
    obtain ⟨hx9, hy9, w1, w2⟩ := w
    refine jr_icmp_ge (pc := 9) (tgt := 74) F hx9 hy9 dX3_heatOf_9 rfl (fun c9 => ?_) (fun c9 => ?_)
    · have w := w1 c9
      refine jr_iload_n (pc := 74) F (j := 2) dX3_heatOf_74 rfl ?_
      refine jr_callS (pc := 75) (As := [_]) F M (lw_S q3572 q3573 q143 q3574) dX3_heatOf_75 hM_bitsOf.2 rfl (Nat.le_of_ble_eq_true rfl) (Nat.le_of_ble_eq_true rfl) (Nat.le_of_ble_eq_true rfl) (Nat.zero_le _) (cM_bitsOf S hs w) (fun v9 h9 q9 => ?_) (fun _ _ _ q9 => q9.elim)
      obtain ⟨r10, ms9, rfl, rfl, w⟩ := q9
      exact jr_iret (pc := 78) F M dX3_heatOf_78 (hQ _ _ w)
    · have w := w2 c9
      refine jr_aload_n (pc := 12) F (j := 0) dX3_heatOf_12 rfl ?_
      refine jm_get (pc := 13) (f := 17) (v := .inr (.inr (.inl (some (m0 + 1 + 14))))) F (Nat.le_of_ble_eq_true rfl) q3147 rfl rfl dX3_heatOf_13 ?_
      refine jr_iload_n (pc := 16) F (j := 3) dX3_heatOf_16 rfl ?_
      obtain ⟨hi1, hi2, w⟩ := w
      refine jm_iald (pc := 17) (f := 17) (o := 14) F rfl (by decide) hi1 hi2 dX3_heatOf_17 ?_
      refine jr_iconst (pc := 18) F dX3_heatOf_18 ?_
      obtain ⟨hx9, w1, w2⟩ := w
      refine jr_icmp_eq (pc := 19) (tgt := 45) F hx9 ⟨by decide, by decide⟩ dX3_heatOf_19 rfl (fun c9 => ?_) (fun c9 => ?_)
      · have w := w1 c9
        exact sM_heatOf_j45 F M S hs hQ _ ih _ _ _ w
      · have w := w2 c9
        refine jr_iload_n (pc := 22) F (j := 1) dX3_heatOf_22 rfl ?_
        refine jr_aload_n (pc := 23) F (j := 0) dX3_heatOf_23 rfl ?_
        refine jm_get (pc := 24) (f := 18) (v := .inr (.inr (.inl (some (m0 + 1 + 15))))) F (Nat.le_of_ble_eq_true rfl) q3148 rfl rfl dX3_heatOf_24 ?_
        refine jr_iload_n (pc := 27) F (j := 3) dX3_heatOf_27 rfl ?_
        obtain ⟨hi1, hi2, w⟩ := w
        refine jm_iald (pc := 28) (f := 18) (o := 15) F rfl (by decide) hi1 hi2 dX3_heatOf_28 ?_
        refine jr_aload_n (pc := 29) F (j := 0) dX3_heatOf_29 rfl ?_
        refine jm_get (pc := 30) (f := 19) (v := .inr (.inr (.inl (some (m0 + 1 + 16))))) F (Nat.le_of_ble_eq_true rfl) q3149 rfl rfl dX3_heatOf_30 ?_
        refine jr_iload_n (pc := 33) F (j := 3) dX3_heatOf_33 rfl ?_
        obtain ⟨hi1, hi2, w⟩ := w
        refine jm_iald (pc := 34) (f := 19) (o := 16) F rfl (by decide) hi1 hi2 dX3_heatOf_34 ?_
        refine jr_callS (pc := 35) (As := [_, _, _]) F M (lw_S q3284 q3285 q143 q3286) dX3_heatOf_35 hM_isBetween.2 rfl (Nat.le_of_ble_eq_true rfl) (Nat.le_of_ble_eq_true rfl) (Nat.le_of_ble_eq_true rfl) (Nat.zero_le _) (cM_isBetween S hs w) (fun v9 h9 q9 => ?_) (fun _ _ _ q9 => q9.elim)
        obtain ⟨r12, ms11, rfl, rfl, w⟩ := q9
        obtain ⟨hx9, w1, w2⟩ := w
        refine jr_if_eq (pc := 38) (tgt := 45) F hx9 dX3_heatOf_38 rfl (fun c9 => ?_) (fun c9 => ?_)
        · have w := w1 c9
          exact sM_heatOf_j45 F M S hs hQ _ ih _ _ _ w
        · have w := w2 c9
          refine jr_iconst (pc := 41) F dX3_heatOf_41 ?_
          refine jr_goto (pc := 42) (tgt := 46) F dX3_heatOf_42 rfl ?_
          exact sM_heatOf_j46 F M S hs hQ _ ih _ _ _ _ w

theorem sM_heatOf {X : jj_X} {h0 : jj_H} {m0 k : Nat} {N : Option jj_AV → jj_H → Prop} {XN : String → Nat → jj_H → Prop} (F : jj_F X RX3 cX3_heatOf 5) (M : jj_M X (some (.int)) 1 22 N XN) (S : jj_GS X.1 X.2.2.1) (hs : jj_hs X.1 h0 m0) {Q : Int → jj_MS → Prop} (hQ : ∀ r ms, Q r ms → N (some (.inl r)) (jj_mh h0 m0 ms)) : ∀ (x1 : Int) (ms : jj_MS), fM_heatOf x1 Q ms → jj_J X 5 0 [(0, .inr (.inr (.inl (some m0)))), (1, .inl x1)] [] (jj_mh h0 m0 ms) k := by
  intro x1 ms w
  unfold fM_heatOf at w
  refine jr_iconst (pc := 0) F dX3_heatOf_0 ?_
  refine jr_istore_n (pc := 1) F (vs' := [(2, .inl _), (0, .inr (.inr (.inl _))), (1, .inl _)]) dX3_heatOf_1 (Nat.le_of_ble_eq_true rfl) rfl ?_
  refine jr_iconst (pc := 2) F dX3_heatOf_2 ?_
  refine jr_istore_n (pc := 3) F (vs' := [(3, .inl _), (2, .inl _), (0, .inr (.inr (.inl _))), (1, .inl _)]) dX3_heatOf_3 (Nat.le_of_ble_eq_true rfl) rfl ?_
  refine jj_J.sub [2, 3, 1, 0] rfl ?_
  obtain ⟨n9, w⟩ := w
  exact sM_heatOf_l4 F M S hs hQ _ n9 _ _ _ w

theorem cM_heatOf {G : jj_G} {l : Launch} (S : jj_GS G l) {h0 : jj_H} {m0 : Nat} (hs : jj_hs G h0 m0) {x1 : Int} {ms : jj_MS} {Q : Int → jj_MS → Prop} (w : fM_heatOf x1 Q ms) : jj_Ct G l yX3_heatOf (ws_ yX3_heatOf cX3_heatOf 5 (some (.int))) 1 22 [.inr (.inr (.inl (some m0))), .inl x1] (jj_mh h0 m0 ms) 0 (jm_Ni h0 m0 Q) jj_F0 := by
  refine jj_Ct.of S.1 (by decide +kernel) (Nat.le_of_ble_eq_true rfl) rfl (fun X hG hl F M O hnm => ?_)
  subst hG; subst hl
  exact sM_heatOf F M S hs (fun r ms q => ⟨r, ms, rfl, rfl, q⟩) _ _ w
theorem hM_heatOf : yX3_heatOf.cls = RX3 ∧ yX3_heatOf.cls ≠ "java/lang/invoke/MethodHandle" ∧ yX3_heatOf.cls ≠ "java/lang/invoke/VarHandle" ∧ (parseMethodDescriptor yX3_heatOf.desc).map (fun d => d.parameters.length) = some 1 := by decide +kernel
/-! isTargetWord(I)Z -/
def fM_isTargetWord (x1 : Int) (Q : Int → jj_MS → Prop) (ms : jj_MS) : Prop :=
  fM_editions (fun r2 ms1 =>
  jj_r r2 ∧ (r2 ≤ 0 → (
    Q 0 ms1)) ∧
  (¬ r2 ≤ 0 → (
    fM_target (fun r4 ms3 =>
    fM_isWordOf r4 x1 (fun r6 ms5 =>
    jj_r r6 ∧ (r6 = 0 → (
      Q 0 ms5)) ∧
    (¬ r6 = 0 → (
      Q 1 ms5))) ms3) ms1))) ms

theorem sM_isTargetWord {X : jj_X} {h0 : jj_H} {m0 k : Nat} {N : Option jj_AV → jj_H → Prop} {XN : String → Nat → jj_H → Prop} (F : jj_F X RX3 cX3_isTargetWord 2) (M : jj_M X (some (.boolean)) 3 65 N XN) (S : jj_GS X.1 X.2.2.1) (hs : jj_hs X.1 h0 m0) {Q : Int → jj_MS → Prop} (hQ : ∀ r ms, Q r ms → N (some (.inl r)) (jj_mh h0 m0 ms)) : ∀ (x1 : Int) (ms : jj_MS), fM_isTargetWord x1 Q ms → jj_J X 2 0 [(0, .inr (.inr (.inl (some m0)))), (1, .inl x1)] [] (jj_mh h0 m0 ms) k := by
  intro x1 ms w
  unfold fM_isTargetWord at w
  refine jr_aload_n (pc := 0) F (j := 0) dX3_isTargetWord_0 rfl ?_
  refine jr_callV (pc := 1) (As := []) F M (lw_V q3299 q3301 qs49 q143 q3302) dX3_isTargetWord_1 hM_editions rfl (Nat.le_of_ble_eq_true rfl) (Nat.le_of_ble_eq_true rfl) (Nat.le_of_ble_eq_true rfl) (jj_set_self _ _ _) rfl rfl (Nat.zero_le _) (cM_editions S hs w) (fun v9 h9 q9 => ?_) (fun _ _ _ q9 => q9.elim)
  obtain ⟨r2, ms1, rfl, rfl, w⟩ := q9
  obtain ⟨hx9, w1, w2⟩ := w
  refine jr_if_le (pc := 4) (tgt := 23) F hx9 dX3_isTargetWord_4 rfl (fun c9 => ?_) (fun c9 => ?_)
  · have w := w1 c9
    refine jr_iconst (pc := 23) F dX3_isTargetWord_23 ?_
    exact jr_zret (pc := 24) F M dX3_isTargetWord_24 (by decide) (hQ _ _ w)
  · have w := w2 c9
    refine jr_aload_n (pc := 7) F (j := 0) dX3_isTargetWord_7 rfl ?_
    refine jr_aload_n (pc := 8) F (j := 0) dX3_isTargetWord_8 rfl ?_
    refine jr_callV (pc := 9) (As := []) F M (lw_V q3315 q3317 qs53 q143 q3318) dX3_isTargetWord_9 hM_target rfl (Nat.le_of_ble_eq_true rfl) (Nat.le_of_ble_eq_true rfl) (Nat.le_of_ble_eq_true rfl) (jj_set_self _ _ _) rfl rfl (Nat.zero_le _) (cM_target S hs w) (fun v9 h9 q9 => ?_) (fun _ _ _ q9 => q9.elim)
    obtain ⟨r4, ms3, rfl, rfl, w⟩ := q9
    refine jr_iload_n (pc := 12) F (j := 1) dX3_isTargetWord_12 rfl ?_
    refine jr_callV (pc := 13) (As := [_, _]) F M (lw_V q3449 q3451 qs77 q143 q3452) dX3_isTargetWord_13 hM_isWordOf rfl (Nat.le_of_ble_eq_true rfl) (Nat.le_of_ble_eq_true rfl) (Nat.le_of_ble_eq_true rfl) (jj_set_self _ _ _) rfl rfl (Nat.zero_le _) (cM_isWordOf S hs w) (fun v9 h9 q9 => ?_) (fun _ _ _ q9 => q9.elim)
    obtain ⟨r6, ms5, rfl, rfl, w⟩ := q9
    obtain ⟨hx9, w1, w2⟩ := w
    refine jr_if_eq (pc := 16) (tgt := 23) F hx9 dX3_isTargetWord_16 rfl (fun c9 => ?_) (fun c9 => ?_)
    · have w := w1 c9
      refine jr_iconst (pc := 23) F dX3_isTargetWord_23 ?_
      exact jr_zret (pc := 24) F M dX3_isTargetWord_24 (by decide) (hQ _ _ w)
    · have w := w2 c9
      refine jr_iconst (pc := 19) F dX3_isTargetWord_19 ?_
      refine jr_goto (pc := 20) (tgt := 24) F dX3_isTargetWord_20 rfl ?_
      exact jr_zret (pc := 24) F M dX3_isTargetWord_24 (by decide) (hQ _ _ w)

theorem cM_isTargetWord {G : jj_G} {l : Launch} (S : jj_GS G l) {h0 : jj_H} {m0 : Nat} (hs : jj_hs G h0 m0) {x1 : Int} {ms : jj_MS} {Q : Int → jj_MS → Prop} (w : fM_isTargetWord x1 Q ms) : jj_Ct G l yX3_isTargetWord (ws_ yX3_isTargetWord cX3_isTargetWord 2 (some (.boolean))) 3 65 [.inr (.inr (.inl (some m0))), .inl x1] (jj_mh h0 m0 ms) 0 (jm_Ni h0 m0 Q) jj_F0 := by
  refine jj_Ct.of S.1 (by decide +kernel) (Nat.le_of_ble_eq_true rfl) rfl (fun X hG hl F M O hnm => ?_)
  subst hG; subst hl
  exact sM_isTargetWord F M S hs (fun r ms q => ⟨r, ms, rfl, rfl, q⟩) _ _ w
theorem hM_isTargetWord : yX3_isTargetWord.cls = RX3 ∧ yX3_isTargetWord.cls ≠ "java/lang/invoke/MethodHandle" ∧ yX3_isTargetWord.cls ≠ "java/lang/invoke/VarHandle" ∧ (parseMethodDescriptor yX3_isTargetWord.desc).map (fun d => d.parameters.length) = some 1 := by decide +kernel
