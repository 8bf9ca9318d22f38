set_option maxRecDepth 100000
/-! J11_signedHashCode(I[BII)I -/
def fC_J11_signedHashCode_l8 (gk : Nat → Nat) (x1 : Option Nat) (x4 : Int) (Q : Int → jj_H → Prop) (E : String → Nat → jj_H → Prop) : Nat → Int → Int → jj_H → Nat → Prop
  | 0, _, _, _, _ => False
  | n + 1, x0, x5, h, k =>
  jj_r x5 ∧ jj_r x4 ∧ (x4 ≤ x5 → (
    Q x0 h)) ∧
  (¬ x4 ≤ x5 → (
    jp_alS h x1 x5 (fun g1 =>
    ∀ v2, v2 = jj_i2l ((31 * x0) + (jj_and g1 255)) →
    ∀ v3, v3 = x5 + 1 →
    fC_J11_signedHashCode_l8 gk x1 x4 Q E n v2 v3 h k)))
def fC_J11_signedHashCode (gk : Nat → Nat) (x0 : Int) (x1 : Option Nat) (x2 : Int) (x3 : Int) (Q : Int → jj_H → Prop) (E : String → Nat → jj_H → Prop) (h : jj_H) (k : Nat) : Prop :=
  ∀ v4, v4 = x2 + x3 →
  ∃ n9, fC_J11_signedHashCode_l8 gk x1 v4 Q E n9 x0 x2 h k
theorem sC_J11_signedHashCode_l8 {X : jj_X} {N : Option jj_AV → jj_H → Prop} {XN : String → Nat → jj_H → Prop} (F : jj_F X RJ11 cJ11_signedHashCode 6) (M : jj_M X (some (.int)) 0 0 N XN) (O : jj_no X) (J : jx_G X.1 X.2.2.1) (hi : X.2.2.2.2.2.2.2.2.2.1.name = yJ11_signedHashCode.name) {Q : Int → jj_H → Prop} {E : String → Nat → jj_H → Prop} (hQ : ∀ r h, Q r h → N (some (.inl r)) h) (hE : ∀ e q h, E e q h → XN e q h) (x1 : Option Nat) (x4 : Int) : ∀ (n : Nat) (x0 : Int) (x5 : Int) (h : jj_H) (k : Nat), fC_J11_signedHashCode_l8 (jj_gk X.1) x1 x4 Q E n x0 x5 h k → jj_J X 6 8 [(0, .inl x0), (1, .inr (.inr (.inl x1))), (4, .inl x4), (5, .inl x5)] [] h k := by
  intro n
  induction n with
  | zero =>
    intro x0 x5 h k w
    exact (show False from w).elim
  | succ n ih =>
    intro x0 x5 h k w
    rw [fC_J11_signedHashCode_l8] at w
    refine jr_iload (pc := 8) F (j := 3) dJ11_signedHashCode_8 rfl ?_
    refine jr_iload (pc := 10) F (j := 2) dJ11_signedHashCode_10 rfl ?_
    obtain ⟨hx9, hy9, w1, w2⟩ := w
    refine jr_icmp_ge (pc := 12) (tgt := 35) F hx9 hy9 dJ11_signedHashCode_12 rfl (fun c9 => ?_) (fun c9 => ?_)
    · have w := w1 c9
      refine jr_iload_n (pc := 35) F (j := 0) dJ11_signedHashCode_35 rfl ?_
      exact jr_iret (pc := 36) F M dJ11_signedHashCode_36 (hQ _ _ w)
    · have w := w2 c9
      refine jr_bipush (pc := 15) F dJ11_signedHashCode_15 (by decide +kernel) ?_
      refine jr_iload_n (pc := 17) F (j := 0) dJ11_signedHashCode_17 rfl ?_
      refine jr_imul (pc := 18) F dJ11_signedHashCode_18 ?_
      refine jr_aload_n (pc := 19) F (j := 1) dJ11_signedHashCode_19 rfl ?_
      refine jr_iload (pc := 20) F (j := 3) dJ11_signedHashCode_20 rfl ?_
      refine jr_baldS (pc := 22) F J dJ11_signedHashCode_22 w (fun g1 w => ?_)
      refine jr_sipush (pc := 23) F dJ11_signedHashCode_23 (by decide +kernel) ?_
      refine jr_iand (pc := 26) F dJ11_signedHashCode_26 ?_
      refine jr_iadd (pc := 27) F dJ11_signedHashCode_27 ?_
      refine jr_nrm (pc := 28) ?_
      have w := w _ rfl
      refine jr_istore_n (pc := 28) F (vs' := [(0, .inl _), (1, .inr (.inr (.inl _))), (4, .inl _), (5, .inl _)]) dJ11_signedHashCode_28 (Nat.le_of_ble_eq_true rfl) rfl ?_
      have w := w _ rfl
      refine jr_iinc (pc := 29) F (j := 3) (vs' := [(5, .inl _), (0, .inl _), (1, .inr (.inr (.inl _))), (4, .inl _)]) dJ11_signedHashCode_29 rfl rfl (Nat.le_of_ble_eq_true rfl) rfl ?_
      refine jr_goto (pc := 32) (tgt := 8) F dJ11_signedHashCode_32 rfl ?_
      refine jj_J.sub [1, 2, 3, 0] rfl ?_
      exact ih _ _ _ _ w

theorem sC_J11_signedHashCode {X : jj_X} {N : Option jj_AV → jj_H → Prop} {XN : String → Nat → jj_H → Prop} (F : jj_F X RJ11 cJ11_signedHashCode 6) (M : jj_M X (some (.int)) 0 0 N XN) (O : jj_no X) (J : jx_G X.1 X.2.2.1) (hi : X.2.2.2.2.2.2.2.2.2.1.name = yJ11_signedHashCode.name) {Q : Int → jj_H → Prop} {E : String → Nat → jj_H → Prop} (hQ : ∀ r h, Q r h → N (some (.inl r)) h) (hE : ∀ e q h, E e q h → XN e q h) (x0 : Int) (x1 : Option Nat) (x2 : Int) (x3 : Int) : ∀ (h : jj_H) (k : Nat), fC_J11_signedHashCode (jj_gk X.1) x0 x1 x2 x3 Q E h k → jj_J X 6 0 [(0, .inl x0), (1, .inr (.inr (.inl x1))), (2, .inl x2), (3, .inl x3)] [] h k := by
  intro h k w
  unfold fC_J11_signedHashCode at w
  refine jr_iload_n (pc := 0) F (j := 2) dJ11_signedHashCode_0 rfl ?_
  refine jr_iload_n (pc := 1) F (j := 3) dJ11_signedHashCode_1 rfl ?_
  refine jr_iadd (pc := 2) F dJ11_signedHashCode_2 ?_
  have w := w _ rfl
  refine jr_istore (pc := 3) F (vs' := [(4, .inl _), (0, .inl _), (1, .inr (.inr (.inl _))), (2, .inl _), (3, .inl _)]) dJ11_signedHashCode_3 (Nat.le_of_ble_eq_true rfl) rfl ?_
  refine jr_iload_n (pc := 5) F (j := 3) dJ11_signedHashCode_5 rfl ?_
  refine jr_istore (pc := 6) F (vs' := [(5, .inl _), (4, .inl _), (0, .inl _), (1, .inr (.inr (.inl _))), (2, .inl _), (3, .inl _)]) dJ11_signedHashCode_6 (Nat.le_of_ble_eq_true rfl) rfl ?_
  refine jj_J.sub [2, 3, 1, 0] rfl ?_
  obtain ⟨n9, w⟩ := w
  exact sC_J11_signedHashCode_l8 F M O J hi hQ hE _ _ n9 _ _ _ _ w

theorem cC_J11_signedHashCode {G : jj_G} {l : Launch} (J : jx_G G l) {x0 : Int} {x1 : Option Nat} {x2 : Int} {x3 : Int} {Q : Int → jj_H → Prop} {E : String → Nat → jj_H → Prop} {h : jj_H} {k : Nat} (w : fC_J11_signedHashCode (jj_gk G) x0 x1 x2 x3 Q E h k) : jj_Ct G l yJ11_signedHashCode (ws_ yJ11_signedHashCode cJ11_signedHashCode 6 (some (.int))) 0 0 [.inl x0, .inr (.inr (.inl x1)), .inl x2, .inl x3] h k (jc_i Q) E := by
  refine jj_Ct.of J.1 (by decide +kernel) (Nat.le_of_ble_eq_true rfl) rfl (fun X hG hl F M O hnm => ?_)
  subst hG; subst hl
  exact sC_J11_signedHashCode F M O J hnm (fun r h q => ⟨r, rfl, q⟩) (fun _ _ _ q => q) _ _ _ _ _ _ w
theorem hC_J11_signedHashCode : yJ11_signedHashCode.cls = RJ11 ∧ yJ11_signedHashCode.cls ≠ "java/lang/invoke/MethodHandle" ∧ yJ11_signedHashCode.cls ≠ "java/lang/invoke/VarHandle" ∧ (parseMethodDescriptor yJ11_signedHashCode.desc).map (fun d => d.parameters.length) = some 4 := by decide +kernel
/-! J11_vectorizedHashCode(Ljava/lang/Object;IIII)I -/
def fC_J11_vectorizedHashCode (gk : Nat → Nat) (x0 : Option Nat) (x1 : Int) (x2 : Int) (x3 : Int) (x4 : Int) (Q : Int → jj_H → Prop) (E : String → Nat → jj_H → Prop) (h : jj_H) (k : Nat) : Prop :=
  jj_r x4 ∧
  (x4 = 4 → (
    (∃ d n f, x0 = some d ∧ jp_byS h d n f) ∧
    fC_J11_signedHashCode gk x3 x0 x1 x2 (fun r2 h3 =>
    Q r2 h3) E h 0)) ∧
  (x4 = 5 → (
    False)) ∧
  (x4 = 6 → (
    False)) ∧
  (x4 = 7 → (
    False)) ∧
  (x4 = 8 → (
    False)) ∧
  (x4 = 9 → (
    False)) ∧
  (x4 = 10 → (
    False)) ∧
  ((x4 < 4 ∨ 10 < x4) → (
    False))
theorem sC_J11_vectorizedHashCode {X : jj_X} {N : Option jj_AV → jj_H → Prop} {XN : String → Nat → jj_H → Prop} (F : jj_F X RJ11 cJ11_vectorizedHashCode 5) (M : jj_M X (some (.int)) 1 25 N XN) (O : jj_no X) (J : jx_G X.1 X.2.2.1) (hi : X.2.2.2.2.2.2.2.2.2.1.name = yJ11_vectorizedHashCode.name) {Q : Int → jj_H → Prop} {E : String → Nat → jj_H → Prop} (hQ : ∀ r h, Q r h → N (some (.inl r)) h) (hE : ∀ e q h, E e q h → XN e q h) (x0 : Option Nat) (x1 : Int) (x2 : Int) (x3 : Int) (x4 : Int) : ∀ (h : jj_H) (k : Nat), fC_J11_vectorizedHashCode (jj_gk X.1) x0 x1 x2 x3 x4 Q E h k → jj_J X 5 0 [(0, .inr (.inr (.inl x0))), (1, .inl x1), (2, .inl x2), (3, .inl x3), (4, .inl x4)] [] h k := by
  intro h k w
  unfold fC_J11_vectorizedHashCode at w
  refine jr_iload (pc := 0) F (j := 4) dJ11_vectorizedHashCode_0 rfl ?_
  obtain ⟨hx9, w⟩ := w
  obtain ⟨w9, w⟩ := w
  rcases Decidable.em (x4 = 4) with e9 | e9_0
  · have w := w9 e9
    refine jr_tabIn (pc := 2) (tgt := 44) (off := 42) F hx9 dJ11_vectorizedHashCode_2 (by rw [e9]; decide) (by rw [e9]; decide) (by rw [e9]; rfl) rfl ?_
    refine jr_iload_n (pc := 44) F (j := 3) dJ11_vectorizedHashCode_44 rfl ?_
    refine jr_aload_n (pc := 45) F (j := 0) dJ11_vectorizedHashCode_45 rfl ?_
    obtain ⟨hi9, w⟩ := w
    refine jr_castB (pc := 46) F J q1228 dJ11_vectorizedHashCode_46 hi9 ?_
    refine jr_iload_n (pc := 49) F (j := 1) dJ11_vectorizedHashCode_49 rfl ?_
    refine jr_iload_n (pc := 50) F (j := 2) dJ11_vectorizedHashCode_50 rfl ?_
    refine jr_callS (pc := 51) (As := [_, _, _, _]) F M (lw_S q1229 q1230 q133 q1231) dJ11_vectorizedHashCode_51 hC_J11_signedHashCode.2 rfl (Nat.le_of_ble_eq_true rfl) (Nat.le_of_ble_eq_true rfl) (Nat.le_of_ble_eq_true rfl) (Nat.zero_le _) (cC_J11_signedHashCode J w) (fun v9 h3 q9 => ?_) (fun E9 q9 h9 w9 => jr_out F M O (hE _ _ _ w9))
    obtain ⟨r2, rfl, w⟩ := q9
    refine jr_goto (pc := 54) (tgt := 157) F dJ11_vectorizedHashCode_54 rfl ?_
    exact jr_iret (pc := 157) F M dJ11_vectorizedHashCode_157 (hQ _ _ w)
  obtain ⟨w9, w⟩ := w
  rcases Decidable.em (x4 = 5) with e9 | e9_1
  · have w := w9 e9
    refine jr_tabIn (pc := 2) (tgt := 57) (off := 55) F hx9 dJ11_vectorizedHashCode_2 (by rw [e9]; decide) (by rw [e9]; decide) (by rw [e9]; rfl) rfl ?_
    refine jr_aload_n (pc := 57) F (j := 0) dJ11_vectorizedHashCode_57 rfl ?_
    exact (show False from w).elim
  obtain ⟨w9, w⟩ := w
  rcases Decidable.em (x4 = 6) with e9 | e9_2
  · have w := w9 e9
    refine jr_tabIn (pc := 2) (tgt := 129) (off := 127) F hx9 dJ11_vectorizedHashCode_2 (by rw [e9]; decide) (by rw [e9]; decide) (by rw [e9]; rfl) rfl ?_
    exact (show False from w).elim
  obtain ⟨w9, w⟩ := w
  rcases Decidable.em (x4 = 7) with e9 | e9_3
  · have w := w9 e9
    refine jr_tabIn (pc := 2) (tgt := 129) (off := 127) F hx9 dJ11_vectorizedHashCode_2 (by rw [e9]; decide) (by rw [e9]; decide) (by rw [e9]; rfl) rfl ?_
    exact (show False from w).elim
  obtain ⟨w9, w⟩ := w
  rcases Decidable.em (x4 = 8) with e9 | e9_4
  · have w := w9 e9
    refine jr_tabIn (pc := 2) (tgt := 90) (off := 88) F hx9 dJ11_vectorizedHashCode_2 (by rw [e9]; decide) (by rw [e9]; decide) (by rw [e9]; rfl) rfl ?_
    refine jr_iload_n (pc := 90) F (j := 3) dJ11_vectorizedHashCode_90 rfl ?_
    refine jr_aload_n (pc := 91) F (j := 0) dJ11_vectorizedHashCode_91 rfl ?_
    exact (show False from w).elim
  obtain ⟨w9, w⟩ := w
  rcases Decidable.em (x4 = 9) with e9 | e9_5
  · have w := w9 e9
    refine jr_tabIn (pc := 2) (tgt := 103) (off := 101) F hx9 dJ11_vectorizedHashCode_2 (by rw [e9]; decide) (by rw [e9]; decide) (by rw [e9]; rfl) rfl ?_
    refine jr_iload_n (pc := 103) F (j := 3) dJ11_vectorizedHashCode_103 rfl ?_
    refine jr_aload_n (pc := 104) F (j := 0) dJ11_vectorizedHashCode_104 rfl ?_
    exact (show False from w).elim
  obtain ⟨w9, w⟩ := w
  rcases Decidable.em (x4 = 10) with e9 | e9_6
  · have w := w9 e9
    refine jr_tabIn (pc := 2) (tgt := 116) (off := 114) F hx9 dJ11_vectorizedHashCode_2 (by rw [e9]; decide) (by rw [e9]; decide) (by rw [e9]; rfl) rfl ?_
    refine jr_iload_n (pc := 116) F (j := 3) dJ11_vectorizedHashCode_116 rfl ?_
    refine jr_aload_n (pc := 117) F (j := 0) dJ11_vectorizedHashCode_117 rfl ?_
    exact (show False from w).elim
  have c9 := jj_to_4_10 e9_0 e9_1 e9_2 e9_3 e9_4 e9_5 e9_6
  have w := w c9
  refine jr_tabOut (pc := 2) (tgt := 129) F hx9 dJ11_vectorizedHashCode_2 c9 rfl ?_
  exact (show False from w).elim

theorem cC_J11_vectorizedHashCode {G : jj_G} {l : Launch} (J : jx_G G l) {x0 : Option Nat} {x1 : Int} {x2 : Int} {x3 : Int} {x4 : Int} {Q : Int → jj_H → Prop} {E : String → Nat → jj_H → Prop} {h : jj_H} {k : Nat} (w : fC_J11_vectorizedHashCode (jj_gk G) x0 x1 x2 x3 x4 Q E h k) : jj_Ct G l yJ11_vectorizedHashCode (ws_ yJ11_vectorizedHashCode cJ11_vectorizedHashCode 5 (some (.int))) 1 25 [.inr (.inr (.inl x0)), .inl x1, .inl x2, .inl x3, .inl x4] h k (jc_i Q) E := by
  refine jj_Ct.of J.1 (by decide +kernel) (Nat.le_of_ble_eq_true rfl) rfl (fun X hG hl F M O hnm => ?_)
  subst hG; subst hl
  exact sC_J11_vectorizedHashCode F M O J hnm (fun r h q => ⟨r, rfl, q⟩) (fun _ _ _ q => q) _ _ _ _ _ _ _ w
theorem hC_J11_vectorizedHashCode : yJ11_vectorizedHashCode.cls = RJ11 ∧ yJ11_vectorizedHashCode.cls ≠ "java/lang/invoke/MethodHandle" ∧ yJ11_vectorizedHashCode.cls ≠ "java/lang/invoke/VarHandle" ∧ (parseMethodDescriptor yJ11_vectorizedHashCode.desc).map (fun d => d.parameters.length) = some 5 := by decide +kernel
/-! J9_checkIndex(II)V -/
def fC_J9_checkIndex (gk : Nat → Nat) (x0 : Int) (x1 : Int) (Q : jj_H → Prop) (E : String → Nat → jj_H → Prop) (h : jj_H) (k : Nat) : Prop :=
  ∀ r1 : Option Nat,
  fC_J14_checkIndex gk x0 x1 r1 (fun r3 h4 =>
  Q h4) E h 0
theorem sC_J9_checkIndex {X : jj_X} {N : Option jj_AV → jj_H → Prop} {XN : String → Nat → jj_H → Prop} (F : jj_F X RJ9 cJ9_checkIndex 2) (M : jj_M X (none) 1 22 N XN) (O : jj_no X) (J : jx_G X.1 X.2.2.1) (hi : X.2.2.2.2.2.2.2.2.2.1.name = yJ9_checkIndex.name) {Q : jj_H → Prop} {E : String → Nat → jj_H → Prop} (hQ : ∀ h, Q h → N none h) (hE : ∀ e q h, E e q h → XN e q h) (x0 : Int) (x1 : Int) : ∀ (h : jj_H) (k : Nat), fC_J9_checkIndex (jj_gk X.1) x0 x1 Q E h k → jj_J X 2 0 [(0, .inl x0), (1, .inl x1)] [] h k := by
  intro h k w
  unfold fC_J9_checkIndex at w
  refine jr_iload_n (pc := 0) F (j := 0) dJ9_checkIndex_0 rfl ?_
  refine jr_iload_n (pc := 1) F (j := 1) dJ9_checkIndex_1 rfl ?_
  refine jr_gstF (pc := 2) F J 0 rfl q359 dJ9_checkIndex_2 (fun r1 => ?_)
  have w := w r1
  refine jr_callS (pc := 5) (As := [_, _, _]) F M (lw_S q2382 q688 q137 q689) dJ9_checkIndex_5 hC_J14_checkIndex.2 rfl (Nat.le_of_ble_eq_true rfl) (Nat.le_of_ble_eq_true rfl) (Nat.le_of_ble_eq_true rfl) (Nat.zero_le _) (cC_J14_checkIndex J w) (fun v9 h4 q9 => ?_) (fun E9 q9 h9 w9 => jr_out F M O (hE _ _ _ w9))
  obtain ⟨r3, rfl, w⟩ := q9
  refine jr_pop (pc := 8) F dJ9_checkIndex_8 rfl ?_
  exact jr_vret (pc := 9) F M dJ9_checkIndex_9 (hQ _ w)

theorem cC_J9_checkIndex {G : jj_G} {l : Launch} (J : jx_G G l) {x0 : Int} {x1 : Int} {Q : jj_H → Prop} {E : String → Nat → jj_H → Prop} {h : jj_H} {k : Nat} (w : fC_J9_checkIndex (jj_gk G) x0 x1 Q E h k) : jj_Ct G l yJ9_checkIndex (ws_ yJ9_checkIndex cJ9_checkIndex 2 (none)) 1 22 [.inl x0, .inl x1] h k (jc_v Q) E := by
  refine jj_Ct.of J.1 (by decide +kernel) (Nat.le_of_ble_eq_true rfl) rfl (fun X hG hl F M O hnm => ?_)
  subst hG; subst hl
  exact sC_J9_checkIndex F M O J hnm (fun h q => ⟨rfl, q⟩) (fun _ _ _ q => q) _ _ _ _ w
theorem hC_J9_checkIndex : yJ9_checkIndex.cls = RJ9 ∧ yJ9_checkIndex.cls ≠ "java/lang/invoke/MethodHandle" ∧ yJ9_checkIndex.cls ≠ "java/lang/invoke/VarHandle" ∧ (parseMethodDescriptor yJ9_checkIndex.desc).map (fun d => d.parameters.length) = some 2 := by decide +kernel
/-! J15_charAt([BI)C -/
def fC_J15_charAt (gk : Nat → Nat) (x0 : Option Nat) (x1 : Int) (Q : Int → jj_H → Prop) (E : String → Nat → jj_H → Prop) (h : jj_H) (k : Nat) : Prop :=
  jp_aiS h x0 (fun g1 =>
  fC_J9_checkIndex gk x1 g1 (fun h4 =>
  jp_alS h4 x0 x1 (fun g5 =>
  (0 ≤ (jj_i2c (jj_and g5 255) : Int) ∧ (jj_i2c (jj_and g5 255) : Int) < 256) ∧ Q (jj_i2c (jj_and g5 255)) h4)) E h 0)
theorem sC_J15_charAt {X : jj_X} {N : Option jj_AV → jj_H → Prop} {XN : String → Nat → jj_H → Prop} (F : jj_F X RJ15 cJ15_charAt 2) (M : jj_M X (some (.char)) 2 43 N XN) (O : jj_no X) (J : jx_G X.1 X.2.2.1) (hi : X.2.2.2.2.2.2.2.2.2.1.name = yJ15_charAt.name) {Q : Int → jj_H → Prop} {E : String → Nat → jj_H → Prop} (hQ : ∀ r h, Q r h → N (some (.inl r)) h) (hE : ∀ e q h, E e q h → XN e q h) (x0 : Option Nat) (x1 : Int) : ∀ (h : jj_H) (k : Nat), fC_J15_charAt (jj_gk X.1) x0 x1 Q E h k → jj_J X 2 0 [(0, .inr (.inr (.inl x0))), (1, .inl x1)] [] h k := by
  intro h k w
  unfold fC_J15_charAt at w
  refine jr_iload_n (pc := 0) F (j := 1) dJ15_charAt_0 rfl ?_
  refine jr_aload_n (pc := 1) F (j := 0) dJ15_charAt_1 rfl ?_
  refine jr_alenS (pc := 2) F J dJ15_charAt_2 w (fun g1 w => ?_)
  refine jr_callS (pc := 3) (As := [_, _]) F M (lw_S q2839 q2380 q131 q2381) dJ15_charAt_3 hC_J9_checkIndex.2 rfl (Nat.le_of_ble_eq_true rfl) (Nat.le_of_ble_eq_true rfl) (Nat.le_of_ble_eq_true rfl) (Nat.zero_le _) (cC_J9_checkIndex J w) (fun v9 h4 q9 => ?_) (fun E9 q9 h9 w9 => jr_out F M O (hE _ _ _ w9))
  obtain ⟨rfl, w⟩ := q9
  refine jr_aload_n (pc := 6) F (j := 0) dJ15_charAt_6 rfl ?_
  refine jr_iload_n (pc := 7) F (j := 1) dJ15_charAt_7 rfl ?_
  refine jr_baldS (pc := 8) F J dJ15_charAt_8 w (fun g5 w => ?_)
  refine jr_sipush (pc := 9) F dJ15_charAt_9 (by decide +kernel) ?_
  refine jr_iand (pc := 12) F dJ15_charAt_12 ?_
  refine jr_i2c (pc := 13) F dJ15_charAt_13 ?_
  exact jr_nret (pc := 14) F M dJ15_charAt_14 (jj_charN w.1) (hQ _ _ w.2)

theorem cC_J15_charAt {G : jj_G} {l : Launch} (J : jx_G G l) {x0 : Option Nat} {x1 : Int} {Q : Int → jj_H → Prop} {E : String → Nat → jj_H → Prop} {h : jj_H} {k : Nat} (w : fC_J15_charAt (jj_gk G) x0 x1 Q E h k) : jj_Ct G l yJ15_charAt (ws_ yJ15_charAt cJ15_charAt 2 (some (.char))) 2 43 [.inr (.inr (.inl x0)), .inl x1] h k (jc_i Q) E := by
  refine jj_Ct.of J.1 (by decide +kernel) (Nat.le_of_ble_eq_true rfl) rfl (fun X hG hl F M O hnm => ?_)
  subst hG; subst hl
  exact sC_J15_charAt F M O J hnm (fun r h q => ⟨r, rfl, q⟩) (fun _ _ _ q => q) _ _ _ _ w
theorem hC_J15_charAt : yJ15_charAt.cls = RJ15 ∧ yJ15_charAt.cls ≠ "java/lang/invoke/MethodHandle" ∧ yJ15_charAt.cls ≠ "java/lang/invoke/VarHandle" ∧ (parseMethodDescriptor yJ15_charAt.desc).map (fun d => d.parameters.length) = some 2 := by decide +kernel
/-! J15_equals([B[B)Z -/
def fC_J15_equals_l9 (gk : Nat → Nat) (x0 : Option Nat) (x1 : Option Nat) (Q : Int → jj_H → Prop) (E : String → Nat → jj_H → Prop) : Nat → Int → jj_H → Nat → Prop
  | 0, _, _, _ => False
  | n + 1, x2, h, k =>
  jp_aiS h x0 (fun g1 =>
  jj_r x2 ∧ jj_r g1 ∧ (g1 ≤ x2 → (
    Q 1 h)) ∧
  (¬ g1 ≤ x2 → (
    jp_alS h x0 x2 (fun g2 =>
    jp_alS h x1 x2 (fun g3 =>
    jj_r g2 ∧ jj_r g3 ∧ (g2 = g3 → (
      ∀ v4, v4 = x2 + 1 →
      fC_J15_equals_l9 gk x0 x1 Q E n v4 h k)) ∧
    (¬ g2 = g3 → (
      Q 0 h)))))))
def fC_J15_equals (gk : Nat → Nat) (x0 : Option Nat) (x1 : Option Nat) (Q : Int → jj_H → Prop) (E : String → Nat → jj_H → Prop) (h : jj_H) (k : Nat) : Prop :=
  jp_aiS h x0 (fun g5 =>
  jp_aiS h x1 (fun g6 =>
  jj_r g5 ∧ jj_r g6 ∧ (¬ g5 = g6 → (
    Q 0 h)) ∧
  (g5 = g6 → (
    ∃ n9, fC_J15_equals_l9 gk x0 x1 Q E n9 0 h k))))
theorem sC_J15_equals_l9 {X : jj_X} {N : Option jj_AV → jj_H → Prop} {XN : String → Nat → jj_H → Prop} (F : jj_F X RJ15 cJ15_equals 3) (M : jj_M X (some (.boolean)) 0 0 N XN) (O : jj_no X) (J : jx_G X.1 X.2.2.1) (hi : X.2.2.2.2.2.2.2.2.2.1.name = yJ15_equals.name) {Q : Int → jj_H → Prop} {E : String → Nat → jj_H → Prop} (hQ : ∀ r h, Q r h → N (some (.inl r)) h) (hE : ∀ e q h, E e q h → XN e q h) (x0 : Option Nat) (x1 : Option Nat) : ∀ (n : Nat) (x2 : Int) (h : jj_H) (k : Nat), fC_J15_equals_l9 (jj_gk X.1) x0 x1 Q E n x2 h k → jj_J X 3 9 [(0, .inr (.inr (.inl x0))), (1, .inr (.inr (.inl x1))), (2, .inl x2)] [] h k := by
  intro n
  induction n with
  | zero =>
    intro x2 h k w
    exact (show False from w).elim
  | succ n ih =>
    intro x2 h k w
    rw [fC_J15_equals_l9] at w
    refine jr_iload_n (pc := 9) F (j := 2) dJ15_equals_9 rfl ?_
    refine jr_aload_n (pc := 10) F (j := 0) dJ15_equals_10 rfl ?_
    refine jr_alenS (pc := 11) F J dJ15_equals_11 w (fun g1 w => ?_)
    obtain ⟨hx9, hy9, w1, w2⟩ := w
    refine jr_icmp_ge (pc := 12) (tgt := 32) F hx9 hy9 dJ15_equals_12 rfl (fun c9 => ?_) (fun c9 => ?_)
    · have w := w1 c9
      refine jr_iconst (pc := 32) F dJ15_equals_32 ?_
      exact jr_zret (pc := 33) F M dJ15_equals_33 (by decide) (hQ _ _ w)
    · have w := w2 c9
      refine jr_aload_n (pc := 15) F (j := 0) dJ15_equals_15 rfl ?_
      refine jr_iload_n (pc := 16) F (j := 2) dJ15_equals_16 rfl ?_
      refine jr_baldS (pc := 17) F J dJ15_equals_17 w (fun g2 w => ?_)
      refine jr_aload_n (pc := 18) F (j := 1) dJ15_equals_18 rfl ?_
      refine jr_iload_n (pc := 19) F (j := 2) dJ15_equals_19 rfl ?_
      refine jr_baldS (pc := 20) F J dJ15_equals_20 w (fun g3 w => ?_)
      obtain ⟨hx9, hy9, w1, w2⟩ := w
      refine jr_icmp_eq (pc := 21) (tgt := 26) F hx9 hy9 dJ15_equals_21 rfl (fun c9 => ?_) (fun c9 => ?_)
      · have w := w1 c9
        have w := w _ rfl
        refine jr_iinc (pc := 26) F (j := 2) (vs' := [(2, .inl _), (0, .inr (.inr (.inl _))), (1, .inr (.inr (.inl _)))]) dJ15_equals_26 rfl rfl (Nat.le_of_ble_eq_true rfl) rfl ?_
        refine jr_goto (pc := 29) (tgt := 9) F dJ15_equals_29 rfl ?_
        refine jj_J.sub [1, 2, 0] rfl ?_
        exact ih _ _ _ w
      · have w := w2 c9
        refine jr_iconst (pc := 24) F dJ15_equals_24 ?_
        exact jr_zret (pc := 25) F M dJ15_equals_25 (by decide) (hQ _ _ w)

theorem sC_J15_equals {X : jj_X} {N : Option jj_AV → jj_H → Prop} {XN : String → Nat → jj_H → Prop} (F : jj_F X RJ15 cJ15_equals 3) (M : jj_M X (some (.boolean)) 0 0 N XN) (O : jj_no X) (J : jx_G X.1 X.2.2.1) (hi : X.2.2.2.2.2.2.2.2.2.1.name = yJ15_equals.name) {Q : Int → jj_H → Prop} {E : String → Nat → jj_H → Prop} (hQ : ∀ r h, Q r h → N (some (.inl r)) h) (hE : ∀ e q h, E e q h → XN e q h) (x0 : Option Nat) (x1 : Option Nat) : ∀ (h : jj_H) (k : Nat), fC_J15_equals (jj_gk X.1) x0 x1 Q E h k → jj_J X 3 0 [(0, .inr (.inr (.inl x0))), (1, .inr (.inr (.inl x1)))] [] h k := by
  intro h k w
  unfold fC_J15_equals at w
  refine jr_aload_n (pc := 0) F (j := 0) dJ15_equals_0 rfl ?_
  refine jr_alenS (pc := 1) F J dJ15_equals_1 w (fun g5 w => ?_)
  refine jr_aload_n (pc := 2) F (j := 1) dJ15_equals_2 rfl ?_
  refine jr_alenS (pc := 3) F J dJ15_equals_3 w (fun g6 w => ?_)
  obtain ⟨hx9, hy9, w1, w2⟩ := w
  refine jr_icmp_ne (pc := 4) (tgt := 34) F hx9 hy9 dJ15_equals_4 rfl (fun c9 => ?_) (fun c9 => ?_)
  · have w := w1 c9
    refine jr_iconst (pc := 34) F dJ15_equals_34 ?_
    exact jr_zret (pc := 35) F M dJ15_equals_35 (by decide) (hQ _ _ w)
  · have w := w2 c9
    refine jr_iconst (pc := 7) F dJ15_equals_7 ?_
    refine jr_istore_n (pc := 8) F (vs' := [(2, .inl _), (0, .inr (.inr (.inl _))), (1, .inr (.inr (.inl _)))]) dJ15_equals_8 (Nat.le_of_ble_eq_true rfl) rfl ?_
    refine jj_J.sub [1, 2, 0] rfl ?_
    obtain ⟨n9, w⟩ := w
    exact sC_J15_equals_l9 F M O J hi hQ hE _ _ n9 _ _ _ w

theorem cC_J15_equals {G : jj_G} {l : Launch} (J : jx_G G l) {x0 : Option Nat} {x1 : Option Nat} {Q : Int → jj_H → Prop} {E : String → Nat → jj_H → Prop} {h : jj_H} {k : Nat} (w : fC_J15_equals (jj_gk G) x0 x1 Q E h k) : jj_Ct G l yJ15_equals (ws_ yJ15_equals cJ15_equals 3 (some (.boolean))) 0 0 [.inr (.inr (.inl x0)), .inr (.inr (.inl x1))] h k (jc_i Q) E := by
  refine jj_Ct.of J.1 (by decide +kernel) (Nat.le_of_ble_eq_true rfl) rfl (fun X hG hl F M O hnm => ?_)
  subst hG; subst hl
  exact sC_J15_equals F M O J hnm (fun r h q => ⟨r, rfl, q⟩) (fun _ _ _ q => q) _ _ _ _ w
theorem hC_J15_equals : yJ15_equals.cls = RJ15 ∧ yJ15_equals.cls ≠ "java/lang/invoke/MethodHandle" ∧ yJ15_equals.cls ≠ "java/lang/invoke/VarHandle" ∧ (parseMethodDescriptor yJ15_equals.desc).map (fun d => d.parameters.length) = some 2 := by decide +kernel
/-! J15_hashCode([B)I -/
def fC_J15_hashCode (gk : Nat → Nat) (x0 : Option Nat) (Q : Int → jj_H → Prop) (E : String → Nat → jj_H → Prop) (h : jj_H) (k : Nat) : Prop :=
  jp_aiS h x0 (fun g1 =>
  jj_r g1 ∧
  (g1 = 0 → (
    Q 0 h)) ∧
  (g1 = 1 → (
    jp_alS h x0 0 (fun g2 =>
    Q (jj_and g2 255) h))) ∧
  ((¬ g1 = 0 ∧ ¬ g1 = 1) → (
    jp_aiS h x0 (fun g3 =>
    fC_J11_vectorizedHashCode gk x0 0 g3 0 4 (fun r5 h6 =>
    Q r5 h6) E h 0))))
theorem sC_J15_hashCode {X : jj_X} {N : Option jj_AV → jj_H → Prop} {XN : String → Nat → jj_H → Prop} (F : jj_F X RJ15 cJ15_hashCode 1) (M : jj_M X (some (.int)) 2 49 N XN) (O : jj_no X) (J : jx_G X.1 X.2.2.1) (hi : X.2.2.2.2.2.2.2.2.2.1.name = yJ15_hashCode.name) {Q : Int → jj_H → Prop} {E : String → Nat → jj_H → Prop} (hQ : ∀ r h, Q r h → N (some (.inl r)) h) (hE : ∀ e q h, E e q h → XN e q h) (x0 : Option Nat) : ∀ (h : jj_H) (k : Nat), fC_J15_hashCode (jj_gk X.1) x0 Q E h k → jj_J X 1 0 [(0, .inr (.inr (.inl x0)))] [] h k := by
  intro h k w
  unfold fC_J15_hashCode at w
  refine jr_aload_n (pc := 0) F (j := 0) dJ15_hashCode_0 rfl ?_
  refine jr_alenS (pc := 1) F J dJ15_hashCode_1 w (fun g1 w => ?_)
  obtain ⟨hx9, w⟩ := w
  obtain ⟨w9, w⟩ := w
  rcases Decidable.em (g1 = 0) with e9 | e9_0
  · have w := w9 e9
    refine jr_lookup (pc := 2) (tgt := 28) (off := 26) F hx9 dJ15_hashCode_2 (by decide +kernel) (by rw [e9]; rfl) rfl ?_
    refine jr_iconst (pc := 28) F dJ15_hashCode_28 ?_
    refine jr_goto (pc := 29) (tgt := 51) F dJ15_hashCode_29 rfl ?_
    exact jr_iret (pc := 51) F M dJ15_hashCode_51 (hQ _ _ w)
  obtain ⟨w9, w⟩ := w
  rcases Decidable.em (g1 = 1) with e9 | e9_1
  · have w := w9 e9
    refine jr_lookup (pc := 2) (tgt := 32) (off := 30) F hx9 dJ15_hashCode_2 (by decide +kernel) (by rw [e9]; rfl) rfl ?_
    refine jr_aload_n (pc := 32) F (j := 0) dJ15_hashCode_32 rfl ?_
    refine jr_iconst (pc := 33) F dJ15_hashCode_33 ?_
    refine jr_baldS (pc := 34) F J dJ15_hashCode_34 w (fun g2 w => ?_)
    refine jr_sipush (pc := 35) F dJ15_hashCode_35 (by decide +kernel) ?_
    refine jr_iand (pc := 38) F dJ15_hashCode_38 ?_
    refine jr_goto (pc := 39) (tgt := 51) F dJ15_hashCode_39 rfl ?_
    exact jr_iret (pc := 51) F M dJ15_hashCode_51 (hQ _ _ w)
  have w := w ⟨e9_0, e9_1⟩
  refine jr_lookup (pc := 2) (tgt := 42) (off := 40) F hx9 dJ15_hashCode_2 (by decide +kernel) (by simp [Op.lookupswitch.offset, Ne.symm e9_0, Ne.symm e9_1]) rfl ?_
  refine jr_aload_n (pc := 42) F (j := 0) dJ15_hashCode_42 rfl ?_
  refine jr_iconst (pc := 43) F dJ15_hashCode_43 ?_
  refine jr_aload_n (pc := 44) F (j := 0) dJ15_hashCode_44 rfl ?_
  refine jr_alenS (pc := 45) F J dJ15_hashCode_45 w (fun g3 w => ?_)
  refine jr_iconst (pc := 46) F dJ15_hashCode_46 ?_
  refine jr_iconst (pc := 47) F dJ15_hashCode_47 ?_
  refine jr_callS (pc := 48) (As := [_, _, _, _, _]) F M (lw_S q1225 q1226 q133 q1227) dJ15_hashCode_48 hC_J11_vectorizedHashCode.2 rfl (Nat.le_of_ble_eq_true rfl) (Nat.le_of_ble_eq_true rfl) (Nat.le_of_ble_eq_true rfl) (Nat.zero_le _) (cC_J11_vectorizedHashCode J w) (fun v9 h6 q9 => ?_) (fun E9 q9 h9 w9 => jr_out F M O (hE _ _ _ w9))
  obtain ⟨r5, rfl, w⟩ := q9
  exact jr_iret (pc := 51) F M dJ15_hashCode_51 (hQ _ _ w)

theorem cC_J15_hashCode {G : jj_G} {l : Launch} (J : jx_G G l) {x0 : Option Nat} {Q : Int → jj_H → Prop} {E : String → Nat → jj_H → Prop} {h : jj_H} {k : Nat} (w : fC_J15_hashCode (jj_gk G) x0 Q E h k) : jj_Ct G l yJ15_hashCode (ws_ yJ15_hashCode cJ15_hashCode 1 (some (.int))) 2 49 [.inr (.inr (.inl x0))] h k (jc_i Q) E := by
  refine jj_Ct.of J.1 (by decide +kernel) (Nat.le_of_ble_eq_true rfl) rfl (fun X hG hl F M O hnm => ?_)
  subst hG; subst hl
  exact sC_J15_hashCode F M O J hnm (fun r h q => ⟨r, rfl, q⟩) (fun _ _ _ q => q) _ _ _ w
theorem hC_J15_hashCode : yJ15_hashCode.cls = RJ15 ∧ yJ15_hashCode.cls ≠ "java/lang/invoke/MethodHandle" ∧ yJ15_hashCode.cls ≠ "java/lang/invoke/VarHandle" ∧ (parseMethodDescriptor yJ15_hashCode.desc).map (fun d => d.parameters.length) = some 1 := by decide +kernel
/-! J9_isLatin1()Z -/
def fC_J9_isLatin1 (gk : Nat → Nat) (x0 : Option Nat) (Q : Int → jj_H → Prop) (E : String → Nat → jj_H → Prop) (h : jj_H) (k : Nat) : Prop :=
  jj_r (1 : Int) ∧ ((1 : Int) = 0 → (
    Q 0 h)) ∧
  (¬ (1 : Int) = 0 → (
    jp_giS h x0 1 (fun g1 =>
    jj_r g1 ∧ (¬ g1 = 0 → (
      Q 0 h)) ∧
    (g1 = 0 → (
      Q 1 h)))))
theorem sC_J9_isLatin1 {X : jj_X} {N : Option jj_AV → jj_H → Prop} {XN : String → Nat → jj_H → Prop} (F : jj_F X RJ9 cJ9_isLatin1 1) (M : jj_M X (some (.boolean)) 0 0 N XN) (O : jj_no X) (J : jx_G X.1 X.2.2.1) (hi : X.2.2.2.2.2.2.2.2.2.1.name = yJ9_isLatin1.name) {Q : Int → jj_H → Prop} {E : String → Nat → jj_H → Prop} (hQ : ∀ r h, Q r h → N (some (.inl r)) h) (hE : ∀ e q h, E e q h → XN e q h) (x0 : Option Nat) : ∀ (h : jj_H) (k : Nat), fC_J9_isLatin1 (jj_gk X.1) x0 Q E h k → jj_J X 1 0 [(0, .inr (.inr (.inl x0)))] [] h k := by
  intro h k w
  unfold fC_J9_isLatin1 at w
  refine jr_gst (pc := 0) F J 0 rfl q381 dJ9_isLatin1_0 ?_
  obtain ⟨hx9, w1, w2⟩ := w
  refine jr_if_eq (pc := 3) (tgt := 17) F hx9 dJ9_isLatin1_3 rfl (fun c9 => ?_) (fun c9 => ?_)
  · have w := w1 c9
    refine jr_iconst (pc := 17) F dJ9_isLatin1_17 ?_
    exact jr_zret (pc := 18) F M dJ9_isLatin1_18 (by decide) (hQ _ _ w)
  · have w := w2 c9
    refine jr_aload_n (pc := 6) F (j := 0) dJ9_isLatin1_6 rfl ?_
    refine jr_giS (pc := 7) (f := 1) F J (Nat.le_of_ble_eq_true rfl) q523 dJ9_isLatin1_7 w (fun g1 w => ?_)
    obtain ⟨hx9, w1, w2⟩ := w
    refine jr_if_ne (pc := 10) (tgt := 17) F hx9 dJ9_isLatin1_10 rfl (fun c9 => ?_) (fun c9 => ?_)
    · have w := w1 c9
      refine jr_iconst (pc := 17) F dJ9_isLatin1_17 ?_
      exact jr_zret (pc := 18) F M dJ9_isLatin1_18 (by decide) (hQ _ _ w)
    · have w := w2 c9
      refine jr_iconst (pc := 13) F dJ9_isLatin1_13 ?_
      refine jr_goto (pc := 14) (tgt := 18) F dJ9_isLatin1_14 rfl ?_
      exact jr_zret (pc := 18) F M dJ9_isLatin1_18 (by decide) (hQ _ _ w)

theorem cC_J9_isLatin1 {G : jj_G} {l : Launch} (J : jx_G G l) {x0 : Option Nat} {Q : Int → jj_H → Prop} {E : String → Nat → jj_H → Prop} {h : jj_H} {k : Nat} (w : fC_J9_isLatin1 (jj_gk G) x0 Q E h k) : jj_Ct G l yJ9_isLatin1 (ws_ yJ9_isLatin1 cJ9_isLatin1 1 (some (.boolean))) 0 0 [.inr (.inr (.inl x0))] h k (jc_i Q) E := by
  refine jj_Ct.of J.1 (by decide +kernel) (Nat.le_of_ble_eq_true rfl) rfl (fun X hG hl F M O hnm => ?_)
  subst hG; subst hl
  exact sC_J9_isLatin1 F M O J hnm (fun r h q => ⟨r, rfl, q⟩) (fun _ _ _ q => q) _ _ _ w
theorem hC_J9_isLatin1 : yJ9_isLatin1.cls = RJ9 ∧ yJ9_isLatin1.cls ≠ "java/lang/invoke/MethodHandle" ∧ yJ9_isLatin1.cls ≠ "java/lang/invoke/VarHandle" ∧ (parseMethodDescriptor yJ9_isLatin1.desc).map (fun d => d.parameters.length) = some 0 := by decide +kernel
/-! J9_charAt(I)C -/
def fC_J9_charAt (gk : Nat → Nat) (x0 : Option Nat) (x1 : Int) (Q : Int → jj_H → Prop) (E : String → Nat → jj_H → Prop) (h : jj_H) (k : Nat) : Prop :=
  jp_is h x0 25 ∧ fC_J9_isLatin1 gk x0 (fun r2 h3 =>
  jj_r r2 ∧ (r2 = 0 → (
    jp_grS h3 x0 0 (fun g4 =>
    False))) ∧
  (¬ r2 = 0 → (
    jp_grS h3 x0 0 (fun g5 =>
    fC_J15_charAt gk g5 x1 (fun r7 h8 =>
    (0 ≤ (r7 : Int) ∧ (r7 : Int) < 256) ∧ Q r7 h8) E h3 0)))) E h 0
theorem sC_J9_charAt {X : jj_X} {N : Option jj_AV → jj_H → Prop} {XN : String → Nat → jj_H → Prop} (F : jj_F X RJ9 cJ9_charAt 2) (M : jj_M X (some (.char)) 3 64 N XN) (O : jj_no X) (J : jx_G X.1 X.2.2.1) (hi : X.2.2.2.2.2.2.2.2.2.1.name = yJ9_charAt.name) {Q : Int → jj_H → Prop} {E : String → Nat → jj_H → Prop} (hQ : ∀ r h, Q r h → N (some (.inl r)) h) (hE : ∀ e q h, E e q h → XN e q h) (x0 : Option Nat) (x1 : Int) : ∀ (h : jj_H) (k : Nat), fC_J9_charAt (jj_gk X.1) x0 x1 Q E h k → jj_J X 2 0 [(0, .inr (.inr (.inl x0))), (1, .inl x1)] [] h k := by
  intro h k w
  unfold fC_J9_charAt at w
  refine jr_aload_n (pc := 0) F (j := 0) dJ9_charAt_0 rfl ?_
  obtain ⟨hi9, w⟩ := w
  refine jr_cV (pc := 1) (As := []) (ci := 25) F M (lw_V q1218 q1219 q1220 q131 q1221) dJ9_charAt_1 hC_J9_isLatin1 rfl (Nat.le_of_ble_eq_true rfl) (Nat.le_of_ble_eq_true rfl) (Nat.le_of_ble_eq_true rfl) rfl hi9 (Nat.zero_le _) (cC_J9_isLatin1 J w) (fun v9 h3 q9 => ?_) (fun E9 q9 h9 w9 => jr_out F M O (hE _ _ _ w9))
  obtain ⟨r2, rfl, w⟩ := q9
  obtain ⟨hx9, w1, w2⟩ := w
  refine jr_if_eq (pc := 4) (tgt := 16) F hx9 dJ9_charAt_4 rfl (fun c9 => ?_) (fun c9 => ?_)
  · have w := w1 c9
    refine jr_aload_n (pc := 16) F (j := 0) dJ9_charAt_16 rfl ?_
    refine jr_grS (pc := 17) (f := 0) F J (Nat.le_of_ble_eq_true rfl) q522 dJ9_charAt_17 w (fun g4 w => ?_)
    refine jr_iload_n (pc := 20) F (j := 1) dJ9_charAt_20 rfl ?_
    exact (show False from w).elim
  · have w := w2 c9
    refine jr_aload_n (pc := 7) F (j := 0) dJ9_charAt_7 rfl ?_
    refine jr_grS (pc := 8) (f := 0) F J (Nat.le_of_ble_eq_true rfl) q522 dJ9_charAt_8 w (fun g5 w => ?_)
    refine jr_iload_n (pc := 11) F (j := 1) dJ9_charAt_11 rfl ?_
    refine jr_callS (pc := 12) (As := [_, _]) F M (lw_S q2836 q2837 q138 q2838) dJ9_charAt_12 hC_J15_charAt.2 rfl (Nat.le_of_ble_eq_true rfl) (Nat.le_of_ble_eq_true rfl) (Nat.le_of_ble_eq_true rfl) (Nat.zero_le _) (cC_J15_charAt J w) (fun v9 h8 q9 => ?_) (fun E9 q9 h9 w9 => jr_out F M O (hE _ _ _ w9))
    obtain ⟨r7, rfl, w⟩ := q9
    exact jr_nret (pc := 15) F M dJ9_charAt_15 (jj_charN w.1) (hQ _ _ w.2)

theorem cC_J9_charAt {G : jj_G} {l : Launch} (J : jx_G G l) {x0 : Option Nat} {x1 : Int} {Q : Int → jj_H → Prop} {E : String → Nat → jj_H → Prop} {h : jj_H} {k : Nat} (w : fC_J9_charAt (jj_gk G) x0 x1 Q E h k) : jj_Ct G l yJ9_charAt (ws_ yJ9_charAt cJ9_charAt 2 (some (.char))) 3 64 [.inr (.inr (.inl x0)), .inl x1] h k (jc_i Q) E := by
  refine jj_Ct.of J.1 (by decide +kernel) (Nat.le_of_ble_eq_true rfl) rfl (fun X hG hl F M O hnm => ?_)
  subst hG; subst hl
  exact sC_J9_charAt F M O J hnm (fun r h q => ⟨r, rfl, q⟩) (fun _ _ _ q => q) _ _ _ _ w
theorem hC_J9_charAt : yJ9_charAt.cls = RJ9 ∧ yJ9_charAt.cls ≠ "java/lang/invoke/MethodHandle" ∧ yJ9_charAt.cls ≠ "java/lang/invoke/VarHandle" ∧ (parseMethodDescriptor yJ9_charAt.desc).map (fun d => d.parameters.length) = some 1 := by decide +kernel
/-! J9_coder()B -/
def fC_J9_coder (gk : Nat → Nat) (x0 : Option Nat) (Q : Int → jj_H → Prop) (E : String → Nat → jj_H → Prop) (h : jj_H) (k : Nat) : Prop :=
  jj_r (1 : Int) ∧ ((1 : Int) = 0 → (
    (-128 ≤ (1 : Int) ∧ (1 : Int) < 128) ∧ Q 1 h)) ∧
  (¬ (1 : Int) = 0 → (
    jp_giS h x0 1 (fun g1 =>
    (-128 ≤ (g1 : Int) ∧ (g1 : Int) < 128) ∧ Q g1 h)))
theorem sC_J9_coder {X : jj_X} {N : Option jj_AV → jj_H → Prop} {XN : String → Nat → jj_H → Prop} (F : jj_F X RJ9 cJ9_coder 1) (M : jj_M X (some (.byte)) 0 0 N XN) (O : jj_no X) (J : jx_G X.1 X.2.2.1) (hi : X.2.2.2.2.2.2.2.2.2.1.name = yJ9_coder.name) {Q : Int → jj_H → Prop} {E : String → Nat → jj_H → Prop} (hQ : ∀ r h, Q r h → N (some (.inl r)) h) (hE : ∀ e q h, E e q h → XN e q h) (x0 : Option Nat) : ∀ (h : jj_H) (k : Nat), fC_J9_coder (jj_gk X.1) x0 Q E h k → jj_J X 1 0 [(0, .inr (.inr (.inl x0)))] [] h k := by
  intro h k w
  unfold fC_J9_coder at w
  refine jr_gst (pc := 0) F J 0 rfl q381 dJ9_coder_0 ?_
  obtain ⟨hx9, w1, w2⟩ := w
  refine jr_if_eq (pc := 3) (tgt := 13) F hx9 dJ9_coder_3 rfl (fun c9 => ?_) (fun c9 => ?_)
  · have w := w1 c9
    refine jr_iconst (pc := 13) F dJ9_coder_13 ?_
    exact jr_nret (pc := 14) F M dJ9_coder_14 (jj_byt w.1) (hQ _ _ w.2)
  · have w := w2 c9
    refine jr_aload_n (pc := 6) F (j := 0) dJ9_coder_6 rfl ?_
    refine jr_giS (pc := 7) (f := 1) F J (Nat.le_of_ble_eq_true rfl) q523 dJ9_coder_7 w (fun g1 w => ?_)
    refine jr_goto (pc := 10) (tgt := 14) F dJ9_coder_10 rfl ?_
    exact jr_nret (pc := 14) F M dJ9_coder_14 (jj_byt w.1) (hQ _ _ w.2)

theorem cC_J9_coder {G : jj_G} {l : Launch} (J : jx_G G l) {x0 : Option Nat} {Q : Int → jj_H → Prop} {E : String → Nat → jj_H → Prop} {h : jj_H} {k : Nat} (w : fC_J9_coder (jj_gk G) x0 Q E h k) : jj_Ct G l yJ9_coder (ws_ yJ9_coder cJ9_coder 1 (some (.byte))) 0 0 [.inr (.inr (.inl x0))] h k (jc_i Q) E := by
  refine jj_Ct.of J.1 (by decide +kernel) (Nat.le_of_ble_eq_true rfl) rfl (fun X hG hl F M O hnm => ?_)
  subst hG; subst hl
  exact sC_J9_coder F M O J hnm (fun r h q => ⟨r, rfl, q⟩) (fun _ _ _ q => q) _ _ _ w
theorem hC_J9_coder : yJ9_coder.cls = RJ9 ∧ yJ9_coder.cls ≠ "java/lang/invoke/MethodHandle" ∧ yJ9_coder.cls ≠ "java/lang/invoke/VarHandle" ∧ (parseMethodDescriptor yJ9_coder.desc).map (fun d => d.parameters.length) = some 0 := by decide +kernel
/-! J9_equals(Ljava/lang/Object;)Z -/
def fC_J9_equals_j36 (gk : Nat → Nat) (x0 : Option Nat) (x2 : Option Nat) (Q : Int → jj_H → Prop) (E : String → Nat → jj_H → Prop) (h : jj_H) (k : Nat) : Prop :=
  jp_grS h x0 0 (fun g1 =>
  jp_grS h x2 0 (fun g2 =>
  fC_J15_equals gk g1 g2 (fun r4 h5 =>
  jj_r r4 ∧ (r4 = 0 → (
    Q 0 h5)) ∧
  (¬ r4 = 0 → (
    Q 1 h5))) E h 0))
def fC_J9_equals (gk : Nat → Nat) (x0 : Option Nat) (x1 : Option Nat) (Q : Int → jj_H → Prop) (E : String → Nat → jj_H → Prop) (h : jj_H) (k : Nat) : Prop :=
  (¬ x0 = x1 → (
    jp_is h x1 25 ∧
    jj_r (1 : Int) ∧ ((1 : Int) = 0 → (
      Q 0 h)) ∧
    (¬ (1 : Int) = 0 → (
      jp_is h x1 25 ∧
      jj_r (1 : Int) ∧ ((1 : Int) = 0 → (
        fC_J9_equals_j36 gk x0 x1 Q E h k)) ∧
      (¬ (1 : Int) = 0 → (
        jp_giS h x0 1 (fun g6 =>
        jp_giS h x1 1 (fun g7 =>
        jj_r g6 ∧ jj_r g7 ∧ (¬ g6 = g7 → (
          Q 0 h)) ∧
        (g6 = g7 → (
          fC_J9_equals_j36 gk x0 x1 Q E h k)))))))))) ∧
  (x0 = x1 → (
    Q 1 h))
theorem sC_J9_equals_j36 {X : jj_X} {N : Option jj_AV → jj_H → Prop} {XN : String → Nat → jj_H → Prop} (F : jj_F X RJ9 cJ9_equals 3) (M : jj_M X (some (.boolean)) 1 22 N XN) (O : jj_no X) (J : jx_G X.1 X.2.2.1) (hi : X.2.2.2.2.2.2.2.2.2.1.name = yJ9_equals.name) {Q : Int → jj_H → Prop} {E : String → Nat → jj_H → Prop} (hQ : ∀ r h, Q r h → N (some (.inl r)) h) (hE : ∀ e q h, E e q h → XN e q h) (x0 : Option Nat) (x2 : Option Nat) : ∀ (h : jj_H) (k : Nat), fC_J9_equals_j36 (jj_gk X.1) x0 x2 Q E h k → jj_J X 3 36 [(0, .inr (.inr (.inl x0))), (2, .inr (.inr (.inl x2)))] [] h k := by
  intro h k w
  unfold fC_J9_equals_j36 at w
  refine jr_aload_n (pc := 36) F (j := 0) dJ9_equals_36 rfl ?_
  refine jr_grS (pc := 37) (f := 0) F J (Nat.le_of_ble_eq_true rfl) q522 dJ9_equals_37 w (fun g1 w => ?_)
  refine jr_aload_n (pc := 40) F (j := 1) dJ9_equals_40 rfl ?_
  refine jr_grS (pc := 41) (f := 0) F J (Nat.le_of_ble_eq_true rfl) q522 dJ9_equals_41 w (fun g2 w => ?_)
  refine jr_callS (pc := 44) (As := [_, _]) F M (lw_S q717 q718 q138 q719) dJ9_equals_44 hC_J15_equals.2 rfl (Nat.le_of_ble_eq_true rfl) (Nat.le_of_ble_eq_true rfl) (Nat.le_of_ble_eq_true rfl) (Nat.zero_le _) (cC_J15_equals J w) (fun v9 h5 q9 => ?_) (fun E9 q9 h9 w9 => jr_out F M O (hE _ _ _ w9))
  obtain ⟨r4, rfl, w⟩ := q9
  obtain ⟨hx9, w1, w2⟩ := w
  refine jr_if_eq (pc := 47) (tgt := 54) F hx9 dJ9_equals_47 rfl (fun c9 => ?_) (fun c9 => ?_)
  · have w := w1 c9
    refine jr_iconst (pc := 54) F dJ9_equals_54 ?_
    exact jr_zret (pc := 55) F M dJ9_equals_55 (by decide) (hQ _ _ w)
  · have w := w2 c9
    refine jr_iconst (pc := 50) F dJ9_equals_50 ?_
    refine jr_goto (pc := 51) (tgt := 55) F dJ9_equals_51 rfl ?_
    exact jr_zret (pc := 55) F M dJ9_equals_55 (by decide) (hQ _ _ w)

theorem sC_J9_equals {X : jj_X} {N : Option jj_AV → jj_H → Prop} {XN : String → Nat → jj_H → Prop} (F : jj_F X RJ9 cJ9_equals 3) (M : jj_M X (some (.boolean)) 1 22 N XN) (O : jj_no X) (J : jx_G X.1 X.2.2.1) (hi : X.2.2.2.2.2.2.2.2.2.1.name = yJ9_equals.name) {Q : Int → jj_H → Prop} {E : String → Nat → jj_H → Prop} (hQ : ∀ r h, Q r h → N (some (.inl r)) h) (hE : ∀ e q h, E e q h → XN e q h) (x0 : Option Nat) (x1 : Option Nat) : ∀ (h : jj_H) (k : Nat), fC_J9_equals (jj_gk X.1) x0 x1 Q E h k → jj_J X 3 0 [(0, .inr (.inr (.inl x0))), (1, .inr (.inr (.inl x1)))] [] h k := by
  intro h k w
  unfold fC_J9_equals at w
  refine jr_aload_n (pc := 0) F (j := 0) dJ9_equals_0 rfl ?_
  refine jr_aload_n (pc := 1) F (j := 1) dJ9_equals_1 rfl ?_
  obtain ⟨w1, w2⟩ := w
  refine jr_acmp_ne (pc := 2) (tgt := 7) F dJ9_equals_2 rfl (fun c9 => ?_) (fun c9 => ?_)
  · have w := w1 c9
    refine jr_aload_n (pc := 7) F (j := 1) dJ9_equals_7 rfl ?_
    obtain ⟨hi9, w⟩ := w
    refine jr_instS (pc := 8) F q716 dJ9_equals_8 hi9 ?_
    obtain ⟨hx9, w1, w2⟩ := w
    refine jr_if_eq (pc := 11) (tgt := 54) F hx9 dJ9_equals_11 rfl (fun c9 => ?_) (fun c9 => ?_)
    · have w := w1 c9
      refine jr_iconst (pc := 54) F dJ9_equals_54 ?_
      exact jr_zret (pc := 55) F M dJ9_equals_55 (by decide) (hQ _ _ w)
    · have w := w2 c9
      refine jr_aload_n (pc := 14) F (j := 1) dJ9_equals_14 rfl ?_
      obtain ⟨hi9, w⟩ := w
      refine jr_cast (pc := 15) (ci := 25) F rfl q716 dJ9_equals_15 hi9 ?_
      refine jr_astore_n (pc := 18) F (vs' := [(2, .inr (.inr (.inl _))), (0, .inr (.inr (.inl _))), (1, .inr (.inr (.inl _)))]) dJ9_equals_18 (Nat.le_of_ble_eq_true rfl) rfl ?_
      refine jr_gst (pc := 19) F J 0 rfl q381 dJ9_equals_19 ?_
      obtain ⟨hx9, w1, w2⟩ := w
      refine jr_if_eq (pc := 22) (tgt := 36) F hx9 dJ9_equals_22 rfl (fun c9 => ?_) (fun c9 => ?_)
      · have w := w1 c9
        refine jj_J.sub [1, 0] rfl ?_
        exact sC_J9_equals_j36 F M O J hi hQ hE _ _ _ _ w
      · have w := w2 c9
        refine jr_aload_n (pc := 25) F (j := 1) dJ9_equals_25 rfl ?_
        refine jr_giS (pc := 26) (f := 1) F J (Nat.le_of_ble_eq_true rfl) q523 dJ9_equals_26 w (fun g6 w => ?_)
        refine jr_aload_n (pc := 29) F (j := 0) dJ9_equals_29 rfl ?_
        refine jr_giS (pc := 30) (f := 1) F J (Nat.le_of_ble_eq_true rfl) q523 dJ9_equals_30 w (fun g7 w => ?_)
        obtain ⟨hx9, hy9, w1, w2⟩ := w
        refine jr_icmp_ne (pc := 33) (tgt := 54) F hx9 hy9 dJ9_equals_33 rfl (fun c9 => ?_) (fun c9 => ?_)
        · have w := w1 c9
          refine jr_iconst (pc := 54) F dJ9_equals_54 ?_
          exact jr_zret (pc := 55) F M dJ9_equals_55 (by decide) (hQ _ _ w)
        · have w := w2 c9
          refine jj_J.sub [1, 0] rfl ?_
          exact sC_J9_equals_j36 F M O J hi hQ hE _ _ _ _ w
  · have w := w2 c9
    refine jr_iconst (pc := 5) F dJ9_equals_5 ?_
    exact jr_zret (pc := 6) F M dJ9_equals_6 (by decide) (hQ _ _ w)

theorem cC_J9_equals {G : jj_G} {l : Launch} (J : jx_G G l) {x0 : Option Nat} {x1 : Option Nat} {Q : Int → jj_H → Prop} {E : String → Nat → jj_H → Prop} {h : jj_H} {k : Nat} (w : fC_J9_equals (jj_gk G) x0 x1 Q E h k) : jj_Ct G l yJ9_equals (ws_ yJ9_equals cJ9_equals 3 (some (.boolean))) 1 22 [.inr (.inr (.inl x0)), .inr (.inr (.inl x1))] h k (jc_i Q) E := by
  refine jj_Ct.of J.1 (by decide +kernel) (Nat.le_of_ble_eq_true rfl) rfl (fun X hG hl F M O hnm => ?_)
  subst hG; subst hl
  exact sC_J9_equals F M O J hnm (fun r h q => ⟨r, rfl, q⟩) (fun _ _ _ q => q) _ _ _ _ w
theorem hC_J9_equals : yJ9_equals.cls = RJ9 ∧ yJ9_equals.cls ≠ "java/lang/invoke/MethodHandle" ∧ yJ9_equals.cls ≠ "java/lang/invoke/VarHandle" ∧ (parseMethodDescriptor yJ9_equals.desc).map (fun d => d.parameters.length) = some 1 := by decide +kernel
/-! J9_hashCode()I -/
def fC_J9_hashCode (gk : Nat → Nat) (x0 : Option Nat) (Q : Int → jj_H → Prop) (E : String → Nat → jj_H → Prop) (h : jj_H) (k : Nat) : Prop :=
  jp_giS h x0 2 (fun g1 =>
  jj_r g1 ∧ (¬ g1 = 0 → (
    Q g1 h)) ∧
  (g1 = 0 → (
    jp_giS h x0 3 (fun g2 =>
    jj_r g2 ∧ (¬ g2 = 0 → (
      Q g1 h)) ∧
    (g2 = 0 → (
      jp_is h x0 25 ∧ fC_J9_isLatin1 gk x0 (fun r4 h5 =>
      jj_r r4 ∧ (r4 = 0 → (
        jp_grS h5 x0 0 (fun g6 =>
        False))) ∧
      (¬ r4 = 0 → (
        jp_grS h5 x0 0 (fun g7 =>
        fC_J15_hashCode gk g7 (fun r9 h10 =>
        jj_r r9 ∧ (¬ r9 = 0 → (
          jp_pi h10 x0 25 2 r9 (fun h11 =>
          Q r9 h11))) ∧
        (r9 = 0 → (
          jp_pz h10 x0 25 3 1 (fun h12 =>
          Q r9 h12)))) E h5 0)))) E h 0))))))
theorem sC_J9_hashCode {X : jj_X} {N : Option jj_AV → jj_H → Prop} {XN : String → Nat → jj_H → Prop} (F : jj_F X RJ9 cJ9_hashCode 2) (M : jj_M X (some (.int)) 3 69 N XN) (O : jj_no X) (J : jx_G X.1 X.2.2.1) (hi : X.2.2.2.2.2.2.2.2.2.1.name = yJ9_hashCode.name) {Q : Int → jj_H → Prop} {E : String → Nat → jj_H → Prop} (hQ : ∀ r h, Q r h → N (some (.inl r)) h) (hE : ∀ e q h, E e q h → XN e q h) (x0 : Option Nat) : ∀ (h : jj_H) (k : Nat), fC_J9_hashCode (jj_gk X.1) x0 Q E h k → jj_J X 2 0 [(0, .inr (.inr (.inl x0)))] [] h k := by
  intro h k w
  unfold fC_J9_hashCode at w
  refine jr_aload_n (pc := 0) F (j := 0) dJ9_hashCode_0 rfl ?_
  refine jr_giS (pc := 1) (f := 2) F J (Nat.le_of_ble_eq_true rfl) q524 dJ9_hashCode_1 w (fun g1 w => ?_)
  refine jr_istore_n (pc := 4) F (vs' := [(1, .inl _), (0, .inr (.inr (.inl _)))]) dJ9_hashCode_4 (Nat.le_of_ble_eq_true rfl) rfl ?_
  refine jr_iload_n (pc := 5) F (j := 0) dJ9_hashCode_5 rfl ?_
  obtain ⟨hx9, w1, w2⟩ := w
  refine jr_if_ne (pc := 6) (tgt := 58) F hx9 dJ9_hashCode_6 rfl (fun c9 => ?_) (fun c9 => ?_)
  · have w := w1 c9
    refine jr_iload_n (pc := 58) F (j := 0) dJ9_hashCode_58 rfl ?_
    exact jr_iret (pc := 59) F M dJ9_hashCode_59 (hQ _ _ w)
  · have w := w2 c9
    refine jr_aload_n (pc := 9) F (j := 1) dJ9_hashCode_9 rfl ?_
    refine jr_giS (pc := 10) (f := 3) F J (Nat.le_of_ble_eq_true rfl) q525 dJ9_hashCode_10 w (fun g2 w => ?_)
    obtain ⟨hx9, w1, w2⟩ := w
    refine jr_if_ne (pc := 13) (tgt := 58) F hx9 dJ9_hashCode_13 rfl (fun c9 => ?_) (fun c9 => ?_)
    · have w := w1 c9
      refine jr_iload_n (pc := 58) F (j := 0) dJ9_hashCode_58 rfl ?_
      exact jr_iret (pc := 59) F M dJ9_hashCode_59 (hQ _ _ w)
    · have w := w2 c9
      refine jr_aload_n (pc := 16) F (j := 1) dJ9_hashCode_16 rfl ?_
      obtain ⟨hi9, w⟩ := w
      refine jr_cV (pc := 17) (As := []) (ci := 25) F M (lw_V q1218 q1219 q1220 q131 q1221) dJ9_hashCode_17 hC_J9_isLatin1 rfl (Nat.le_of_ble_eq_true rfl) (Nat.le_of_ble_eq_true rfl) (Nat.le_of_ble_eq_true rfl) rfl hi9 (Nat.zero_le _) (cC_J9_isLatin1 J w) (fun v9 h5 q9 => ?_) (fun E9 q9 h9 w9 => jr_out F M O (hE _ _ _ w9))
      obtain ⟨r4, rfl, w⟩ := q9
      obtain ⟨hx9, w1, w2⟩ := w
      refine jr_if_eq (pc := 20) (tgt := 33) F hx9 dJ9_hashCode_20 rfl (fun c9 => ?_) (fun c9 => ?_)
      · have w := w1 c9
        refine jr_aload_n (pc := 33) F (j := 1) dJ9_hashCode_33 rfl ?_
        refine jr_grS (pc := 34) (f := 0) F J (Nat.le_of_ble_eq_true rfl) q522 dJ9_hashCode_34 w (fun g6 w => ?_)
        exact (show False from w).elim
      · have w := w2 c9
        refine jr_aload_n (pc := 23) F (j := 1) dJ9_hashCode_23 rfl ?_
        refine jr_grS (pc := 24) (f := 0) F J (Nat.le_of_ble_eq_true rfl) q522 dJ9_hashCode_24 w (fun g7 w => ?_)
        refine jr_callS (pc := 27) (As := [_]) F M (lw_S q1222 q1223 q138 q1224) dJ9_hashCode_27 hC_J15_hashCode.2 rfl (Nat.le_of_ble_eq_true rfl) (Nat.le_of_ble_eq_true rfl) (Nat.le_of_ble_eq_true rfl) (Nat.zero_le _) (cC_J15_hashCode J w) (fun v9 h10 q9 => ?_) (fun E9 q9 h9 w9 => jr_out F M O (hE _ _ _ w9))
        obtain ⟨r9, rfl, w⟩ := q9
        refine jr_goto (pc := 30) (tgt := 40) F dJ9_hashCode_30 rfl ?_
        refine jr_istore_n (pc := 40) F (vs' := [(1, .inl _), (0, .inr (.inr (.inl _)))]) dJ9_hashCode_40 (Nat.le_of_ble_eq_true rfl) rfl ?_
        refine jr_iload_n (pc := 41) F (j := 0) dJ9_hashCode_41 rfl ?_
        obtain ⟨hx9, w1, w2⟩ := w
        refine jr_if_ne (pc := 42) (tgt := 53) F hx9 dJ9_hashCode_42 rfl (fun c9 => ?_) (fun c9 => ?_)
        · have w := w1 c9
          refine jr_aload_n (pc := 53) F (j := 1) dJ9_hashCode_53 rfl ?_
          refine jr_iload_n (pc := 54) F (j := 0) dJ9_hashCode_54 rfl ?_
          refine jr_pi (pc := 55) (ci := 25) (f := 2) F rfl in_J9 tyJ9_ok nmJ9 (Nat.le_of_ble_eq_true rfl) rfl rfl q524 dJ9_hashCode_55 w (fun h11 w => ?_)
          refine jr_iload_n (pc := 58) F (j := 0) dJ9_hashCode_58 rfl ?_
          exact jr_iret (pc := 59) F M dJ9_hashCode_59 (hQ _ _ w)
        · have w := w2 c9
          refine jr_aload_n (pc := 45) F (j := 1) dJ9_hashCode_45 rfl ?_
          refine jr_iconst (pc := 46) F dJ9_hashCode_46 ?_
          refine jr_pz (pc := 47) (ci := 25) (f := 3) F rfl in_J9 tyJ9_ok nmJ9 (Nat.le_of_ble_eq_true rfl) rfl rfl q525 dJ9_hashCode_47 w (fun h12 w => ?_)
          refine jr_goto (pc := 50) (tgt := 58) F dJ9_hashCode_50 rfl ?_
          refine jr_iload_n (pc := 58) F (j := 0) dJ9_hashCode_58 rfl ?_
          exact jr_iret (pc := 59) F M dJ9_hashCode_59 (hQ _ _ w)

theorem cC_J9_hashCode {G : jj_G} {l : Launch} (J : jx_G G l) {x0 : Option Nat} {Q : Int → jj_H → Prop} {E : String → Nat → jj_H → Prop} {h : jj_H} {k : Nat} (w : fC_J9_hashCode (jj_gk G) x0 Q E h k) : jj_Ct G l yJ9_hashCode (ws_ yJ9_hashCode cJ9_hashCode 2 (some (.int))) 3 69 [.inr (.inr (.inl x0))] h k (jc_i Q) E := by
  refine jj_Ct.of J.1 (by decide +kernel) (Nat.le_of_ble_eq_true rfl) rfl (fun X hG hl F M O hnm => ?_)
  subst hG; subst hl
  exact sC_J9_hashCode F M O J hnm (fun r h q => ⟨r, rfl, q⟩) (fun _ _ _ q => q) _ _ _ w
theorem hC_J9_hashCode : yJ9_hashCode.cls = RJ9 ∧ yJ9_hashCode.cls ≠ "java/lang/invoke/MethodHandle" ∧ yJ9_hashCode.cls ≠ "java/lang/invoke/VarHandle" ∧ (parseMethodDescriptor yJ9_hashCode.desc).map (fun d => d.parameters.length) = some 0 := by decide +kernel
/-! J9_length()I -/
def fC_J9_length (gk : Nat → Nat) (x0 : Option Nat) (Q : Int → jj_H → Prop) (E : String → Nat → jj_H → Prop) (h : jj_H) (k : Nat) : Prop :=
  jp_grS h x0 0 (fun g1 =>
  jp_aiS h g1 (fun g2 =>
  jp_is h x0 25 ∧ fC_J9_coder gk x0 (fun r4 h5 =>
  Q (jj_shr g2 r4) h5) E h 0))
theorem sC_J9_length {X : jj_X} {N : Option jj_AV → jj_H → Prop} {XN : String → Nat → jj_H → Prop} (F : jj_F X RJ9 cJ9_length 1) (M : jj_M X (some (.int)) 1 20 N XN) (O : jj_no X) (J : jx_G X.1 X.2.2.1) (hi : X.2.2.2.2.2.2.2.2.2.1.name = yJ9_length.name) {Q : Int → jj_H → Prop} {E : String → Nat → jj_H → Prop} (hQ : ∀ r h, Q r h → N (some (.inl r)) h) (hE : ∀ e q h, E e q h → XN e q h) (x0 : Option Nat) : ∀ (h : jj_H) (k : Nat), fC_J9_length (jj_gk X.1) x0 Q E h k → jj_J X 1 0 [(0, .inr (.inr (.inl x0)))] [] h k := by
  intro h k w
  unfold fC_J9_length at w
  refine jr_aload_n (pc := 0) F (j := 0) dJ9_length_0 rfl ?_
  refine jr_grS (pc := 1) (f := 0) F J (Nat.le_of_ble_eq_true rfl) q522 dJ9_length_1 w (fun g1 w => ?_)
  refine jr_alenS (pc := 4) F J dJ9_length_4 w (fun g2 w => ?_)
  refine jr_aload_n (pc := 5) F (j := 0) dJ9_length_5 rfl ?_
  obtain ⟨hi9, w⟩ := w
  refine jr_cV (pc := 6) (As := []) (ci := 25) F M (lw_V q377 q378 q379 q131 q380) dJ9_length_6 hC_J9_coder rfl (Nat.le_of_ble_eq_true rfl) (Nat.le_of_ble_eq_true rfl) (Nat.le_of_ble_eq_true rfl) rfl hi9 (Nat.zero_le _) (cC_J9_coder J w) (fun v9 h5 q9 => ?_) (fun E9 q9 h9 w9 => jr_out F M O (hE _ _ _ w9))
  obtain ⟨r4, rfl, w⟩ := q9
  refine jr_ishr (pc := 9) F dJ9_length_9 ?_
  exact jr_iret (pc := 10) F M dJ9_length_10 (hQ _ _ w)

theorem cC_J9_length {G : jj_G} {l : Launch} (J : jx_G G l) {x0 : Option Nat} {Q : Int → jj_H → Prop} {E : String → Nat → jj_H → Prop} {h : jj_H} {k : Nat} (w : fC_J9_length (jj_gk G) x0 Q E h k) : jj_Ct G l yJ9_length (ws_ yJ9_length cJ9_length 1 (some (.int))) 1 20 [.inr (.inr (.inl x0))] h k (jc_i Q) E := by
  refine jj_Ct.of J.1 (by decide +kernel) (Nat.le_of_ble_eq_true rfl) rfl (fun X hG hl F M O hnm => ?_)
  subst hG; subst hl
  exact sC_J9_length F M O J hnm (fun r h q => ⟨r, rfl, q⟩) (fun _ _ _ q => q) _ _ _ w
theorem hC_J9_length : yJ9_length.cls = RJ9 ∧ yJ9_length.cls ≠ "java/lang/invoke/MethodHandle" ∧ yJ9_length.cls ≠ "java/lang/invoke/VarHandle" ∧ (parseMethodDescriptor yJ9_length.desc).map (fun d => d.parameters.length) = some 0 := by decide +kernel
